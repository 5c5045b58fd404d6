set_option maxRecDepth 100000
/-! THE LAW, 2: its helpers' handlers (printed by tools/gen_hand.py) -/
theorem H_X0_append_1 {G : ZG} {ν : ZM} {Q : Option ZV → ZM → Prop} {E : ZP → ZM → Prop} {r0 : Nat} {z1 : Int32} {z2 : Int32} {z3 : Int32} {z4 : Int32} {z5 : Int32} {t6 : Nat} {r6 : Nat} {h0 : Nat} (k : Q (some (vI 1)) ν) : Wx G Y_X0_append 11 [(0, vP (1, 0, r0)), (1, vI z1), (2, vI z2), (3, vI z3), (4, vI z4), (5, vI z5), (6, vP (203, t6, r6))] (25, 0, h0) ν Q E := by
  refine Wx.catch [] (0, 16, 19, 13) [] rfl rfl (fun y hy => by cases hy) (by decide) (Or.inr ⟨"java/lang/IllegalStateException", by decide, q3037, rfl, Or.inl rfl⟩) ?_
  refine Wp_astore [0] (ls' := [(7, vP (25, 0, h0))]) dX0_append_19 (zlt rfl) rfl ?_
  refine Wp_iconst dX0_append_21 (v := 1) rfl ?_
  exact Wp_ireturn dX0_append_22 rfl rfl k
theorem T_X0_append {G : ZG} {μ : ZM} {Q : Option ZV → ZM → Prop} {E : ZP → ZM → Prop} {r0 : Nat} {z1 : Int32} {z2 : Int32} {z3 : Int32} {z4 : Int32} {z5 : Int32} {t6 : Nat} {r6 : Nat} (h : Call G Y_X1_append [vP (1, 0, r0), vI z1, vI z2, vI z3, vI z4, vI z5] μ (rI fun x1 ν1 => 0 < t6 ∧ Q (some (vI 0)) (zAl ν1 r6 0 x1.toInt64)) (fun q ν => ∃ a, (q = (25, 0, a) ∧ Q (some (vI 1)) ν))) : Call G Y_X0_append [vP (1, 0, r0), vI z1, vI z2, vI z3, vI z4, vI z5, vP (203, t6, r6)] μ Q E :=
  S_X0_append (h.mono (fun _ _ q => q) (fun q ν hh => by obtain ⟨a, rfl, k⟩ := hh; exact H_X0_append_1 k))
theorem H_X0_bestTest_1 {G : ZG} {ν : ZM} {Q : Option ZV → ZM → Prop} {E : ZP → ZM → Prop} {r0 : Nat} {z1 : Int32} {t2 : Nat} {r2 : Nat} {h0 : Nat} (k : Q (some (vI 1)) ν) : Wx G Y_X0_bestTest 4 [(0, vP (1, 0, r0)), (1, vI z1), (2, vP (203, t2, r2))] (27, 0, h0) ν Q E := by
  refine Wx.catch [] (0, 9, 12, 34) [] rfl rfl (fun y hy => by cases hy) (by decide) (Or.inr ⟨"java/lang/IndexOutOfBoundsException", by decide, q3470, rfl, Or.inl rfl⟩) ?_
  refine Wp_astore_n [0] (ls' := [(3, vP (27, 0, h0))]) dX0_bestTest_12 rfl (zlt rfl) rfl ?_
  refine Wp_iconst dX0_bestTest_13 (v := 1) rfl ?_
  exact Wp_ireturn dX0_bestTest_14 rfl rfl k
theorem T_X0_bestTest {G : ZG} {μ : ZM} {Q : Option ZV → ZM → Prop} {E : ZP → ZM → Prop} {r0 : Nat} {z1 : Int32} {t2 : Nat} {r2 : Nat} (h : Call G Y_X1_bestTest [vP (1, 0, r0), vI z1] μ (rI fun x1 ν1 => 0 < t2 ∧ Q (some (vI 0)) (zAl ν1 r2 0 x1.toInt64)) (fun q ν => ∃ a, (q = (27, 0, a) ∧ Q (some (vI 1)) ν))) : Call G Y_X0_bestTest [vP (1, 0, r0), vI z1, vP (203, t2, r2)] μ Q E :=
  S_X0_bestTest (h.mono (fun _ _ q => q) (fun q ν hh => by obtain ⟨a, rfl, k⟩ := hh; exact H_X0_bestTest_1 k))
theorem H_X0_daysServed_1 {G : ZG} {ν : ZM} {Q : Option ZV → ZM → Prop} {E : ZP → ZM → Prop} {r0 : Nat} {z1 : Int32} {z2 : Int32} {t3 : Nat} {r3 : Nat} {h0 : Nat} (k : Q (some (vI 1)) ν) : Wx G Y_X0_daysServed 5 [(0, vP (1, 0, r0)), (1, vI z1), (2, vI z2), (3, vP (203, t3, r3))] (27, 0, h0) ν Q E := by
  refine Wx.catch [] (0, 10, 13, 34) [] rfl rfl (fun y hy => by cases hy) (by decide) (Or.inr ⟨"java/lang/IndexOutOfBoundsException", by decide, q3470, rfl, Or.inl rfl⟩) ?_
  refine Wp_astore [0] (ls' := [(4, vP (27, 0, h0))]) dX0_daysServed_13 (zlt rfl) rfl ?_
  refine Wp_iconst dX0_daysServed_15 (v := 1) rfl ?_
  exact Wp_ireturn dX0_daysServed_16 rfl rfl k
theorem T_X0_daysServed {G : ZG} {μ : ZM} {Q : Option ZV → ZM → Prop} {E : ZP → ZM → Prop} {r0 : Nat} {z1 : Int32} {z2 : Int32} {t3 : Nat} {r3 : Nat} (h : Call G Y_X1_daysServed [vP (1, 0, r0), vI z1, vI z2] μ (rI fun x1 ν1 => 0 < t3 ∧ Q (some (vI 0)) (zAl ν1 r3 0 x1.toInt64)) (fun q ν => ∃ a, (q = (27, 0, a) ∧ Q (some (vI 1)) ν))) : Call G Y_X0_daysServed [vP (1, 0, r0), vI z1, vI z2, vP (203, t3, r3)] μ Q E :=
  S_X0_daysServed (h.mono (fun _ _ q => q) (fun q ν hh => by obtain ⟨a, rfl, k⟩ := hh; exact H_X0_daysServed_1 k))
theorem H_X0_delayOf_1 {G : ZG} {ν : ZM} {Q : Option ZV → ZM → Prop} {E : ZP → ZM → Prop} {r0 : Nat} {z1 : Int32} {t2 : Nat} {r2 : Nat} {h0 : Nat} (k : Q (some (vI 1)) ν) : Wx G Y_X0_delayOf 4 [(0, vP (1, 0, r0)), (1, vI z1), (2, vP (203, t2, r2))] (27, 0, h0) ν Q E := by
  refine Wx.catch [] (0, 9, 12, 34) [] rfl rfl (fun y hy => by cases hy) (by decide) (Or.inr ⟨"java/lang/IndexOutOfBoundsException", by decide, q3470, rfl, Or.inl rfl⟩) ?_
  refine Wp_astore_n [0] (ls' := [(3, vP (27, 0, h0))]) dX0_delayOf_12 rfl (zlt rfl) rfl ?_
  refine Wp_iconst dX0_delayOf_13 (v := 1) rfl ?_
  exact Wp_ireturn dX0_delayOf_14 rfl rfl k
theorem T_X0_delayOf {G : ZG} {μ : ZM} {Q : Option ZV → ZM → Prop} {E : ZP → ZM → Prop} {r0 : Nat} {z1 : Int32} {t2 : Nat} {r2 : Nat} (h : Call G Y_X1_delayOf [vP (1, 0, r0), vI z1] μ (rI fun x1 ν1 => 0 < t2 ∧ Q (some (vI 0)) (zAl ν1 r2 0 x1.toInt64)) (fun q ν => ∃ a, (q = (27, 0, a) ∧ Q (some (vI 1)) ν))) : Call G Y_X0_delayOf [vP (1, 0, r0), vI z1, vP (203, t2, r2)] μ Q E :=
  S_X0_delayOf (h.mono (fun _ _ q => q) (fun q ν hh => by obtain ⟨a, rfl, k⟩ := hh; exact H_X0_delayOf_1 k))
theorem H_X0_desertions_1 {G : ZG} {ν : ZM} {Q : Option ZV → ZM → Prop} {E : ZP → ZM → Prop} {r0 : Nat} {z1 : Int32} {t2 : Nat} {r2 : Nat} {h0 : Nat} (k : Q (some (vI 1)) ν) : Wx G Y_X0_desertions 4 [(0, vP (1, 0, r0)), (1, vI z1), (2, vP (203, t2, r2))] (27, 0, h0) ν Q E := by
  refine Wx.catch [] (0, 9, 12, 34) [] rfl rfl (fun y hy => by cases hy) (by decide) (Or.inr ⟨"java/lang/IndexOutOfBoundsException", by decide, q3470, rfl, Or.inl rfl⟩) ?_
  refine Wp_astore_n [0] (ls' := [(3, vP (27, 0, h0))]) dX0_desertions_12 rfl (zlt rfl) rfl ?_
  refine Wp_iconst dX0_desertions_13 (v := 1) rfl ?_
  exact Wp_ireturn dX0_desertions_14 rfl rfl k
theorem T_X0_desertions {G : ZG} {μ : ZM} {Q : Option ZV → ZM → Prop} {E : ZP → ZM → Prop} {r0 : Nat} {z1 : Int32} {t2 : Nat} {r2 : Nat} (h : Call G Y_X1_desertions [vP (1, 0, r0), vI z1] μ (rI fun x1 ν1 => 0 < t2 ∧ Q (some (vI 0)) (zAl ν1 r2 0 x1.toInt64)) (fun q ν => ∃ a, (q = (27, 0, a) ∧ Q (some (vI 1)) ν))) : Call G Y_X0_desertions [vP (1, 0, r0), vI z1, vP (203, t2, r2)] μ Q E :=
  S_X0_desertions (h.mono (fun _ _ q => q) (fun q ν hh => by obtain ⟨a, rfl, k⟩ := hh; exact H_X0_desertions_1 k))
theorem H_X0_desertsIn_1 {G : ZG} {ν : ZM} {Q : Option ZV → ZM → Prop} {E : ZP → ZM → Prop} {r0 : Nat} {z1 : Int32} {t2 : Nat} {r2 : Nat} {h0 : Nat} (k : Q (some (vI 1)) ν) : Wx G Y_X0_desertsIn 4 [(0, vP (1, 0, r0)), (1, vI z1), (2, vP (203, t2, r2))] (27, 0, h0) ν Q E := by
  refine Wx.catch [] (0, 9, 12, 34) [] rfl rfl (fun y hy => by cases hy) (by decide) (Or.inr ⟨"java/lang/IndexOutOfBoundsException", by decide, q3470, rfl, Or.inl rfl⟩) ?_
  refine Wp_astore_n [0] (ls' := [(3, vP (27, 0, h0))]) dX0_desertsIn_12 rfl (zlt rfl) rfl ?_
  refine Wp_iconst dX0_desertsIn_13 (v := 1) rfl ?_
  exact Wp_ireturn dX0_desertsIn_14 rfl rfl k
theorem T_X0_desertsIn {G : ZG} {μ : ZM} {Q : Option ZV → ZM → Prop} {E : ZP → ZM → Prop} {r0 : Nat} {z1 : Int32} {t2 : Nat} {r2 : Nat} (h : Call G Y_X1_desertsIn [vP (1, 0, r0), vI z1] μ (rI fun x1 ν1 => 0 < t2 ∧ Q (some (vI 0)) (zAl ν1 r2 0 x1.toInt64)) (fun q ν => ∃ a, (q = (27, 0, a) ∧ Q (some (vI 1)) ν))) : Call G Y_X0_desertsIn [vP (1, 0, r0), vI z1, vP (203, t2, r2)] μ Q E :=
  S_X0_desertsIn (h.mono (fun _ _ q => q) (fun q ν hh => by obtain ⟨a, rfl, k⟩ := hh; exact H_X0_desertsIn_1 k))
theorem H_X0_dismiss_1 {G : ZG} {ν : ZM} {Q : Option ZV → ZM → Prop} {E : ZP → ZM → Prop} {r0 : Nat} {z1 : Int32} {t2 : Nat} {r2 : Nat} {h0 : Nat} (k : Q (some (vI 1)) ν) : Wx G Y_X0_dismiss 4 [(0, vP (1, 0, r0)), (1, vI z1), (2, vP (203, t2, r2))] (27, 0, h0) ν Q E := by
  refine Wx.catch [] (0, 9, 12, 34) [(0, 9, 15, 13)] rfl rfl (fun y hy => by cases hy) (by decide) (Or.inr ⟨"java/lang/IndexOutOfBoundsException", by decide, q3470, rfl, Or.inl rfl⟩) ?_
  refine Wp_astore_n [0] (ls' := [(3, vP (27, 0, h0))]) dX0_dismiss_12 rfl (zlt rfl) rfl ?_
  refine Wp_iconst dX0_dismiss_13 (v := 1) rfl ?_
  exact Wp_ireturn dX0_dismiss_14 rfl rfl k
theorem H_X0_dismiss_2 {G : ZG} {ν : ZM} {Q : Option ZV → ZM → Prop} {E : ZP → ZM → Prop} {r0 : Nat} {z1 : Int32} {t2 : Nat} {r2 : Nat} {h0 : Nat} (k : Q (some (vI 2)) ν) : Wx G Y_X0_dismiss 4 [(0, vP (1, 0, r0)), (1, vI z1), (2, vP (203, t2, r2))] (25, 0, h0) ν Q E := by
  refine Wx.catch [(0, 9, 12, 34)] (0, 9, 15, 13) [] rfl rfl (fun y hy => by rw [List.mem_singleton.mp hy]; exact Or.inr ⟨by decide, "java/lang/IndexOutOfBoundsException", q3470, show (zcls 25, "java/lang/IndexOutOfBoundsException") ∈ zncT by decide⟩) (by decide) (Or.inr ⟨"java/lang/IllegalStateException", by decide, q3037, rfl, Or.inl rfl⟩) ?_
  refine Wp_astore_n [0] (ls' := [(3, vP (25, 0, h0))]) dX0_dismiss_15 rfl (zlt rfl) rfl ?_
  refine Wp_iconst dX0_dismiss_16 (v := 2) rfl ?_
  exact Wp_ireturn dX0_dismiss_17 rfl rfl k
theorem T_X0_dismiss {G : ZG} {μ : ZM} {Q : Option ZV → ZM → Prop} {E : ZP → ZM → Prop} {r0 : Nat} {z1 : Int32} {t2 : Nat} {r2 : Nat} (h : Call G Y_X1_dismiss [vP (1, 0, r0), vI z1] μ (rI fun x1 ν1 => 0 < t2 ∧ Q (some (vI 0)) (zAl ν1 r2 0 x1.toInt64)) (fun q ν => ∃ a, (q = (27, 0, a) ∧ Q (some (vI 1)) ν) ∨ (q = (25, 0, a) ∧ Q (some (vI 2)) ν))) : Call G Y_X0_dismiss [vP (1, 0, r0), vI z1, vP (203, t2, r2)] μ Q E :=
  S_X0_dismiss (h.mono (fun _ _ q => q) (fun q ν hh => by rcases hh with ⟨a, ⟨rfl, k⟩ | ⟨rfl, k⟩⟩ <;> first | exact H_X0_dismiss_1 k | exact H_X0_dismiss_2 k))
theorem H_X0_employerOf_1 {G : ZG} {ν : ZM} {Q : Option ZV → ZM → Prop} {E : ZP → ZM → Prop} {r0 : Nat} {z1 : Int32} {t2 : Nat} {r2 : Nat} {h0 : Nat} (k : Q (some (vI 1)) ν) : Wx G Y_X0_employerOf 4 [(0, vP (1, 0, r0)), (1, vI z1), (2, vP (203, t2, r2))] (27, 0, h0) ν Q E := by
  refine Wx.catch [] (0, 9, 12, 34) [] rfl rfl (fun y hy => by cases hy) (by decide) (Or.inr ⟨"java/lang/IndexOutOfBoundsException", by decide, q3470, rfl, Or.inl rfl⟩) ?_
  refine Wp_astore_n [0] (ls' := [(3, vP (27, 0, h0))]) dX0_employerOf_12 rfl (zlt rfl) rfl ?_
  refine Wp_iconst dX0_employerOf_13 (v := 1) rfl ?_
  exact Wp_ireturn dX0_employerOf_14 rfl rfl k
theorem T_X0_employerOf {G : ZG} {μ : ZM} {Q : Option ZV → ZM → Prop} {E : ZP → ZM → Prop} {r0 : Nat} {z1 : Int32} {t2 : Nat} {r2 : Nat} (h : Call G Y_X1_employerOf [vP (1, 0, r0), vI z1] μ (rI fun x1 ν1 => 0 < t2 ∧ Q (some (vI 0)) (zAl ν1 r2 0 x1.toInt64)) (fun q ν => ∃ a, (q = (27, 0, a) ∧ Q (some (vI 1)) ν))) : Call G Y_X0_employerOf [vP (1, 0, r0), vI z1, vP (203, t2, r2)] μ Q E :=
  S_X0_employerOf (h.mono (fun _ _ q => q) (fun q ν hh => by obtain ⟨a, rfl, k⟩ := hh; exact H_X0_employerOf_1 k))
theorem H_X0_executeCommands_1 {G : ZG} {ν : ZM} {Q : Option ZV → ZM → Prop} {E : ZP → ZM → Prop} {r0 : Nat} {t1 : Nat} {r1 : Nat} {h0 : Nat} (k : Q (some (vI 1)) ν) : Wx G Y_X0_executeCommands 3 [(0, vP (1, 0, r0)), (1, vP (203, t1, r1))] (26, 0, h0) ν Q E := by
  refine Wx.catch [] (0, 8, 11, 19) [] rfl rfl (fun y hy => by cases hy) (by decide) (Or.inr ⟨"java/lang/IllegalArgumentException", by decide, q3063, rfl, Or.inl rfl⟩) ?_
  refine Wp_astore_n [0] (ls' := [(2, vP (26, 0, h0))]) dX0_executeCommands_11 rfl (zlt rfl) rfl ?_
  refine Wp_iconst dX0_executeCommands_12 (v := 1) rfl ?_
  exact Wp_ireturn dX0_executeCommands_13 rfl rfl k
theorem T_X0_executeCommands {G : ZG} {μ : ZM} {Q : Option ZV → ZM → Prop} {E : ZP → ZM → Prop} {r0 : Nat} {t1 : Nat} {r1 : Nat} (h : Call G Y_X1_executeCommands [vP (1, 0, r0)] μ (rI fun x1 ν1 => 0 < t1 ∧ Q (some (vI 0)) (zAl ν1 r1 0 x1.toInt64)) (fun q ν => ∃ a, (q = (26, 0, a) ∧ Q (some (vI 1)) ν))) : Call G Y_X0_executeCommands [vP (1, 0, r0), vP (203, t1, r1)] μ Q E :=
  S_X0_executeCommands (h.mono (fun _ _ q => q) (fun q ν hh => by obtain ⟨a, rfl, k⟩ := hh; exact H_X0_executeCommands_1 k))
theorem H_X0_fairResult_1 {G : ZG} {ν : ZM} {Q : Option ZV → ZM → Prop} {E : ZP → ZM → Prop} {r0 : Nat} {z1 : Int32} {t2 : Nat} {r2 : Nat} {h0 : Nat} (k : Q (some (vI 1)) ν) : Wx G Y_X0_fairResult 4 [(0, vP (1, 0, r0)), (1, vI z1), (2, vP (203, t2, r2))] (27, 0, h0) ν Q E := by
  refine Wx.catch [] (0, 9, 12, 34) [] rfl rfl (fun y hy => by cases hy) (by decide) (Or.inr ⟨"java/lang/IndexOutOfBoundsException", by decide, q3470, rfl, Or.inl rfl⟩) ?_
  refine Wp_astore_n [0] (ls' := [(3, vP (27, 0, h0))]) dX0_fairResult_12 rfl (zlt rfl) rfl ?_
  refine Wp_iconst dX0_fairResult_13 (v := 1) rfl ?_
  exact Wp_ireturn dX0_fairResult_14 rfl rfl k
theorem T_X0_fairResult {G : ZG} {μ : ZM} {Q : Option ZV → ZM → Prop} {E : ZP → ZM → Prop} {r0 : Nat} {z1 : Int32} {t2 : Nat} {r2 : Nat} (h : Call G Y_X1_fairResult [vP (1, 0, r0), vI z1] μ (rI fun x1 ν1 => 0 < t2 ∧ Q (some (vI 0)) (zAl ν1 r2 0 x1.toInt64)) (fun q ν => ∃ a, (q = (27, 0, a) ∧ Q (some (vI 1)) ν))) : Call G Y_X0_fairResult [vP (1, 0, r0), vI z1, vP (203, t2, r2)] μ Q E :=
  S_X0_fairResult (h.mono (fun _ _ q => q) (fun q ν hh => by obtain ⟨a, rfl, k⟩ := hh; exact H_X0_fairResult_1 k))
theorem H_X0_fogOf_1 {G : ZG} {ν : ZM} {Q : Option ZV → ZM → Prop} {E : ZP → ZM → Prop} {r0 : Nat} {z1 : Int32} {t2 : Nat} {r2 : Nat} {h0 : Nat} (k : Q (some (vI 1)) ν) : Wx G Y_X0_fogOf 4 [(0, vP (1, 0, r0)), (1, vI z1), (2, vP (203, t2, r2))] (26, 0, h0) ν Q E := by
  refine Wx.catch [] (0, 9, 12, 19) [] rfl rfl (fun y hy => by cases hy) (by decide) (Or.inr ⟨"java/lang/IllegalArgumentException", by decide, q3063, rfl, Or.inl rfl⟩) ?_
  refine Wp_astore_n [0] (ls' := [(3, vP (26, 0, h0))]) dX0_fogOf_12 rfl (zlt rfl) rfl ?_
  refine Wp_iconst dX0_fogOf_13 (v := 1) rfl ?_
  exact Wp_ireturn dX0_fogOf_14 rfl rfl k
theorem T_X0_fogOf {G : ZG} {μ : ZM} {Q : Option ZV → ZM → Prop} {E : ZP → ZM → Prop} {r0 : Nat} {z1 : Int32} {t2 : Nat} {r2 : Nat} (h : Call G Y_X1_fogOf [vP (1, 0, r0), vI z1] μ (rI fun x1 ν1 => 0 < t2 ∧ Q (some (vI 0)) (zAl ν1 r2 0 x1.toInt64)) (fun q ν => ∃ a, (q = (26, 0, a) ∧ Q (some (vI 1)) ν))) : Call G Y_X0_fogOf [vP (1, 0, r0), vI z1, vP (203, t2, r2)] μ Q E :=
  S_X0_fogOf (h.mono (fun _ _ q => q) (fun q ν hh => by obtain ⟨a, rfl, k⟩ := hh; exact H_X0_fogOf_1 k))
theorem H_X0_fund_1 {G : ZG} {ν : ZM} {Q : Option ZV → ZM → Prop} {E : ZP → ZM → Prop} {r0 : Nat} {z1 : Int32} {z2 : Int32} {t3 : Nat} {r3 : Nat} {h0 : Nat} (k : Q (some (vI 1)) ν) : Wx G Y_X0_fund 5 [(0, vP (1, 0, r0)), (1, vI z1), (2, vI z2), (3, vP (203, t3, r3))] (27, 0, h0) ν Q E := by
  refine Wx.catch [] (0, 10, 13, 34) [(0, 10, 17, 19)] rfl rfl (fun y hy => by cases hy) (by decide) (Or.inr ⟨"java/lang/IndexOutOfBoundsException", by decide, q3470, rfl, Or.inl rfl⟩) ?_
  refine Wp_astore [0] (ls' := [(4, vP (27, 0, h0))]) dX0_fund_13 (zlt rfl) rfl ?_
  refine Wp_iconst dX0_fund_15 (v := 1) rfl ?_
  exact Wp_ireturn dX0_fund_16 rfl rfl k
theorem H_X0_fund_2 {G : ZG} {ν : ZM} {Q : Option ZV → ZM → Prop} {E : ZP → ZM → Prop} {r0 : Nat} {z1 : Int32} {z2 : Int32} {t3 : Nat} {r3 : Nat} {h0 : Nat} (k : Q (some (vI 2)) ν) : Wx G Y_X0_fund 5 [(0, vP (1, 0, r0)), (1, vI z1), (2, vI z2), (3, vP (203, t3, r3))] (26, 0, h0) ν Q E := by
  refine Wx.catch [(0, 10, 13, 34)] (0, 10, 17, 19) [] rfl rfl (fun y hy => by rw [List.mem_singleton.mp hy]; exact Or.inr ⟨by decide, "java/lang/IndexOutOfBoundsException", q3470, show (zcls 26, "java/lang/IndexOutOfBoundsException") ∈ zncT by decide⟩) (by decide) (Or.inr ⟨"java/lang/IllegalArgumentException", by decide, q3063, rfl, Or.inl rfl⟩) ?_
  refine Wp_astore [0] (ls' := [(4, vP (26, 0, h0))]) dX0_fund_17 (zlt rfl) rfl ?_
  refine Wp_iconst dX0_fund_19 (v := 2) rfl ?_
  exact Wp_ireturn dX0_fund_20 rfl rfl k
theorem T_X0_fund {G : ZG} {μ : ZM} {Q : Option ZV → ZM → Prop} {E : ZP → ZM → Prop} {r0 : Nat} {z1 : Int32} {z2 : Int32} {t3 : Nat} {r3 : Nat} (h : Call G Y_X1_fund [vP (1, 0, r0), vI z1, vI z2] μ (rI fun x1 ν1 => 0 < t3 ∧ Q (some (vI 0)) (zAl ν1 r3 0 x1.toInt64)) (fun q ν => ∃ a, (q = (27, 0, a) ∧ Q (some (vI 1)) ν) ∨ (q = (26, 0, a) ∧ Q (some (vI 2)) ν))) : Call G Y_X0_fund [vP (1, 0, r0), vI z1, vI z2, vP (203, t3, r3)] μ Q E :=
  S_X0_fund (h.mono (fun _ _ q => q) (fun q ν hh => by rcases hh with ⟨a, ⟨rfl, k⟩ | ⟨rfl, k⟩⟩ <;> first | exact H_X0_fund_1 k | exact H_X0_fund_2 k))
theorem H_X0_isTested_1 {G : ZG} {ν : ZM} {Q : Option ZV → ZM → Prop} {E : ZP → ZM → Prop} {r0 : Nat} {z1 : Int32} {z2 : Int32} {t3 : Nat} {r3 : Nat} {h0 : Nat} (k : Q (some (vI 1)) ν) : Wx G Y_X0_isTested 5 [(0, vP (1, 0, r0)), (1, vI z1), (2, vI z2), (3, vP (203, t3, r3))] (27, 0, h0) ν Q E := by
  refine Wx.catch [] (0, 17, 20, 34) [] rfl rfl (fun y hy => by cases hy) (by decide) (Or.inr ⟨"java/lang/IndexOutOfBoundsException", by decide, q3470, rfl, Or.inl rfl⟩) ?_
  refine Wp_astore [0] (ls' := [(4, vP (27, 0, h0))]) dX0_isTested_20 (zlt rfl) rfl ?_
  refine Wp_iconst dX0_isTested_22 (v := 1) rfl ?_
  exact Wp_ireturn dX0_isTested_23 rfl rfl k
theorem T_X0_isTested {G : ZG} {μ : ZM} {Q : Option ZV → ZM → Prop} {E : ZP → ZM → Prop} {r0 : Nat} {z1 : Int32} {z2 : Int32} {t3 : Nat} {r3 : Nat} (h : Call G Y_X1_isTested [vP (1, 0, r0), vI z1, vI z2] μ (rI fun x1 ν1 => (x1 = 0 → (0 < t3 ∧ Q (some (vI 0)) (zAl ν1 r3 0 0))) ∧ (¬ x1 = 0 → (0 < t3 ∧ Q (some (vI 0)) (zAl ν1 r3 0 1)))) (fun q ν => ∃ a, (q = (27, 0, a) ∧ Q (some (vI 1)) ν))) : Call G Y_X0_isTested [vP (1, 0, r0), vI z1, vI z2, vP (203, t3, r3)] μ Q E :=
  S_X0_isTested (h.mono (fun _ _ q => q) (fun q ν hh => by obtain ⟨a, rfl, k⟩ := hh; exact H_X0_isTested_1 k))
theorem H_X0_leastWage_1 {G : ZG} {ν : ZM} {Q : Option ZV → ZM → Prop} {E : ZP → ZM → Prop} {r0 : Nat} {z1 : Int32} {z2 : Int32} {t3 : Nat} {r3 : Nat} {h0 : Nat} (k : Q (some (vI 1)) ν) : Wx G Y_X0_leastWage 5 [(0, vP (1, 0, r0)), (1, vI z1), (2, vI z2), (3, vP (203, t3, r3))] (27, 0, h0) ν Q E := by
  refine Wx.catch [] (0, 10, 13, 34) [] rfl rfl (fun y hy => by cases hy) (by decide) (Or.inr ⟨"java/lang/IndexOutOfBoundsException", by decide, q3470, rfl, Or.inl rfl⟩) ?_
  refine Wp_astore [0] (ls' := [(4, vP (27, 0, h0))]) dX0_leastWage_13 (zlt rfl) rfl ?_
  refine Wp_iconst dX0_leastWage_15 (v := 1) rfl ?_
  exact Wp_ireturn dX0_leastWage_16 rfl rfl k
theorem T_X0_leastWage {G : ZG} {μ : ZM} {Q : Option ZV → ZM → Prop} {E : ZP → ZM → Prop} {r0 : Nat} {z1 : Int32} {z2 : Int32} {t3 : Nat} {r3 : Nat} (h : Call G Y_X1_leastWage [vP (1, 0, r0), vI z1, vI z2] μ (rI fun x1 ν1 => 0 < t3 ∧ Q (some (vI 0)) (zAl ν1 r3 0 x1.toInt64)) (fun q ν => ∃ a, (q = (27, 0, a) ∧ Q (some (vI 1)) ν))) : Call G Y_X0_leastWage [vP (1, 0, r0), vI z1, vI z2, vP (203, t3, r3)] μ Q E :=
  S_X0_leastWage (h.mono (fun _ _ q => q) (fun q ν hh => by obtain ⟨a, rfl, k⟩ := hh; exact H_X0_leastWage_1 k))
theorem H_X0_load_1 {G : ZG} {ν : ZM} {Q : Option ZV → ZM → Prop} {E : ZP → ZM → Prop} {r0 : Nat} {t1 : Nat} {r1 : Nat} {h0 : Nat} (k : Q (some (vI 1)) ν) : Wx G Y_X0_load 3 [(0, vP (1, 0, r0)), (1, vP (203, t1, r1))] (26, 0, h0) ν Q E := by
  refine Wx.catch [] (0, 8, 11, 19) [] rfl rfl (fun y hy => by cases hy) (by decide) (Or.inr ⟨"java/lang/IllegalArgumentException", by decide, q3063, rfl, Or.inl rfl⟩) ?_
  refine Wp_astore_n [0] (ls' := [(2, vP (26, 0, h0))]) dX0_load_11 rfl (zlt rfl) rfl ?_
  refine Wp_iconst dX0_load_12 (v := 1) rfl ?_
  exact Wp_ireturn dX0_load_13 rfl rfl k
theorem T_X0_load {G : ZG} {μ : ZM} {Q : Option ZV → ZM → Prop} {E : ZP → ZM → Prop} {r0 : Nat} {t1 : Nat} {r1 : Nat} (h : Call G Y_X1_load [vP (1, 0, r0)] μ (rI fun x1 ν1 => 0 < t1 ∧ Q (some (vI 0)) (zAl ν1 r1 0 x1.toInt64)) (fun q ν => ∃ a, (q = (26, 0, a) ∧ Q (some (vI 1)) ν))) : Call G Y_X0_load [vP (1, 0, r0), vP (203, t1, r1)] μ Q E :=
  S_X0_load (h.mono (fun _ _ q => q) (fun q ν hh => by obtain ⟨a, rfl, k⟩ := hh; exact H_X0_load_1 k))
theorem H_X0_pairReason_1 {G : ZG} {ν : ZM} {Q : Option ZV → ZM → Prop} {E : ZP → ZM → Prop} {r0 : Nat} {z1 : Int32} {z2 : Int32} {t3 : Nat} {r3 : Nat} {h0 : Nat} (k : Q (some (vI 1)) ν) : Wx G Y_X0_pairReason 5 [(0, vP (1, 0, r0)), (1, vI z1), (2, vI z2), (3, vP (203, t3, r3))] (27, 0, h0) ν Q E := by
  refine Wx.catch [] (0, 10, 13, 34) [] rfl rfl (fun y hy => by cases hy) (by decide) (Or.inr ⟨"java/lang/IndexOutOfBoundsException", by decide, q3470, rfl, Or.inl rfl⟩) ?_
  refine Wp_astore [0] (ls' := [(4, vP (27, 0, h0))]) dX0_pairReason_13 (zlt rfl) rfl ?_
  refine Wp_iconst dX0_pairReason_15 (v := 1) rfl ?_
  exact Wp_ireturn dX0_pairReason_16 rfl rfl k
theorem T_X0_pairReason {G : ZG} {μ : ZM} {Q : Option ZV → ZM → Prop} {E : ZP → ZM → Prop} {r0 : Nat} {z1 : Int32} {z2 : Int32} {t3 : Nat} {r3 : Nat} (h : Call G Y_X1_pairReason [vP (1, 0, r0), vI z1, vI z2] μ (rI fun x1 ν1 => 0 < t3 ∧ Q (some (vI 0)) (zAl ν1 r3 0 x1.toInt64)) (fun q ν => ∃ a, (q = (27, 0, a) ∧ Q (some (vI 1)) ν))) : Call G Y_X0_pairReason [vP (1, 0, r0), vI z1, vI z2, vP (203, t3, r3)] μ Q E :=
  S_X0_pairReason (h.mono (fun _ _ q => q) (fun q ν hh => by obtain ⟨a, rfl, k⟩ := hh; exact H_X0_pairReason_1 k))
theorem H_X0_passDays_1 {G : ZG} {ν : ZM} {Q : Option ZV → ZM → Prop} {E : ZP → ZM → Prop} {r0 : Nat} {z1 : Int32} {t2 : Nat} {r2 : Nat} {h0 : Nat} (k : Q (some (vI 1)) ν) : Wx G Y_X0_passDays 4 [(0, vP (1, 0, r0)), (1, vI z1), (2, vP (203, t2, r2))] (26, 0, h0) ν Q E := by
  refine Wx.catch [] (0, 9, 12, 19) [] rfl rfl (fun y hy => by cases hy) (by decide) (Or.inr ⟨"java/lang/IllegalArgumentException", by decide, q3063, rfl, Or.inl rfl⟩) ?_
  refine Wp_astore_n [0] (ls' := [(3, vP (26, 0, h0))]) dX0_passDays_12 rfl (zlt rfl) rfl ?_
  refine Wp_iconst dX0_passDays_13 (v := 1) rfl ?_
  exact Wp_ireturn dX0_passDays_14 rfl rfl k
theorem T_X0_passDays {G : ZG} {μ : ZM} {Q : Option ZV → ZM → Prop} {E : ZP → ZM → Prop} {r0 : Nat} {z1 : Int32} {t2 : Nat} {r2 : Nat} (h : Call G Y_X1_passDays [vP (1, 0, r0), vI z1] μ (rI fun x1 ν1 => 0 < t2 ∧ Q (some (vI 0)) (zAl ν1 r2 0 x1.toInt64)) (fun q ν => ∃ a, (q = (26, 0, a) ∧ Q (some (vI 1)) ν))) : Call G Y_X0_passDays [vP (1, 0, r0), vI z1, vP (203, t2, r2)] μ Q E :=
  S_X0_passDays (h.mono (fun _ _ q => q) (fun q ν hh => by obtain ⟨a, rfl, k⟩ := hh; exact H_X0_passDays_1 k))
theorem H_X0_postsOf_1 {G : ZG} {ν : ZM} {Q : Option ZV → ZM → Prop} {E : ZP → ZM → Prop} {r0 : Nat} {z1 : Int32} {t2 : Nat} {r2 : Nat} {h0 : Nat} (k : Q (some (vI 1)) ν) : Wx G Y_X0_postsOf 4 [(0, vP (1, 0, r0)), (1, vI z1), (2, vP (203, t2, r2))] (27, 0, h0) ν Q E := by
  refine Wx.catch [] (0, 9, 12, 34) [] rfl rfl (fun y hy => by cases hy) (by decide) (Or.inr ⟨"java/lang/IndexOutOfBoundsException", by decide, q3470, rfl, Or.inl rfl⟩) ?_
  refine Wp_astore_n [0] (ls' := [(3, vP (27, 0, h0))]) dX0_postsOf_12 rfl (zlt rfl) rfl ?_
  refine Wp_iconst dX0_postsOf_13 (v := 1) rfl ?_
  exact Wp_ireturn dX0_postsOf_14 rfl rfl k
theorem T_X0_postsOf {G : ZG} {μ : ZM} {Q : Option ZV → ZM → Prop} {E : ZP → ZM → Prop} {r0 : Nat} {z1 : Int32} {t2 : Nat} {r2 : Nat} (h : Call G Y_X1_postsOf [vP (1, 0, r0), vI z1] μ (rI fun x1 ν1 => 0 < t2 ∧ Q (some (vI 0)) (zAl ν1 r2 0 x1.toInt64)) (fun q ν => ∃ a, (q = (27, 0, a) ∧ Q (some (vI 1)) ν))) : Call G Y_X0_postsOf [vP (1, 0, r0), vI z1, vP (203, t2, r2)] μ Q E :=
  S_X0_postsOf (h.mono (fun _ _ q => q) (fun q ν hh => by obtain ⟨a, rfl, k⟩ := hh; exact H_X0_postsOf_1 k))
theorem H_X0_preferredEcho_1 {G : ZG} {ν : ZM} {Q : Option ZV → ZM → Prop} {E : ZP → ZM → Prop} {r0 : Nat} {z1 : Int32} {z2 : Int32} {t3 : Nat} {r3 : Nat} {h0 : Nat} (k : Q (some (vI 1)) ν) : Wx G Y_X0_preferredEcho 5 [(0, vP (1, 0, r0)), (1, vI z1), (2, vI z2), (3, vP (203, t3, r3))] (27, 0, h0) ν Q E := by
  refine Wx.catch [] (0, 10, 13, 34) [] rfl rfl (fun y hy => by cases hy) (by decide) (Or.inr ⟨"java/lang/IndexOutOfBoundsException", by decide, q3470, rfl, Or.inl rfl⟩) ?_
  refine Wp_astore [0] (ls' := [(4, vP (27, 0, h0))]) dX0_preferredEcho_13 (zlt rfl) rfl ?_
  refine Wp_iconst dX0_preferredEcho_15 (v := 1) rfl ?_
  exact Wp_ireturn dX0_preferredEcho_16 rfl rfl k
theorem T_X0_preferredEcho {G : ZG} {μ : ZM} {Q : Option ZV → ZM → Prop} {E : ZP → ZM → Prop} {r0 : Nat} {z1 : Int32} {z2 : Int32} {t3 : Nat} {r3 : Nat} (h : Call G Y_X1_preferredEcho [vP (1, 0, r0), vI z1, vI z2] μ (rI fun x1 ν1 => 0 < t3 ∧ Q (some (vI 0)) (zAl ν1 r3 0 x1.toInt64)) (fun q ν => ∃ a, (q = (27, 0, a) ∧ Q (some (vI 1)) ν))) : Call G Y_X0_preferredEcho [vP (1, 0, r0), vI z1, vI z2, vP (203, t3, r3)] μ Q E :=
  S_X0_preferredEcho (h.mono (fun _ _ q => q) (fun q ν hh => by obtain ⟨a, rfl, k⟩ := hh; exact H_X0_preferredEcho_1 k))
theorem H_X0_preferredValley_1 {G : ZG} {ν : ZM} {Q : Option ZV → ZM → Prop} {E : ZP → ZM → Prop} {r0 : Nat} {z1 : Int32} {z2 : Int32} {t3 : Nat} {r3 : Nat} {h0 : Nat} (k : Q (some (vI 1)) ν) : Wx G Y_X0_preferredValley 5 [(0, vP (1, 0, r0)), (1, vI z1), (2, vI z2), (3, vP (203, t3, r3))] (27, 0, h0) ν Q E := by
  refine Wx.catch [] (0, 10, 13, 34) [] rfl rfl (fun y hy => by cases hy) (by decide) (Or.inr ⟨"java/lang/IndexOutOfBoundsException", by decide, q3470, rfl, Or.inl rfl⟩) ?_
  refine Wp_astore [0] (ls' := [(4, vP (27, 0, h0))]) dX0_preferredValley_13 (zlt rfl) rfl ?_
  refine Wp_iconst dX0_preferredValley_15 (v := 1) rfl ?_
  exact Wp_ireturn dX0_preferredValley_16 rfl rfl k
theorem T_X0_preferredValley {G : ZG} {μ : ZM} {Q : Option ZV → ZM → Prop} {E : ZP → ZM → Prop} {r0 : Nat} {z1 : Int32} {z2 : Int32} {t3 : Nat} {r3 : Nat} (h : Call G Y_X1_preferredValley [vP (1, 0, r0), vI z1, vI z2] μ (rI fun x1 ν1 => 0 < t3 ∧ Q (some (vI 0)) (zAl ν1 r3 0 x1.toInt64)) (fun q ν => ∃ a, (q = (27, 0, a) ∧ Q (some (vI 1)) ν))) : Call G Y_X0_preferredValley [vP (1, 0, r0), vI z1, vI z2, vP (203, t3, r3)] μ Q E :=
  S_X0_preferredValley (h.mono (fun _ _ q => q) (fun q ν hh => by obtain ⟨a, rfl, k⟩ := hh; exact H_X0_preferredValley_1 k))
theorem H_X0_purseAfter_1 {G : ZG} {ν : ZM} {Q : Option ZV → ZM → Prop} {E : ZP → ZM → Prop} {r0 : Nat} {z1 : Int32} {z2 : Int32} {t3 : Nat} {r3 : Nat} {h0 : Nat} (k : Q (some (vI 1)) ν) : Wx G Y_X0_purseAfter 5 [(0, vP (1, 0, r0)), (1, vI z1), (2, vI z2), (3, vP (203, t3, r3))] (27, 0, h0) ν Q E := by
  refine Wx.catch [] (0, 10, 13, 34) [(0, 10, 17, 19)] rfl rfl (fun y hy => by cases hy) (by decide) (Or.inr ⟨"java/lang/IndexOutOfBoundsException", by decide, q3470, rfl, Or.inl rfl⟩) ?_
  refine Wp_astore [0] (ls' := [(4, vP (27, 0, h0))]) dX0_purseAfter_13 (zlt rfl) rfl ?_
  refine Wp_iconst dX0_purseAfter_15 (v := 1) rfl ?_
  exact Wp_ireturn dX0_purseAfter_16 rfl rfl k
theorem H_X0_purseAfter_2 {G : ZG} {ν : ZM} {Q : Option ZV → ZM → Prop} {E : ZP → ZM → Prop} {r0 : Nat} {z1 : Int32} {z2 : Int32} {t3 : Nat} {r3 : Nat} {h0 : Nat} (k : Q (some (vI 2)) ν) : Wx G Y_X0_purseAfter 5 [(0, vP (1, 0, r0)), (1, vI z1), (2, vI z2), (3, vP (203, t3, r3))] (26, 0, h0) ν Q E := by
  refine Wx.catch [(0, 10, 13, 34)] (0, 10, 17, 19) [] rfl rfl (fun y hy => by rw [List.mem_singleton.mp hy]; exact Or.inr ⟨by decide, "java/lang/IndexOutOfBoundsException", q3470, show (zcls 26, "java/lang/IndexOutOfBoundsException") ∈ zncT by decide⟩) (by decide) (Or.inr ⟨"java/lang/IllegalArgumentException", by decide, q3063, rfl, Or.inl rfl⟩) ?_
  refine Wp_astore [0] (ls' := [(4, vP (26, 0, h0))]) dX0_purseAfter_17 (zlt rfl) rfl ?_
  refine Wp_iconst dX0_purseAfter_19 (v := 2) rfl ?_
  exact Wp_ireturn dX0_purseAfter_20 rfl rfl k
theorem T_X0_purseAfter {G : ZG} {μ : ZM} {Q : Option ZV → ZM → Prop} {E : ZP → ZM → Prop} {r0 : Nat} {z1 : Int32} {z2 : Int32} {t3 : Nat} {r3 : Nat} (h : Call G Y_X1_purseAfter [vP (1, 0, r0), vI z1, vI z2] μ (rI fun x1 ν1 => 0 < t3 ∧ Q (some (vI 0)) (zAl ν1 r3 0 x1.toInt64)) (fun q ν => ∃ a, (q = (27, 0, a) ∧ Q (some (vI 1)) ν) ∨ (q = (26, 0, a) ∧ Q (some (vI 2)) ν))) : Call G Y_X0_purseAfter [vP (1, 0, r0), vI z1, vI z2, vP (203, t3, r3)] μ Q E :=
  S_X0_purseAfter (h.mono (fun _ _ q => q) (fun q ν hh => by rcases hh with ⟨a, ⟨rfl, k⟩ | ⟨rfl, k⟩⟩ <;> first | exact H_X0_purseAfter_1 k | exact H_X0_purseAfter_2 k))
theorem H_X0_purseOf_1 {G : ZG} {ν : ZM} {Q : Option ZV → ZM → Prop} {E : ZP → ZM → Prop} {r0 : Nat} {z1 : Int32} {t2 : Nat} {r2 : Nat} {h0 : Nat} (k : Q (some (vI 1)) ν) : Wx G Y_X0_purseOf 4 [(0, vP (1, 0, r0)), (1, vI z1), (2, vP (203, t2, r2))] (27, 0, h0) ν Q E := by
  refine Wx.catch [] (0, 9, 12, 34) [] rfl rfl (fun y hy => by cases hy) (by decide) (Or.inr ⟨"java/lang/IndexOutOfBoundsException", by decide, q3470, rfl, Or.inl rfl⟩) ?_
  refine Wp_astore_n [0] (ls' := [(3, vP (27, 0, h0))]) dX0_purseOf_12 rfl (zlt rfl) rfl ?_
  refine Wp_iconst dX0_purseOf_13 (v := 1) rfl ?_
  exact Wp_ireturn dX0_purseOf_14 rfl rfl k
theorem T_X0_purseOf {G : ZG} {μ : ZM} {Q : Option ZV → ZM → Prop} {E : ZP → ZM → Prop} {r0 : Nat} {z1 : Int32} {t2 : Nat} {r2 : Nat} (h : Call G Y_X1_purseOf [vP (1, 0, r0), vI z1] μ (rI fun x1 ν1 => 0 < t2 ∧ Q (some (vI 0)) (zAl ν1 r2 0 x1.toInt64)) (fun q ν => ∃ a, (q = (27, 0, a) ∧ Q (some (vI 1)) ν))) : Call G Y_X0_purseOf [vP (1, 0, r0), vI z1, vP (203, t2, r2)] μ Q E :=
  S_X0_purseOf (h.mono (fun _ _ q => q) (fun q ν hh => by obtain ⟨a, rfl, k⟩ := hh; exact H_X0_purseOf_1 k))
theorem H_X0_repeatsOf_1 {G : ZG} {ν : ZM} {Q : Option ZV → ZM → Prop} {E : ZP → ZM → Prop} {r0 : Nat} {z1 : Int32} {t2 : Nat} {r2 : Nat} {h0 : Nat} (k : Q (some (vI 1)) ν) : Wx G Y_X0_repeatsOf 4 [(0, vP (1, 0, r0)), (1, vI z1), (2, vP (203, t2, r2))] (27, 0, h0) ν Q E := by
  refine Wx.catch [] (0, 9, 12, 34) [] rfl rfl (fun y hy => by cases hy) (by decide) (Or.inr ⟨"java/lang/IndexOutOfBoundsException", by decide, q3470, rfl, Or.inl rfl⟩) ?_
  refine Wp_astore_n [0] (ls' := [(3, vP (27, 0, h0))]) dX0_repeatsOf_12 rfl (zlt rfl) rfl ?_
  refine Wp_iconst dX0_repeatsOf_13 (v := 1) rfl ?_
  exact Wp_ireturn dX0_repeatsOf_14 rfl rfl k
theorem T_X0_repeatsOf {G : ZG} {μ : ZM} {Q : Option ZV → ZM → Prop} {E : ZP → ZM → Prop} {r0 : Nat} {z1 : Int32} {t2 : Nat} {r2 : Nat} (h : Call G Y_X1_repeatsOf [vP (1, 0, r0), vI z1] μ (rI fun x1 ν1 => 0 < t2 ∧ Q (some (vI 0)) (zAl ν1 r2 0 x1.toInt64)) (fun q ν => ∃ a, (q = (27, 0, a) ∧ Q (some (vI 1)) ν))) : Call G Y_X0_repeatsOf [vP (1, 0, r0), vI z1, vP (203, t2, r2)] μ Q E :=
  S_X0_repeatsOf (h.mono (fun _ _ q => q) (fun q ν hh => by obtain ⟨a, rfl, k⟩ := hh; exact H_X0_repeatsOf_1 k))
theorem H_X0_repliesHeard_1 {G : ZG} {ν : ZM} {Q : Option ZV → ZM → Prop} {E : ZP → ZM → Prop} {r0 : Nat} {z1 : Int32} {t2 : Nat} {r2 : Nat} {h0 : Nat} (k : Q (some (vI 1)) ν) : Wx G Y_X0_repliesHeard 4 [(0, vP (1, 0, r0)), (1, vI z1), (2, vP (203, t2, r2))] (27, 0, h0) ν Q E := by
  refine Wx.catch [] (0, 9, 12, 34) [] rfl rfl (fun y hy => by cases hy) (by decide) (Or.inr ⟨"java/lang/IndexOutOfBoundsException", by decide, q3470, rfl, Or.inl rfl⟩) ?_
  refine Wp_astore_n [0] (ls' := [(3, vP (27, 0, h0))]) dX0_repliesHeard_12 rfl (zlt rfl) rfl ?_
  refine Wp_iconst dX0_repliesHeard_13 (v := 1) rfl ?_
  exact Wp_ireturn dX0_repliesHeard_14 rfl rfl k
theorem T_X0_repliesHeard {G : ZG} {μ : ZM} {Q : Option ZV → ZM → Prop} {E : ZP → ZM → Prop} {r0 : Nat} {z1 : Int32} {t2 : Nat} {r2 : Nat} (h : Call G Y_X1_repliesHeard [vP (1, 0, r0), vI z1] μ (rI fun x1 ν1 => 0 < t2 ∧ Q (some (vI 0)) (zAl ν1 r2 0 x1.toInt64)) (fun q ν => ∃ a, (q = (27, 0, a) ∧ Q (some (vI 1)) ν))) : Call G Y_X0_repliesHeard [vP (1, 0, r0), vI z1, vP (203, t2, r2)] μ Q E :=
  S_X0_repliesHeard (h.mono (fun _ _ q => q) (fun q ν hh => by obtain ⟨a, rfl, k⟩ := hh; exact H_X0_repliesHeard_1 k))
theorem H_X0_reserveWage_1 {G : ZG} {ν : ZM} {Q : Option ZV → ZM → Prop} {E : ZP → ZM → Prop} {r0 : Nat} {z1 : Int32} {t2 : Nat} {r2 : Nat} {h0 : Nat} (k : Q (some (vI 1)) ν) : Wx G Y_X0_reserveWage 4 [(0, vP (1, 0, r0)), (1, vI z1), (2, vP (203, t2, r2))] (27, 0, h0) ν Q E := by
  refine Wx.catch [] (0, 9, 12, 34) [] rfl rfl (fun y hy => by cases hy) (by decide) (Or.inr ⟨"java/lang/IndexOutOfBoundsException", by decide, q3470, rfl, Or.inl rfl⟩) ?_
  refine Wp_astore_n [0] (ls' := [(3, vP (27, 0, h0))]) dX0_reserveWage_12 rfl (zlt rfl) rfl ?_
  refine Wp_iconst dX0_reserveWage_13 (v := 1) rfl ?_
  exact Wp_ireturn dX0_reserveWage_14 rfl rfl k
theorem T_X0_reserveWage {G : ZG} {μ : ZM} {Q : Option ZV → ZM → Prop} {E : ZP → ZM → Prop} {r0 : Nat} {z1 : Int32} {t2 : Nat} {r2 : Nat} (h : Call G Y_X1_reserveWage [vP (1, 0, r0), vI z1] μ (rI fun x1 ν1 => 0 < t2 ∧ Q (some (vI 0)) (zAl ν1 r2 0 x1.toInt64)) (fun q ν => ∃ a, (q = (27, 0, a) ∧ Q (some (vI 1)) ν))) : Call G Y_X0_reserveWage [vP (1, 0, r0), vI z1, vP (203, t2, r2)] μ Q E :=
  S_X0_reserveWage (h.mono (fun _ _ q => q) (fun q ν hh => by obtain ⟨a, rfl, k⟩ := hh; exact H_X0_reserveWage_1 k))
theorem H_X0_resistanceOf_1 {G : ZG} {ν : ZM} {Q : Option ZV → ZM → Prop} {E : ZP → ZM → Prop} {r0 : Nat} {z1 : Int32} {t2 : Nat} {r2 : Nat} {h0 : Nat} (k : Q (some (vI 1)) ν) : Wx G Y_X0_resistanceOf 4 [(0, vP (1, 0, r0)), (1, vI z1), (2, vP (203, t2, r2))] (27, 0, h0) ν Q E := by
  refine Wx.catch [] (0, 9, 12, 34) [] rfl rfl (fun y hy => by cases hy) (by decide) (Or.inr ⟨"java/lang/IndexOutOfBoundsException", by decide, q3470, rfl, Or.inl rfl⟩) ?_
  refine Wp_astore_n [0] (ls' := [(3, vP (27, 0, h0))]) dX0_resistanceOf_12 rfl (zlt rfl) rfl ?_
  refine Wp_iconst dX0_resistanceOf_13 (v := 1) rfl ?_
  exact Wp_ireturn dX0_resistanceOf_14 rfl rfl k
theorem T_X0_resistanceOf {G : ZG} {μ : ZM} {Q : Option ZV → ZM → Prop} {E : ZP → ZM → Prop} {r0 : Nat} {z1 : Int32} {t2 : Nat} {r2 : Nat} (h : Call G Y_X1_resistanceOf [vP (1, 0, r0), vI z1] μ (rI fun x1 ν1 => 0 < t2 ∧ Q (some (vI 0)) (zAl ν1 r2 0 x1.toInt64)) (fun q ν => ∃ a, (q = (27, 0, a) ∧ Q (some (vI 1)) ν))) : Call G Y_X0_resistanceOf [vP (1, 0, r0), vI z1, vP (203, t2, r2)] μ Q E :=
  S_X0_resistanceOf (h.mono (fun _ _ q => q) (fun q ν hh => by obtain ⟨a, rfl, k⟩ := hh; exact H_X0_resistanceOf_1 k))
theorem H_X0_restore_1 {G : ZG} {ν : ZM} {Q : Option ZV → ZM → Prop} {E : ZP → ZM → Prop} {r0 : Nat} {t1 : Nat} {r1 : Nat} {h0 : Nat} (k : Q (some (vI 1)) ν) : Wx G Y_X0_restore 3 [(0, vP (1, 0, r0)), (1, vP (203, t1, r1))] (25, 0, h0) ν Q E := by
  refine Wx.catch [] (0, 8, 11, 13) [] rfl rfl (fun y hy => by cases hy) (by decide) (Or.inr ⟨"java/lang/IllegalStateException", by decide, q3037, rfl, Or.inl rfl⟩) ?_
  refine Wp_astore_n [0] (ls' := [(2, vP (25, 0, h0))]) dX0_restore_11 rfl (zlt rfl) rfl ?_
  refine Wp_iconst dX0_restore_12 (v := 1) rfl ?_
  exact Wp_ireturn dX0_restore_13 rfl rfl k
theorem T_X0_restore {G : ZG} {μ : ZM} {Q : Option ZV → ZM → Prop} {E : ZP → ZM → Prop} {r0 : Nat} {t1 : Nat} {r1 : Nat} (h : Call G Y_X1_restore [vP (1, 0, r0)] μ (rI fun x1 ν1 => 0 < t1 ∧ Q (some (vI 0)) (zAl ν1 r1 0 x1.toInt64)) (fun q ν => ∃ a, (q = (25, 0, a) ∧ Q (some (vI 1)) ν))) : Call G Y_X0_restore [vP (1, 0, r0), vP (203, t1, r1)] μ Q E :=
  S_X0_restore (h.mono (fun _ _ q => q) (fun q ν hh => by obtain ⟨a, rfl, k⟩ := hh; exact H_X0_restore_1 k))
theorem H_X0_savingsAfter_1 {G : ZG} {ν : ZM} {Q : Option ZV → ZM → Prop} {E : ZP → ZM → Prop} {r0 : Nat} {z1 : Int32} {z2 : Int32} {t3 : Nat} {r3 : Nat} {h0 : Nat} (k : Q (some (vI 1)) ν) : Wx G Y_X0_savingsAfter 5 [(0, vP (1, 0, r0)), (1, vI z1), (2, vI z2), (3, vP (203, t3, r3))] (27, 0, h0) ν Q E := by
  refine Wx.catch [] (0, 10, 13, 34) [(0, 10, 17, 19)] rfl rfl (fun y hy => by cases hy) (by decide) (Or.inr ⟨"java/lang/IndexOutOfBoundsException", by decide, q3470, rfl, Or.inl rfl⟩) ?_
  refine Wp_astore [0] (ls' := [(4, vP (27, 0, h0))]) dX0_savingsAfter_13 (zlt rfl) rfl ?_
  refine Wp_iconst dX0_savingsAfter_15 (v := 1) rfl ?_
  exact Wp_ireturn dX0_savingsAfter_16 rfl rfl k
theorem H_X0_savingsAfter_2 {G : ZG} {ν : ZM} {Q : Option ZV → ZM → Prop} {E : ZP → ZM → Prop} {r0 : Nat} {z1 : Int32} {z2 : Int32} {t3 : Nat} {r3 : Nat} {h0 : Nat} (k : Q (some (vI 2)) ν) : Wx G Y_X0_savingsAfter 5 [(0, vP (1, 0, r0)), (1, vI z1), (2, vI z2), (3, vP (203, t3, r3))] (26, 0, h0) ν Q E := by
  refine Wx.catch [(0, 10, 13, 34)] (0, 10, 17, 19) [] rfl rfl (fun y hy => by rw [List.mem_singleton.mp hy]; exact Or.inr ⟨by decide, "java/lang/IndexOutOfBoundsException", q3470, show (zcls 26, "java/lang/IndexOutOfBoundsException") ∈ zncT by decide⟩) (by decide) (Or.inr ⟨"java/lang/IllegalArgumentException", by decide, q3063, rfl, Or.inl rfl⟩) ?_
  refine Wp_astore [0] (ls' := [(4, vP (26, 0, h0))]) dX0_savingsAfter_17 (zlt rfl) rfl ?_
  refine Wp_iconst dX0_savingsAfter_19 (v := 2) rfl ?_
  exact Wp_ireturn dX0_savingsAfter_20 rfl rfl k
theorem T_X0_savingsAfter {G : ZG} {μ : ZM} {Q : Option ZV → ZM → Prop} {E : ZP → ZM → Prop} {r0 : Nat} {z1 : Int32} {z2 : Int32} {t3 : Nat} {r3 : Nat} (h : Call G Y_X1_savingsAfter [vP (1, 0, r0), vI z1, vI z2] μ (rI fun x1 ν1 => 0 < t3 ∧ Q (some (vI 0)) (zAl ν1 r3 0 x1.toInt64)) (fun q ν => ∃ a, (q = (27, 0, a) ∧ Q (some (vI 1)) ν) ∨ (q = (26, 0, a) ∧ Q (some (vI 2)) ν))) : Call G Y_X0_savingsAfter [vP (1, 0, r0), vI z1, vI z2, vP (203, t3, r3)] μ Q E :=
  S_X0_savingsAfter (h.mono (fun _ _ q => q) (fun q ν hh => by rcases hh with ⟨a, ⟨rfl, k⟩ | ⟨rfl, k⟩⟩ <;> first | exact H_X0_savingsAfter_1 k | exact H_X0_savingsAfter_2 k))
theorem H_X0_savingsOf_1 {G : ZG} {ν : ZM} {Q : Option ZV → ZM → Prop} {E : ZP → ZM → Prop} {r0 : Nat} {z1 : Int32} {t2 : Nat} {r2 : Nat} {h0 : Nat} (k : Q (some (vI 1)) ν) : Wx G Y_X0_savingsOf 4 [(0, vP (1, 0, r0)), (1, vI z1), (2, vP (203, t2, r2))] (27, 0, h0) ν Q E := by
  refine Wx.catch [] (0, 9, 12, 34) [] rfl rfl (fun y hy => by cases hy) (by decide) (Or.inr ⟨"java/lang/IndexOutOfBoundsException", by decide, q3470, rfl, Or.inl rfl⟩) ?_
  refine Wp_astore_n [0] (ls' := [(3, vP (27, 0, h0))]) dX0_savingsOf_12 rfl (zlt rfl) rfl ?_
  refine Wp_iconst dX0_savingsOf_13 (v := 1) rfl ?_
  exact Wp_ireturn dX0_savingsOf_14 rfl rfl k
theorem T_X0_savingsOf {G : ZG} {μ : ZM} {Q : Option ZV → ZM → Prop} {E : ZP → ZM → Prop} {r0 : Nat} {z1 : Int32} {t2 : Nat} {r2 : Nat} (h : Call G Y_X1_savingsOf [vP (1, 0, r0), vI z1] μ (rI fun x1 ν1 => 0 < t2 ∧ Q (some (vI 0)) (zAl ν1 r2 0 x1.toInt64)) (fun q ν => ∃ a, (q = (27, 0, a) ∧ Q (some (vI 1)) ν))) : Call G Y_X0_savingsOf [vP (1, 0, r0), vI z1, vP (203, t2, r2)] μ Q E :=
  S_X0_savingsOf (h.mono (fun _ _ q => q) (fun q ν hh => by obtain ⟨a, rfl, k⟩ := hh; exact H_X0_savingsOf_1 k))
theorem H_X0_seenScore_1 {G : ZG} {ν : ZM} {Q : Option ZV → ZM → Prop} {E : ZP → ZM → Prop} {r0 : Nat} {z1 : Int32} {z2 : Int32} {t3 : Nat} {r3 : Nat} {h0 : Nat} (k : Q (some (vI 1)) ν) : Wx G Y_X0_seenScore 5 [(0, vP (1, 0, r0)), (1, vI z1), (2, vI z2), (3, vP (203, t3, r3))] (27, 0, h0) ν Q E := by
  refine Wx.catch [] (0, 10, 13, 34) [] rfl rfl (fun y hy => by cases hy) (by decide) (Or.inr ⟨"java/lang/IndexOutOfBoundsException", by decide, q3470, rfl, Or.inl rfl⟩) ?_
  refine Wp_astore [0] (ls' := [(4, vP (27, 0, h0))]) dX0_seenScore_13 (zlt rfl) rfl ?_
  refine Wp_iconst dX0_seenScore_15 (v := 1) rfl ?_
  exact Wp_ireturn dX0_seenScore_16 rfl rfl k
theorem T_X0_seenScore {G : ZG} {μ : ZM} {Q : Option ZV → ZM → Prop} {E : ZP → ZM → Prop} {r0 : Nat} {z1 : Int32} {z2 : Int32} {t3 : Nat} {r3 : Nat} (h : Call G Y_X1_seenScore [vP (1, 0, r0), vI z1, vI z2] μ (rI fun x1 ν1 => 0 < t3 ∧ Q (some (vI 0)) (zAl ν1 r3 0 x1.toInt64)) (fun q ν => ∃ a, (q = (27, 0, a) ∧ Q (some (vI 1)) ν))) : Call G Y_X0_seenScore [vP (1, 0, r0), vI z1, vI z2, vP (203, t3, r3)] μ Q E :=
  S_X0_seenScore (h.mono (fun _ _ q => q) (fun q ν hh => by obtain ⟨a, rfl, k⟩ := hh; exact H_X0_seenScore_1 k))
theorem H_X0_setWage_1 {G : ZG} {ν : ZM} {Q : Option ZV → ZM → Prop} {E : ZP → ZM → Prop} {r0 : Nat} {z1 : Int32} {z2 : Int32} {t3 : Nat} {r3 : Nat} {h0 : Nat} (k : Q (some (vI 1)) ν) : Wx G Y_X0_setWage 5 [(0, vP (1, 0, r0)), (1, vI z1), (2, vI z2), (3, vP (203, t3, r3))] (27, 0, h0) ν Q E := by
  refine Wx.catch [] (0, 10, 13, 34) [(0, 10, 17, 19)] rfl rfl (fun y hy => by cases hy) (by decide) (Or.inr ⟨"java/lang/IndexOutOfBoundsException", by decide, q3470, rfl, Or.inl rfl⟩) ?_
  refine Wp_astore [0] (ls' := [(4, vP (27, 0, h0))]) dX0_setWage_13 (zlt rfl) rfl ?_
  refine Wp_iconst dX0_setWage_15 (v := 1) rfl ?_
  exact Wp_ireturn dX0_setWage_16 rfl rfl k
theorem H_X0_setWage_2 {G : ZG} {ν : ZM} {Q : Option ZV → ZM → Prop} {E : ZP → ZM → Prop} {r0 : Nat} {z1 : Int32} {z2 : Int32} {t3 : Nat} {r3 : Nat} {h0 : Nat} (k : Q (some (vI 2)) ν) : Wx G Y_X0_setWage 5 [(0, vP (1, 0, r0)), (1, vI z1), (2, vI z2), (3, vP (203, t3, r3))] (26, 0, h0) ν Q E := by
  refine Wx.catch [(0, 10, 13, 34)] (0, 10, 17, 19) [] rfl rfl (fun y hy => by rw [List.mem_singleton.mp hy]; exact Or.inr ⟨by decide, "java/lang/IndexOutOfBoundsException", q3470, show (zcls 26, "java/lang/IndexOutOfBoundsException") ∈ zncT by decide⟩) (by decide) (Or.inr ⟨"java/lang/IllegalArgumentException", by decide, q3063, rfl, Or.inl rfl⟩) ?_
  refine Wp_astore [0] (ls' := [(4, vP (26, 0, h0))]) dX0_setWage_17 (zlt rfl) rfl ?_
  refine Wp_iconst dX0_setWage_19 (v := 2) rfl ?_
  exact Wp_ireturn dX0_setWage_20 rfl rfl k
theorem T_X0_setWage {G : ZG} {μ : ZM} {Q : Option ZV → ZM → Prop} {E : ZP → ZM → Prop} {r0 : Nat} {z1 : Int32} {z2 : Int32} {t3 : Nat} {r3 : Nat} (h : Call G Y_X1_setWage [vP (1, 0, r0), vI z1, vI z2] μ (rI fun x1 ν1 => 0 < t3 ∧ Q (some (vI 0)) (zAl ν1 r3 0 x1.toInt64)) (fun q ν => ∃ a, (q = (27, 0, a) ∧ Q (some (vI 1)) ν) ∨ (q = (26, 0, a) ∧ Q (some (vI 2)) ν))) : Call G Y_X0_setWage [vP (1, 0, r0), vI z1, vI z2, vP (203, t3, r3)] μ Q E :=
  S_X0_setWage (h.mono (fun _ _ q => q) (fun q ν hh => by rcases hh with ⟨a, ⟨rfl, k⟩ | ⟨rfl, k⟩⟩ <;> first | exact H_X0_setWage_1 k | exact H_X0_setWage_2 k))
theorem H_X0_staffCount_1 {G : ZG} {ν : ZM} {Q : Option ZV → ZM → Prop} {E : ZP → ZM → Prop} {r0 : Nat} {z1 : Int32} {t2 : Nat} {r2 : Nat} {h0 : Nat} (k : Q (some (vI 1)) ν) : Wx G Y_X0_staffCount 4 [(0, vP (1, 0, r0)), (1, vI z1), (2, vP (203, t2, r2))] (27, 0, h0) ν Q E := by
  refine Wx.catch [] (0, 9, 12, 34) [] rfl rfl (fun y hy => by cases hy) (by decide) (Or.inr ⟨"java/lang/IndexOutOfBoundsException", by decide, q3470, rfl, Or.inl rfl⟩) ?_
  refine Wp_astore_n [0] (ls' := [(3, vP (27, 0, h0))]) dX0_staffCount_12 rfl (zlt rfl) rfl ?_
  refine Wp_iconst dX0_staffCount_13 (v := 1) rfl ?_
  exact Wp_ireturn dX0_staffCount_14 rfl rfl k
theorem T_X0_staffCount {G : ZG} {μ : ZM} {Q : Option ZV → ZM → Prop} {E : ZP → ZM → Prop} {r0 : Nat} {z1 : Int32} {t2 : Nat} {r2 : Nat} (h : Call G Y_X1_staffCount [vP (1, 0, r0), vI z1] μ (rI fun x1 ν1 => 0 < t2 ∧ Q (some (vI 0)) (zAl ν1 r2 0 x1.toInt64)) (fun q ν => ∃ a, (q = (27, 0, a) ∧ Q (some (vI 1)) ν))) : Call G Y_X0_staffCount [vP (1, 0, r0), vI z1, vP (203, t2, r2)] μ Q E :=
  S_X0_staffCount (h.mono (fun _ _ q => q) (fun q ν hh => by obtain ⟨a, rfl, k⟩ := hh; exact H_X0_staffCount_1 k))
theorem H_X0_staffMember_1 {G : ZG} {ν : ZM} {Q : Option ZV → ZM → Prop} {E : ZP → ZM → Prop} {r0 : Nat} {z1 : Int32} {z2 : Int32} {t3 : Nat} {r3 : Nat} {h0 : Nat} (k : Q (some (vI 1)) ν) : Wx G Y_X0_staffMember 5 [(0, vP (1, 0, r0)), (1, vI z1), (2, vI z2), (3, vP (203, t3, r3))] (27, 0, h0) ν Q E := by
  refine Wx.catch [] (0, 10, 13, 34) [] rfl rfl (fun y hy => by cases hy) (by decide) (Or.inr ⟨"java/lang/IndexOutOfBoundsException", by decide, q3470, rfl, Or.inl rfl⟩) ?_
  refine Wp_astore [0] (ls' := [(4, vP (27, 0, h0))]) dX0_staffMember_13 (zlt rfl) rfl ?_
  refine Wp_iconst dX0_staffMember_15 (v := 1) rfl ?_
  exact Wp_ireturn dX0_staffMember_16 rfl rfl k
theorem T_X0_staffMember {G : ZG} {μ : ZM} {Q : Option ZV → ZM → Prop} {E : ZP → ZM → Prop} {r0 : Nat} {z1 : Int32} {z2 : Int32} {t3 : Nat} {r3 : Nat} (h : Call G Y_X1_staffMember [vP (1, 0, r0), vI z1, vI z2] μ (rI fun x1 ν1 => 0 < t3 ∧ Q (some (vI 0)) (zAl ν1 r3 0 x1.toInt64)) (fun q ν => ∃ a, (q = (27, 0, a) ∧ Q (some (vI 1)) ν))) : Call G Y_X0_staffMember [vP (1, 0, r0), vI z1, vI z2, vP (203, t3, r3)] μ Q E :=
  S_X0_staffMember (h.mono (fun _ _ q => q) (fun q ν hh => by obtain ⟨a, rfl, k⟩ := hh; exact H_X0_staffMember_1 k))
theorem H_X0_test_1 {G : ZG} {ν : ZM} {Q : Option ZV → ZM → Prop} {E : ZP → ZM → Prop} {r0 : Nat} {z1 : Int32} {z2 : Int32} {t3 : Nat} {r3 : Nat} {h0 : Nat} (k : Q (some (vI 1)) ν) : Wx G Y_X0_test 5 [(0, vP (1, 0, r0)), (1, vI z1), (2, vI z2), (3, vP (203, t3, r3))] (27, 0, h0) ν Q E := by
  refine Wx.catch [] (0, 10, 13, 34) [(0, 10, 17, 13)] rfl rfl (fun y hy => by cases hy) (by decide) (Or.inr ⟨"java/lang/IndexOutOfBoundsException", by decide, q3470, rfl, Or.inl rfl⟩) ?_
  refine Wp_astore [0] (ls' := [(4, vP (27, 0, h0))]) dX0_test_13 (zlt rfl) rfl ?_
  refine Wp_iconst dX0_test_15 (v := 1) rfl ?_
  exact Wp_ireturn dX0_test_16 rfl rfl k
theorem H_X0_test_2 {G : ZG} {ν : ZM} {Q : Option ZV → ZM → Prop} {E : ZP → ZM → Prop} {r0 : Nat} {z1 : Int32} {z2 : Int32} {t3 : Nat} {r3 : Nat} {h0 : Nat} (k : Q (some (vI 2)) ν) : Wx G Y_X0_test 5 [(0, vP (1, 0, r0)), (1, vI z1), (2, vI z2), (3, vP (203, t3, r3))] (25, 0, h0) ν Q E := by
  refine Wx.catch [(0, 10, 13, 34)] (0, 10, 17, 13) [] rfl rfl (fun y hy => by rw [List.mem_singleton.mp hy]; exact Or.inr ⟨by decide, "java/lang/IndexOutOfBoundsException", q3470, show (zcls 25, "java/lang/IndexOutOfBoundsException") ∈ zncT by decide⟩) (by decide) (Or.inr ⟨"java/lang/IllegalStateException", by decide, q3037, rfl, Or.inl rfl⟩) ?_
  refine Wp_astore [0] (ls' := [(4, vP (25, 0, h0))]) dX0_test_17 (zlt rfl) rfl ?_
  refine Wp_iconst dX0_test_19 (v := 2) rfl ?_
  exact Wp_ireturn dX0_test_20 rfl rfl k
theorem T_X0_test {G : ZG} {μ : ZM} {Q : Option ZV → ZM → Prop} {E : ZP → ZM → Prop} {r0 : Nat} {z1 : Int32} {z2 : Int32} {t3 : Nat} {r3 : Nat} (h : Call G Y_X1_test [vP (1, 0, r0), vI z1, vI z2] μ (rI fun x1 ν1 => 0 < t3 ∧ Q (some (vI 0)) (zAl ν1 r3 0 x1.toInt64)) (fun q ν => ∃ a, (q = (27, 0, a) ∧ Q (some (vI 1)) ν) ∨ (q = (25, 0, a) ∧ Q (some (vI 2)) ν))) : Call G Y_X0_test [vP (1, 0, r0), vI z1, vI z2, vP (203, t3, r3)] μ Q E :=
  S_X0_test (h.mono (fun _ _ q => q) (fun q ν hh => by rcases hh with ⟨a, ⟨rfl, k⟩ | ⟨rfl, k⟩⟩ <;> first | exact H_X0_test_1 k | exact H_X0_test_2 k))
theorem H_X0_train_1 {G : ZG} {ν : ZM} {Q : Option ZV → ZM → Prop} {E : ZP → ZM → Prop} {r0 : Nat} {z1 : Int32} {t2 : Nat} {r2 : Nat} {h0 : Nat} (k : Q (some (vI 1)) ν) : Wx G Y_X0_train 4 [(0, vP (1, 0, r0)), (1, vI z1), (2, vP (203, t2, r2))] (27, 0, h0) ν Q E := by
  refine Wx.catch [] (0, 9, 12, 34) [(0, 9, 15, 13)] rfl rfl (fun y hy => by cases hy) (by decide) (Or.inr ⟨"java/lang/IndexOutOfBoundsException", by decide, q3470, rfl, Or.inl rfl⟩) ?_
  refine Wp_astore_n [0] (ls' := [(3, vP (27, 0, h0))]) dX0_train_12 rfl (zlt rfl) rfl ?_
  refine Wp_iconst dX0_train_13 (v := 1) rfl ?_
  exact Wp_ireturn dX0_train_14 rfl rfl k
theorem H_X0_train_2 {G : ZG} {ν : ZM} {Q : Option ZV → ZM → Prop} {E : ZP → ZM → Prop} {r0 : Nat} {z1 : Int32} {t2 : Nat} {r2 : Nat} {h0 : Nat} (k : Q (some (vI 2)) ν) : Wx G Y_X0_train 4 [(0, vP (1, 0, r0)), (1, vI z1), (2, vP (203, t2, r2))] (25, 0, h0) ν Q E := by
  refine Wx.catch [(0, 9, 12, 34)] (0, 9, 15, 13) [] rfl rfl (fun y hy => by rw [List.mem_singleton.mp hy]; exact Or.inr ⟨by decide, "java/lang/IndexOutOfBoundsException", q3470, show (zcls 25, "java/lang/IndexOutOfBoundsException") ∈ zncT by decide⟩) (by decide) (Or.inr ⟨"java/lang/IllegalStateException", by decide, q3037, rfl, Or.inl rfl⟩) ?_
  refine Wp_astore_n [0] (ls' := [(3, vP (25, 0, h0))]) dX0_train_15 rfl (zlt rfl) rfl ?_
  refine Wp_iconst dX0_train_16 (v := 2) rfl ?_
  exact Wp_ireturn dX0_train_17 rfl rfl k
theorem T_X0_train {G : ZG} {μ : ZM} {Q : Option ZV → ZM → Prop} {E : ZP → ZM → Prop} {r0 : Nat} {z1 : Int32} {t2 : Nat} {r2 : Nat} (h : Call G Y_X1_train [vP (1, 0, r0), vI z1] μ (rI fun x1 ν1 => 0 < t2 ∧ Q (some (vI 0)) (zAl ν1 r2 0 x1.toInt64)) (fun q ν => ∃ a, (q = (27, 0, a) ∧ Q (some (vI 1)) ν) ∨ (q = (25, 0, a) ∧ Q (some (vI 2)) ν))) : Call G Y_X0_train [vP (1, 0, r0), vI z1, vP (203, t2, r2)] μ Q E :=
  S_X0_train (h.mono (fun _ _ q => q) (fun q ν hh => by rcases hh with ⟨a, ⟨rfl, k⟩ | ⟨rfl, k⟩⟩ <;> first | exact H_X0_train_1 k | exact H_X0_train_2 k))
theorem H_X0_truncate_1 {G : ZG} {ν : ZM} {Q : Option ZV → ZM → Prop} {E : ZP → ZM → Prop} {r0 : Nat} {z1 : Int32} {t2 : Nat} {r2 : Nat} {h0 : Nat} (k : Q (some (vI 1)) ν) : Wx G Y_X0_truncate 4 [(0, vP (1, 0, r0)), (1, vI z1), (2, vP (203, t2, r2))] (26, 0, h0) ν Q E := by
  refine Wx.catch [] (0, 9, 12, 19) [] rfl rfl (fun y hy => by cases hy) (by decide) (Or.inr ⟨"java/lang/IllegalArgumentException", by decide, q3063, rfl, Or.inl rfl⟩) ?_
  refine Wp_astore_n [0] (ls' := [(3, vP (26, 0, h0))]) dX0_truncate_12 rfl (zlt rfl) rfl ?_
  refine Wp_iconst dX0_truncate_13 (v := 1) rfl ?_
  exact Wp_ireturn dX0_truncate_14 rfl rfl k
theorem T_X0_truncate {G : ZG} {μ : ZM} {Q : Option ZV → ZM → Prop} {E : ZP → ZM → Prop} {r0 : Nat} {z1 : Int32} {t2 : Nat} {r2 : Nat} (h : Call G Y_X1_truncate [vP (1, 0, r0), vI z1] μ (rI fun x1 ν1 => 0 < t2 ∧ Q (some (vI 0)) (zAl ν1 r2 0 x1.toInt64)) (fun q ν => ∃ a, (q = (26, 0, a) ∧ Q (some (vI 1)) ν))) : Call G Y_X0_truncate [vP (1, 0, r0), vI z1, vP (203, t2, r2)] μ Q E :=
  S_X0_truncate (h.mono (fun _ _ q => q) (fun q ν hh => by obtain ⟨a, rfl, k⟩ := hh; exact H_X0_truncate_1 k))
theorem H_X0_undo_1 {G : ZG} {ν : ZM} {Q : Option ZV → ZM → Prop} {E : ZP → ZM → Prop} {r0 : Nat} {t1 : Nat} {r1 : Nat} {h0 : Nat} (k : Q (some (vI 1)) ν) : Wx G Y_X0_undo 3 [(0, vP (1, 0, r0)), (1, vP (203, t1, r1))] (25, 0, h0) ν Q E := by
  refine Wx.catch [] (0, 8, 11, 13) [] rfl rfl (fun y hy => by cases hy) (by decide) (Or.inr ⟨"java/lang/IllegalStateException", by decide, q3037, rfl, Or.inl rfl⟩) ?_
  refine Wp_astore_n [0] (ls' := [(2, vP (25, 0, h0))]) dX0_undo_11 rfl (zlt rfl) rfl ?_
  refine Wp_iconst dX0_undo_12 (v := 1) rfl ?_
  exact Wp_ireturn dX0_undo_13 rfl rfl k
theorem T_X0_undo {G : ZG} {μ : ZM} {Q : Option ZV → ZM → Prop} {E : ZP → ZM → Prop} {r0 : Nat} {t1 : Nat} {r1 : Nat} (h : Call G Y_X1_undo [vP (1, 0, r0)] μ (rI fun x1 ν1 => 0 < t1 ∧ Q (some (vI 0)) (zAl ν1 r1 0 x1.toInt64)) (fun q ν => ∃ a, (q = (25, 0, a) ∧ Q (some (vI 1)) ν))) : Call G Y_X0_undo [vP (1, 0, r0), vP (203, t1, r1)] μ Q E :=
  S_X0_undo (h.mono (fun _ _ q => q) (fun q ν hh => by obtain ⟨a, rfl, k⟩ := hh; exact H_X0_undo_1 k))
theorem H_X0_unpaidDays_1 {G : ZG} {ν : ZM} {Q : Option ZV → ZM → Prop} {E : ZP → ZM → Prop} {r0 : Nat} {z1 : Int32} {t2 : Nat} {r2 : Nat} {h0 : Nat} (k : Q (some (vI 1)) ν) : Wx G Y_X0_unpaidDays 4 [(0, vP (1, 0, r0)), (1, vI z1), (2, vP (203, t2, r2))] (27, 0, h0) ν Q E := by
  refine Wx.catch [] (0, 9, 12, 34) [] rfl rfl (fun y hy => by cases hy) (by decide) (Or.inr ⟨"java/lang/IndexOutOfBoundsException", by decide, q3470, rfl, Or.inl rfl⟩) ?_
  refine Wp_astore_n [0] (ls' := [(3, vP (27, 0, h0))]) dX0_unpaidDays_12 rfl (zlt rfl) rfl ?_
  refine Wp_iconst dX0_unpaidDays_13 (v := 1) rfl ?_
  exact Wp_ireturn dX0_unpaidDays_14 rfl rfl k
theorem T_X0_unpaidDays {G : ZG} {μ : ZM} {Q : Option ZV → ZM → Prop} {E : ZP → ZM → Prop} {r0 : Nat} {z1 : Int32} {t2 : Nat} {r2 : Nat} (h : Call G Y_X1_unpaidDays [vP (1, 0, r0), vI z1] μ (rI fun x1 ν1 => 0 < t2 ∧ Q (some (vI 0)) (zAl ν1 r2 0 x1.toInt64)) (fun q ν => ∃ a, (q = (27, 0, a) ∧ Q (some (vI 1)) ν))) : Call G Y_X0_unpaidDays [vP (1, 0, r0), vI z1, vP (203, t2, r2)] μ Q E :=
  S_X0_unpaidDays (h.mono (fun _ _ q => q) (fun q ν hh => by obtain ⟨a, rfl, k⟩ := hh; exact H_X0_unpaidDays_1 k))
theorem H_X0_wageOf_1 {G : ZG} {ν : ZM} {Q : Option ZV → ZM → Prop} {E : ZP → ZM → Prop} {r0 : Nat} {z1 : Int32} {t2 : Nat} {r2 : Nat} {h0 : Nat} (k : Q (some (vI 1)) ν) : Wx G Y_X0_wageOf 4 [(0, vP (1, 0, r0)), (1, vI z1), (2, vP (203, t2, r2))] (27, 0, h0) ν Q E := by
  refine Wx.catch [] (0, 9, 12, 34) [] rfl rfl (fun y hy => by cases hy) (by decide) (Or.inr ⟨"java/lang/IndexOutOfBoundsException", by decide, q3470, rfl, Or.inl rfl⟩) ?_
  refine Wp_astore_n [0] (ls' := [(3, vP (27, 0, h0))]) dX0_wageOf_12 rfl (zlt rfl) rfl ?_
  refine Wp_iconst dX0_wageOf_13 (v := 1) rfl ?_
  exact Wp_ireturn dX0_wageOf_14 rfl rfl k
theorem T_X0_wageOf {G : ZG} {μ : ZM} {Q : Option ZV → ZM → Prop} {E : ZP → ZM → Prop} {r0 : Nat} {z1 : Int32} {t2 : Nat} {r2 : Nat} (h : Call G Y_X1_wageOf [vP (1, 0, r0), vI z1] μ (rI fun x1 ν1 => 0 < t2 ∧ Q (some (vI 0)) (zAl ν1 r2 0 x1.toInt64)) (fun q ν => ∃ a, (q = (27, 0, a) ∧ Q (some (vI 1)) ν))) : Call G Y_X0_wageOf [vP (1, 0, r0), vI z1, vP (203, t2, r2)] μ Q E :=
  S_X0_wageOf (h.mono (fun _ _ q => q) (fun q ν hh => by obtain ⟨a, rfl, k⟩ := hh; exact H_X0_wageOf_1 k))
theorem H_X0_wagesPaid_1 {G : ZG} {ν : ZM} {Q : Option ZV → ZM → Prop} {E : ZP → ZM → Prop} {r0 : Nat} {z1 : Int32} {t2 : Nat} {r2 : Nat} {h0 : Nat} (k : Q (some (vI 1)) ν) : Wx G Y_X0_wagesPaid 4 [(0, vP (1, 0, r0)), (1, vI z1), (2, vP (203, t2, r2))] (27, 0, h0) ν Q E := by
  refine Wx.catch [] (0, 9, 12, 34) [] rfl rfl (fun y hy => by cases hy) (by decide) (Or.inr ⟨"java/lang/IndexOutOfBoundsException", by decide, q3470, rfl, Or.inl rfl⟩) ?_
  refine Wp_astore_n [0] (ls' := [(3, vP (27, 0, h0))]) dX0_wagesPaid_12 rfl (zlt rfl) rfl ?_
  refine Wp_iconst dX0_wagesPaid_13 (v := 1) rfl ?_
  exact Wp_ireturn dX0_wagesPaid_14 rfl rfl k
theorem T_X0_wagesPaid {G : ZG} {μ : ZM} {Q : Option ZV → ZM → Prop} {E : ZP → ZM → Prop} {r0 : Nat} {z1 : Int32} {t2 : Nat} {r2 : Nat} (h : Call G Y_X1_wagesPaid [vP (1, 0, r0), vI z1] μ (rI fun x1 ν1 => 0 < t2 ∧ Q (some (vI 0)) (zAl ν1 r2 0 x1.toInt64)) (fun q ν => ∃ a, (q = (27, 0, a) ∧ Q (some (vI 1)) ν))) : Call G Y_X0_wagesPaid [vP (1, 0, r0), vI z1, vP (203, t2, r2)] μ Q E :=
  S_X0_wagesPaid (h.mono (fun _ _ q => q) (fun q ν hh => by obtain ⟨a, rfl, k⟩ := hh; exact H_X0_wagesPaid_1 k))
theorem H_X0_widthOf_1 {G : ZG} {ν : ZM} {Q : Option ZV → ZM → Prop} {E : ZP → ZM → Prop} {r0 : Nat} {z1 : Int32} {t2 : Nat} {r2 : Nat} {h0 : Nat} (k : Q (some (vI 1)) ν) : Wx G Y_X0_widthOf 4 [(0, vP (1, 0, r0)), (1, vI z1), (2, vP (203, t2, r2))] (27, 0, h0) ν Q E := by
  refine Wx.catch [] (0, 9, 12, 34) [] rfl rfl (fun y hy => by cases hy) (by decide) (Or.inr ⟨"java/lang/IndexOutOfBoundsException", by decide, q3470, rfl, Or.inl rfl⟩) ?_
  refine Wp_astore_n [0] (ls' := [(3, vP (27, 0, h0))]) dX0_widthOf_12 rfl (zlt rfl) rfl ?_
  refine Wp_iconst dX0_widthOf_13 (v := 1) rfl ?_
  exact Wp_ireturn dX0_widthOf_14 rfl rfl k
theorem T_X0_widthOf {G : ZG} {μ : ZM} {Q : Option ZV → ZM → Prop} {E : ZP → ZM → Prop} {r0 : Nat} {z1 : Int32} {t2 : Nat} {r2 : Nat} (h : Call G Y_X1_widthOf [vP (1, 0, r0), vI z1] μ (rI fun x1 ν1 => 0 < t2 ∧ Q (some (vI 0)) (zAl ν1 r2 0 x1.toInt64)) (fun q ν => ∃ a, (q = (27, 0, a) ∧ Q (some (vI 1)) ν))) : Call G Y_X0_widthOf [vP (1, 0, r0), vI z1, vP (203, t2, r2)] μ Q E :=
  S_X0_widthOf (h.mono (fun _ _ q => q) (fun q ν hh => by obtain ⟨a, rfl, k⟩ := hh; exact H_X0_widthOf_1 k))
