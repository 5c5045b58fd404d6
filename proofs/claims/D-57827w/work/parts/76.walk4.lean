set_option maxRecDepth 100000
/-! WALKS, 3: lambdas and ceil -/

def Y_J23_removeEldestEntry : ZY := (yJ23_removeEldestEntry, cJ23_removeEldestEntry, 2, some (.boolean), none, 0)
theorem K_J23_removeEldestEntry : zyc Y_J23_removeEldestEntry 1 := ⟨show zcw Y_J23_removeEldestEntry ∈ lw_all from q2810, q189, by decide +kernel, ⟨by decide, by decide⟩, Nat.le_of_ble_eq_true rfl⟩
theorem KS_J23_removeEldestEntry : (parseMethodDescriptor (zyn Y_J23_removeEldestEntry).desc).isSome = true := by decide +kernel
theorem KI_J23_removeEldestEntry : Cond.instanceMethod (zyn Y_J23_removeEldestEntry) ∈ lw_all := q2808
theorem nS_J23_removeEldestEntry {G : ZG} {μ : ZM} {Q : Option ZV → ZM → Prop} {E : ZP → ZM → Prop} {r0 : Nat} {p1 : ZP}
    (h : Q (some (vI 0)) μ) : Call G Y_J23_removeEldestEntry [vP (15, 0, r0), vP p1] μ Q E := by
  refine Call.of (Y := Y_J23_removeEldestEntry) rfl (Nat.le_of_ble_eq_true rfl) ?_
  show Wp G Y_J23_removeEldestEntry 0 [(0, vP (15, 0, r0)), (1, vP p1)] [] μ Q E
  refine Wp_iconst dJ23_removeEldestEntry_0 (v := 0) rfl ?_
  exact Wp_ireturn dJ23_removeEldestEntry_1 rfl (by decide) h
theorem nS_J23_afterNodeInsertion {G : ZG} {μ : ZM} {Q : Option ZV → ZM → Prop} {E : ZP → ZM → Prop} {r0 : Nat} {z1 : Int32}
    (h : (z1 = 0 → Q none μ) ∧ (¬ z1 = 0 → (∃ q1, zfr μ 113 r0 = q1 ∧ ((q1 = zN ∧ Q none μ) ∨ (∃ b1, q1 = (17, 0, b1) ∧ Call G Y_J23_removeEldestEntry [vP (15, 0, r0), vP (17, 0, b1)] μ (rI fun x1 ν1 => (x1 = 0 → Q none ν1) ∧ (¬ x1 = 0 → (∃ a1, zfr ν1 118 b1 = (9, 0, a1) ∧ False))) (fun q ν => zkc q.1 = true ∧ E q ν)))))) : Call G Y_J23_afterNodeInsertion [vP (15, 0, r0), vI z1] μ Q E := by
  refine Call.of (Y := Y_J23_afterNodeInsertion) rfl (Nat.le_of_ble_eq_true rfl) ?_
  show Wp G Y_J23_afterNodeInsertion 0 [(0, vP (15, 0, r0)), (1, vI z1)] [] μ Q E
  refine Wp_iload_n 1 dJ23_afterNodeInsertion_0 rfl rfl ?_
  refine Wp_if_eq (tgt := 39) dJ23_afterNodeInsertion_1 rfl (fun hc => ?_) (fun hc => ?_)
  · replace h := h.1 hc
    exact Wp_return dJ23_afterNodeInsertion_39 rfl h
  · replace h := h.2 hc
    refine Wp_aload_n 0 dJ23_afterNodeInsertion_4 rfl rfl ?_
    obtain ⟨q1, e1, h⟩ := h
    refine Wg_P 113 q1131 dJ23_afterNodeInsertion_5 rfl sp_113 rfl rfl e1 ?_
    refine Wp_dup dJ23_afterNodeInsertion_8 rfl ?_
    refine Wp_astore_n [0, 1] (ls' := [(2, vP q1), (0, vP (15, 0, r0))]) dJ23_afterNodeInsertion_9 rfl (zlt rfl) rfl ?_
    rcases h with ⟨rfl, h⟩ | ⟨b1, rfl, h⟩
    · refine Wp_ifnull (tgt := 39) dJ23_afterNodeInsertion_10 rfl (fun _ => ?_) (fun hx => absurd rfl hx)
      exact Wp_return dJ23_afterNodeInsertion_39 rfl h
    · refine Wp_ifnull (tgt := 39) dJ23_afterNodeInsertion_10 rfl (fun hx => absurd hx (Nat.ne_of_beq_eq_false rfl)) (fun _ => ?_)
      refine Wp_aload_n 1 dJ23_afterNodeInsertion_13 rfl rfl ?_
      refine Wp_aload_n 0 dJ23_afterNodeInsertion_14 rfl rfl ?_
      refine Wp_vown Y_J23_removeEldestEntry (15, 0, r0) [vP (17, 0, b1)] K_J23_removeEldestEntry KI_J23_removeEldestEntry q2809 rfl rfl rfl q2807 dJ23_afterNodeInsertion_15 KS_J23_removeEldestEntry (zlt rfl) (Nat.le_of_ble_eq_true rfl) rfl (Call.toI h rfl fun x1 ν1 h => ?_)
      refine Wp_if_eq (tgt := 39) dJ23_afterNodeInsertion_18 rfl (fun hc => ?_) (fun hc => ?_)
      · replace h := h.1 hc
        exact Wp_return dJ23_afterNodeInsertion_39 rfl h
      · replace h := h.2 hc
        refine Wp_aload_n 0 dJ23_afterNodeInsertion_21 rfl rfl ?_
        obtain ⟨a1, e2, h⟩ := h
        refine Wg_P 118 q2665 dJ23_afterNodeInsertion_22 rfl ⟨rfl, rfl, Or.inr q2666⟩ rfl rfl e2 ?_
        refine Wp_astore_n [0, 2] (ls' := [(3, vP (9, 0, a1)), (0, vP (15, 0, r0))]) dJ23_afterNodeInsertion_25 rfl (zlt rfl) rfl ?_
        refine Wp_aload_n 1 dJ23_afterNodeInsertion_26 rfl rfl ?_
        refine Wp_aload_n 0 dJ23_afterNodeInsertion_27 rfl rfl ?_
        exact h.elim
