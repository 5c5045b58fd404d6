set_option maxRecDepth 100000
/-! THE COMPONENT, 50: ParseError -/
theorem S_J3_init_4_n {G : ZG} {μ : ZM} {Q : Option ZV → ZM → Prop} {E : ZP → ZM → Prop} {r0 : Nat}
    (h : Q none (zFr (zFr (zFr (zFr (zFr (zFr (zFr μ 75 r0 (7, 0, r0)) 76 r0 (zgS G 0)) 77 r0 (zgS G 1)) 76 r0 zN) 78 r0 zN) 75 r0 zN) 77 r0 zN)) : Call G Y_J3_init_4 [vP (7, 0, r0), vP zN, vP zN, vI 0, vI 0] μ Q E := by
  refine Call.of (Y := Y_J3_init_4) rfl (Nat.le_of_ble_eq_true rfl) ?_
  show Wp G Y_J3_init_4 0 [(0, vP (7, 0, r0)), (1, vP zN), (2, vP zN), (3, vI 0), (4, vI 0)] [] μ Q E
  refine Wp_aload_n 0 dJ3_init_4_0 rfl rfl ?_
  refine Wp_objInit rfl q289 dJ3_init_4_1 (Nat.ne_of_beq_eq_false rfl) (Nat.le_of_ble_eq_true rfl) (Nat.le_of_ble_eq_true rfl) ?_
  refine Wp_aload_n 0 dJ3_init_4_4 rfl rfl ?_
  refine Wp_aload_n 0 dJ3_init_4_5 rfl rfl ?_
  refine Wg_putP 75 q546 dJ3_init_4_6 rfl sp_75 rfl rfl (by decide) rfl (by decide) ?_
  refine Wp_aload_n 0 dJ3_init_4_9 rfl rfl ?_
  refine Wp_getsP 0 rfl q290 dJ3_init_4_10 rfl ?_
  refine Wg_putP 76 q547 dJ3_init_4_13 rfl sp_76 rfl rfl (by decide) rfl (by decide) ?_
  refine Wp_aload_n 0 dJ3_init_4_16 rfl rfl ?_
  refine Wp_getsP 1 rfl q292 dJ3_init_4_17 rfl ?_
  refine Wg_putP 77 q548 dJ3_init_4_20 rfl sp_77 rfl rfl (by decide) rfl (by decide) ?_
  refine Wp_iload 4 dJ3_init_4_23 rfl ?_
  refine Wp_if_eq (tgt := 36) dJ3_init_4_25 rfl (fun hc => ?_) (fun hc => absurd rfl hc)
  refine Wp_aload_n 0 dJ3_init_4_36 rfl rfl ?_
  refine Wp_null dJ3_init_4_37 ?_
  refine Wg_putP 76 q547 dJ3_init_4_38 rfl sp_76 rfl rfl (by decide) rfl (by decide) ?_
  refine Wp_aload_n 0 dJ3_init_4_41 rfl rfl ?_
  refine Wp_aload_n 1 dJ3_init_4_42 rfl rfl ?_
  refine Wg_putP 78 q545 dJ3_init_4_43 rfl sp_78 rfl rfl (by decide) rfl (by decide) ?_
  refine Wp_aload_n 0 dJ3_init_4_46 rfl rfl ?_
  refine Wp_aload_n 2 dJ3_init_4_47 rfl rfl ?_
  refine Wg_putP 75 q546 dJ3_init_4_48 rfl sp_75 rfl rfl (by decide) rfl (by decide) ?_
  refine Wp_iload_n 3 dJ3_init_4_51 rfl rfl ?_
  refine Wp_if_ne (tgt := 60) dJ3_init_4_52 rfl (fun hc => absurd rfl hc) (fun hc => ?_)
  refine Wp_aload_n 0 dJ3_init_4_55 rfl rfl ?_
  refine Wp_null dJ3_init_4_56 ?_
  refine Wg_putP 77 q548 dJ3_init_4_57 rfl sp_77 rfl rfl (by decide) rfl (by decide) ?_
  exact Wp_return dJ3_init_4_60 rfl h
theorem S_J4_init_4_n {G : ZG} {μ : ZM} {Q : Option ZV → ZM → Prop} {E : ZP → ZM → Prop} {r0 : Nat}
    (h : Call G Y_J3_init_4 [vP (7, 0, r0), vP zN, vP zN, vI 0, vI 0] μ (rV fun ν1 => Q none ν1) (fun q ν => zkc q.1 = true ∧ E q ν)) : Call G Y_J4_init_4 [vP (7, 0, r0), vP zN, vP zN, vI 0, vI 0] μ Q E := by
  refine Call.of (Y := Y_J4_init_4) rfl (Nat.le_of_ble_eq_true rfl) ?_
  show Wp G Y_J4_init_4 0 [(0, vP (7, 0, r0)), (1, vP zN), (2, vP zN), (3, vI 0), (4, vI 0)] [] μ Q E
  refine Wp_aload_n 0 dJ4_init_4_0 rfl rfl ?_
  refine Wp_aload_n 1 dJ4_init_4_1 rfl rfl ?_
  refine Wp_aload_n 2 dJ4_init_4_2 rfl rfl ?_
  refine Wp_iload_n 3 dJ4_init_4_3 rfl rfl ?_
  refine Wp_iload 4 dJ4_init_4_4 rfl ?_
  refine Wp_init Y_J3_init_4 (7, 0, r0) [vP zN, vP zN, vI 0, vI 0] K_J3_init_4 rfl rfl rfl KI_J3_init_4 (Nat.ne_of_beq_eq_false rfl) rfl q3167 dJ4_init_4_6 (zlt rfl) (Nat.le_of_ble_eq_true rfl) rfl (Call.toV h rfl fun ν1 h => ?_)
  exact Wp_return dJ4_init_4_9 rfl h
section ZJ
variable {G : ZG} {μ ν : ZM} {Q : Option ZV → ZM → Prop} {E : ZP → ZM → Prop} {P x bf B : Nat} {b : List Nat} {z z1 z2 : Int32}
/-- a ParseError -/
def zPe (ν : ZM) (a : Nat) (c : Int32) (p : Int32) : Prop := zfi ν 81 a = c ∧ zfi ν 82 a = p
theorem C_pReq1 (h : ¬ z1 = 0) (k : Q none μ) : Call G Y_X6_require [vP (6, 0, P), vI z1, vI z2] μ Q E := S_X6_require ⟨fun _ => k, fun q => absurd q h⟩
theorem C_pReq0 {p : Int32} (h70 : zfi μ 70 P = p) (k : ∀ ν a, zPe ν a z2 p → zG (fun _ => False) 1 8 μ ν → E (7, 0, a) ν) : Call G Y_X6_require [vP (6, 0, P), vI 0, vI z2] μ Q E := by
  refine S_X6_require ⟨fun q => absurd rfl q, fun _ => ⟨p, h70, S_X7_init (S_J4_init_4_n (S_J3_init_4_n ⟨rfl, ⟨rfl, ⟨rfl, k _ _ ⟨?_, ?_⟩ ?_⟩⟩⟩))⟩⟩
  · rw [zfi_zFi, if_neg (fun q => by cases q.1), zfi_zFi, if_pos ⟨rfl, rfl⟩]
  · rw [zfi_zFi, if_pos ⟨rfl, rfl⟩]
  · have z := Nat.le_refl (zsz μ)
    exact zG.nfi (zG.nfi (zG.nfr (zG.nfr (zG.nfr (zG.nfr (zG.nfr (zG.nfr (zG.nfr zG.nw z) z) z) z) z) z) z) z) z
end ZJ
