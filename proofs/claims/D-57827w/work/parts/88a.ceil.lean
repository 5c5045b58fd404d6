set_option maxRecDepth 100000
/-! StrictMath.ceil: rules for longs, doubles and their bits; the walk -/
section ZR
variable {G : ZG} {Y : ZY} {pc : Nat} {ls : List (Nat × ZV)} {st : List ZV} {μ : ZM} {Q : Option ZV → ZM → Prop} {E : ZP → ZM → Prop}
theorem Wp_land {x y : Int64} (hd : decode (zyb Y) pc = .ok (.land, 1)) (k : Wp G Y (pc + 1) ls (vL (x &&& y) :: st) μ Q E) : Wp G Y pc ls (vL y :: vL x :: st) μ Q E := Wp.stk (fun h => (zv_cons (zv_L _) (zv_tail (zv_tail h)))) (fun p e R s m args below meth c H locs cells slots la F C hF hl kk => lv_land C.1 C.2.1 hd kk) k
theorem Wp_lxor {x y : Int64} (hd : decode (zyb Y) pc = .ok (.lxor, 1)) (k : Wp G Y (pc + 1) ls (vL (x ^^^ y) :: st) μ Q E) : Wp G Y pc ls (vL y :: vL x :: st) μ Q E := Wp.stk (fun h => (zv_cons (zv_L _) (zv_tail (zv_tail h)))) (fun p e R s m args below meth c H locs cells slots la F C hF hl kk => lv_lxor C.1 C.2.1 hd kk) k
theorem Wp_lsub {x y : Int64} (hd : decode (zyb Y) pc = .ok (.lsub, 1)) (k : Wp G Y (pc + 1) ls (vL (x - y) :: st) μ Q E) : Wp G Y pc ls (vL y :: vL x :: st) μ Q E := Wp.stk (fun h => (zv_cons (zv_L _) (zv_tail (zv_tail h)))) (fun p e R s m args below meth c H locs cells slots la F C hF hl kk => lv_lsub C.1 C.2.1 hd kk) k
theorem Wp_lshr {x : Int64} {y : Int32} (hd : decode (zyb Y) pc = .ok (.lshr, 1)) (k : Wp G Y (pc + 1) ls (vL (x >>> (y.toInt64 &&& 63)) :: st) μ Q E) : Wp G Y pc ls (vI y :: vL x :: st) μ Q E := Wp.stk (fun h => (zv_cons (zv_L _) (zv_tail (zv_tail h)))) (fun p e R s m args below meth c H locs cells slots la F C hF hl kk => lv_lshr C.1 C.2.1 hd rfl kk) k
theorem Wp_l2i {x : Int64} (hd : decode (zyb Y) pc = .ok (.l2i, 1)) (k : Wp G Y (pc + 1) ls (vI x.toInt32 :: st) μ Q E) : Wp G Y pc ls (vL x :: st) μ Q E := Wp.stk (fun h => (zv_cons (zv_I _) (zv_tail h))) (fun p e R s m args below meth c H locs cells slots la F C hF hl kk => lv_l2i C.1 C.2.1 hd rfl kk) k
theorem Wp_dmul {x y : UInt64} (hd : decode (zyb Y) pc = .ok (.dmul, 1)) (hne : vf_n64 (FP.dmul x y)) (k : Wp G Y (pc + 1) ls (vD (FP.dmul x y) :: st) μ Q E) : Wp G Y pc ls (vD y :: vD x :: st) μ Q E := Wp.stk (fun h => (zv_cons (zv_D _) (zv_tail (zv_tail h)))) (fun p e R s m args below meth c H locs cells slots la F C hF hl kk => lv_dmul C.1 C.2.1 hd hne kk) k
theorem Wp_dadd {x y : UInt64} (hd : decode (zyb Y) pc = .ok (.dadd, 1)) (hne : vf_n64 (FP.dadd x y)) (k : Wp G Y (pc + 1) ls (vD (FP.dadd x y) :: st) μ Q E) : Wp G Y pc ls (vD y :: vD x :: st) μ Q E := Wp.stk (fun h => (zv_cons (zv_D _) (zv_tail (zv_tail h)))) (fun p e R s m args below meth c H locs cells slots la F C hF hl kk => lv_dadd C.1 C.2.1 hd hne kk) k
theorem Wp_dconst0 (hd : decode (zyb Y) pc = .ok (.dconst 0, 1)) (k : Wp G Y (pc + 1) ls (vD FP.dconst0 :: st) μ Q E) : Wp G Y pc ls st μ Q E := Wp.stk (fun h => (zv_cons (zv_D _) h)) (fun p e R s m args below meth c H locs cells slots la F C hF hl kk => lv_dconst0 C.1 C.2.1 hd kk) k
theorem Wp_dconst1 (hd : decode (zyb Y) pc = .ok (.dconst 1, 1)) (k : Wp G Y (pc + 1) ls (vD FP.dconst1 :: st) μ Q E) : Wp G Y pc ls st μ Q E := Wp.stk (fun h => (zv_cons (zv_D _) h)) (fun p e R s m args below meth c H locs cells slots la F C hF hl kk => lv_dconst1 C.1 C.2.1 hd kk) k
/-- Double.doubleToRawLongBits -/
theorem Wp_bits {own : String} {index : Nat} {b : UInt64} (ho : own = (zyn Y).cls) (hl : Cond.methodLink own index ⟨"java/lang/Double", "doubleToRawLongBits", "(D)J"⟩ ∈ lw_all) (hd : decode (zyb Y) pc = .ok (.invokestatic index, 3)) (hlv : 1 ≤ zyl Y) (hst : (st.map zcat).sum ≤ 100) (k : Wp G Y (pc + 3) ls (vL b.toInt64 :: st) μ Q E) : Wp G Y pc ls (vD b :: st) μ Q E := by
  intro w1 w2 w3 w4
  obtain ⟨o, ρ, f1, f2, f3, f4, hs⟩ := k w1 w2 w3 (zv_cons (zv_L _) (zv_tail w4))
  refine ⟨o, ρ, f1, f2, f3, f4, ?_⟩
  intro p e R s m args below meth c H locs cells slots la hC hF hla hL hf hw hc hsl2
  intro T hT X
  subst ho
  have hts := hC.2.2.2.2.2.2.2.1
  have hr := zrest hst
  obtain ⟨r, kS, methS, hnS, hmS, hkS, N⟩ := NativeOf.of_static (hts _ q2853) (hts _ q2852) (ps := [.double]) (ret := some .long) (by decide +kernel)
  obtain ⟨vm', X', step⟩ := X.invokestatic hC.1 hC.2.2.2.2.2.1 (hts _ hl) hnS hmS N.static hkS (Cond.initialized_spec (findClass_of_methodNamed hnS) hkS (hts _ q225)) (by decide) (g := F0 m pc la ((vD b :: st).map zc)) rfl (argsL := [.double b]) (rest := st.map zc) (by rw [N.sig]; rfl) rfl (by rw [hC.2.1]; exact hd)
  obtain ⟨t, y1, y2⟩ := hs p e R s m args below meth c H locs cells slots la hC hF hla hL hf hw hc hsl2 (T.setVm vm') hT X'
  refine ⟨t, step t fun acts => ?_, y2⟩
  obtain ⟨kS', N'⟩ := N.alike X'.warmed.alike
  exact Steps.doubleToRawLongBitsOf (g := F0 m pc la (st.map zc)) (ig := .invokestatic index) (len := 3) p X'.here acts N' b
    (X'.notFull (g := F0 m pc la (st.map zc)) (by rw [hC.2.2.2.2.1]; exact hla.1) (vars := nativeFrameWords "java/lang/Double" "doubleToRawLongBits" 2) (Nat.le_trans hlv hf) (by
      show 2 * 0 + ((st.map zc).map fun v => v.category).sum + (nativeFrameWords "java/lang/Double" "doubleToRawLongBits" 2 + 11) ≤ _
      have : nativeFrameWords "java/lang/Double" "doubleToRawLongBits" 2 ≤ 2000 := by decide +kernel
      unfold zwl at hw
      omega)) (by show decode c.code pc = _; rw [hC.2.1]; exact hd) y1
/-- Double.longBitsToDouble -/
theorem Wp_unbits {own : String} {index : Nat} {v : Int64} (ho : own = (zyn Y).cls) (hl : Cond.methodLink own index ⟨"java/lang/Double", "longBitsToDouble", "(J)D"⟩ ∈ lw_all) (hd : decode (zyb Y) pc = .ok (.invokestatic index, 3)) (hlv : 1 ≤ zyl Y) (hst : (st.map zcat).sum ≤ 100) (hv : (v.toUInt64 &&& 0x7fffffffffffffff > 0x7ff0000000000000 && v.toUInt64 &&& 0x0008000000000000 == 0) = false) (k : Wp G Y (pc + 3) ls (vD v.toUInt64 :: st) μ Q E) : Wp G Y pc ls (vL v :: st) μ Q E := by
  intro w1 w2 w3 w4
  obtain ⟨o, ρ, f1, f2, f3, f4, hs⟩ := k w1 w2 w3 (zv_cons (zv_D _) (zv_tail w4))
  refine ⟨o, ρ, f1, f2, f3, f4, ?_⟩
  intro p e R s m args below meth c H locs cells slots la hC hF hla hL hf hw hc hsl2
  intro T hT X
  subst ho
  have hts := hC.2.2.2.2.2.2.2.1
  have hr := zrest hst
  obtain ⟨r, kS, methS, hnS, hmS, hkS, N⟩ := NativeOf.of_static (hts _ q2863) (hts _ q2862) (ps := [.long]) (ret := some .double) (by decide +kernel)
  obtain ⟨vm', X', step⟩ := X.invokestatic hC.1 hC.2.2.2.2.2.1 (hts _ hl) hnS hmS N.static hkS (Cond.initialized_spec (findClass_of_methodNamed hnS) hkS (hts _ q225)) (by decide) (g := F0 m pc la ((vL v :: st).map zc)) rfl (argsL := [.long v]) (rest := st.map zc) (by rw [N.sig]; rfl) rfl (by rw [hC.2.1]; exact hd)
  obtain ⟨t, y1, y2⟩ := hs p e R s m args below meth c H locs cells slots la hC hF hla hL hf hw hc hsl2 (T.setVm vm') hT X'
  refine ⟨t, step t fun acts => ?_, y2⟩
  obtain ⟨kS', N'⟩ := N.alike X'.warmed.alike
  exact Steps.longBitsToDoubleOf (g := F0 m pc la (st.map zc)) (ig := .invokestatic index) (len := 3) p X'.here acts N' v
    (X'.notFull (g := F0 m pc la (st.map zc)) (by rw [hC.2.2.2.2.1]; exact hla.1) (vars := nativeFrameWords "java/lang/Double" "longBitsToDouble" 2) (Nat.le_trans hlv hf) (by
      show 2 * 0 + ((st.map zc).map fun v => v.category).sum + (nativeFrameWords "java/lang/Double" "longBitsToDouble" 2 + 11) ≤ _
      have : nativeFrameWords "java/lang/Double" "longBitsToDouble" 2 ≤ 2000 := by decide +kernel
      unfold zwl at hw
      omega)) hv (by show decode c.code pc = _; rw [hC.2.1]; exact hd) y1
end ZR
def Y_J12_getExponent : ZY := (yJ12_getExponent, cJ12_getExponent, 2, some (.int), none, 1)
theorem K_J12_getExponent : zyc Y_J12_getExponent 1 := ⟨show zcw Y_J12_getExponent ∈ lw_all from q2850, q177, by decide +kernel, ⟨by decide, by decide⟩, Nat.le_of_ble_eq_true rfl⟩
theorem KS_J12_getExponent : (parseMethodDescriptor (zyn Y_J12_getExponent).desc).isSome = true := by decide +kernel
theorem KT_J12_getExponent : Cond.static (zyn Y_J12_getExponent) ∈ lw_all := q2849
def Y_J48_floorOrCeil : ZY := (yJ48_floorOrCeil, cJ48_floorOrCeil, 15, some (.double), none, 2)
theorem K_J48_floorOrCeil : zyc Y_J48_floorOrCeil 4 := ⟨show zcw Y_J48_floorOrCeil ∈ lw_all from q2847, q224, by decide +kernel, ⟨by decide, by decide⟩, Nat.le_of_ble_eq_true rfl⟩
theorem KS_J48_floorOrCeil : (parseMethodDescriptor (zyn Y_J48_floorOrCeil).desc).isSome = true := by decide +kernel
theorem KT_J48_floorOrCeil : Cond.static (zyn Y_J48_floorOrCeil) ∈ lw_all := q2846
def Y_J48_ceil : ZY := (yJ48_ceil, cJ48_ceil, 2, some (.double), none, 3)
theorem K_J48_ceil : zyc Y_J48_ceil 1 := ⟨show zcw Y_J48_ceil ∈ lw_all from q2843, q224, by decide +kernel, ⟨by decide, by decide⟩, Nat.le_of_ble_eq_true rfl⟩
def Y_J12_ceil : ZY := (yJ12_ceil, cJ12_ceil, 2, some (.double), none, 5)
theorem K_J12_ceil : zyc Y_J12_ceil 1 := ⟨show zcw Y_J12_ceil ∈ lw_all from q2840, q177, by decide +kernel, ⟨by decide, by decide⟩, Nat.le_of_ble_eq_true rfl⟩
theorem KS_J12_ceil : (parseMethodDescriptor (zyn Y_J12_ceil).desc).isSome = true := by decide +kernel
theorem KT_J12_ceil : Cond.static (zyn Y_J12_ceil) ∈ lw_all := q2839
def zexp (a : UInt64) : Int32 := ((((a.toInt64 &&& 9218868437227405312) >>> ((52 : Int32).toInt64 &&& 63))) - 1023).toInt32
def zmsk (a : UInt64) : Int64 := (4503599627370495 : Int64) >>> ((zexp a).toInt64 &&& 63)
def zflo (a : UInt64) : Int64 := a.toInt64 &&& (zmsk a ^^^ -1)
def zceil (a : UInt64) : UInt64 := if zmsk a &&& a.toInt64 = 0 then a else FP.dadd (zflo a).toUInt64 FP.dconst1
/-- numbers of which StrictMath.ceil takes the common road -/
def zclP (a : UInt64) : Prop := 0 ≤ zexp a ∧ zexp a < 52 ∧ ((zmsk a &&& a.toInt64 = 0) ∨ (((zflo a).toUInt64 &&& 0x7fffffffffffffff > 0x7ff0000000000000 && (zflo a).toUInt64 &&& 0x0008000000000000 == 0) = false ∧ vf_n64 (FP.dmul FP.dconst1 a) ∧ ¬ (Op.cmpValue (FP.dcmp (FP.dmul FP.dconst1 a) FP.dconst0) .l) ≤ 0 ∧ vf_n64 (FP.dadd (zflo a).toUInt64 FP.dconst1))) ∧ vf_n64 (zceil a)
section ZC
variable {G : ZG} {μ : ZM} {Q : Option ZV → ZM → Prop} {E : ZP → ZM → Prop} {a : UInt64}
theorem C_getExp (k : Q (some (vI (zexp a))) μ) : Call G Y_J12_getExponent [vD a] μ Q E := by
  refine Call.of (Y := Y_J12_getExponent) (by decide +kernel) (Nat.le_of_ble_eq_true rfl) ?_
  show Wp G Y_J12_getExponent 0 [(0, vD a)] [] μ Q E
  refine Wp_dload_n 0 dJ12_getExponent_0 rfl rfl ?_
  refine Wp_bits rfl q2851 dJ12_getExponent_1 (Nat.le_of_ble_eq_true rfl) (Nat.le_of_ble_eq_true rfl) ?_
  refine Wp_ldc2 rfl q2854 dJ12_getExponent_4 ?_
  refine Wp_land dJ12_getExponent_7 ?_
  refine Wp_bipush dJ12_getExponent_8 (v := 52) rfl ?_
  refine Wp_lshr dJ12_getExponent_10 ?_
  refine Wp_ldc2 rfl q2855 dJ12_getExponent_11 ?_
  refine Wp_lsub dJ12_getExponent_14 ?_
  refine Wp_l2i dJ12_getExponent_15 ?_
  exact Wp_ireturn dJ12_getExponent_16 rfl rfl k
theorem lg_ne0 {x : Int64} : lg_cmp x 0 = 0 ↔ x = 0 := by
  unfold lg_cmp
  by_cases h1 : (0 : Int64) < x
  · simp [h1]
    rintro rfl
    exact absurd h1 (by decide)
  · by_cases h2 : x = 0
    · simp [h2]
    · simp [h1, h2]
theorem C_foc {x y : UInt64} (h : zclP a) (k : Q (some (vD (zceil a))) μ) : Call G Y_J48_floorOrCeil [vD a, vD x, vD y, vD FP.dconst1] μ Q E := by
  obtain ⟨h1, h2, h3, -⟩ := h
  refine Call.of (Y := Y_J48_floorOrCeil) (by decide +kernel) (Nat.le_of_ble_eq_true rfl) ?_
  show Wp G Y_J48_floorOrCeil 0 [(0, vD a), (2, vD x), (4, vD y), (6, vD FP.dconst1)] [] μ Q E
  refine Wp_dload_n 0 dJ48_floorOrCeil_0 rfl rfl ?_
  refine Wp_stat Y_J12_getExponent [vD a] K_J12_getExponent KS_J12_getExponent KT_J12_getExponent rfl q2848 dJ48_floorOrCeil_1 (zlt rfl) (Nat.le_of_ble_eq_true rfl) rfl (C_getExp ?_)
  show Wp G Y_J48_floorOrCeil 4 [(0, vD a), (2, vD x), (4, vD y), (6, vD FP.dconst1)] [vI (zexp a)] μ Q E
  refine Wp_istore [0, 1, 4] (ls' := [(8, vI (zexp a)), (0, vD a), (6, vD FP.dconst1)]) dJ48_floorOrCeil_4 (zlt rfl) rfl ?_
  refine Wp_iload 0 dJ48_floorOrCeil_6 rfl ?_
  refine Wp_if_ge (tgt := 34) dJ48_floorOrCeil_8 rfl (fun _ => ?_) (fun e => absurd h1 e)
  refine Wp_iload 0 dJ48_floorOrCeil_34 rfl ?_
  refine Wp_bipush dJ48_floorOrCeil_36 (v := 52) rfl ?_
  refine Wp_icmp_lt (tgt := 43) dJ48_floorOrCeil_38 rfl (fun _ => ?_) (fun e => absurd h2 e)
  refine Wp_getsI 2 rfl q2856 dJ48_floorOrCeil_43 rfl ?_
  refine Wp_if_ne (tgt := 69) dJ48_floorOrCeil_46 rfl (fun _ => ?_) (fun e => absurd e (by decide))
  refine Wp_dload_n 1 dJ48_floorOrCeil_69 rfl rfl ?_
  refine Wp_bits rfl q2858 dJ48_floorOrCeil_70 (Nat.le_of_ble_eq_true rfl) (Nat.le_of_ble_eq_true rfl) ?_
  refine Wp_lstore [0, 1, 2, 3] (ls' := [(9, vL a.toInt64), (8, vI (zexp a)), (0, vD a), (6, vD FP.dconst1)]) dJ48_floorOrCeil_73 (zlt rfl) rfl ?_
  refine Wp_ldc2 rfl q2859 dJ48_floorOrCeil_75 ?_
  refine Wp_iload 1 dJ48_floorOrCeil_78 rfl ?_
  refine Wp_lshr dJ48_floorOrCeil_80 ?_
  refine Wp_lstore [0, 1, 3, 4] (ls' := [(11, vL (zmsk a)), (9, vL a.toInt64), (0, vD a), (6, vD FP.dconst1)]) dJ48_floorOrCeil_81 (zlt rfl) rfl ?_
  refine Wp_lload 0 dJ48_floorOrCeil_83 rfl ?_
  refine Wp_lload 1 dJ48_floorOrCeil_85 rfl ?_
  refine Wp_land dJ48_floorOrCeil_87 ?_
  refine Wp_lconst dJ48_floorOrCeil_88 (v := 0) rfl ?_
  refine Wp_lcmp dJ48_floorOrCeil_89 ?_
  refine Wp_if_ne (tgt := 95) dJ48_floorOrCeil_90 rfl (fun hc => ?_) (fun hc => ?_)
  · have hm : ¬ zmsk a &&& a.toInt64 = 0 := fun e => hc (lg_ne0.mpr e)
    rcases h3 with h3 | ⟨h3, h4, h5, h6⟩
    · exact absurd h3 hm
    unfold zceil at k
    rw [if_neg hm] at k
    refine Wp_lload 1 dJ48_floorOrCeil_95 rfl ?_
    refine Wp_lload 0 dJ48_floorOrCeil_97 rfl ?_
    refine Wp_ldc2 rfl q2860 dJ48_floorOrCeil_99 ?_
    refine Wp_lxor dJ48_floorOrCeil_102 ?_
    refine Wp_land dJ48_floorOrCeil_103 ?_
    refine Wp_unbits rfl q2861 dJ48_floorOrCeil_104 (Nat.le_of_ble_eq_true rfl) (Nat.le_of_ble_eq_true rfl) h3 ?_
    refine Wp_dstore [0, 3, 4] (ls' := [(13, vD (zflo a).toUInt64), (0, vD a), (6, vD FP.dconst1)]) dJ48_floorOrCeil_107 (zlt rfl) rfl ?_
    refine Wp_dload 2 dJ48_floorOrCeil_109 rfl ?_
    refine Wp_dload_n 1 dJ48_floorOrCeil_111 rfl rfl ?_
    refine Wp_dmul dJ48_floorOrCeil_112 h4 ?_
    refine Wp_dconst0 dJ48_floorOrCeil_113 ?_
    refine Wp_dcmp dJ48_floorOrCeil_114 ?_
    refine Wp_if_le (tgt := 125) dJ48_floorOrCeil_115 rfl (fun e => absurd e h5) (fun _ => ?_)
    refine Wp_dload 0 dJ48_floorOrCeil_118 rfl ?_
    refine Wp_dload 2 dJ48_floorOrCeil_120 rfl ?_
    refine Wp_dadd dJ48_floorOrCeil_122 h6 ?_
    refine Wp_dstore [0] (ls' := [(13, vD (FP.dadd (zflo a).toUInt64 FP.dconst1))]) dJ48_floorOrCeil_123 (zlt rfl) rfl ?_
    refine Wp_dload 0 dJ48_floorOrCeil_125 rfl ?_
    exact Wp_dreturn dJ48_floorOrCeil_127 rfl k
  · have hm : zmsk a &&& a.toInt64 = 0 := lg_ne0.mp hc
    unfold zceil at k
    rw [if_pos hm] at k
    refine Wp_dload_n 2 dJ48_floorOrCeil_93 rfl rfl ?_
    exact Wp_dreturn dJ48_floorOrCeil_94 rfl k
theorem C_smCeil (h : zclP a) (k : Q (some (vD (zceil a))) μ) : Call G Y_J48_ceil [vD a] μ Q E := by
  refine Call.of (Y := Y_J48_ceil) (by decide +kernel) (Nat.le_of_ble_eq_true rfl) ?_
  show Wp G Y_J48_ceil 0 [(0, vD a)] [] μ Q E
  refine Wp_dload_n 0 dJ48_ceil_0 rfl rfl ?_
  refine Wp_ldc2d rfl q2844 dJ48_ceil_1 ?_
  refine Wp_dconst1 dJ48_ceil_4 ?_
  refine Wp_dconst1 dJ48_ceil_5 ?_
  refine Wp_stat Y_J48_floorOrCeil [vD a, vD 9223372036854775808, vD FP.dconst1, vD FP.dconst1] K_J48_floorOrCeil KS_J48_floorOrCeil KT_J48_floorOrCeil rfl q2845 dJ48_ceil_6 (zlt rfl) (Nat.le_of_ble_eq_true rfl) rfl (C_foc h ?_)
  exact Wp_dreturn dJ48_ceil_9 rfl k
end ZC
