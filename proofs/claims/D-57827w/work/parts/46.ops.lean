/-! CONTRACTS, 13: the model's operations on the row -/
def sTestOk (r : Nat → Int32) (v e : Nat) : Prop := wP r v e 0 = 0 ∧ ¬ 0 < wE r e 13
def sTrainOk (r : Nat → Int32) (e : Nat) : Prop := wE r e 8 < 9 ∧ ¬ wE r e 11 < 10 * wE r e 8
def sTest (r : Nat → Int32) (v e : Nat) : Nat → Int32 := wU r (iP v e 0) 1
def sWage (r : Nat → Int32) (v : Nat) (x : Int32) : Nat → Int32 := wU r (203 + 17 * v + 9) x
def sFund (r : Nat → Int32) (v : Nat) (x : Int32) : Nat → Int32 := wU (wU r (203 + 17 * v + 10) (wV r v 10 + x)) 9 (r 9 + x)
def sTrain (r : Nat → Int32) (e : Nat) : Nat → Int32 := wU (wU (wU r (23 + 15 * e + 11) (wE r e 11 - 10 * wE r e 8)) (23 + 15 * e + 8) (wE r e 8 + 1)) 10 (r 10 + 10 * wE r e 8)
section ZO2
variable {G : ZG} {μ : ZM} {Q : Option ZV → ZM → Prop} {E : ZP → ZM → Prop} {m K V B : Nat} {po : Nat → Nat} {z z1 z2 : Int32}
theorem zW_54 (x : Int32) : zW (zFs m) (zAs m) μ (zFi μ 54 m x) := zW_Fi ⟨rfl, Or.inr (Or.inr (Or.inl rfl))⟩ μ x
theorem C_passNow (n d : Nat) (h1 : z = nI n) (hn : n ≤ 120) (h : zMm μ m) (hW : sW (zai μ (m + 1)) K V po B) (hB : B < 900000000) (hd : zai μ (m + 1) 2 = nI d) (hd2 : d < 2147483000)
    (k : ∀ ν, zai ν (m + 1) = sDays (zai μ (m + 1)) K V n → zfi ν 54 m = sLeft (sDays (zai μ (m + 1)) K V n) K - sLeft (zai μ (m + 1)) K → zW (zFs m) (zAs m) μ ν → Q (some (vI 1)) ν) : Call G Y_X5_passNow [vP (5, 0, m), vI z] μ Q E := by
  refine S_X5_passNow (C_allLeft (zMo.self h.1) hW.2.1.1 hW.1.1 ⟨_, rfl, C_goBy n d h1 hn h.1 (zDa_m m) h.Fo hW hB hd hd2 fun ν hs hν => ⟨rfl, ?_⟩⟩)
  have hm := h.fr hν.fr
  have hW' : sW (zai ν (m + 1)) K V po (B + 24 * n) := by rw [hs]; exact (sDays_ok hW hB n hn).2.1
  refine C_allLeft (zMo.self hm.1) hW'.2.1.1 hW.1.1 ⟨_, rfl, k _ hs ?_ (hν.s.trans (zW_54 _))⟩
  rw [zfi_zFi, if_pos ⟨rfl, rfl⟩, hs]
theorem C_holdNow (h : zMm μ m) (hW : sW (zai μ (m + 1)) K V po B)
    (k : ∀ ν, zai ν (m + 1) = sFair (zai μ (m + 1)) K V → zfi ν 54 m = sFair (zai μ (m + 1)) K V 5 - zai μ (m + 1) 5 → zW (zFs m) (zAs m) μ ν → Q (some (vI 1)) ν) : Call G Y_X5_holdNow [vP (5, 0, m)] μ Q E := by
  obtain ⟨s0, okF⟩ := hW.okF
  refine S_X5_holdNow ⟨_, _, h.1, by omega, _, rfl, C_fairNow h.1 (zDa_m m) h.Fo okF fun ν hs hν => ⟨rfl, _, _, (h.fr hν.fr).1, by omega, _, rfl, k _ hs ?_ (hν.s.trans (zW_54 _))⟩⟩
  rw [zfi_zFi, if_pos ⟨rfl, rfl⟩, hs]
theorem C_canTest (v e : Nat) (h1 : z1 = nI v) (h2 : z2 = nI e) (hv : v < 8) (he : e < 12) {a : Nat} {r : Nat → Int32} (h : zMo μ m a r) (kt : sTestOk r v e → Q (some (vI 1)) μ) (kf : ¬ sTestOk r v e → Q (some (vI 0)) μ) : Call G Y_X5_canTest [vP (5, 0, m), vI z1, vI z2] μ Q E := by
  refine S_X5_canTest ⟨_, _, h.1, C_pair v e 0 h1 h2 rfl ⟨_, rfl, iP v e 0, zix.eq rfl (by unfold iP; omega) (by unfold iP; omega), _, h.2 _ (by unfold iP; omega), fun hn => kf fun q => hn q.1, fun h0 => C_hasContract e h2 he h (fun hc => ⟨_, rfl, fun _ => kf fun q => q.2 hc, fun q => absurd q (by decide)⟩) (fun hc => ⟨_, rfl, fun q => absurd rfl q, fun _ => kt ⟨h0, hc⟩⟩)⟩⟩
theorem C_testNow (v e : Nat) (h1 : z1 = nI v) (h2 : z2 = nI e) (hv : v < 8) (he : e < 12) (h : zMm μ m)
    (kt : sTestOk (zai μ (m + 1)) v e → ∀ ν, zai ν (m + 1) = sTest (zai μ (m + 1)) v e → zfi ν 54 m = sTrue (zai μ (m + 1)) v e → zW (zFs m) (zAs m) μ ν → Q (some (vI 1)) ν)
    (kf : ¬ sTestOk (zai μ (m + 1)) v e → Q (some (vI 0)) μ) : Call G Y_X5_testNow [vP (5, 0, m), vI z1, vI z2] μ Q E := by
  refine S_X5_testNow (C_canTest v e h1 h2 hv he (zMo.self h.1) (fun ok => ⟨_, rfl, fun _ => ⟨_, _, h.1, C_pair v e 0 h1 h2 rfl ⟨_, rfl, iP v e 0, zix.eq rfl (by unfold iP; omega) (by unfold iP; omega), ?_⟩⟩, fun q => absurd q (by decide)⟩) (fun nok => ⟨_, rfl, fun q => absurd rfl q, fun _ => kf nok⟩))
  refine C_trueScore v e h1 h2 hv he (zMo.self (a := m + 1) h.1) ⟨_, rfl, kt ok _ (zai_set μ (m + 1) _ _) ?_ ((zW_A1 μ (m + 1) _ _).s1 (Or.inl rfl) |>.trans (zW_54 _))⟩
  rw [zfi_zFi, if_pos ⟨rfl, rfl⟩, zai_set]
  unfold sTrue
  have e1 : ∀ u, u < 15 → wE (wU (zai μ (m + 1)) (iP v e 0) 1) e u = wE (zai μ (m + 1)) e u := fun u hu => by unfold wE wU iP; rw [if_neg (by omega)]
  have e2 : wV (wU (zai μ (m + 1)) (iP v e 0) 1) v 7 = wV (zai μ (m + 1)) v 7 := by unfold wV wU iP; rw [if_neg (by omega)]
  rw [e1 8 (by omega), e1 7 (by omega), e2]
theorem C_dismissNow (e : Nat) (h1 : z1 = nI e) (he : e < 12) (h : zMm μ m) (hW : sW (zai μ (m + 1)) K V po B)
    (kt : 0 < wE (zai μ (m + 1)) e 13 → ∀ ν, zai ν (m + 1) = sEnd (zai μ (m + 1)) e → zfi ν 54 m = wE (zai μ (m + 1)) e 13 - 1 → zW (zFs m) (zAs m) μ ν → Q (some (vI 1)) ν)
    (kf : ¬ 0 < wE (zai μ (m + 1)) e 13 → Q (some (vI 0)) μ) : Call G Y_X5_dismissNow [vP (5, 0, m), vI z1] μ Q E := by
  refine S_X5_dismissNow (C_hasContract e h1 he (zMo.self h.1) (fun hc => ⟨_, rfl, fun _ => C_employer e h1 he (zMo.self h.1) ⟨_, rfl, C_end (K := K) (V := V) (po := po) (B := B) (a := m + 1) e h1 he h.1 hW hc fun ν hν hs => ⟨rfl, kt hc ν hs ?_ ((zW_54 _).trans (hν.s1 (Or.inl rfl)))⟩⟩, fun q => absurd q (by decide)⟩) (fun hc => ⟨_, rfl, fun q => absurd rfl q, fun _ => kf hc⟩))
  rw [hν.2.2.2.2.2.2.1 _ _ (fun q => q), zfi_zFi, if_pos ⟨rfl, rfl⟩]
theorem C_wageNow (v : Nat) (h1 : z1 = nI v) (hv : v < 8) (h : zMm μ m)
    (k : ∀ ν, zai ν (m + 1) = sWage (zai μ (m + 1)) v z2 → zfi ν 54 m = wV (zai μ (m + 1)) v 9 → zW (zFs m) (zAs m) μ ν → Q (some (vI 1)) ν) : Call G Y_X5_wageNow [vP (5, 0, m), vI z1, vI z2] μ Q E := by
  refine S_X5_wageNow (C_ofValley v 9 h1 rfl (zMo.self h.1) (by omega) ⟨_, rfl, C_putsValley v 9 h1 rfl (a := m + 1) h.1 (by omega) ⟨rfl, k _ (zai_set _ _ _ _) ?_ ((zW_54 _).trans ((zW_A1 _ (m + 1) _ _).s1 (Or.inl rfl)))⟩⟩)
  rw [zfi_zAi, zfi_zFi, if_pos ⟨rfl, rfl⟩]
theorem C_fundNow (v : Nat) (h1 : z1 = nI v) (hv : v < 8) (h : zMm μ m)
    (k : ∀ ν, zai ν (m + 1) = sFund (zai μ (m + 1)) v z2 → zfi ν 54 m = wV (zai μ (m + 1)) v 10 + z2 → zW (zFs m) (zAs m) μ ν → Q (some (vI 1)) ν) : Call G Y_X5_fundNow [vP (5, 0, m), vI z1, vI z2] μ Q E := by
  refine S_X5_fundNow (C_ofValley v 10 h1 rfl (zMo.self h.1) (by omega) ⟨_, rfl, C_putsValley v 10 h1 rfl (a := m + 1) h.1 (by omega) ⟨rfl, _, _, h.1, by omega, _, rfl, k _ ?_ ?_ (((zW_54 _).trans ((zW_A1 _ (m + 1) _ _).s1 (Or.inl rfl))).trans ((zW_A1 _ (m + 1) _ _).s1 (Or.inl rfl)))⟩⟩)
  · rw [zai_set, zai_set, zai_zFi]
    unfold sFund
    rfl
  · rw [zfi_zAi, zfi_zAi, zfi_zFi, if_pos ⟨rfl, rfl⟩]
theorem C_canTrain (e : Nat) (h1 : z1 = nI e) (he : e < 12) {a : Nat} {r : Nat → Int32} (h : zMo μ m a r) (kt : sTrainOk r e → Q (some (vI 1)) μ) (kf : ¬ sTrainOk r e → Q (some (vI 0)) μ) : Call G Y_X5_canTrain [vP (5, 0, m), vI z1] μ Q E :=
  S_X5_canTrain (C_of e 8 h1 rfl h (by omega) ⟨_, rfl, fun hn => kf fun q => hn q.1, fun hy => C_of e 11 h1 rfl h (by omega) ⟨_, rfl, C_of e 8 h1 rfl h (by omega) ⟨_, rfl, fun hl => kf fun q => q.2 hl, fun hl => kt ⟨hy, hl⟩⟩⟩⟩)
theorem C_trainNow (e : Nat) (h1 : z1 = nI e) (he : e < 12) (h : zMm μ m)
    (kt : sTrainOk (zai μ (m + 1)) e → ∀ ν, zai ν (m + 1) = sTrain (zai μ (m + 1)) e → zfi ν 54 m = wE (zai μ (m + 1)) e 8 + 1 → zW (zFs m) (zAs m) μ ν → Q (some (vI 1)) ν)
    (kf : ¬ sTrainOk (zai μ (m + 1)) e → Q (some (vI 0)) μ) : Call G Y_X5_trainNow [vP (5, 0, m), vI z1] μ Q E := by
  have S := zMo.self h.1
  refine S_X5_trainNow (C_canTrain e h1 he S (fun ok => ⟨_, rfl, fun _ => C_of e 8 h1 rfl S (by omega) ⟨_, rfl, C_of e 11 h1 rfl S (by omega) ⟨_, rfl, C_puts e 11 h1 rfl (a := m + 1) h.1 (by omega) ⟨rfl, C_of e 8 h1 rfl (zMo.self (a := m + 1) h.1) (by omega) ⟨_, rfl, C_puts e 8 h1 rfl (a := m + 1) h.1 (by omega) ⟨rfl, _, _, h.1, by omega, _, rfl, C_of e 8 h1 rfl (zMo.self (a := m + 1) h.1) (by omega) ⟨_, rfl, kt ok _ ?_ ?_ ((((zW_A1 _ (m + 1) _ _).s1 (Or.inl rfl)).trans ((zW_A1 _ (m + 1) _ _).s1 (Or.inl rfl))).trans ((zW_A1 _ (m + 1) _ _).s1 (Or.inl rfl)) |>.trans (zW_54 _))⟩⟩⟩⟩⟩⟩, fun q => absurd q (by decide)⟩) (fun nok => ⟨_, rfl, fun q => absurd rfl q, fun _ => kf nok⟩))
  · rw [zai_zFi, zai_set, zai_set, zai_set]
    unfold sTrain
    have e1 : ∀ x, wE (wU (zai μ (m + 1)) (23 + 15 * e + 11) x) e 8 = wE (zai μ (m + 1)) e 8 := fun x => by rw [wE_wU _ (by omega) (by omega), if_neg (by omega)]
    have e2 : ∀ x y, wU (wU (zai μ (m + 1)) (23 + 15 * e + 11) x) (23 + 15 * e + 8) y 10 = zai μ (m + 1) 10 := fun x y => by unfold wU; rw [if_neg (by omega), if_neg (by omega)]
    rw [e1, e2]
  · rw [zfi_zFi, if_pos ⟨rfl, rfl⟩, zai_set, zai_set, zai_set, wE_wU_lo _ (by omega), wE_wU _ (by omega) (by omega), if_pos ⟨rfl, rfl⟩, wE_wU _ (by omega) (by omega), if_neg (by omega)]
end ZO2
