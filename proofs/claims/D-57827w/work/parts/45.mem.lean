/-! CONTRACTS, 12: the model's memory; copies; numbers in a range -/
/-- the model's arrays lie behind it -/
def zMm (μ : ZM) (m : Nat) : Prop := zfr μ 40 m = (200, 627, m + 1) ∧ zfr μ 41 m = (200, 627, m + 2) ∧ zfr μ 42 m = (200, 627, m + 3) ∧ zfr μ 43 m = (200, 627, m + 4) ∧ zfr μ 44 m = (200, 5016, m + 5) ∧ zfr μ 48 m = (200, 16, m + 6) ∧ zfr μ 49 m = (200, 24, m + 7) ∧ zfr μ 50 m = (200, 8, m + 8) ∧ zfr μ 51 m = (201, 96, m + 9) ∧ zfr μ 55 m = (200, 900, m + 10) ∧ zfr μ 64 m = (200, 90, m + 11) ∧ zfr μ 66 m = (200, 256, m + 12)
theorem zMm.fr {μ ν : ZM} {m : Nat} (h : zMm μ m) (e : zfr ν = zfr μ) : zMm ν m := by unfold zMm; rw [e]; exact h
theorem zMm.Fo {μ : ZM} {m : Nat} (h : zMm μ m) : zFo μ m (m + 6) (m + 7) (m + 8) (m + 9) := ⟨h.2.2.2.2.2.1, h.2.2.2.2.2.2.1, h.2.2.2.2.2.2.2.1, h.2.2.2.2.2.2.2.2.1⟩
theorem zDa_m (m : Nat) : zDa (m + 1) (m + 6) (m + 7) (m + 8) (m + 9) := by unfold zDa; omega
/-- what an operation works with: numbers and arrays that no later call reads, and the row -/
def zFs (m f b : Nat) : Prop := b = m ∧ (f = 52 ∨ f = 53 ∨ f = 54 ∨ f = 57 ∨ f = 58 ∨ f = 59 ∨ f = 60 ∨ f = 61)
def zAs (m b : Nat) : Prop := b = m + 1 ∨ b = m + 6 ∨ b = m + 7 ∨ b = m + 8 ∨ b = m + 9
/-- all of the model -/
def zFm (m _f b : Nat) : Prop := b = m
def zAm (m b : Nat) : Prop := m < b ∧ b ≤ m + 12
theorem zW.s {m : Nat} {μ ν : ZM} (h : zW (zFq m) (zA5 (m + 1) (m + 6) (m + 7) (m + 8) (m + 9)) μ ν) : zW (zFs m) (zAs m) μ ν := h.mono (fun f b q => by unfold zFq at q; unfold zFs; omega) (fun b q => by unfold zA5 at q; unfold zAs; omega)
theorem zW.s1 {m a : Nat} {μ ν : ZM} (h : zW zF0 (zA1 a) μ ν) (ha : zAs m a) : zW (zFs m) (zAs m) μ ν := h.mono (fun f b q => q.elim) (fun b q => by unfold zA1 at q; rw [q]; exact ha)
theorem zW.m {m : Nat} {μ ν : ZM} (h : zW (zFs m) (zAs m) μ ν) : zW (zFm m) (zAm m) μ ν := h.mono (fun f b q => q.1) (fun b q => by unfold zAs at q; unfold zAm; omega)
theorem zW.m1 {m a : Nat} {μ ν : ZM} (h : zW zF0 (zA1 a) μ ν) (ha : zAm m a) : zW (zFm m) (zAm m) μ ν := h.mono (fun f b q => q.elim) (fun b q => by unfold zA1 at q; rw [q]; exact ha)
theorem lg_cmp_neg (x y : Int64) : lg_cmp x y < 0 ↔ x.toInt < y.toInt := by
  unfold lg_cmp
  rw [← Int64.lt_iff_toInt_lt]
  by_cases h1 : x > y
  · rw [if_pos h1]
    have h2 : ¬ x < y := by rw [Int64.lt_iff_toInt_lt]; have : y < x := h1; rw [Int64.lt_iff_toInt_lt] at this; omega
    exact ⟨fun q => absurd q (by decide), fun q => absurd q h2⟩
  · rw [if_neg h1]
    by_cases h2 : x = y
    · rw [if_pos h2]
      have h3 : ¬ x < y := by rw [h2, Int64.lt_iff_toInt_lt]; omega
      exact ⟨fun q => absurd q (by decide), fun q => absurd q h3⟩
    · rw [if_neg h2]
      refine ⟨fun _ => ?_, fun _ => by decide⟩
      rw [Int64.lt_iff_toInt_lt]
      have h3 : ¬ y < x := h1
      rw [Int64.lt_iff_toInt_lt] at h3
      have h4 : x.toInt ≠ y.toInt := fun q => h2 (Int64.toInt_inj.mp q)
      omega
theorem lg_cmp_pos (x y : Int64) : 0 < lg_cmp x y ↔ y.toInt < x.toInt := by
  unfold lg_cmp
  rw [← Int64.lt_iff_toInt_lt]
  by_cases h1 : x > y
  · rw [if_pos h1]
    exact ⟨fun _ => h1, fun _ => by decide⟩
  · rw [if_neg h1]
    by_cases h2 : x = y
    · rw [if_pos h2]
      exact ⟨fun q => absurd q (by decide), fun q => absurd q h1⟩
    · rw [if_neg h2]
      exact ⟨fun q => absurd q (by decide), fun q => absurd q h1⟩
theorem nI_all (z : Int32) (h : 0 ≤ z.toInt) : ∃ e : Nat, z = nI e ∧ (e : Int) = z.toInt := by
  refine ⟨z.toInt.toNat, ?_, by omega⟩
  apply Int32.toInt_inj.mp
  have h2 := z.toInt_lt
  rw [nI_toInt (by omega)]
  omega
section ZO1
variable {G : ZG} {μ : ZM} {Q : Option ZV → ZM → Prop} {E : ZP → ZM → Prop} {m : Nat} {z z1 z2 : Int32} {y2 y4 : Int64}
/-- whether a number is one of a ..< n -/
theorem C_in (a n : Nat) (h2 : y2.toInt = a) (h4 : y4.toInt = (n : Int) - 1) (kt : ∀ e, a ≤ e → e < n → z = nI e → Q (some (vI 1)) μ) (kf : (∀ e, a ≤ e → e < n → e < 2147483648 → z ≠ nI e) → Q (some (vI 0)) μ) : Call G Y_X5_in [vL z.toInt64, vL y2, vL y4] μ Q E := by
  refine S_X5_in ⟨fun h => kf fun e e1 e2 e3 q => ?_, fun h => ⟨fun k => kf fun e e1 e2 e3 q => ?_, fun k => ?_⟩⟩
  · rw [lg_cmp_neg, h2, Int32.toInt_toInt64, q, nI_toInt e3] at h; omega
  · rw [lg_cmp_pos, h4, Int32.toInt_toInt64, q, nI_toInt e3] at k; omega
  · rw [lg_cmp_neg, h2, Int32.toInt_toInt64] at h
    rw [lg_cmp_pos, h4, Int32.toInt_toInt64] at k
    obtain ⟨e, e1, e2⟩ := nI_all z (by omega)
    exact kt e (by omega) (by omega) e1
theorem C_isEcho {K : Nat} {r : Nat → Int32} {a : Nat} (h : zMo μ m a r) (hK : r 0 = nI K) (h0 : 0 < K) (hK12 : K ≤ 12) (kt : ∀ e, e < K → z = nI e → Q (some (vI 1)) μ) (kf : (∀ e, e < K → z ≠ nI e) → Q (some (vI 0)) μ) : Call G Y_X5_isEcho [vP (5, 0, m), vI z] μ Q E := by
  refine S_X5_isEcho ⟨_, _, h.1, by omega, _, (h.2 0 (by omega)).trans hK, C_in 0 K (by decide) ?_ (fun e _ e2 e3 => ⟨_, rfl, rfl, kt e e2 e3⟩) (fun q => ⟨_, rfl, rfl, kf fun e e1 => q e (by omega) e1 (by omega)⟩)⟩
  obtain ⟨K, rfl⟩ : ∃ j, K = j + 1 := ⟨K - 1, by omega⟩
  rw [nI_pred, Int32.toInt_toInt64, nI_toInt (by omega)]; omega
theorem C_isValley {V : Nat} {r : Nat → Int32} {a : Nat} (h : zMo μ m a r) (hV : r 1 = nI V) (h0 : 0 < V) (hV8 : V ≤ 8) (kt : ∀ v, v < V → z = nI v → Q (some (vI 1)) μ) (kf : (∀ v, v < V → z ≠ nI v) → Q (some (vI 0)) μ) : Call G Y_X5_isValley [vP (5, 0, m), vI z] μ Q E := by
  refine S_X5_isValley ⟨_, _, h.1, by omega, _, (h.2 1 (by omega)).trans hV, C_in 0 V (by decide) ?_ (fun e _ e2 e3 => ⟨_, rfl, rfl, kt e e2 e3⟩) (fun q => ⟨_, rfl, rfl, kf fun e e1 => q e (by omega) e1 (by omega)⟩)⟩
  obtain ⟨V, rfl⟩ : ∃ j, V = j + 1 := ⟨V - 1, by omega⟩
  rw [nI_pred, Int32.toInt_toInt64, nI_toInt (by omega)]; omega
theorem C_areBoth {K V : Nat} {r : Nat → Int32} {a : Nat} (h : zMo μ m a r) (hK : r 0 = nI K) (hV : r 1 = nI V) (hb : (K ≤ 12 ∧ V ≤ 8 ∧ 0 < K ∧ 0 < V)) (kt : ∀ v e, v < V → e < K → z1 = nI v → z2 = nI e → Q (some (vI 1)) μ) (kf : (∀ v e, v < V → e < K → z1 = nI v → z2 ≠ nI e) → Q (some (vI 0)) μ) : Call G Y_X5_areBoth [vP (5, 0, m), vI z1, vI z2] μ Q E :=
  S_X5_areBoth (C_isValley h hV hb.2.2.2 hb.2.1 (fun v v1 v2 => ⟨_, rfl, fun q => absurd q (by decide), fun _ => C_isEcho h hK hb.2.2.1 hb.1 (fun e e1 e2 => ⟨_, rfl, fun q => absurd q (by decide), fun _ => kt v e v1 e1 v2 e2⟩) (fun q => ⟨_, rfl, fun _ => kf fun v e _ e1 _ => q e e1, fun t => absurd rfl t⟩)⟩) (fun q => ⟨_, rfl, fun _ => kf fun v e v1 _ v2 => absurd v2 (q v v1), fun t => absurd rfl t⟩))
theorem C_passes1 (k : Q (some (vI 1)) (zFi μ 46 m 0)) : Call G Y_X5_passes [vP (5, 0, m), vI 1] μ Q E := S_X5_passes ⟨fun q => absurd q (by decide), fun _ => ⟨rfl, k⟩⟩
theorem C_passes0 (k : Q (some (vI 0)) (zFi μ 46 m 1)) : Call G Y_X5_passes [vP (5, 0, m), vI 0] μ Q E := S_X5_passes ⟨fun _ => ⟨rfl, k⟩, fun q => absurd rfl q⟩
theorem C_both11 (k : Q (some (vI 1)) (zFi μ 46 m 0)) : Call G Y_X5_passesBoth [vP (5, 0, m), vI 1, vI 1] μ Q E := S_X5_passesBoth ⟨fun _ => ⟨fun _ => k, fun q => absurd q (by decide)⟩, fun q => absurd q (by decide)⟩
theorem C_both10 (k : Q (some (vI 0)) (zFi μ 46 m 2)) : Call G Y_X5_passesBoth [vP (5, 0, m), vI 1, vI 0] μ Q E := S_X5_passesBoth ⟨fun _ => ⟨fun q => absurd rfl q, fun _ => k⟩, fun q => absurd q (by decide)⟩
theorem C_both0 (k : Q (some (vI 0)) (zFi μ 46 m 1)) : Call G Y_X5_passesBoth [vP (5, 0, m), vI 0, vI z2] μ Q E := S_X5_passesBoth ⟨fun q => absurd rfl q, fun _ => k⟩
/-- 627 places copied -/
def sCopy (f g : Nat → Int32) (i j : Nat) : Nat → Int32 := fun y => if j ≤ y ∧ y < j + 627 then f (i + (y - j)) else g y
theorem C_copies {n0 a0 n1 a1 : Nat} (i j : Nat) (h1 : z1 = nI i) (h2 : z2 = nI j) (hne : a0 ≠ a1) (hi : i + 627 ≤ n0) (hj : j + 627 ≤ n1) (hn : n0 ≤ 10000) (hn1 : n1 ≤ 10000) (k : ∀ ν, zW zF0 (zA1 a1) μ ν → zai ν a1 = sCopy (zai μ a0) (zai μ a1) i j → Q none ν) : Call G Y_X5_copies [vP (200, n0, a0), vI z1, vP (200, n1, a1), vI z2] μ Q E := by
  subst h1 h2
  refine S_X5_copies ?_
  have key : ∀ d k' (ν : ZM), k' + d = 627 → zW zF0 (zA1 a1) μ ν → (∀ y, zai ν a1 y = if j ≤ y ∧ y < j + k' then zai μ a0 (i + (y - j)) else zai μ a1 y) → Wp G Y_X5_copies 3 [(0, vP (200, n0, a0)), (1, vI (nI i)), (2, vP (200, n1, a1)), (3, vI (nI j)), (4, vI (nI k'))] [] ν Q E := by
    intro d
    induction d with
    | zero =>
      intro k' ν hk hν hs
      have hk' : k' = 627 := by omega
      subst hk'
      exact B_X5_copies_3 ⟨fun _ => k ν hν (funext hs), fun q => absurd q (by decide)⟩
    | succ d ih =>
      intro k' ν hk hν hs
      refine B_X5_copies_3 ⟨fun q => absurd (show nI k' < nI 627 from nI_lt (by omega) (by omega)) q, fun _ => ⟨i + k', zix.eq (nI_add i k') (by omega) (by omega), _, rfl, j + k', zix.eq (nI_add j k') (by omega) (by omega), ?_⟩⟩
      rw [nI_1]
      refine ih (k' + 1) _ (by omega) (hν.trans (zW_A1 _ a1 _ _)) fun y => ?_
      rw [zai_zAi, hν.ai (show ¬ zA1 a1 a0 from hne)]
      by_cases hy : y = j + k'
      · rw [if_pos ⟨rfl, hy⟩, if_pos (by omega), hy]
        congr 1; omega
      · rw [if_neg (fun q => hy q.2), hs y]
        by_cases hy2 : j ≤ y ∧ y < j + k'
        · rw [if_pos hy2, if_pos (by omega)]
        · rw [if_neg hy2, if_neg (by omega)]
  exact key 627 0 μ (by omega) (zW.rf _ _ _) (fun y => by rw [if_neg (by omega)])
end ZO1
