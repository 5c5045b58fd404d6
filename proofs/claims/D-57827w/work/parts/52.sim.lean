/-! CONTRACTS, 18: the model's simulations and counters -/
def sDes (r : Nat → Int32) (K V e : Nat) : Nat → Nat → Int32
  | 0, _ => -1
  | d + 1, n => if wE r e 14 < wE (sDays r K V n) e 14 then nI n else sDes r K V e d (n + 1)
def sLW (r : Nat → Int32) (K V v e : Nat) : Nat → Nat → Int32
  | 0, _ => -1
  | d + 1, w => if wE (sFair (sWage r v (nI w)) K V) e 13 - 1 = nI v then nI w else sLW r K V v e d (w + 1)
noncomputable def sBT (r : Nat → Int32) (v : Nat) : Nat → Option Nat
  | 0 => none
  | n + 1 => @ite _ (sTestOk r v n) (Classical.propDecidable _) (match sBT r v n with
    | none => some n
    | some b => if sTrue r v b < sTrue r v n then some n else some b) (sBT r v n)
def sRich (r : Nat → Int32) : Nat → Nat
  | 0 => 0
  | n + 1 => if wE r (sRich r n) 11 < wE r (n + 1) 11 then n + 1 else sRich r n
def sSav (r : Nat → Int32) : Nat → Int32
  | 0 => 0
  | n + 1 => sSav r n + wE r n 11
def sPur (r : Nat → Int32) : Nat → Int32
  | 0 => 0
  | n + 1 => sPur r n + wV r n 10
def sCon (r : Nat → Int32) : Nat → Nat
  | 0 => 0
  | n + 1 => sCon r n + if 0 < wE r n 13 then 1 else 0
theorem sBT_lt {r : Nat → Int32} {v : Nat} : ∀ {n b : Nat}, sBT r v n = some b → b < n := by
  intro n
  induction n with
  | zero => intro b h; cases h
  | succ n ih =>
    intro b h
    unfold sBT at h
    split at h
    · split at h
      · cases h; omega
      · rename_i b' hb
        have := ih hb
        split at h <;> cases h <;> omega
    · have := ih h; omega
theorem sRich_le (r : Nat → Int32) : ∀ n, sRich r n ≤ n := by
  intro n
  induction n with
  | zero => exact Nat.le_refl _
  | succ n ih => unfold sRich; split <;> omega
theorem sCon_le (r : Nat → Int32) : ∀ n, sCon r n ≤ n := by
  intro n
  induction n with
  | zero => exact Nat.le_refl _
  | succ n ih => unfold sCon; split <;> omega
theorem sWage_ok {r : Nat → Int32} {K V : Nat} {po : Nat → Nat} {B v : Nat} (h : sW r K V po B) (hv : v < 8) (x : Int32) : sW (sWage r v x) K V po B := by
  obtain ⟨a1, ⟨a2, a2'⟩, ⟨S, a3⟩, ⟨f, a4⟩, ⟨sl, a5⟩, a6⟩ := h
  have oth : ∀ j, j ≠ 203 + 17 * v + 9 → sWage r v x j = r j := fun j hj => by unfold sWage wU; rw [if_neg hj]
  exact ⟨a1, ⟨by rw [oth 0 (by omega)]; exact a2, by rw [oth 1 (by omega)]; exact a2'⟩, ⟨S, by rw [oth 3 (by omega)]; exact a3⟩, ⟨f, by rw [oth 4 (by omega)]; exact a4⟩, ⟨sl, a5.same a1.1 (fun v w hv _ hw => oth _ (by omega)) (fun e he => oth _ (by omega))⟩, a6.same fun e he => oth _ (by omega)⟩
theorem sWage_sWage (r : Nat → Int32) (v : Nat) (x y : Int32) : sWage (sWage r v x) v y = sWage r v y := by
  funext j
  unfold sWage wU
  split <;> rfl
theorem sWage_self (r : Nat → Int32) (v : Nat) : sWage r v (wV r v 9) = r := by
  funext j
  unfold sWage wU wV
  split
  · rename_i h; rw [h]
  · rfl
section ZSM
variable {G : ZG} {μ : ZM} {Q : Option ZV → ZM → Prop} {E : ZP → ZM → Prop} {m K V D B a : Nat} {po : Nat → Nat} {z z1 z2 : Int32} {σ : ZS} {r : Nat → Int32}
theorem zW.st {ν : ZM} (h : zW (zFs m) (zAs m) μ ν) : zW (zFs m) (zAt m) μ ν := h.mono (fun f b q => q) (fun b q => by unfold zAs at q; unfold zAt; omega)
theorem zW.s1t {ν : ZM} (h : zW zF0 (zA1 a) μ ν) (ha : zAt m a) : zW (zFs m) (zAt m) μ ν := h.mono (fun f b q => q.elim) (fun b q => by unfold zA1 at q; rw [q]; exact ha)
theorem zW.sft {ν : ZM} (h : zW (zFs m) (zAt m) μ ν) : zW (zFt m) (zAt m) μ ν := h.mono (fun f b q => by unfold zFs at q; unfold zFt; omega) (fun b q => q)
theorem zW.s46 {ν : ZM} (h : zW (zFs m) (zAt m) μ ν) : zfi ν 46 m = zfi μ 46 m := h.2.2.2.2.2.2.1 46 m (by unfold zFs; omega)
/-- a call that worked on the row and put it back -/
theorem zEd.back {t x : Int32} (h : zEd μ m Q σ t x) (hs : zMs μ m σ) {ν : ZM} (hW : zW (zFs m) (zAt m) (zFi μ 46 m t) ν) (hr : zai ν (m + 1) = aR σ) : Q (some (vI x)) ν :=
  h ν ((hs.thr t).go0 hW.sft (by rw [hr, (hs.thr t).2.1])) (by rw [hW.s46, zfi_zFi, if_pos ⟨rfl, rfl⟩]) ((zW_m46 μ m t).trans hW.sft.tm)
theorem C_tries (h : zMm μ m) (k : ∀ ν, zW zF0 (zA1 (m + 4)) μ ν → (∀ j, j < 627 → zai ν (m + 4) j = zai μ (m + 1) j) → Q none ν) : Call G Y_X5_tries [vP (5, 0, m)] μ Q E :=
  S_X5_tries ⟨_, _, h.1, _, _, h.2.2.2.1, C_copies 0 0 rfl rfl (by omega) (by omega) (by omega) (by omega) (by omega) fun ν hν hs => ⟨rfl, k ν hν fun j hj => by rw [hs, sCopy_00 _ _ hj]⟩⟩
theorem C_laidBack (h : zMm μ m) (h1 : ∀ j, j < 627 → zai μ (m + 4) j = r j) (h2 : ∀ j, 627 ≤ j → zai μ (m + 1) j = r j) (k : ∀ ν, zW zF0 (zA1 (m + 1)) μ ν → zai ν (m + 1) = r → Q (some (vI z)) ν) : Call G Y_X5_laidBack [vP (5, 0, m), vI z] μ Q E :=
  S_X5_laidBack ⟨_, _, h.2.2.2.1, _, _, h.1, C_copies 0 0 rfl rfl (by omega) (by omega) (by omega) (by omega) (by omega) fun ν hν hs => ⟨rfl, k ν hν (by
    rw [hs]
    funext y
    by_cases hy : y < 627
    · rw [sCopy_00 _ _ hy]; exact h1 y hy
    · unfold sCopy; rw [if_neg (by omega)]; exact h2 y (by omega))⟩⟩
theorem zA5_4 : ¬ zA5 (m + 1) (m + 6) (m + 7) (m + 8) (m + 9) (m + 4) := by unfold zA5; omega
theorem C_resultOf (e : Nat) (h1 : z = nI e) (he : e < 12) (h : zMm μ m) (hW : sW (zai μ (m + 1)) K V po B) (k : ∀ ν, zW (zFs m) (zAt m) μ ν → zai ν (m + 1) = zai μ (m + 1) → Q (some (vI (wE (sFair (zai μ (m + 1)) K V) e 13 - 1))) ν) : Call G Y_X5_resultOf [vP (5, 0, m), vI z] μ Q E := by
  refine S_X5_resultOf (C_tries h fun ν hν hs => ⟨rfl, ?_⟩)
  have hm := h.fr hν.fr
  have er : zai ν (m + 1) = zai μ (m + 1) := hν.ai (by unfold zA1; omega)
  obtain ⟨s0, okF⟩ := hW.okF
  refine C_fairNow hm.1 (zDa_m m) hm.Fo (K := K) (V := V) (by rw [er]; exact okF) fun ρ hsρ hρ => ⟨rfl, ?_⟩
  have hm2 := hm.fr hρ.fr
  refine C_employer e h1 he (zMo.self hm2.1) ⟨_, rfl, C_laidBack (r := zai μ (m + 1)) hm2 (fun j hj => ?_) (fun j hj => ?_) fun τ hτ hsτ => ⟨_, rfl, ?_⟩⟩
  · rw [hρ.ai zA5_4]; exact hs j hj
  · rw [hsρ, er]; exact (sFair_ok hW).1 j (by unfold iDyn; omega)
  · rw [hsρ, er]
    exact k τ (((zW.s1t hν (by unfold zAt; omega)).trans hρ.s.st).trans (zW.s1t hτ (by unfold zAt; omega))) hsτ
theorem C_fairResult (h : zMs μ m σ) (hg : sW (aR σ) K V po B) (kt : ∀ e, e < K → z = nI e → zEd μ m Q σ 0 (wE (sFair (aR σ) K V) e 13 - 1)) (k1 : (∀ e, e < K → z ≠ nI e) → zEd μ m Q σ 1 0) : Call G Y_X5_fairResult [vP (5, 0, m), vI z] μ Q E := by
  obtain ⟨b, ⟨hK, hV⟩, -⟩ := id hg
  have h0 := h.thr 0
  refine S_X5_fairResult (C_isEcho h.mo hK b.2.2.1 b.1 (fun e he e1 => ⟨_, rfl, C_passes1 ⟨_, rfl, fun q => absurd q (by decide), fun _ => C_resultOf (K := K) (V := V) (po := po) (B := B) e e1 (by omega) h0.1 (by rw [h0.2.1]; exact hg) fun ν hν hs => ⟨_, rfl, ?_⟩⟩⟩) (fun hne => ⟨_, rfl, C_passes0 ⟨_, rfl, fun _ => (k1 hne).no h, fun q => absurd rfl q⟩⟩))
  rw [h0.2.1]
  exact (kt e he e1).back h hν (hs.trans h0.2.1)
theorem C_areDays (kt : ∀ n, n ≤ 120 → z = nI n → Q (some (vI 1)) μ) (kf : (∀ n, n ≤ 120 → z ≠ nI n) → Q (some (vI 0)) μ) : Call G Y_X5_areDays [vI z] μ Q E :=
  S_X5_areDays (C_in 0 121 (by decide) (by decide) (fun n _ n2 hz => ⟨_, rfl, rfl, kt n (by omega) hz⟩) (fun hne => ⟨_, rfl, rfl, kf fun n n1 => hne n (by omega) (by omega) (by omega)⟩))
/-- days tried: the row as it is behind them, then put back -/
theorem C_triedDays {Qd : ZM → Prop} (n d : Nat) (h1 : z = nI n) (hn : n ≤ 120) (h : zMm μ m) (hW : sW (zai μ (m + 1)) K V po B) (hB : B < 900000000) (hd : zai μ (m + 1) 2 = nI d) (hd2 : d < 2147483000) (k : ∀ ν, zMm ν m → zai ν (m + 1) = sDays (zai μ (m + 1)) K V n → (∀ j, j < 627 → zai ν (m + 4) j = zai μ (m + 1) j) → (∀ j, 627 ≤ j → zai ν (m + 1) j = zai μ (m + 1) j) → zW (zFs m) (zAt m) μ ν → Qd ν) : Call G Y_X5_tries [vP (5, 0, m)] μ (rV fun ν4 => Call G Y_X5_goBy [vP (5, 0, m), vI z] ν4 (rV Qd) E) E := by
  refine C_tries h fun ν hν hs => ⟨rfl, ?_⟩
  have hm := h.fr hν.fr
  have er : zai ν (m + 1) = zai μ (m + 1) := hν.ai (by unfold zA1; omega)
  refine C_goBy (K := K) (V := V) (po := po) (B := B) n d h1 hn hm.1 (zDa_m m) hm.Fo (by rw [er]; exact hW) hB (by rw [er]; exact hd) hd2 fun ρ hsρ hρ => ⟨rfl, k ρ (hm.fr hρ.fr) (by rw [hsρ, er]) (fun j hj => by rw [hρ.ai zA5_4]; exact hs j hj) (fun j hj => by rw [hsρ, er]; exact (sDays_ok hW hB n hn).1 j (by unfold iDyn; omega) (by omega)) ((zW.s1t hν (by unfold zAt; omega)).trans hρ.s.st)⟩
theorem C_savingsAfter (h : zMs μ m σ) (hg : sGd (aR σ) K V po D) (hD : D < 10000000) (kt : ∀ e n, e < K → z1 = nI e → n ≤ 120 → z2 = nI n → zEd μ m Q σ 0 (wE (sDays (aR σ) K V n) e 11)) (k2 : ∀ e, e < K → z1 = nI e → (∀ n, n ≤ 120 → z2 ≠ nI n) → zEd μ m Q σ 2 0) (k1 : (∀ e, e < K → z1 ≠ nI e) → zEd μ m Q σ 1 0) : Call G Y_X5_savingsAfter [vP (5, 0, m), vI z1, vI z2] μ Q E := by
  obtain ⟨g1, -, -, d, g4, g5⟩ := hg
  obtain ⟨b, ⟨hK, hV⟩, -⟩ := id g1
  have h0 := h.thr 0
  refine S_X5_savingsAfter (C_isEcho h.mo hK b.2.2.1 b.1 (fun e hx e1 => ⟨_, rfl, C_areDays (fun n hn hz => ⟨_, rfl, C_both11 ⟨_, rfl, fun _ => C_triedDays (K := K) (V := V) (po := po) (B := 24 * D) n d hz hn h0.1 (by rw [h0.2.1]; exact g1) (by omega) (by rw [h0.2.1]; exact g4) (by omega) fun ν hm hs hs4 hs627 hν => C_of e 11 e1 rfl (zMo.self hm.1) (by omega) ⟨_, rfl, C_laidBack hm hs4 hs627 fun τ hτ hsτ => ⟨_, rfl, ?_⟩⟩, fun q => absurd q (by decide)⟩⟩) (fun hne => ⟨_, rfl, C_both10 ⟨_, rfl, fun q => absurd rfl q, fun _ => (k2 e hx e1 hne).no h⟩⟩)⟩) (fun hne => ⟨_, rfl, C_areDays (fun n hn hz => ⟨_, rfl, C_both0 ⟨_, rfl, fun q => absurd rfl q, fun _ => (k1 hne).no h⟩⟩) (fun _ => ⟨_, rfl, C_both0 ⟨_, rfl, fun q => absurd rfl q, fun _ => (k1 hne).no h⟩⟩)⟩))
  rw [hs, h0.2.1]
  exact (kt e n hx e1 hn hz).back h (hν.trans (zW.s1t hτ (by unfold zAt; omega))) (hsτ.trans h0.2.1)
theorem C_purseAfter (h : zMs μ m σ) (hg : sGd (aR σ) K V po D) (hD : D < 10000000) (kt : ∀ v n, v < V → z1 = nI v → n ≤ 120 → z2 = nI n → zEd μ m Q σ 0 (wV (sDays (aR σ) K V n) v 10)) (k2 : ∀ v, v < V → z1 = nI v → (∀ n, n ≤ 120 → z2 ≠ nI n) → zEd μ m Q σ 2 0) (k1 : (∀ v, v < V → z1 ≠ nI v) → zEd μ m Q σ 1 0) : Call G Y_X5_purseAfter [vP (5, 0, m), vI z1, vI z2] μ Q E := by
  obtain ⟨g1, -, -, d, g4, g5⟩ := hg
  obtain ⟨b, ⟨hK, hV⟩, -⟩ := id g1
  have h0 := h.thr 0
  refine S_X5_purseAfter (C_isValley h.mo hV b.2.2.2 b.2.1 (fun v hx e1 => ⟨_, rfl, C_areDays (fun n hn hz => ⟨_, rfl, C_both11 ⟨_, rfl, fun _ => C_triedDays (K := K) (V := V) (po := po) (B := 24 * D) n d hz hn h0.1 (by rw [h0.2.1]; exact g1) (by omega) (by rw [h0.2.1]; exact g4) (by omega) fun ν hm hs hs4 hs627 hν => C_ofValley v 10 e1 rfl (zMo.self hm.1) (by omega) ⟨_, rfl, C_laidBack hm hs4 hs627 fun τ hτ hsτ => ⟨_, rfl, ?_⟩⟩, fun q => absurd q (by decide)⟩⟩) (fun hne => ⟨_, rfl, C_both10 ⟨_, rfl, fun q => absurd rfl q, fun _ => (k2 v hx e1 hne).no h⟩⟩)⟩) (fun hne => ⟨_, rfl, C_areDays (fun n hn hz => ⟨_, rfl, C_both0 ⟨_, rfl, fun q => absurd rfl q, fun _ => (k1 hne).no h⟩⟩) (fun _ => ⟨_, rfl, C_both0 ⟨_, rfl, fun q => absurd rfl q, fun _ => (k1 hne).no h⟩⟩)⟩))
  rw [hs, h0.2.1]
  exact (kt v n hx e1 hn hz).back h (hν.trans (zW.s1t hτ (by unfold zAt; omega))) (hsτ.trans h0.2.1)
theorem C_desertsIn (h : zMs μ m σ) (hg : sGd (aR σ) K V po D) (hD : D < 10000000) (kt : ∀ e, e < K → z = nI e → zEd μ m Q σ 0 (sDes (aR σ) K V e 120 1)) (k1 : (∀ e, e < K → z ≠ nI e) → zEd μ m Q σ 1 0) : Call G Y_X5_desertsIn [vP (5, 0, m), vI z] μ Q E := by
  obtain ⟨g1, -, -, d, g4, g5⟩ := hg
  obtain ⟨b, ⟨hK, hV⟩, -⟩ := id g1
  have h0 := h.thr 0
  refine S_X5_desertsIn (C_isEcho h.mo hK b.2.2.1 b.1 (fun e he e1 => ⟨_, rfl, C_passes1 ⟨_, rfl, fun _ => C_of e 14 e1 rfl h0.mo (by omega) ⟨_, rfl, C_tries h0.1 fun ν hν hs4 => ⟨rfl, ?_⟩⟩, fun q => absurd q (by decide)⟩⟩) (fun hne => ⟨_, rfl, C_passes0 ⟨_, rfl, fun q => absurd rfl q, fun _ => (k1 hne).no h⟩⟩))
  have kk := kt e he e1
  have key : ∀ dd n (ρ : ZM), n + dd = 120 → zW (zFs m) (zAt m) (zFi μ 46 m 0) ρ → zai ρ (m + 1) = sDays (aR σ) K V n → (∀ j, j < 627 → zai ρ (m + 4) j = aR σ j) → zEd μ m Q σ 0 (sDes (aR σ) K V e dd (n + 1)) → Wp G Y_X5_desertsIn 28 [(0, vP (5, 0, m)), (1, vI z), (2, vI (wE (aR σ) e 14)), (3, vI (nI (n + 1)))] [] ρ Q E := by
    intro dd
    induction dd with
    | zero =>
      intro n ρ hn hρ hs h4 kq
      obtain ⟨w1, w2, w3⟩ := sDays_ok g1 (by omega) n (by omega)
      refine B_X5_desertsIn_28 ⟨fun _ => C_laidBack (r := aR σ) (h0.1.fr hρ.fr) h4 (fun j hj => by rw [hs]; exact w1 j (by unfold iDyn; omega) (by omega)) fun τ hτ hsτ => ⟨_, rfl, kq.back h (hρ.trans (zW.s1t hτ (by unfold zAt; omega))) hsτ⟩, fun q => absurd (show nI 120 < nI (n + 1) from nI_lt (by omega) (by omega)) q⟩
    | succ dd ih =>
      intro n ρ hn hρ hs h4 kq
      obtain ⟨w1, w2, w3⟩ := sDays_ok g1 (by omega) n (by omega)
      obtain ⟨w1', -, -⟩ := sDays_ok g1 (by omega) (n + 1) (by omega)
      have hm := h0.1.fr hρ.fr
      unfold sDes at kq
      refine B_X5_desertsIn_28 ⟨fun q => absurd q (show ¬ nI 120 < nI (n + 1) from nI_nlt (by omega) (by omega)), fun _ => C_dayOnce (K := K) (V := V) (po := po) (B := 24 * D + 24 * n) (d + n) hm.1 (zDa_m m) hm.Fo (by rw [hs]; exact w2) (by omega) (by rw [hs, w3, g4, nI_add]) (by omega) fun τ hsτ hτ => ⟨rfl, ?_⟩⟩
      have hm2 := hm.fr hτ.fr
      have es : zai τ (m + 1) = sDays (aR σ) K V (n + 1) := by rw [hsτ, hs]; rfl
      have h4' : ∀ j, j < 627 → zai τ (m + 4) j = aR σ j := fun j hj => by rw [hτ.ai zA5_4]; exact h4 j hj
      have hW' := hρ.trans hτ.s.st
      refine C_of e 14 e1 rfl (zMo.self hm2.1) (by omega) ⟨_, rfl, fun hn' => ?_, fun hl => ?_⟩
      · rw [es] at hn'
        rw [if_neg hn'] at kq
        rw [nI_1]
        exact ih (n + 1) τ (by omega) hW' es h4' kq
      · rw [es] at hl
        rw [if_pos hl] at kq
        exact C_laidBack (r := aR σ) hm2 h4' (fun j hj => by rw [es]; exact w1' j (by unfold iDyn; omega) (by omega)) fun π hπ hsπ => ⟨_, rfl, kq.back h (hW'.trans (zW.s1t hπ (by unfold zAt; omega))) hsπ⟩
  rw [h0.2.1] at hs4
  exact key 120 0 ν (by omega) (zW.s1t hν (by unfold zAt; omega)) (by rw [hν.ai (show ¬ zA1 (m + 4) (m + 1) by unfold zA1; omega), h0.2.1]; rfl) hs4 kk
theorem C_leastWage (h : zMs μ m σ) (hg : sW (aR σ) K V po B) (kt : ∀ v e, v < V → e < K → z1 = nI v → z2 = nI e → zEd μ m Q σ 0 (sLW (aR σ) K V v e 99 1)) (k1 : (∀ v e, v < V → e < K → z1 = nI v → z2 ≠ nI e) → zEd μ m Q σ 1 0) : Call G Y_X5_leastWage [vP (5, 0, m), vI z1, vI z2] μ Q E := by
  obtain ⟨b, ⟨hK, hV⟩, -⟩ := id hg
  have h0 := h.thr 0
  refine S_X5_leastWage (C_areBoth h.mo hK hV b (fun v e hv he e1 e2 => ⟨_, rfl, C_passes1 ⟨_, rfl, fun _ => C_ofValley v 9 e1 rfl h0.mo (by omega) ⟨_, rfl, ?_⟩, fun q => absurd q (by decide)⟩⟩) (fun hne => ⟨_, rfl, C_passes0 ⟨_, rfl, fun q => absurd rfl q, fun _ => (k1 hne).no h⟩⟩))
  have kk := kt v e hv he e1 e2
  have fin : ∀ (ρ : ZM) (x y : Int32), zW (zFs m) (zAt m) (zFi μ 46 m 0) ρ → zai ρ (m + 1) = sWage (aR σ) v x → zEd μ m Q σ 0 y → Call G Y_X5_putsValley [vP (5, 0, m), vI z1, vI 9, vI (wV (aR σ) v 9)] ρ (rV fun ν1 => Q (some (vI y)) ν1) (fun q ν => zkc q.1 = true ∧ E q ν) := by
    intro ρ x y hρ hs kq
    refine C_putsValley v 9 e1 rfl (a := m + 1) (h0.1.fr hρ.fr).1 (by omega) ⟨rfl, kq.back h (hρ.trans (zW.s1t (zW_A1 ρ (m + 1) _ _) (by unfold zAt; omega))) ?_⟩
    rw [zai_set, hs]
    show sWage (sWage (aR σ) v x) v _ = _
    rw [sWage_sWage, sWage_self]
  have key : ∀ dd w (ρ : ZM) (x : Int32), w + dd = 100 → zW (zFs m) (zAt m) (zFi μ 46 m 0) ρ → zai ρ (m + 1) = sWage (aR σ) v x → zEd μ m Q σ 0 (sLW (aR σ) K V v e dd w) → Wp G Y_X5_leastWage 29 [(0, vP (5, 0, m)), (1, vI z1), (2, vI z2), (3, vI (wV (aR σ) v 9)), (4, vI (-1)), (5, vI (nI w))] [] ρ Q E := by
    intro dd
    induction dd with
    | zero =>
      intro w ρ x hn hρ hs kq
      exact B_X5_leastWage_29 ⟨fun _ => fin ρ x (-1) hρ hs kq, fun q => absurd (show nI 99 < nI w from nI_lt (by omega) (by omega)) q⟩
    | succ dd ih =>
      intro w ρ x hn hρ hs kq
      unfold sLW at kq
      have hm := h0.1.fr hρ.fr
      refine B_X5_leastWage_29 ⟨fun q => absurd q (show ¬ nI 99 < nI w from nI_nlt (by omega) (by omega)), fun _ => ⟨fun q => absurd rfl q, fun _ => C_putsValley v 9 e1 rfl (a := m + 1) hm.1 (by omega) ⟨rfl, ?_⟩⟩⟩
      have es : zai (zAi ρ (m + 1) (203 + 17 * v + 9) (nI w)) (m + 1) = sWage (aR σ) v (nI w) := by
        rw [zai_set, hs]
        exact sWage_sWage (aR σ) v x (nI w)
      have hW1 := hρ.trans (zW.s1t (zW_A1 ρ (m + 1) (203 + 17 * v + 9) (nI w)) (show zAt m (m + 1) by unfold zAt; omega))
      refine C_resultOf (K := K) (V := V) (po := po) (B := B) e e2 (by omega) (h0.1.fr hW1.fr) (by rw [es]; exact sWage_ok hg (by omega) _) fun τ hτ hsτ => ⟨_, rfl, fun hn' => ?_, fun hy => ?_⟩
      · rw [es, e1] at hn'
        rw [if_neg hn'] at kq
        rw [nI_1]
        exact ih (w + 1) τ (nI w) (by omega) (hW1.trans hτ) (by rw [hsτ, es]) kq
      · rw [es, e1] at hy
        rw [if_pos hy] at kq
        rw [nI_1]
        refine B_X5_leastWage_29 ⟨fun _ => fin τ (nI w) (nI w) (hW1.trans hτ) (by rw [hsτ, es]) kq, fun _ => ⟨fun _ => fin τ (nI w) (nI w) (hW1.trans hτ) (by rw [hsτ, es]) kq, fun q => absurd q (o2i_neg (by omega))⟩⟩
  exact key 99 1 _ (wV (aR σ) v 9) (by omega) (zW.rf _ _ _) (by rw [sWage_self]; exact h0.2.1) kk
theorem C_bestTest (h : zMs μ m σ) (hg : sW (aR σ) K V po B) (kt : ∀ v, v < V → z = nI v → zEd μ m Q σ 0 (o2i (sBT (aR σ) v K))) (k1 : (∀ v, v < V → z ≠ nI v) → zEd μ m Q σ 1 0) : Call G Y_X5_bestTest [vP (5, 0, m), vI z] μ Q E := by
  obtain ⟨b, ⟨hK, hV⟩, -⟩ := id hg
  have h0 := (h.thr 0).mo
  refine S_X5_bestTest (C_isValley h.mo hV b.2.2.2 b.2.1 (fun v hv e1 => ⟨_, rfl, C_passes1 ⟨_, rfl, fun _ => ?_, fun q => absurd q (by decide)⟩⟩) (fun hne => ⟨_, rfl, C_passes0 ⟨_, rfl, fun q => absurd rfl q, fun _ => (k1 hne).no h⟩⟩))
  have kk := (kt v hv e1).yes h
  have key : ∀ d i, i + d = K → Wp G Y_X5_bestTest 18 [(0, vP (5, 0, m)), (1, vI z), (2, vI (o2i (sBT (aR σ) v i))), (3, vI (nI i))] [] (zFi μ 46 m 0) Q E := by
    intro d
    induction d with
    | zero =>
      intro i hi
      have hi' : i = K := by omega
      subst hi'
      exact B_X5_bestTest_18 ⟨_, _, h0.1, by omega, _, (h0.2 0 (by omega)).trans hK, fun _ => kk, fun q => absurd q (nI_nlt (by omega) (by omega))⟩
    | succ d ih =>
      intro i hi
      have ihh := ih (i + 1) (by omega)
      unfold sBT at ihh
      refine B_X5_bestTest_18 ⟨_, _, h0.1, by omega, _, (h0.2 0 (by omega)).trans hK, fun q => absurd (nI_lt (by omega) (by omega)) q, fun _ => C_canTest v i e1 rfl (by omega) (by omega) h0 (fun ok => ⟨_, rfl, fun q => absurd q (by decide), fun _ => ⟨fun hm => ?_, fun hm => ?_⟩⟩) (fun nok => ⟨_, rfl, fun _ => ?_, fun q => absurd rfl q⟩)⟩
      · rw [if_pos ok] at ihh
        rw [nI_1]
        cases hb : sBT (aR σ) v i with
        | none => rw [hb] at ihh; exact ihh
        | some c => rw [hb] at hm; exact absurd hm (o2i_neg (by have := sBT_lt hb; omega))
      · rw [if_pos ok] at ihh
        cases hb : sBT (aR σ) v i with
        | none => rw [hb] at hm; exact absurd rfl hm
        | some c =>
          have hc := sBT_lt hb
          rw [hb] at ihh
          dsimp only at ihh
          refine C_trueScore v i e1 rfl (by omega) (by omega) h0 ⟨_, rfl, C_trueScore v c e1 rfl (by omega) (by omega) h0 ⟨_, rfl, fun hn => ?_, fun hl => ?_⟩⟩
          · rw [nI_1]; rw [if_neg hn] at ihh; exact ihh
          · rw [nI_1]; rw [if_pos hl] at ihh; exact ihh
      · rw [if_neg nok] at ihh
        rw [nI_1]; exact ihh
  exact key K 0 (by omega)
theorem C_richestEcho (h : zMs μ m σ) (hg : sW (aR σ) K V po B) (k : zEd μ m Q σ 0 (nI (sRich (aR σ) (K - 1)))) : Call G Y_X5_richestEcho [vP (5, 0, m)] μ Q E := by
  obtain ⟨b, ⟨hK, hV⟩, -⟩ := id hg
  have h0 := (h.thr 0).mo
  refine S_X5_richestEcho ?_
  have kk := k.yes h
  have key : ∀ d i, i + 1 + d = K → Wp G Y_X5_richestEcho 9 [(0, vP (5, 0, m)), (1, vI (nI (sRich (aR σ) i))), (2, vI (nI (i + 1)))] [] (zFi μ 46 m 0) Q E := by
    intro d
    induction d with
    | zero =>
      intro i hi
      have hi' : i = K - 1 := by omega
      subst hi'
      exact B_X5_richestEcho_9 ⟨_, _, h0.1, by omega, _, (h0.2 0 (by omega)).trans hK, fun _ => kk, fun q => absurd q (nI_nlt (by omega) (by omega))⟩
    | succ d ih =>
      intro i hi
      have ihh := ih (i + 1) (by omega)
      unfold sRich at ihh
      have hl := sRich_le (aR σ) i
      refine B_X5_richestEcho_9 ⟨_, _, h0.1, by omega, _, (h0.2 0 (by omega)).trans hK, fun q => absurd (nI_lt (by omega) (by omega)) q, fun _ => C_of (i + 1) 11 rfl rfl h0 (by omega) ⟨_, rfl, C_of (sRich (aR σ) i) 11 rfl rfl h0 (by omega) ⟨_, rfl, fun hn => ?_, fun hy => ?_⟩⟩⟩
      · rw [nI_1]; rw [if_neg hn] at ihh; exact ihh
      · rw [nI_1]; rw [if_pos hy] at ihh; exact ihh
  exact key (K - 1) 0 (by omega)
theorem C_savings (h : zMo μ m a r) (hK : r 0 = nI K) (hK12 : K ≤ 12) (k : Q (some (vI (sSav r K))) μ) : Call G Y_X5_savings [vP (5, 0, m)] μ Q E := by
  refine S_X5_savings ?_
  have key : ∀ dd i, i + dd = K → Wp G Y_X5_savings 4 [(0, vP (5, 0, m)), (1, vI (sSav r i)), (2, vI (nI i))] [] μ Q E := by
    intro dd
    induction dd with
    | zero =>
      intro i hi
      have hi' : i = K := by omega
      subst hi'
      exact B_X5_savings_4 ⟨_, _, h.1, by omega, _, (h.2 0 (by omega)).trans hK, fun _ => k, fun hlt => absurd hlt (nI_nlt (by omega) (by omega))⟩
    | succ dd ih =>
      intro i hi
      refine B_X5_savings_4 ⟨_, _, h.1, by omega, _, (h.2 0 (by omega)).trans hK, fun hge => absurd (nI_lt (by omega) (by omega)) hge, fun _ => C_of i 11 rfl rfl h (by omega) ⟨_, rfl, ?_⟩⟩
      rw [nI_1]
      exact ih (i + 1) (by omega)
  exact key K 0 (by omega)
theorem C_purses (h : zMo μ m a r) (hV : r 1 = nI V) (hV8 : V ≤ 8) (k : Q (some (vI (sPur r V))) μ) : Call G Y_X5_purses [vP (5, 0, m)] μ Q E := by
  refine S_X5_purses ?_
  have key : ∀ dd i, i + dd = V → Wp G Y_X5_purses 4 [(0, vP (5, 0, m)), (1, vI (sPur r i)), (2, vI (nI i))] [] μ Q E := by
    intro dd
    induction dd with
    | zero =>
      intro i hi
      have hi' : i = V := by omega
      subst hi'
      exact B_X5_purses_4 ⟨_, _, h.1, by omega, _, (h.2 1 (by omega)).trans hV, fun _ => k, fun hlt => absurd hlt (nI_nlt (by omega) (by omega))⟩
    | succ dd ih =>
      intro i hi
      refine B_X5_purses_4 ⟨_, _, h.1, by omega, _, (h.2 1 (by omega)).trans hV, fun hge => absurd (nI_lt (by omega) (by omega)) hge, fun _ => C_ofValley i 10 rfl rfl h (by omega) ⟨_, rfl, ?_⟩⟩
      rw [nI_1]
      exact ih (i + 1) (by omega)
  exact key V 0 (by omega)
theorem C_contracts (h : zMo μ m a r) (hK : r 0 = nI K) (hK12 : K ≤ 12) (k : Q (some (vI (nI (sCon r K)))) μ) : Call G Y_X5_contracts [vP (5, 0, m)] μ Q E := by
  refine S_X5_contracts ?_
  have key : ∀ dd i, i + dd = K → Wp G Y_X5_contracts 4 [(0, vP (5, 0, m)), (1, vI (nI (sCon r i))), (2, vI (nI i))] [] μ Q E := by
    intro dd
    induction dd with
    | zero =>
      intro i hi
      have hi' : i = K := by omega
      subst hi'
      exact B_X5_contracts_4 ⟨_, _, h.1, by omega, _, (h.2 0 (by omega)).trans hK, fun _ => k, fun hlt => absurd hlt (nI_nlt (by omega) (by omega))⟩
    | succ dd ih =>
      intro i hi
      have ihh := ih (i + 1) (by omega)
      unfold sCon at ihh
      refine B_X5_contracts_4 ⟨_, _, h.1, by omega, _, (h.2 0 (by omega)).trans hK, fun hge => absurd (nI_lt (by omega) (by omega)) hge, fun _ => C_hasContract i rfl (by omega) h (fun hc => ⟨_, rfl, C_truth1 ⟨_, rfl, ?_⟩⟩) (fun hc => ⟨_, rfl, C_truth0 ⟨_, rfl, ?_⟩⟩)⟩
      · dsimp only; rw [nI_1, nI_1]; rw [if_pos hc] at ihh; exact ihh
      · dsimp only; rw [nI_1, Int32.add_zero]; rw [if_neg hc] at ihh; exact ihh
  exact key K 0 (by omega)
theorem C_moneyImbalance (h : zMs μ m σ) (hg : sW (aR σ) K V po B) (k : zEd μ m Q σ 0 (aR σ 7 + aR σ 8 + aR σ 9 - aR σ 10 - sPur (aR σ) V - sSav (aR σ) K)) : Call G Y_X5_moneyImbalance [vP (5, 0, m)] μ Q E := by
  obtain ⟨b, ⟨hK, hV⟩, -⟩ := id hg
  have h0 := (h.thr 0).mo
  exact S_X5_moneyImbalance ⟨_, _, h.1.1, by omega, _, congrFun h.2.1 7, by omega, _, congrFun h.2.1 8, by omega, _, congrFun h.2.1 9, by omega, _, congrFun h.2.1 10, C_purses h0 hV b.2.1 ⟨_, rfl, C_savings h0 hK b.1 ⟨_, rfl, k.yes h⟩⟩⟩
theorem C_contractImbalance (h : zMs μ m σ) (hg : sW (aR σ) K V po B) (k : zEd μ m Q σ 0 (aR σ 5 - aR σ 6 - nI (sCon (aR σ) K))) : Call G Y_X5_contractImbalance [vP (5, 0, m)] μ Q E := by
  obtain ⟨b, ⟨hK, hV⟩, -⟩ := id hg
  have h0 := (h.thr 0).mo
  exact S_X5_contractImbalance ⟨_, _, h.1.1, by omega, _, congrFun h.2.1 5, by omega, _, congrFun h.2.1 6, C_contracts h0 hK b.1 ⟨_, rfl, k.yes h⟩⟩
theorem C_meanSavings (h : zMs μ m σ) (hg : sW (aR σ) K V po B) (k : ∀ ν, zMs ν m σ → zfi ν 46 m = 0 → zW (zFm m) (zAm m) μ ν → Q (some (vD (FP.ddiv (FP.i2d (sSav (aR σ) K)) (FP.i2d (nI K))))) ν) : Call G Y_X5_meanSavings [vP (5, 0, m)] μ Q E := by
  obtain ⟨b, ⟨hK, hV⟩, -⟩ := id hg
  have h0 := (h.thr 0).mo
  exact S_X5_meanSavings (C_savings h0 hK b.1 ⟨_, rfl, _, _, h.1.1, by omega, _, (h0.2 0 (by omega)).trans hK, (vf_div64 _ b.2.2.1 b.1).1, k _ (h.thr 0) (by rw [zfi_zFi, if_pos ⟨rfl, rfl⟩]) (zW_m46 μ m 0)⟩)
theorem C_employmentRate (h : zMs μ m σ) (hg : sW (aR σ) K V po B) (k : ∀ ν, zMs ν m σ → zfi ν 46 m = 0 → zW (zFm m) (zAm m) μ ν → Q (some (vF (FP.fdiv (FP.i2f (nI (sCon (aR σ) K))) (FP.i2f (nI K))))) ν) : Call G Y_X5_employmentRate [vP (5, 0, m)] μ Q E := by
  obtain ⟨b, ⟨hK, hV⟩, -⟩ := id hg
  have h0 := (h.thr 0).mo
  exact S_X5_employmentRate (C_contracts h0 hK b.1 ⟨_, rfl, _, _, h.1.1, by omega, _, (h0.2 0 (by omega)).trans hK, (vf_div32 _ b.2.2.1 b.1).1, k _ (h.thr 0) (by rw [zfi_zFi, if_pos ⟨rfl, rfl⟩]) (zW_m46 μ m 0)⟩)
theorem C_doubleServants (h : zMs μ m σ) (hg : sW (aR σ) K V po B) (k : zEd μ m Q σ 0 0) : Call G Y_X5_doubleServants [vP (5, 0, m)] μ Q E := by
  obtain ⟨b, ⟨hK, hV⟩, -, -, ⟨sl, hs⟩, -⟩ := id hg
  have h0 := (h.thr 0).mo
  have kk := k.yes h
  -- how often an echo serves
  have one : ∀ e, sSum (fun v => (sl v).count e) V ≤ 1 := fun e => by
    have gen : ∀ n, n ≤ 8 → sSum (fun v => (sl v).count e) n ≤ 1 ∧ ((∀ v, v < n → e ∉ sl v) → sSum (fun v => (sl v).count e) n = 0) := by
      intro n
      induction n with
      | zero => intro _; exact ⟨Nat.zero_le _, fun _ => rfl⟩
      | succ n ih =>
        intro hn
        obtain ⟨i1, i2⟩ := ih (by omega)
        have nd := List.nodup_iff_count.mp (hs.1 n (by omega)).2.2.2.2.1 e
        unfold sSum
        by_cases hm : e ∈ sl n
        · have := i2 fun v hv q => by have := hs.one (show v < 8 by omega) (show n < 8 by omega) q hm; omega
          exact ⟨by omega, fun q => absurd hm (q n (by omega))⟩
        · have := List.count_eq_zero_of_not_mem hm
          exact ⟨by omega, fun q => by have := i2 fun v hv => q v (by omega); omega⟩
    exact (gen V b.2.1).1
  have served : ∀ (Q2 : Option ZV → ZM → Prop) (E2 : ZP → ZM → Prop) (e : Nat), e < 12 → (∀ c, c ≤ 1 → Q2 (some (vI (nI c))) (zFi μ 46 m 0)) → Call G Y_X5_servedBy [vP (5, 0, m), vI (nI e)] (zFi μ 46 m 0) Q2 E2 := by
    intro Q2 E2 e he k2
    refine S_X5_servedBy ?_
    have key : ∀ d v, v + d = V → Wp G Y_X5_servedBy 4 [(0, vP (5, 0, m)), (1, vI (nI e)), (2, vI (nI (sSum (fun v => (sl v).count e) v))), (3, vI (nI v))] [] (zFi μ 46 m 0) Q2 E2 := by
      intro d
      induction d with
      | zero =>
        intro v hv
        have hv' : v = V := by omega
        subst hv'
        exact B_X5_servedBy_4 ⟨_, _, h0.1, by omega, _, (h0.2 1 (by omega)).trans hV, fun _ => k2 _ (one e), fun q => absurd q (nI_nlt (by omega) (by omega))⟩
      | succ d ih =>
        intro v hv
        obtain ⟨t1, t2, t3⟩ := sSt_eq hs (show v < 8 by omega)
        refine B_X5_servedBy_4 ⟨_, _, h0.1, by omega, _, (h0.2 1 (by omega)).trans hV, fun q => absurd (nI_lt (by omega) (by omega)) q, fun _ => ?_⟩
        have le : ∀ dd i, i + dd = (sl v).length → Wp G Y_X5_servedBy 17 [(0, vP (5, 0, m)), (1, vI (nI e)), (2, vI (nI (sSum (fun v => (sl v).count e) v + ((sl v).take i).count e))), (3, vI (nI v)), (4, vI (nI i))] [] (zFi μ 46 m 0) Q2 E2 := by
          intro dd
          induction dd with
          | zero =>
            intro i hi
            refine B_X5_servedBy_17 (C_ofValley v 13 rfl rfl h0 (by omega) ⟨_, rfl, fun _ => ?_, fun q => absurd q (by rw [t2]; exact nI_nlt (by omega) (by omega))⟩)
            rw [nI_1, List.take_of_length_le (by omega)]
            exact ih (v + 1) (by omega)
          | succ dd ih2 =>
            intro i hi
            have hil : i < (sl v).length := by omega
            obtain ⟨m1, m2, m3, m4⟩ := sMem_eq hs b.1 (show v < 8 by omega) (show i < sSt (aR σ) v by omega)
            rw [List.getElem?_eq_getElem hil] at m1
            have st : ((sl v).take (i + 1)).count e = ((sl v).take i).count e + if sMem (aR σ) v i = e then 1 else 0 := by
              rw [List.take_succ_eq_append_getElem hil, List.count_append, List.count_singleton, Option.some.inj m1]
              by_cases q : sMem (aR σ) v i = e
              · rw [if_pos q, if_pos (by simpa using q)]
              · rw [if_neg q, if_neg (by simpa using q)]
            have ihh := ih2 (i + 1) (by omega)
            rw [st] at ihh
            refine B_X5_servedBy_17 (C_ofValley v 13 rfl rfl h0 (by omega) ⟨_, rfl, fun q => absurd (by rw [t2]; exact nI_lt (by omega) (by omega)) q, fun _ => C_ofValley v (14 + i) rfl (nI_add 14 i) h0 (by omega) ⟨_, rfl, fun hn => C_truth0 ⟨_, rfl, ?_⟩, fun hy => C_truth1 ⟨_, rfl, ?_⟩⟩⟩)
            · dsimp only
              rw [m2, nI_eq (by omega) (by omega)] at hn
              rw [nI_1, Int32.add_zero]
              rw [if_neg hn] at ihh
              exact ihh
            · dsimp only
              rw [m2, nI_eq (by omega) (by omega)] at hy
              rw [nI_1, nI_1]
              rw [if_pos hy] at ihh
              exact ihh
        exact le (sl v).length 0 (by omega)
    exact key V 0 (by omega)
  refine S_X5_doubleServants ?_
  have key : ∀ d i, i + d = K → Wp G Y_X5_doubleServants 9 [(0, vP (5, 0, m)), (1, vI 0), (2, vI (nI i))] [] (zFi μ 46 m 0) Q E := by
    intro d
    induction d with
    | zero =>
      intro i hi
      have hi' : i = K := by omega
      subst hi'
      exact B_X5_doubleServants_9 ⟨_, _, h0.1, by omega, _, (h0.2 0 (by omega)).trans hK, fun _ => kk, fun q => absurd q (nI_nlt (by omega) (by omega))⟩
    | succ d ih =>
      intro i hi
      refine B_X5_doubleServants_9 ⟨_, _, h0.1, by omega, _, (h0.2 0 (by omega)).trans hK, fun q => absurd (nI_lt (by omega) (by omega)) q, fun _ => served _ _ i (by omega) fun c hc => ⟨_, rfl, fun _ => C_truth0 ⟨_, rfl, ?_⟩, fun q => absurd q (show ¬ nI 1 < nI c from nI_nlt hc (by omega))⟩⟩
      dsimp only
      rw [nI_1, Int32.add_zero]
      exact ih (i + 1) (by omega)
  exact key K 0 (by omega)
end ZSM
