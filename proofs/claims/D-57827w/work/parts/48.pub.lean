/-! CONTRACTS, 15: the model's public operations -/
def sKeep (l : List (Nat → Int32)) (r : Nat → Int32) : List (Nat → Int32) := (if l.length = 8 then l.tail else l) ++ [r]
/-- an operation that was done -/
def aOp (σ : ZS) (r : Nat → Int32) : ZS := (r, aSv σ, sKeep (aPa σ) (aR σ), σ.2.2.2)
def zFp (m f b : Nat) : Prop := b = m ∧ f = 45
/-- a call of the model ends: state, what it threw, value -/
def zEd (μ : ZM) (m : Nat) (Q : Option ZV → ZM → Prop) (σ : ZS) (t x : Int32) : Prop := ∀ ν, zMs ν m σ → zfi ν 46 m = t → zW (zFm m) (zAm m) μ ν → Q (some (vI x)) ν
section ZP1
variable {G : ZG} {μ : ZM} {Q : Option ZV → ZM → Prop} {E : ZP → ZM → Prop} {m K V D : Nat} {po : Nat → Nat} {z z1 z2 : Int32} {σ : ZS}
theorem C_keeps {f : Nat} {l : List (Nat → Int32)} {r : Nat → Int32} (hf : m < f ∧ f < m + 5) (hm : zMm μ m) (hp : zPa μ m l) (hr : ∀ j, j < 627 → zai μ f j = r j) (k : ∀ ν, zPa ν m (sKeep l r) → zW (zFp m) (zA1 (m + 5)) μ ν → Q none ν) : Call G Y_X5_keeps [vP (5, 0, m), vP (200, 627, f)] μ Q E := by
  have last : ∀ (ν : ZM) (l' : List (Nat → Int32)), zPa ν m l' → l'.length < 8 → (∀ ρ, zPa ρ m (l' ++ [r]) → zW (zFp m) (zA1 (m + 5)) μ ρ → Q none ρ) → zW (zFp m) (zA1 (m + 5)) μ ν → Wp G Y_X5_keeps 50 [(0, vP (5, 0, m)), (1, vP (200, 627, f))] [] ν Q E := by
    intro ν l' hl hl8 kk hν
    obtain ⟨l1, l2, l3⟩ := hl
    have hf' : zai ν f = zai μ f := hν.ai (by unfold zA1; omega)
    refine B_X5_keeps_50 ⟨_, _, (hm.fr hν.fr).2.2.2.2.1, _, l2, C_copies 0 (627 * l'.length) rfl (pk_mul 627 _) (by omega) (by omega) (by omega) (by omega) (by omega) fun ρ hρ hs => ⟨rfl, _, rfl, kk _ ⟨?_, ?_, fun i hi j hj => ?_⟩ ((hν.trans (hρ.mono (fun _ _ q => q.elim) (fun _ q => q))).trans (zW_Fi (F := zFp m) ⟨rfl, rfl⟩ _ _))⟩⟩
    · rw [List.length_append]; simp; omega
    · rw [zfi_zFi, if_pos ⟨rfl, rfl⟩, hρ.2.2.2.2.2.2.1 _ _ (fun q => q), l2, List.length_append]; exact nI_1 _
    · rw [List.length_append] at hi
      simp only [List.length_cons, List.length_nil] at hi
      rw [zai_zFi, hs]
      unfold sCopy
      by_cases hil : i = l'.length
      · subst hil
        rw [if_pos (by omega), hf', show 0 + (627 * l'.length + j - 627 * l'.length) = j by omega, hr j hj]
        simp
      · rw [if_neg (by omega), l3 i (by omega) j hj]
        simp [List.getElem?_append_left (show i < l'.length by omega)]
  refine S_X5_keeps ⟨_, hp.2.1, fun hn => last μ l hp ?_ ?_ (zW.rf _ _ _), fun h8 => ?_⟩
  · have h1 := hp.1
    have : l.length ≠ 8 := fun q => by rw [q] at hn; exact hn rfl
    omega
  · have : l.length ≠ 8 := fun q => by rw [q] at hn; exact hn rfl
    unfold sKeep at k
    rw [if_neg this] at k
    exact k
  · have h8' : l.length = 8 := (nI_eq (b := 8) (by have := hp.1; omega) (by omega)).mp h8
    unfold sKeep at k
    rw [if_pos h8'] at k
    have key : ∀ d i (ν : ZM), i + d = 4389 → zW (zFp m) (zA1 (m + 5)) μ ν → (∀ y, zai ν (m + 5) y = if y < i then zai μ (m + 5) (y + 627) else zai μ (m + 5) y) → zfi ν 45 m = nI 8 → Wp G Y_X5_keeps 11 [(0, vP (5, 0, m)), (1, vP (200, 627, f)), (2, vI (nI i))] [] ν Q E := by
      intro d
      induction d with
      | zero =>
        intro i ν hi hν hs h45
        have hi' : i = 4389 := by omega
        subst hi'
        refine B_X5_keeps_11 ⟨fun _ => ⟨_, h45, last _ l.tail ⟨by rw [List.length_tail]; omega, by rw [zfi_zFi, if_pos ⟨rfl, rfl⟩, List.length_tail, h8']; rfl, fun i hi j hj => ?_⟩ (by rw [List.length_tail]; omega) k (hν.trans (zW_Fi (F := zFp m) ⟨rfl, rfl⟩ _ _))⟩, fun q => absurd q (by decide)⟩
        rw [List.length_tail] at hi
        rw [zai_zFi, hs, if_pos (by omega), show 627 * i + j + 627 = 627 * (i + 1) + j by omega, hp.2.2 (i + 1) (by omega) j hj]
        simp [List.getD_eq_getElem?_getD]
      | succ d ih =>
        intro i ν hi hν hs h45
        refine B_X5_keeps_11 ⟨fun q => absurd (show nI i < nI 4389 from nI_lt (by omega) (by omega)) q, fun _ => ⟨_, _, (hm.fr hν.fr).2.2.2.2.1, i + 627, zix.eq (nI_add i 627) (by omega) (by omega), _, rfl, i, zix.eq rfl (by omega) (by omega), ?_⟩⟩
        rw [nI_1]
        refine ih (i + 1) _ (by omega) (hν.trans (zW_Ai (A := zA1 (m + 5)) rfl _ _ _)) (fun y => ?_) h45
        have hv : zai ν (m + 5) (i + 627) = zai μ (m + 5) (i + 627) := by rw [hs, if_neg (by omega)]
        rw [zai_zAi, hv]
        by_cases hy : y = i
        · rw [if_pos ⟨rfl, hy⟩, if_pos (by omega), hy]
        · rw [if_neg (fun q => hy q.2), hs y]
          by_cases hy2 : y < i
          · rw [if_pos hy2, if_pos (by omega)]
          · rw [if_neg hy2, if_neg (by omega)]
    exact key 4389 0 μ (by omega) (zW.rf _ _ _) (fun y => by rw [if_neg (by omega)]) (by rw [hp.2.1, h8'])
theorem sCopy_00 (f g : Nat → Int32) {j : Nat} (hj : j < 627) : sCopy f g 0 0 j = f j := by
  unfold sCopy
  rw [if_pos (by omega)]
  congr 1; omega
theorem C_tried1 (h : zMs μ m σ) (k : ∀ ν, zMs ν m σ → zfi ν 46 m = zfi μ 46 m → (∀ j, j < 627 → zai ν (m + 3) j = aR σ j) → zW (zFt m) (zAt m) μ ν → Q (some (vI 1)) ν) : Call G Y_X5_tried [vP (5, 0, m), vI 1] μ Q E := by
  refine S_X5_tried ⟨fun q => absurd q (by decide), fun _ => ⟨_, _, h.1.1, _, _, h.1.2.2.1, C_copies 0 0 rfl rfl (by omega) (by omega) (by omega) (by omega) (by omega) fun ν hν hs => ⟨rfl, rfl, ?_⟩⟩⟩
  have W := zW.t1 (m := m) hν (by unfold zAt; omega)
  exact k ν (h.go0 W (hν.ai (by unfold zA1; omega))) (hν.2.2.2.2.2.2.1 _ _ (fun q => q)) (fun j hj => by rw [hs, sCopy_00 _ _ hj, h.2.1]) W
theorem C_tried0 (k : Q (some (vI 0)) μ) : Call G Y_X5_tried [vP (5, 0, m), vI 0] μ Q E := S_X5_tried ⟨fun _ => ⟨rfl, k⟩, fun q => absurd rfl q⟩
theorem C_done {r0 : Nat → Int32} (h : zMs μ m σ) (hh : ∀ j, j < 627 → zai μ (m + 3) j = r0 j) (k : ∀ ν, zMs ν m (aR σ, aSv σ, sKeep (aPa σ) r0, σ.2.2.2) → zfi ν 46 m = zfi μ 46 m → zW (zFm m) (zAm m) μ ν → Q (some (vI (zfi μ 54 m))) ν) : Call G Y_X5_done [vP (5, 0, m), vI z] μ Q E := by
  refine S_X5_done ⟨_, _, h.1.2.2.1, C_keeps ⟨by omega, by omega⟩ h.1 h.2.2.2.1 hh fun ν hp hν => ⟨rfl, zfi μ 54 m, ?_, ?_⟩⟩
  · exact hν.2.2.2.2.2.2.1 _ _ (by unfold zFp; omega)
  · obtain ⟨h1, h2, h3, h4, h5, ⟨h6, h7⟩, h8⟩ := h
    have hf : ∀ f, f ≠ 45 → zfi ν f m = zfi μ f m := fun f q => hν.2.2.2.2.2.2.1 f m (by unfold zFp; omega)
    have ha : ∀ b, b ≠ m + 5 → zai ν b = zai μ b := fun b q => hν.ai q
    exact k ν ⟨h1.fr hν.fr, (ha _ (by omega)).trans h2, h3.same (hf 47 (by omega)) (ha _ (by omega)), hp, h5.same (hf 56 (by omega)) (ha _ (by omega)), ⟨(hf 62 (by omega)).trans h6, (hf 63 (by omega)).trans h7⟩, h8.same (hf 67 (by omega)) (ha _ (by omega))⟩ (hf 46 (by omega)) (hν.mono (fun f b q => q.1) (fun b q => by unfold zA1 at q; unfold zAm; omega))
/-- tried, done, kept -/
theorem C_op {Yo : ZY} {vs : List ZV} {r' : Nat → Int32} {x : Int32} {E1 E2 E3 : ZP → ZM → Prop} {Z : Int32 → ZM → Prop} (h : zMs μ m σ)
    (hop : ∀ (ν : ZM) (Q' : Option ZV → ZM → Prop), zMm ν m → zai ν (m + 1) = aR σ → (∀ ρ, zai ρ (m + 1) = r' → zfi ρ 54 m = x → zW (zFs m) (zAs m) ν ρ → Q' (some (vI 1)) ρ) → Call G Yo vs ν Q' E2)
    (k : ∀ ν, zMs ν m (aOp σ r') → zfi ν 46 m = zfi μ 46 m → zW (zFm m) (zAm m) μ ν → Q (some (vI x)) ν) :
    Call G Y_X5_tried [vP (5, 0, m), vI 1] μ (rI fun x3 ν3 => (x3 = 0 → Z x3 ν3) ∧ (¬ x3 = 0 → (Call G Yo vs ν3 (rI fun x4 ν4 => Call G Y_X5_done [vP (5, 0, m), vI x4] ν4 (rI fun x5 ν5 => Q (some (vI x5)) ν5) E1) E2))) E3 :=
  C_tried1 h fun ν hν h46 hh hW => ⟨_, rfl, fun q => absurd q (by decide), fun _ => hop ν _ hν.1 hν.2.1 fun ρ hs h54 hρ => ⟨_, rfl, C_done (r0 := aR σ) (hν.go hρ.t hs) (fun j hj => by rw [hρ.ai (show ¬ zAs m (m + 3) by unfold zAs; omega)]; exact hh j hj) fun τ hτ h46' hWτ => ⟨_, rfl, by rw [h54]; exact k τ hτ (by rw [h46', hρ.2.2.2.2.2.2.1 46 m (by unfold zFs; omega)]; exact h46) ((hW.tm.trans hρ.m).trans hWτ)⟩⟩⟩
theorem C_op0 {E3 : ZP → ZM → Prop} {Z Z2 : Int32 → ZM → Prop} (k : Z 0 μ) : Call G Y_X5_tried [vP (5, 0, m), vI 0] μ (rI fun x3 ν3 => (x3 = 0 → Z x3 ν3) ∧ (¬ x3 = 0 → Z2 x3 ν3)) E3 := C_tried0 ⟨_, rfl, fun _ => k, fun q => absurd rfl q⟩
theorem zEd.of {t x : Int32} {σ' : ZS} (h : zEd μ m Q σ' t x) {ν : ZM} (hν : zMs ν m σ') (ht : zfi ν 46 m = t) (hW : zW (zFm m) (zAm m) μ ν) : Q (some (vI x)) ν := h ν hν ht hW
theorem zEd.no {t x : Int32} (h : zEd μ m Q σ t x) (hs : zMs μ m σ) : Q (some (vI x)) (zFi μ 46 m t) := h _ (hs.thr t) (by rw [zfi_zFi, if_pos ⟨rfl, rfl⟩]) (zW_t46 μ m t).tm
theorem zW_m46 (μ : ZM) (m : Nat) (x : Int32) : zW (zFm m) (zAm m) μ (zFi μ 46 m x) := (zW_t46 μ m x).tm
theorem C_passDays (h : zMs μ m σ) (hg : sGd (aR σ) K V po D) (hD : D < 10000000) (kt : ∀ n, 1 ≤ n → n ≤ 60 → z = nI n → zEd μ m Q (aOp σ (sDays (aR σ) K V n)) 0 (sLeft (sDays (aR σ) K V n) K - sLeft (aR σ) K)) (kf : (∀ n, 1 ≤ n → n ≤ 60 → z ≠ nI n) → zEd μ m Q σ 1 0) : Call G Y_X5_passDays [vP (5, 0, m), vI z] μ Q E := by
  obtain ⟨g1, -, -, d, g4, g5⟩ := hg
  refine S_X5_passDays (C_in 1 61 (by decide) (by decide) (fun n n1 n2 hz => ⟨_, rfl, C_passes1 ⟨_, rfl, C_op (h.thr 0) (fun ν Q' hm hr kk => C_passNow (K := K) (V := V) (po := po) (B := 24 * D) n d hz (by omega) hm (by rw [hr]; exact g1) (by omega) (by rw [hr]; exact g4) (by omega) (fun ρ hs h54 hρ => kk ρ (by rw [hs, hr]) (by rw [h54, hr]) hρ)) fun ν hν h46 hW => kt n n1 (by omega) hz ν hν (by rw [h46, zfi_zFi, if_pos ⟨rfl, rfl⟩]) ((zW_m46 μ m 0).trans hW)⟩⟩) (fun hne => ⟨_, rfl, C_passes0 ⟨_, rfl, C_op0 ((kf fun n n1 n2 => hne n n1 (by omega) (by omega)).no h)⟩⟩))
theorem C_holdFair (h : zMs μ m σ) (hg : sGd (aR σ) K V po D) (kt : zEd μ m Q (aOp σ (sFair (aR σ) K V)) 0 (sFair (aR σ) K V 5 - aR σ 5)) : Call G Y_X5_holdFair [vP (5, 0, m)] μ Q E :=
  S_X5_holdFair (C_passes1 ⟨_, rfl, C_op (h.thr 0) (fun ν Q' hm hr kk => C_holdNow (K := K) (V := V) (po := po) (B := 24 * D) hm (by rw [hr]; exact hg.1) (fun ρ hs h54 hρ => kk ρ (by rw [hs, hr]) (by rw [h54, hr]) hρ)) fun ν hν h46 hW => kt ν hν (by rw [h46, zfi_zFi, if_pos ⟨rfl, rfl⟩]) ((zW_m46 μ m 0).trans hW)⟩)
theorem zMs.mo (h : zMs μ m σ) : zMo μ m (m + 1) (aR σ) := ⟨h.1.1, fun j _ => by rw [h.2.1]⟩
theorem C_test (h : zMs μ m σ) (hg : sGd (aR σ) K V po D) (kt : ∀ v e, v < V → e < K → z1 = nI v → z2 = nI e → sTestOk (aR σ) v e → zEd μ m Q (aOp σ (sTest (aR σ) v e)) 0 (sTrue (aR σ) v e)) (k2 : ∀ v e, v < V → e < K → z1 = nI v → z2 = nI e → ¬ sTestOk (aR σ) v e → zEd μ m Q σ 2 0) (k1 : (∀ v e, v < V → e < K → z1 = nI v → z2 ≠ nI e) → zEd μ m Q σ 1 0) : Call G Y_X5_test [vP (5, 0, m), vI z1, vI z2] μ Q E := by
  obtain ⟨b, ⟨hK, hV⟩, -⟩ := hg.1
  refine S_X5_test (C_areBoth h.mo hK hV b (fun v e hv he e1 e2 => ⟨_, rfl, fun q => absurd q (by decide), fun _ => C_canTest v e e1 e2 (by omega) (by omega) h.mo (fun ok => ⟨_, rfl, fun q => absurd q (by decide), fun _ => ?_⟩) (fun nok => ⟨_, rfl, fun _ => ?_, fun q => absurd rfl q⟩)⟩) (fun hne => ⟨_, rfl, fun _ => ?_, fun q => absurd rfl q⟩))
  · refine B_X5_test_23 (C_areBoth h.mo hK hV b (fun v' e' hv' he' e1' e2' => ⟨_, rfl, C_both11 ⟨_, rfl, C_op (h.thr 0) (fun ν Q' hm hr kk => C_testNow v e e1 e2 (by omega) (by omega) hm (fun _ ρ hs h54 hρ => kk ρ (by rw [hs, hr]) (by rw [h54, hr]) hρ) (fun nok => absurd (by rw [hr]; exact ok) nok)) fun ν hν h46 hW => kt v e hv he e1 e2 ok ν hν (by rw [h46, zfi_zFi, if_pos ⟨rfl, rfl⟩]) ((zW_m46 μ m 0).trans hW)⟩⟩) (fun hne => absurd e2 (hne v e hv he e1)))
  · refine B_X5_test_23 (C_areBoth h.mo hK hV b (fun v' e' hv' he' e1' e2' => ⟨_, rfl, C_both10 ⟨_, rfl, C_op0 ((k2 v e hv he e1 e2 nok).no h)⟩⟩) (fun hne => absurd e2 (hne v e hv he e1)))
  · refine B_X5_test_23 (C_areBoth h.mo hK hV b (fun v' e' hv' he' e1' e2' => absurd e2' (hne v' e' hv' he' e1')) (fun _ => ⟨_, rfl, C_both0 ⟨_, rfl, C_op0 ((k1 hne).no h)⟩⟩))
theorem C_dismiss (h : zMs μ m σ) (hg : sGd (aR σ) K V po D) (kt : ∀ e, e < K → z = nI e → 0 < wE (aR σ) e 13 → zEd μ m Q (aOp σ (sEnd (aR σ) e)) 0 (wE (aR σ) e 13 - 1)) (k2 : ∀ e, e < K → z = nI e → ¬ 0 < wE (aR σ) e 13 → zEd μ m Q σ 2 0) (k1 : (∀ e, e < K → z ≠ nI e) → zEd μ m Q σ 1 0) : Call G Y_X5_dismiss [vP (5, 0, m), vI z] μ Q E := by
  obtain ⟨b, ⟨hK, hV⟩, -⟩ := id hg.1
  refine S_X5_dismiss (C_isEcho h.mo hK b.2.2.1 b.1 (fun e he e1 => ⟨_, rfl, C_isEcho h.mo hK b.2.2.1 b.1 (fun _ _ _ => ⟨_, rfl, fun q => absurd q (by decide), fun _ => C_hasContract e e1 (by omega) h.mo (fun hc => ⟨_, rfl, fun q => absurd q (by decide), fun _ => C_both11 ⟨_, rfl, C_op (h.thr 0) (fun ν Q' hm hr kk => C_dismissNow (K := K) (V := V) (po := po) (B := 24 * D) e e1 (by omega) hm (by rw [hr]; exact hg.1) (fun _ ρ hs h54 hρ => kk ρ (by rw [hs, hr]) (by rw [h54, hr]) hρ) (fun nok => absurd (by rw [hr]; exact hc) nok)) fun ν hν h46 hW => kt e he e1 hc ν hν (by rw [h46, zfi_zFi, if_pos ⟨rfl, rfl⟩]) ((zW_m46 μ m 0).trans hW)⟩⟩) (fun hc => ⟨_, rfl, fun _ => C_both10 ⟨_, rfl, C_op0 ((k2 e he e1 hc).no h)⟩, fun q => absurd rfl q⟩)⟩) (fun hne => absurd e1 (hne e he))⟩) (fun hne => ⟨_, rfl, C_isEcho h.mo hK b.2.2.1 b.1 (fun e he e1 => absurd e1 (hne e he)) (fun _ => ⟨_, rfl, fun _ => C_both0 ⟨_, rfl, C_op0 ((k1 hne).no h)⟩, fun q => absurd rfl q⟩)⟩))
theorem C_train (h : zMs μ m σ) (hg : sGd (aR σ) K V po D) (kt : ∀ e, e < K → z = nI e → sTrainOk (aR σ) e → zEd μ m Q (aOp σ (sTrain (aR σ) e)) 0 (wE (aR σ) e 8 + 1)) (k2 : ∀ e, e < K → z = nI e → ¬ sTrainOk (aR σ) e → zEd μ m Q σ 2 0) (k1 : (∀ e, e < K → z ≠ nI e) → zEd μ m Q σ 1 0) : Call G Y_X5_train [vP (5, 0, m), vI z] μ Q E := by
  obtain ⟨b, ⟨hK, hV⟩, -⟩ := id hg.1
  refine S_X5_train (C_isEcho h.mo hK b.2.2.1 b.1 (fun e he e1 => ⟨_, rfl, C_isEcho h.mo hK b.2.2.1 b.1 (fun _ _ _ => ⟨_, rfl, fun q => absurd q (by decide), fun _ => C_canTrain e e1 (by omega) h.mo (fun hc => ⟨_, rfl, fun q => absurd q (by decide), fun _ => C_both11 ⟨_, rfl, C_op (h.thr 0) (fun ν Q' hm hr kk => C_trainNow e e1 (by omega) hm (fun _ ρ hs h54 hρ => kk ρ (by rw [hs, hr]) (by rw [h54, hr]) hρ) (fun nok => absurd (by rw [hr]; exact hc) nok)) fun ν hν h46 hW => kt e he e1 hc ν hν (by rw [h46, zfi_zFi, if_pos ⟨rfl, rfl⟩]) ((zW_m46 μ m 0).trans hW)⟩⟩) (fun hc => ⟨_, rfl, fun _ => C_both10 ⟨_, rfl, C_op0 ((k2 e he e1 hc).no h)⟩, fun q => absurd rfl q⟩)⟩) (fun hne => absurd e1 (hne e he))⟩) (fun hne => ⟨_, rfl, C_isEcho h.mo hK b.2.2.1 b.1 (fun e he e1 => absurd e1 (hne e he)) (fun _ => ⟨_, rfl, fun _ => C_both0 ⟨_, rfl, C_op0 ((k1 hne).no h)⟩, fun q => absurd rfl q⟩)⟩))
theorem C_setWage (h : zMs μ m σ) (hg : sGd (aR σ) K V po D) (kt : ∀ v n, v < V → z1 = nI v → 1 ≤ n → n ≤ 99 → z2 = nI n → zEd μ m Q (aOp σ (sWage (aR σ) v z2)) 0 (wV (aR σ) v 9)) (k2 : ∀ v, v < V → z1 = nI v → (∀ n, 1 ≤ n → n ≤ 99 → z2 ≠ nI n) → zEd μ m Q σ 2 0) (k1 : (∀ v, v < V → z1 ≠ nI v) → zEd μ m Q σ 1 0) : Call G Y_X5_setWage [vP (5, 0, m), vI z1, vI z2] μ Q E := by
  obtain ⟨b, ⟨hK, hV⟩, -⟩ := id hg.1
  refine S_X5_setWage (C_isValley h.mo hV b.2.2.2 b.2.1 (fun v hv e1 => ⟨_, rfl, C_in 1 100 (by decide) (by decide) (fun n n1 n2 hz => ⟨_, rfl, C_both11 ⟨_, rfl, C_op (h.thr 0) (fun ν Q' hm hr kk => C_wageNow v e1 (by omega) hm (fun ρ hs h54 hρ => kk ρ (by rw [hs, hr]) (by rw [h54, hr]) hρ)) fun ν hν h46 hW => kt v n hv e1 n1 (by omega) hz ν hν (by rw [h46, zfi_zFi, if_pos ⟨rfl, rfl⟩]) ((zW_m46 μ m 0).trans hW)⟩⟩) (fun hne => ⟨_, rfl, C_both10 ⟨_, rfl, C_op0 ((k2 v hv e1 fun n n1 n2 => hne n n1 (by omega) (by omega)).no h)⟩⟩)⟩) (fun hne => ⟨_, rfl, C_in 1 100 (by decide) (by decide) (fun n n1 n2 hz => ⟨_, rfl, C_both0 ⟨_, rfl, C_op0 ((k1 hne).no h)⟩⟩) (fun _ => ⟨_, rfl, C_both0 ⟨_, rfl, C_op0 ((k1 hne).no h)⟩⟩)⟩))
theorem C_fund (h : zMs μ m σ) (hg : sGd (aR σ) K V po D) (kt : ∀ v n, v < V → z1 = nI v → 1 ≤ n → n ≤ 999 → z2 = nI n → zEd μ m Q (aOp σ (sFund (aR σ) v z2)) 0 (wV (aR σ) v 10 + z2)) (k2 : ∀ v, v < V → z1 = nI v → (∀ n, 1 ≤ n → n ≤ 999 → z2 ≠ nI n) → zEd μ m Q σ 2 0) (k1 : (∀ v, v < V → z1 ≠ nI v) → zEd μ m Q σ 1 0) : Call G Y_X5_fund [vP (5, 0, m), vI z1, vI z2] μ Q E := by
  obtain ⟨b, ⟨hK, hV⟩, -⟩ := id hg.1
  refine S_X5_fund (C_isValley h.mo hV b.2.2.2 b.2.1 (fun v hv e1 => ⟨_, rfl, C_in 1 1000 (by decide) (by decide) (fun n n1 n2 hz => ⟨_, rfl, C_both11 ⟨_, rfl, C_op (h.thr 0) (fun ν Q' hm hr kk => C_fundNow v e1 (by omega) hm (fun ρ hs h54 hρ => kk ρ (by rw [hs, hr]) (by rw [h54, hr]) hρ)) fun ν hν h46 hW => kt v n hv e1 n1 (by omega) hz ν hν (by rw [h46, zfi_zFi, if_pos ⟨rfl, rfl⟩]) ((zW_m46 μ m 0).trans hW)⟩⟩) (fun hne => ⟨_, rfl, C_both10 ⟨_, rfl, C_op0 ((k2 v hv e1 fun n n1 n2 => hne n n1 (by omega) (by omega)).no h)⟩⟩)⟩) (fun hne => ⟨_, rfl, C_in 1 1000 (by decide) (by decide) (fun n n1 n2 hz => ⟨_, rfl, C_both0 ⟨_, rfl, C_op0 ((k1 hne).no h)⟩⟩) (fun _ => ⟨_, rfl, C_both0 ⟨_, rfl, C_op0 ((k1 hne).no h)⟩⟩)⟩))
theorem C_undo (h : zMs μ m σ) (hz : sZ (aR σ)) (hzp : ∀ r, r ∈ aPa σ → sZ r) (kt : ∀ l r, aPa σ = l ++ [r] → zEd μ m Q (r, aSv σ, l, σ.2.2.2) 0 (nI l.length)) (k1 : aPa σ = [] → zEd μ m Q σ 1 0) : Call G Y_X5_undo [vP (5, 0, m)] μ Q E := by
  obtain ⟨h1, h2, h3, h4, h5, ⟨h6, h7⟩, h8⟩ := id h
  obtain ⟨l1, l2, l3⟩ := id h4
  rcases List.eq_nil_or_concat (aPa σ) with hn | ⟨l, r, hl⟩
  · rw [hn] at l2
    exact S_X5_undo ⟨_, l2, fun _ => B_X5_undo_13 (C_passes0 ⟨_, rfl, fun q => absurd rfl q, fun _ => (k1 hn).no h⟩), fun q => absurd q (by decide)⟩
  · rw [List.concat_eq_append] at hl
    rw [hl, List.length_append] at l1 l2 l3
    simp only [List.length_cons, List.length_nil] at l1 l2 l3
    refine S_X5_undo ⟨_, l2, fun q => absurd (show (0 : Int32) < nI (l.length + 1) from nI_lt (a := 0) (by omega) (by omega)) q, fun _ => B_X5_undo_13 (C_passes1 ⟨_, rfl, fun _ => ⟨_, l2, _, _, h1.2.2.2.2.1, _, _, h1.1, ?_⟩, fun q => absurd q (by decide)⟩)⟩
    rw [nI_pred]
    refine C_copies (627 * l.length) 0 (pk_mul 627 _) rfl (by omega) (by omega) (by omega) (by omega) (by omega) fun ν hν hs => ⟨rfl, nI l.length, ?_, kt l r hl ν ?_ ?_ ?_⟩
    · rw [hν.2.2.2.2.2.2.1 _ _ (fun q => q), zfi_zFi, if_pos ⟨rfl, rfl⟩]
    · have hf : ∀ f, f ≠ 45 → f ≠ 46 → zfi ν f m = zfi μ f m := fun f q q2 => by rw [hν.2.2.2.2.2.2.1 f m (fun q => q), zfi_zFi, if_neg (fun t => q t.1), zfi_zFi, if_neg (fun t => q2 t.1)]
      have ha : ∀ b, b ≠ m + 1 → zai ν b = zai μ b := fun b q => by rw [hν.ai q]; rfl
      refine ⟨h1.fr hν.fr, ?_, h3.same (hf 47 (by omega) (by omega)) (ha _ (by omega)), (show zPa ν m l from ⟨by omega, ?_, fun i hi j hj => ?_⟩), h5.same (hf 56 (by omega) (by omega)) (ha _ (by omega)), ⟨(hf 62 (by omega) (by omega)).trans h6, (hf 63 (by omega) (by omega)).trans h7⟩, h8.same (hf 67 (by omega) (by omega)) (ha _ (by omega))⟩
      · rw [hs]
        funext y
        show sCopy (zai μ (m + 5)) (zai μ (m + 1)) (627 * l.length) 0 y = r y
        unfold sCopy
        by_cases hy : y < 627
        · rw [if_pos (by omega), Nat.sub_zero, l3 l.length (by omega) y hy]; simp
        · rw [if_neg (by omega), h2, hz y (by omega), hzp r (by rw [hl]; simp) y (by omega)]
      · rw [hν.2.2.2.2.2.2.1 _ _ (fun q => q), zfi_zFi, if_pos ⟨rfl, rfl⟩]
      · rw [ha _ (by omega), l3 i (by omega) j hj]
        simp [List.getElem?_append_left (show i < l.length by omega)]
    · rw [hν.2.2.2.2.2.2.1 _ _ (fun q => q), zfi_zFi, if_neg (by omega), zfi_zFi, if_pos ⟨rfl, rfl⟩]
    · exact ((zW_m46 μ m 0).trans (zW_Fi (F := zFm m) rfl _ _)).trans (hν.m1 (by unfold zAm; omega))
theorem C_save (h : zMs μ m σ) (kt : zEd μ m Q (aR σ, some (aR σ), σ.2.2) 0 (aR σ 2)) : Call G Y_X5_save [vP (5, 0, m)] μ Q E := by
  obtain ⟨h1, h2, h3, h4, h5, ⟨h6, h7⟩, h8⟩ := id h
  refine S_X5_save ⟨_, _, h1.1, _, _, h1.2.1, C_copies 0 0 rfl rfl (by omega) (by omega) (by omega) (by omega) (by omega) fun ν hν hs => ⟨rfl, _, _, (h1.fr hν.fr).1, by omega, aR σ 2, ?_, kt _ ?_ ?_ ?_⟩⟩
  · rw [hν.ai (by unfold zA1; omega)]; exact congrFun h2 2
  · have hf : ∀ f, f ≠ 46 → zfi ν f m = zfi μ f m := fun f q2 => by rw [hν.2.2.2.2.2.2.1 f m (fun q => q), zfi_zFi, if_neg (fun t => q2 t.1)]
    have ha : ∀ b, b ≠ m + 2 → zai ν b = zai μ b := fun b q => by rw [hν.ai q]; rfl
    have hf2 : ∀ f, f ≠ 46 → f ≠ 47 → zfi (zFi ν 47 m 1) f m = zfi μ f m := fun f q q2 => by rw [zfi_zFi, if_neg (fun t => q2 t.1)]; exact hf f q
    refine ⟨h1.fr hν.fr, (ha _ (by omega)).trans h2, ⟨by rw [zfi_zFi, if_pos ⟨rfl, rfl⟩], fun j hj => ?_⟩, h4.same (hf2 45 (by omega) (by omega)) (ha _ (by omega)), h5.same (hf2 56 (by omega) (by omega)) (ha _ (by omega)), ⟨(hf2 62 (by omega) (by omega)).trans h6, (hf2 63 (by omega) (by omega)).trans h7⟩, h8.same (hf2 67 (by omega) (by omega)) (ha _ (by omega))⟩
    rw [zai_zFi, hs, sCopy_00 _ _ hj]
    exact congrFun h2 j
  · rw [zfi_zFi, if_neg (by omega), hν.2.2.2.2.2.2.1 _ _ (fun q => q), zfi_zFi, if_pos ⟨rfl, rfl⟩]
  · exact ((zW_m46 μ m 0).trans (hν.m1 (by unfold zAm; omega))).trans (zW_Fi (F := zFm m) rfl _ _)
theorem C_restore (h : zMs μ m σ) (hz : sZ (aR σ)) (hzs : ∀ r, aSv σ = some r → sZ r) (kt : ∀ r, aSv σ = some r → zEd μ m Q (r, some r, [], σ.2.2.2) 0 (r 2)) (k1 : aSv σ = none → zEd μ m Q σ 1 0) : Call G Y_X5_restore [vP (5, 0, m)] μ Q E := by
  obtain ⟨h1, h2, h3, h4, h5, ⟨h6, h7⟩, h8⟩ := id h
  cases hs : aSv σ with
  | none =>
    rw [hs] at h3
    exact S_X5_restore ⟨_, h3, C_passes0 ⟨_, rfl, fun q => absurd rfl q, fun _ => (k1 hs).no h⟩⟩
  | some r =>
    rw [hs] at h3
    obtain ⟨s1, s2⟩ := h3
    have hrow : ∀ y, sCopy (zai μ (m + 2)) (zai μ (m + 1)) 0 0 y = r y := fun y => by
      by_cases hy : y < 627
      · rw [sCopy_00 _ _ hy, s2 y hy]
      · unfold sCopy; rw [if_neg (by omega), h2, hz y (by omega), hzs r hs y (by omega)]
    refine S_X5_restore ⟨_, s1, C_passes1 ⟨_, rfl, fun _ => ⟨_, _, h1.2.1, _, _, h1.1, C_copies 0 0 rfl rfl (by omega) (by omega) (by omega) (by omega) (by omega) fun ν hν hs' => ⟨rfl, _, _, (h1.fr hν.fr).1, by omega, r 2, ?_, kt r hs _ ?_ ?_ ?_⟩⟩, fun q => absurd q (by decide)⟩⟩
    · rw [hs']; exact hrow 2
    · have hf : ∀ f, f ≠ 46 → zfi ν f m = zfi μ f m := fun f q2 => by rw [hν.2.2.2.2.2.2.1 f m (fun q => q), zfi_zFi, if_neg (fun t => q2 t.1)]
      have ha : ∀ b, b ≠ m + 1 → zai ν b = zai μ b := fun b q => by rw [hν.ai q]; rfl
      have hf2 : ∀ f, f ≠ 46 → f ≠ 45 → zfi (zFi ν 45 m 0) f m = zfi μ f m := fun f q q2 => by rw [zfi_zFi, if_neg (fun t => q2 t.1)]; exact hf f q
      refine ⟨h1.fr hν.fr, ?_, ⟨(hf2 47 (by omega) (by omega)).trans s1, fun j hj => ?_⟩, (show zPa _ m [] from ⟨by simp, by rw [zfi_zFi, if_pos ⟨rfl, rfl⟩]; rfl, fun i hi => by simp at hi⟩), h5.same (hf2 56 (by omega) (by omega)) (ha _ (by omega)), ⟨(hf2 62 (by omega) (by omega)).trans h6, (hf2 63 (by omega) (by omega)).trans h7⟩, h8.same (hf2 67 (by omega) (by omega)) (ha _ (by omega))⟩
      · rw [zai_zFi, hs']; exact funext hrow
      · rw [zai_zFi, ha _ (by omega)]; exact s2 j hj
    · rw [zfi_zFi, if_neg (by omega), hν.2.2.2.2.2.2.1 _ _ (fun q => q), zfi_zFi, if_pos ⟨rfl, rfl⟩]
    · exact ((zW_m46 μ m 0).trans (hν.m1 (by unfold zAm; omega))).trans (zW_Fi (F := zFm m) rfl _ _)
end ZP1
