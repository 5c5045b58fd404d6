/-! CONTRACTS, 16: what the model tells -/
section ZRD
variable {G : ZG} {μ : ZM} {Q : Option ZV → ZM → Prop} {E : ZP → ZM → Prop} {m K V D B : Nat} {po : Nat → Nat} {z z1 z2 : Int32} {σ : ZS}
theorem zEd.yes {t x : Int32} (h : zEd μ m Q σ t x) (hs : zMs μ m σ) : Q (some (vI x)) (zFi μ 46 m t) := h.no hs
theorem C_tellsEcho (w : Nat) (hw : w < 15) (h2 : z2 = nI w) (h : zMs μ m σ) (hg : sW (aR σ) K V po B) (kt : ∀ e, e < K → z1 = nI e → zEd μ m Q σ 0 (wE (aR σ) e w)) (k1 : (∀ e, e < K → z1 ≠ nI e) → zEd μ m Q σ 1 0) : Call G Y_X5_tellsEcho [vP (5, 0, m), vI z1, vI z2] μ Q E := by
  obtain ⟨b, ⟨hK, hV⟩, -⟩ := id hg
  exact S_X5_tellsEcho (C_isEcho h.mo hK b.2.2.1 b.1 (fun e he e1 => ⟨_, rfl, C_passes1 ⟨_, rfl, fun q => absurd q (by decide), fun _ => C_of e w e1 h2 (h.thr 0).mo (by omega) ⟨_, rfl, (kt e he e1).yes h⟩⟩⟩) (fun hne => ⟨_, rfl, C_passes0 ⟨_, rfl, fun _ => (k1 hne).no h, fun q => absurd rfl q⟩⟩))
theorem C_tellsValley (w : Nat) (hw : w < 17) (h2 : z2 = nI w) (h : zMs μ m σ) (hg : sW (aR σ) K V po B) (kt : ∀ v, v < V → z1 = nI v → zEd μ m Q σ 0 (wV (aR σ) v w)) (k1 : (∀ v, v < V → z1 ≠ nI v) → zEd μ m Q σ 1 0) : Call G Y_X5_tellsValley [vP (5, 0, m), vI z1, vI z2] μ Q E := by
  obtain ⟨b, ⟨hK, hV⟩, -⟩ := id hg
  exact S_X5_tellsValley (C_isValley h.mo hV b.2.2.2 b.2.1 (fun v hv e1 => ⟨_, rfl, C_passes1 ⟨_, rfl, fun q => absurd q (by decide), fun _ => C_ofValley v w e1 h2 (h.thr 0).mo (by omega) ⟨_, rfl, (kt v hv e1).yes h⟩⟩⟩) (fun hne => ⟨_, rfl, C_passes0 ⟨_, rfl, fun _ => (k1 hne).no h, fun q => absurd rfl q⟩⟩))
theorem C_delayOf (h : zMs μ m σ) (hg : sW (aR σ) K V po B) (kt : ∀ e, e < K → z1 = nI e → zEd μ m Q σ 0 (wE (aR σ) e 7)) (k1 : (∀ e, e < K → z1 ≠ nI e) → zEd μ m Q σ 1 0) : Call G Y_X5_delayOf [vP (5, 0, m), vI z1] μ Q E :=
  S_X5_delayOf (C_tellsEcho 7 (by omega) rfl h hg (fun e he e1 ν a b c => ⟨_, rfl, kt e he e1 ν a b c⟩) (fun hne ν a b c => ⟨_, rfl, k1 hne ν a b c⟩))
theorem C_repeatsOf (h : zMs μ m σ) (hg : sW (aR σ) K V po B) (kt : ∀ e, e < K → z1 = nI e → zEd μ m Q σ 0 (wE (aR σ) e 8)) (k1 : (∀ e, e < K → z1 ≠ nI e) → zEd μ m Q σ 1 0) : Call G Y_X5_repeatsOf [vP (5, 0, m), vI z1] μ Q E :=
  S_X5_repeatsOf (C_tellsEcho 8 (by omega) rfl h hg (fun e he e1 ν a b c => ⟨_, rfl, kt e he e1 ν a b c⟩) (fun hne ν a b c => ⟨_, rfl, k1 hne ν a b c⟩))
theorem C_reserveWage (h : zMs μ m σ) (hg : sW (aR σ) K V po B) (kt : ∀ e, e < K → z1 = nI e → zEd μ m Q σ 0 (wE (aR σ) e 9)) (k1 : (∀ e, e < K → z1 ≠ nI e) → zEd μ m Q σ 1 0) : Call G Y_X5_reserveWage [vP (5, 0, m), vI z1] μ Q E :=
  S_X5_reserveWage (C_tellsEcho 9 (by omega) rfl h hg (fun e he e1 ν a b c => ⟨_, rfl, kt e he e1 ν a b c⟩) (fun hne ν a b c => ⟨_, rfl, k1 hne ν a b c⟩))
theorem C_resistanceOf (h : zMs μ m σ) (hg : sW (aR σ) K V po B) (kt : ∀ e, e < K → z1 = nI e → zEd μ m Q σ 0 (wE (aR σ) e 10)) (k1 : (∀ e, e < K → z1 ≠ nI e) → zEd μ m Q σ 1 0) : Call G Y_X5_resistanceOf [vP (5, 0, m), vI z1] μ Q E :=
  S_X5_resistanceOf (C_tellsEcho 10 (by omega) rfl h hg (fun e he e1 ν a b c => ⟨_, rfl, kt e he e1 ν a b c⟩) (fun hne ν a b c => ⟨_, rfl, k1 hne ν a b c⟩))
theorem C_savingsOf (h : zMs μ m σ) (hg : sW (aR σ) K V po B) (kt : ∀ e, e < K → z1 = nI e → zEd μ m Q σ 0 (wE (aR σ) e 11)) (k1 : (∀ e, e < K → z1 ≠ nI e) → zEd μ m Q σ 1 0) : Call G Y_X5_savingsOf [vP (5, 0, m), vI z1] μ Q E :=
  S_X5_savingsOf (C_tellsEcho 11 (by omega) rfl h hg (fun e he e1 ν a b c => ⟨_, rfl, kt e he e1 ν a b c⟩) (fun hne ν a b c => ⟨_, rfl, k1 hne ν a b c⟩))
theorem C_unpaidDays (h : zMs μ m σ) (hg : sW (aR σ) K V po B) (kt : ∀ e, e < K → z1 = nI e → zEd μ m Q σ 0 (wE (aR σ) e 12)) (k1 : (∀ e, e < K → z1 ≠ nI e) → zEd μ m Q σ 1 0) : Call G Y_X5_unpaidDays [vP (5, 0, m), vI z1] μ Q E :=
  S_X5_unpaidDays (C_tellsEcho 12 (by omega) rfl h hg (fun e he e1 ν a b c => ⟨_, rfl, kt e he e1 ν a b c⟩) (fun hne ν a b c => ⟨_, rfl, k1 hne ν a b c⟩))
theorem C_desertions (h : zMs μ m σ) (hg : sW (aR σ) K V po B) (kt : ∀ e, e < K → z1 = nI e → zEd μ m Q σ 0 (wE (aR σ) e 14)) (k1 : (∀ e, e < K → z1 ≠ nI e) → zEd μ m Q σ 1 0) : Call G Y_X5_desertions [vP (5, 0, m), vI z1] μ Q E :=
  S_X5_desertions (C_tellsEcho 14 (by omega) rfl h hg (fun e he e1 ν a b c => ⟨_, rfl, kt e he e1 ν a b c⟩) (fun hne ν a b c => ⟨_, rfl, k1 hne ν a b c⟩))
theorem C_widthOf (h : zMs μ m σ) (hg : sW (aR σ) K V po B) (kt : ∀ v, v < V → z1 = nI v → zEd μ m Q σ 0 (wV (aR σ) v 7)) (k1 : (∀ v, v < V → z1 ≠ nI v) → zEd μ m Q σ 1 0) : Call G Y_X5_widthOf [vP (5, 0, m), vI z1] μ Q E :=
  S_X5_widthOf (C_tellsValley 7 (by omega) rfl h hg (fun e he e1 ν a b c => ⟨_, rfl, kt e he e1 ν a b c⟩) (fun hne ν a b c => ⟨_, rfl, k1 hne ν a b c⟩))
theorem C_postsOf (h : zMs μ m σ) (hg : sW (aR σ) K V po B) (kt : ∀ v, v < V → z1 = nI v → zEd μ m Q σ 0 (wV (aR σ) v 8)) (k1 : (∀ v, v < V → z1 ≠ nI v) → zEd μ m Q σ 1 0) : Call G Y_X5_postsOf [vP (5, 0, m), vI z1] μ Q E :=
  S_X5_postsOf (C_tellsValley 8 (by omega) rfl h hg (fun e he e1 ν a b c => ⟨_, rfl, kt e he e1 ν a b c⟩) (fun hne ν a b c => ⟨_, rfl, k1 hne ν a b c⟩))
theorem C_wageOf (h : zMs μ m σ) (hg : sW (aR σ) K V po B) (kt : ∀ v, v < V → z1 = nI v → zEd μ m Q σ 0 (wV (aR σ) v 9)) (k1 : (∀ v, v < V → z1 ≠ nI v) → zEd μ m Q σ 1 0) : Call G Y_X5_wageOf [vP (5, 0, m), vI z1] μ Q E :=
  S_X5_wageOf (C_tellsValley 9 (by omega) rfl h hg (fun e he e1 ν a b c => ⟨_, rfl, kt e he e1 ν a b c⟩) (fun hne ν a b c => ⟨_, rfl, k1 hne ν a b c⟩))
theorem C_purseOf (h : zMs μ m σ) (hg : sW (aR σ) K V po B) (kt : ∀ v, v < V → z1 = nI v → zEd μ m Q σ 0 (wV (aR σ) v 10)) (k1 : (∀ v, v < V → z1 ≠ nI v) → zEd μ m Q σ 1 0) : Call G Y_X5_purseOf [vP (5, 0, m), vI z1] μ Q E :=
  S_X5_purseOf (C_tellsValley 10 (by omega) rfl h hg (fun e he e1 ν a b c => ⟨_, rfl, kt e he e1 ν a b c⟩) (fun hne ν a b c => ⟨_, rfl, k1 hne ν a b c⟩))
theorem C_staffCount (h : zMs μ m σ) (hg : sW (aR σ) K V po B) (kt : ∀ v, v < V → z1 = nI v → zEd μ m Q σ 0 (wV (aR σ) v 13)) (k1 : (∀ v, v < V → z1 ≠ nI v) → zEd μ m Q σ 1 0) : Call G Y_X5_staffCount [vP (5, 0, m), vI z1] μ Q E :=
  S_X5_staffCount (C_tellsValley 13 (by omega) rfl h hg (fun e he e1 ν a b c => ⟨_, rfl, kt e he e1 ν a b c⟩) (fun hne ν a b c => ⟨_, rfl, k1 hne ν a b c⟩))
theorem C_repliesHeard (h : zMs μ m σ) (hg : sW (aR σ) K V po B) (kt : ∀ v, v < V → z1 = nI v → zEd μ m Q σ 0 (wV (aR σ) v 11)) (k1 : (∀ v, v < V → z1 ≠ nI v) → zEd μ m Q σ 1 0) : Call G Y_X5_repliesHeard [vP (5, 0, m), vI z1] μ Q E :=
  S_X5_repliesHeard (C_tellsValley 11 (by omega) rfl h hg (fun e he e1 ν a b c => ⟨_, rfl, kt e he e1 ν a b c⟩) (fun hne ν a b c => ⟨_, rfl, k1 hne ν a b c⟩))
theorem C_wagesPaid (h : zMs μ m σ) (hg : sW (aR σ) K V po B) (kt : ∀ v, v < V → z1 = nI v → zEd μ m Q σ 0 (wV (aR σ) v 12)) (k1 : (∀ v, v < V → z1 ≠ nI v) → zEd μ m Q σ 1 0) : Call G Y_X5_wagesPaid [vP (5, 0, m), vI z1] μ Q E :=
  S_X5_wagesPaid (C_tellsValley 12 (by omega) rfl h hg (fun e he e1 ν a b c => ⟨_, rfl, kt e he e1 ν a b c⟩) (fun hne ν a b c => ⟨_, rfl, k1 hne ν a b c⟩))
theorem C_echoCount (h : zMs μ m σ) (k : zEd μ m Q σ 0 (aR σ 0)) : Call G Y_X5_echoCount [vP (5, 0, m)] μ Q E :=
  S_X5_echoCount ⟨_, _, h.1.1, by omega, _, congrFun h.2.1 0, S_X5_tells ⟨_, rfl, k.yes h⟩⟩
theorem C_valleyCount (h : zMs μ m σ) (k : zEd μ m Q σ 0 (aR σ 1)) : Call G Y_X5_valleyCount [vP (5, 0, m)] μ Q E :=
  S_X5_valleyCount ⟨_, _, h.1.1, by omega, _, congrFun h.2.1 1, S_X5_tells ⟨_, rfl, k.yes h⟩⟩
theorem C_day (h : zMs μ m σ) (k : zEd μ m Q σ 0 (aR σ 2)) : Call G Y_X5_day [vP (5, 0, m)] μ Q E :=
  S_X5_day ⟨_, _, h.1.1, by omega, _, congrFun h.2.1 2, S_X5_tells ⟨_, rfl, k.yes h⟩⟩
theorem C_seasonLength (h : zMs μ m σ) (k : zEd μ m Q σ 0 (aR σ 3)) : Call G Y_X5_seasonLength [vP (5, 0, m)] μ Q E :=
  S_X5_seasonLength ⟨_, _, h.1.1, by omega, _, congrFun h.2.1 3, S_X5_tells ⟨_, rfl, k.yes h⟩⟩
theorem C_contractsMade (h : zMs μ m σ) (k : zEd μ m Q σ 0 (aR σ 5)) : Call G Y_X5_contractsMade [vP (5, 0, m)] μ Q E :=
  S_X5_contractsMade ⟨_, _, h.1.1, by omega, _, congrFun h.2.1 5, S_X5_tells ⟨_, rfl, k.yes h⟩⟩
theorem C_contractsEnded (h : zMs μ m σ) (k : zEd μ m Q σ 0 (aR σ 6)) : Call G Y_X5_contractsEnded [vP (5, 0, m)] μ Q E :=
  S_X5_contractsEnded ⟨_, _, h.1.1, by omega, _, congrFun h.2.1 6, S_X5_tells ⟨_, rfl, k.yes h⟩⟩
theorem C_errorCode (h : zMs μ m σ) (k : zEd μ m Q σ 0 (aEc σ)) : Call G Y_X5_errorCode [vP (5, 0, m)] μ Q E := S_X5_errorCode ⟨_, h.2.2.2.2.2.1.1, k.yes h⟩
theorem C_errorPosition (h : zMs μ m σ) (k : zEd μ m Q σ 0 (aEp σ)) : Call G Y_X5_errorPosition [vP (5, 0, m)] μ Q E := S_X5_errorPosition ⟨_, h.2.2.2.2.2.1.2, k.yes h⟩
theorem C_fogOf (h : zMs μ m σ) (hg : sW (aR σ) K V po B) (kt : ∀ d, d ≤ 9999 → z = nI d → zEd μ m Q σ 0 (sFogNow (aR σ) d)) (k1 : (∀ d, d ≤ 9999 → z ≠ nI d) → zEd μ m Q σ 1 0) : Call G Y_X5_fogOf [vP (5, 0, m), vI z] μ Q E := by
  obtain ⟨f, f1, f2, f3⟩ := hg.2.2.2.1
  refine S_X5_fogOf (C_in 0 10000 (by decide) (by decide +kernel) (fun d _ d2 hz => ⟨_, rfl, C_passes1 ⟨_, rfl, fun q => absurd q (by decide), fun _ => C_fogNow d f hz (by omega) (h.thr 0).mo f1 f2 f3 ⟨_, rfl, ?_⟩⟩⟩) (fun hne => ⟨_, rfl, C_passes0 ⟨_, rfl, fun _ => (k1 fun d hd => hne d (by omega) (by omega) (by omega)).no h, fun q => absurd rfl q⟩⟩))
  have := (kt d (by omega) hz).yes h
  unfold sFogNow at this
  rw [f1, nI_clamp (by omega)] at this
  exact this
theorem C_employerOf (h : zMs μ m σ) (hg : sW (aR σ) K V po B) (kt : ∀ e, e < K → z = nI e → zEd μ m Q σ 0 (wE (aR σ) e 13 - 1)) (k1 : (∀ e, e < K → z ≠ nI e) → zEd μ m Q σ 1 0) : Call G Y_X5_employerOf [vP (5, 0, m), vI z] μ Q E := by
  obtain ⟨b, ⟨hK, hV⟩, -⟩ := id hg
  exact S_X5_employerOf (C_isEcho h.mo hK b.2.2.1 b.1 (fun e he e1 => ⟨_, rfl, C_passes1 ⟨_, rfl, fun q => absurd q (by decide), fun _ => C_employer e e1 (by omega) (h.thr 0).mo ⟨_, rfl, (kt e he e1).yes h⟩⟩⟩) (fun hne => ⟨_, rfl, C_passes0 ⟨_, rfl, fun _ => (k1 hne).no h, fun q => absurd rfl q⟩⟩))
theorem C_staffMember (h : zMs μ m σ) (hg : sW (aR σ) K V po B) (kt : ∀ v k, v < V → z1 = nI v → k < sSt (aR σ) v → z2 = nI k → zEd μ m Q σ 0 (wV (aR σ) v (14 + k))) (k2 : ∀ v, v < V → z1 = nI v → (∀ k, k < sSt (aR σ) v → z2 ≠ nI k) → zEd μ m Q σ 0 (-1)) (k1 : (∀ v, v < V → z1 ≠ nI v) → zEd μ m Q σ 1 0) : Call G Y_X5_staffMember [vP (5, 0, m), vI z1, vI z2] μ Q E := by
  obtain ⟨b, ⟨hK, hV⟩, -, -, ⟨sl, hs⟩, -⟩ := id hg
  refine S_X5_staffMember (C_isValley h.mo hV b.2.2.2 b.2.1 (fun v hv e1 => ⟨_, rfl, C_passes1 ⟨_, rfl, fun _ => C_ofValley v 13 e1 rfl (h.thr 0).mo (by omega) ⟨_, rfl, ?_⟩, fun q => absurd q (by decide)⟩⟩) (fun hne => ⟨_, rfl, C_passes0 ⟨_, rfl, fun q => absurd rfl q, fun _ => (k1 hne).no h⟩⟩))
  obtain ⟨t1, t2, t3⟩ := sSt_eq hs (show v < 8 by omega)
  rw [t2]
  refine C_in 0 (sSt (aR σ) v) (by decide) ?_ (fun k _ hk e2 => ⟨_, rfl, fun q => absurd q (by decide), fun _ => C_ofValley v (14 + k) e1 (by rw [e2]; exact nI_add 14 k) (h.thr 0).mo (by omega) ⟨_, rfl, (kt v k hv e1 hk e2).yes h⟩⟩) (fun hne => ⟨_, rfl, fun _ => (k2 v hv e1 fun k hk => hne k (by omega) hk (by omega)).yes h, fun q => absurd rfl q⟩)
  rcases Nat.eq_zero_or_pos (sSt (aR σ) v) with q | q
  · rw [q]; decide
  · obtain ⟨n, hn⟩ : ∃ n, sSt (aR σ) v = n + 1 := ⟨sSt (aR σ) v - 1, by omega⟩
    rw [hn, nI_pred, Int32.toInt_toInt64, nI_toInt (by omega)]; omega
theorem C_isTested (h : zMs μ m σ) (hg : sW (aR σ) K V po B) (kt : ∀ v e, v < V → e < K → z1 = nI v → z2 = nI e → zEd μ m Q σ 0 (if wP (aR σ) v e 0 = 1 then 1 else 0)) (k1 : (∀ v e, v < V → e < K → z1 = nI v → z2 ≠ nI e) → zEd μ m Q σ 1 0) : Call G Y_X5_isTested [vP (5, 0, m), vI z1, vI z2] μ Q E := by
  obtain ⟨b, ⟨hK, hV⟩, -⟩ := id hg
  refine S_X5_isTested (C_areBoth h.mo hK hV b (fun v e hv he e1 e2 => ⟨_, rfl, C_passes1 ⟨_, rfl, fun q => absurd q (by decide), fun _ => ⟨_, _, h.1.1, C_pair v e 0 e1 e2 rfl ⟨_, rfl, iP v e 0, zix.eq rfl (by unfold iP; omega) (by unfold iP; omega), _, congrFun h.2.1 _, fun hn => ?_, fun hy => ?_⟩⟩⟩⟩) (fun hne => ⟨_, rfl, C_passes0 ⟨_, rfl, fun _ => (k1 hne).no h, fun q => absurd rfl q⟩⟩))
  · have := (kt v e hv he e1 e2).yes h
    rw [if_neg (by exact hn)] at this
    exact this
  · have := (kt v e hv he e1 e2).yes h
    rw [if_pos (by exact hy)] at this
    exact this
theorem C_seenScore (h : zMs μ m σ) (hg : sW (aR σ) K V po B) (kt : ∀ v e, v < V → e < K → z1 = nI v → z2 = nI e → zEd μ m Q σ 0 (sSeen (aR σ) v e)) (k1 : (∀ v e, v < V → e < K → z1 = nI v → z2 ≠ nI e) → zEd μ m Q σ 1 0) : Call G Y_X5_seenScore [vP (5, 0, m), vI z1, vI z2] μ Q E := by
  obtain ⟨b, ⟨hK, hV⟩, -⟩ := id hg
  exact S_X5_seenScore (C_areBoth h.mo hK hV b (fun v e hv he e1 e2 => ⟨_, rfl, C_passes1 ⟨_, rfl, fun q => absurd q (by decide), fun _ => C_seen v e e1 e2 (by omega) (by omega) (h.thr 0).mo ⟨_, rfl, (kt v e hv he e1 e2).yes h⟩⟩⟩) (fun hne => ⟨_, rfl, C_passes0 ⟨_, rfl, fun _ => (k1 hne).no h, fun q => absurd rfl q⟩⟩))
theorem C_pairReason (h : zMs μ m σ) (hg : sW (aR σ) K V po B) (kt : ∀ v e, v < V → e < K → z1 = nI v → z2 = nI e → zEd μ m Q σ 0 (sReason (aR σ) v e)) (k1 : (∀ v e, v < V → e < K → z1 = nI v → z2 ≠ nI e) → zEd μ m Q σ 1 0) : Call G Y_X5_pairReason [vP (5, 0, m), vI z1, vI z2] μ Q E := by
  obtain ⟨b, ⟨hK, hV⟩, -⟩ := id hg
  exact S_X5_pairReason (C_areBoth h.mo hK hV b (fun v e hv he e1 e2 => ⟨_, rfl, C_passes1 ⟨_, rfl, fun q => absurd q (by decide), fun _ => C_reasonOf v e e1 e2 (by omega) (by omega) (h.thr 0).mo ⟨_, rfl, (kt v e hv he e1 e2).yes h⟩⟩⟩) (fun hne => ⟨_, rfl, C_passes0 ⟨_, rfl, fun _ => (k1 hne).no h, fun q => absurd rfl q⟩⟩))
theorem C_daysServed (h : zMs μ m σ) (hg : sW (aR σ) K V po B) (kt : ∀ v e, v < V → e < K → z1 = nI v → z2 = nI e → zEd μ m Q σ 0 (wP (aR σ) v e 2)) (k1 : (∀ v e, v < V → e < K → z1 = nI v → z2 ≠ nI e) → zEd μ m Q σ 1 0) : Call G Y_X5_daysServed [vP (5, 0, m), vI z1, vI z2] μ Q E := by
  obtain ⟨b, ⟨hK, hV⟩, -⟩ := id hg
  exact S_X5_daysServed (C_areBoth h.mo hK hV b (fun v e hv he e1 e2 => ⟨_, rfl, C_passes1 ⟨_, rfl, fun q => absurd q (by decide), fun _ => ⟨_, _, h.1.1, C_pair v e 2 e1 e2 rfl ⟨_, rfl, iP v e 2, zix.eq rfl (by unfold iP; omega) (by unfold iP; omega), _, congrFun h.2.1 _, (kt v e hv he e1 e2).yes h⟩⟩⟩⟩) (fun hne => ⟨_, rfl, C_passes0 ⟨_, rfl, fun _ => (k1 hne).no h, fun q => absurd rfl q⟩⟩))
theorem C_truth0 (k : Q (some (vI 0)) μ) : Call G Y_X5_truth [vI 0] μ Q E := S_X5_truth ⟨fun _ => k, fun q => absurd rfl q⟩
theorem C_truth1 (k : Q (some (vI 1)) μ) : Call G Y_X5_truth [vI 1] μ Q E := S_X5_truth ⟨fun q => absurd q (by decide), fun _ => k⟩
end ZRD
