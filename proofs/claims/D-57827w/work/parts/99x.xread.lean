set_option maxRecDepth 100000
/-! THE COMPONENT, 43: plain readers (printed by tools/gen_read.py) -/
section ZJ
variable {G : ZG} {μ ν : ZM} {Q : Option ZV → ZM → Prop} {E : ZP → ZM → Prop} {x d da bf sb sba n K V D : Nat} {po : Nat → Nat} {Z : Nat → Prop} {σ : ZS} {z z1 z2 : Int32}
theorem C_xdelayOf (h : zXs G μ x d da bf sb sba n Z σ) (hg : sGd (aR σ) K V po D) (kt : ∀ e, e < K → z1 = nI e → zXe G x d da bf sb Z σ μ Q σ (vI (wE (aR σ) e 7))) (k1 : (∀ e, e < K → z1 ≠ nI e) → zXt G x d da bf sb Z σ μ E σ 27) : Call G Y_X1_delayOf [vP (1, 0, x), vI z1] μ Q E :=
  Call.zo fun hok _ => S_X1_delayOf (C_xEchoAt h hg (fun e b he hz hw => ⟨_, rfl, _, rfl, _, hw 7 (by decide), by rw [show wE (aR σ) e 7 - oE 7 = wE (aR σ) e 7 from i32_s0 _]; exact (kt e he hz).rf h hok⟩) (fun q => ⟨rfl, (k1 q).nw h hok⟩))
theorem C_xrepeatsOf (h : zXs G μ x d da bf sb sba n Z σ) (hg : sGd (aR σ) K V po D) (kt : ∀ e, e < K → z1 = nI e → zXe G x d da bf sb Z σ μ Q σ (vI (wE (aR σ) e 8))) (k1 : (∀ e, e < K → z1 ≠ nI e) → zXt G x d da bf sb Z σ μ E σ 27) : Call G Y_X1_repeatsOf [vP (1, 0, x), vI z1] μ Q E :=
  Call.zo fun hok _ => S_X1_repeatsOf (C_xEchoAt h hg (fun e b he hz hw => ⟨_, rfl, _, rfl, _, hw 8 (by decide), by rw [show wE (aR σ) e 8 - oE 8 = wE (aR σ) e 8 from i32_s0 _]; exact (kt e he hz).rf h hok⟩) (fun q => ⟨rfl, (k1 q).nw h hok⟩))
theorem C_xreserveWage (h : zXs G μ x d da bf sb sba n Z σ) (hg : sGd (aR σ) K V po D) (kt : ∀ e, e < K → z1 = nI e → zXe G x d da bf sb Z σ μ Q σ (vI (wE (aR σ) e 9))) (k1 : (∀ e, e < K → z1 ≠ nI e) → zXt G x d da bf sb Z σ μ E σ 27) : Call G Y_X1_reserveWage [vP (1, 0, x), vI z1] μ Q E :=
  Call.zo fun hok _ => S_X1_reserveWage (C_xEchoAt h hg (fun e b he hz hw => ⟨_, rfl, _, rfl, _, hw 9 (by decide), by rw [show wE (aR σ) e 9 - oE 9 = wE (aR σ) e 9 from i32_s0 _]; exact (kt e he hz).rf h hok⟩) (fun q => ⟨rfl, (k1 q).nw h hok⟩))
theorem C_xresistanceOf (h : zXs G μ x d da bf sb sba n Z σ) (hg : sGd (aR σ) K V po D) (kt : ∀ e, e < K → z1 = nI e → zXe G x d da bf sb Z σ μ Q σ (vI (wE (aR σ) e 10))) (k1 : (∀ e, e < K → z1 ≠ nI e) → zXt G x d da bf sb Z σ μ E σ 27) : Call G Y_X1_resistanceOf [vP (1, 0, x), vI z1] μ Q E :=
  Call.zo fun hok _ => S_X1_resistanceOf (C_xEchoAt h hg (fun e b he hz hw => ⟨_, rfl, _, rfl, _, hw 10 (by decide), by rw [show wE (aR σ) e 10 - oE 10 = wE (aR σ) e 10 from i32_s0 _]; exact (kt e he hz).rf h hok⟩) (fun q => ⟨rfl, (k1 q).nw h hok⟩))
theorem C_xsavingsOf (h : zXs G μ x d da bf sb sba n Z σ) (hg : sGd (aR σ) K V po D) (kt : ∀ e, e < K → z1 = nI e → zXe G x d da bf sb Z σ μ Q σ (vI (wE (aR σ) e 11))) (k1 : (∀ e, e < K → z1 ≠ nI e) → zXt G x d da bf sb Z σ μ E σ 27) : Call G Y_X1_savingsOf [vP (1, 0, x), vI z1] μ Q E :=
  Call.zo fun hok _ => S_X1_savingsOf (C_xEchoAt h hg (fun e b he hz hw => ⟨_, rfl, _, rfl, _, hw 11 (by decide), by rw [show wE (aR σ) e 11 - oE 11 = wE (aR σ) e 11 from i32_s0 _]; exact (kt e he hz).rf h hok⟩) (fun q => ⟨rfl, (k1 q).nw h hok⟩))
theorem C_xunpaidDays (h : zXs G μ x d da bf sb sba n Z σ) (hg : sGd (aR σ) K V po D) (kt : ∀ e, e < K → z1 = nI e → zXe G x d da bf sb Z σ μ Q σ (vI (wE (aR σ) e 12))) (k1 : (∀ e, e < K → z1 ≠ nI e) → zXt G x d da bf sb Z σ μ E σ 27) : Call G Y_X1_unpaidDays [vP (1, 0, x), vI z1] μ Q E :=
  Call.zo fun hok _ => S_X1_unpaidDays (C_xEchoAt h hg (fun e b he hz hw => ⟨_, rfl, _, rfl, _, hw 12 (by decide), by rw [show wE (aR σ) e 12 - oE 12 = wE (aR σ) e 12 from i32_s0 _]; exact (kt e he hz).rf h hok⟩) (fun q => ⟨rfl, (k1 q).nw h hok⟩))
theorem C_xemployerOf (h : zXs G μ x d da bf sb sba n Z σ) (hg : sGd (aR σ) K V po D) (kt : ∀ e, e < K → z1 = nI e → zXe G x d da bf sb Z σ μ Q σ (vI (wE (aR σ) e 13 - 1))) (k1 : (∀ e, e < K → z1 ≠ nI e) → zXt G x d da bf sb Z σ μ E σ 27) : Call G Y_X1_employerOf [vP (1, 0, x), vI z1] μ Q E :=
  Call.zo fun hok _ => S_X1_employerOf (C_xEchoAt h hg (fun e b he hz hw => ⟨_, rfl, _, rfl, _, hw 13 (by decide), by rw [show wE (aR σ) e 13 - oE 13 = wE (aR σ) e 13 - 1 from rfl]; exact (kt e he hz).rf h hok⟩) (fun q => ⟨rfl, (k1 q).nw h hok⟩))
theorem C_xdesertions (h : zXs G μ x d da bf sb sba n Z σ) (hg : sGd (aR σ) K V po D) (kt : ∀ e, e < K → z1 = nI e → zXe G x d da bf sb Z σ μ Q σ (vI (wE (aR σ) e 14))) (k1 : (∀ e, e < K → z1 ≠ nI e) → zXt G x d da bf sb Z σ μ E σ 27) : Call G Y_X1_desertions [vP (1, 0, x), vI z1] μ Q E :=
  Call.zo fun hok _ => S_X1_desertions (C_xEchoAt h hg (fun e b he hz hw => ⟨_, rfl, _, rfl, _, hw 14 (by decide), by rw [show wE (aR σ) e 14 - oE 14 = wE (aR σ) e 14 from i32_s0 _]; exact (kt e he hz).rf h hok⟩) (fun q => ⟨rfl, (k1 q).nw h hok⟩))
theorem C_xwidthOf (h : zXs G μ x d da bf sb sba n Z σ) (hg : sGd (aR σ) K V po D) (kt : ∀ v, v < V → z1 = nI v → zXe G x d da bf sb Z σ μ Q σ (vI (wV (aR σ) v 7))) (k1 : (∀ v, v < V → z1 ≠ nI v) → zXt G x d da bf sb Z σ μ E σ 27) : Call G Y_X1_widthOf [vP (1, 0, x), vI z1] μ Q E :=
  Call.zo fun hok _ => S_X1_widthOf (C_xValleyAt h hg (fun v b hv hz hw => ⟨_, rfl, _, rfl, _, hw 7 (by decide), (kt v hv hz).rf h hok⟩) (fun q => ⟨rfl, (k1 q).nw h hok⟩))
theorem C_xpostsOf (h : zXs G μ x d da bf sb sba n Z σ) (hg : sGd (aR σ) K V po D) (kt : ∀ v, v < V → z1 = nI v → zXe G x d da bf sb Z σ μ Q σ (vI (wV (aR σ) v 8))) (k1 : (∀ v, v < V → z1 ≠ nI v) → zXt G x d da bf sb Z σ μ E σ 27) : Call G Y_X1_postsOf [vP (1, 0, x), vI z1] μ Q E :=
  Call.zo fun hok _ => S_X1_postsOf (C_xValleyAt h hg (fun v b hv hz hw => ⟨_, rfl, _, rfl, _, hw 8 (by decide), (kt v hv hz).rf h hok⟩) (fun q => ⟨rfl, (k1 q).nw h hok⟩))
theorem C_xwageOf (h : zXs G μ x d da bf sb sba n Z σ) (hg : sGd (aR σ) K V po D) (kt : ∀ v, v < V → z1 = nI v → zXe G x d da bf sb Z σ μ Q σ (vI (wV (aR σ) v 9))) (k1 : (∀ v, v < V → z1 ≠ nI v) → zXt G x d da bf sb Z σ μ E σ 27) : Call G Y_X1_wageOf [vP (1, 0, x), vI z1] μ Q E :=
  Call.zo fun hok _ => S_X1_wageOf (C_xValleyAt h hg (fun v b hv hz hw => ⟨_, rfl, _, rfl, _, hw 9 (by decide), (kt v hv hz).rf h hok⟩) (fun q => ⟨rfl, (k1 q).nw h hok⟩))
theorem C_xpurseOf (h : zXs G μ x d da bf sb sba n Z σ) (hg : sGd (aR σ) K V po D) (kt : ∀ v, v < V → z1 = nI v → zXe G x d da bf sb Z σ μ Q σ (vI (wV (aR σ) v 10))) (k1 : (∀ v, v < V → z1 ≠ nI v) → zXt G x d da bf sb Z σ μ E σ 27) : Call G Y_X1_purseOf [vP (1, 0, x), vI z1] μ Q E :=
  Call.zo fun hok _ => S_X1_purseOf (C_xValleyAt h hg (fun v b hv hz hw => ⟨_, rfl, _, rfl, _, hw 10 (by decide), (kt v hv hz).rf h hok⟩) (fun q => ⟨rfl, (k1 q).nw h hok⟩))
theorem C_xstaffCount (h : zXs G μ x d da bf sb sba n Z σ) (hg : sGd (aR σ) K V po D) (kt : ∀ v, v < V → z1 = nI v → zXe G x d da bf sb Z σ μ Q σ (vI (wV (aR σ) v 13))) (k1 : (∀ v, v < V → z1 ≠ nI v) → zXt G x d da bf sb Z σ μ E σ 27) : Call G Y_X1_staffCount [vP (1, 0, x), vI z1] μ Q E :=
  Call.zo fun hok _ => S_X1_staffCount (C_xValleyAt h hg (fun v b hv hz hw => ⟨_, rfl, _, rfl, _, hw 13 (by decide), (kt v hv hz).rf h hok⟩) (fun q => ⟨rfl, (k1 q).nw h hok⟩))
theorem C_xrepliesHeard (h : zXs G μ x d da bf sb sba n Z σ) (hg : sGd (aR σ) K V po D) (kt : ∀ v, v < V → z1 = nI v → zXe G x d da bf sb Z σ μ Q σ (vI (wV (aR σ) v 11))) (k1 : (∀ v, v < V → z1 ≠ nI v) → zXt G x d da bf sb Z σ μ E σ 27) : Call G Y_X1_repliesHeard [vP (1, 0, x), vI z1] μ Q E :=
  Call.zo fun hok _ => S_X1_repliesHeard (C_xValleyAt h hg (fun v b hv hz hw => ⟨_, rfl, _, rfl, _, hw 11 (by decide), (kt v hv hz).rf h hok⟩) (fun q => ⟨rfl, (k1 q).nw h hok⟩))
theorem C_xwagesPaid (h : zXs G μ x d da bf sb sba n Z σ) (hg : sGd (aR σ) K V po D) (kt : ∀ v, v < V → z1 = nI v → zXe G x d da bf sb Z σ μ Q σ (vI (wV (aR σ) v 12))) (k1 : (∀ v, v < V → z1 ≠ nI v) → zXt G x d da bf sb Z σ μ E σ 27) : Call G Y_X1_wagesPaid [vP (1, 0, x), vI z1] μ Q E :=
  Call.zo fun hok _ => S_X1_wagesPaid (C_xValleyAt h hg (fun v b hv hz hw => ⟨_, rfl, _, rfl, _, hw 12 (by decide), (kt v hv hz).rf h hok⟩) (fun q => ⟨rfl, (k1 q).nw h hok⟩))
theorem C_xday (h : zXs G μ x d da bf sb sba n Z σ) (k : zXe G x d da bf sb Z σ μ Q σ (vI (aR σ 2))) : Call G Y_X1_day [vP (1, 0, x)] μ Q E := by
  refine Call.zo fun hok _ => ?_
  obtain ⟨-, -, ⟨s, hs, hs2⟩, -⟩ := id h
  exact S_X1_day ⟨s, hs, _, hs2.w (w := 2) (by decide), k.rf h hok⟩
theorem C_xseasonLength (h : zXs G μ x d da bf sb sba n Z σ) (k : zXe G x d da bf sb Z σ μ Q σ (vI (aR σ 3))) : Call G Y_X1_seasonLength [vP (1, 0, x)] μ Q E := by
  refine Call.zo fun hok _ => ?_
  obtain ⟨-, -, ⟨s, hs, hs2⟩, -⟩ := id h
  exact S_X1_seasonLength ⟨s, hs, _, hs2.w (w := 3) (by decide), k.rf h hok⟩
theorem C_xcontractsMade (h : zXs G μ x d da bf sb sba n Z σ) (k : zXe G x d da bf sb Z σ μ Q σ (vI (aR σ 5))) : Call G Y_X1_contractsMade [vP (1, 0, x)] μ Q E := by
  refine Call.zo fun hok _ => ?_
  obtain ⟨-, -, ⟨s, hs, hs2⟩, -⟩ := id h
  exact S_X1_contractsMade ⟨s, hs, _, hs2.w (w := 5) (by decide), k.rf h hok⟩
theorem C_xcontractsEnded (h : zXs G μ x d da bf sb sba n Z σ) (k : zXe G x d da bf sb Z σ μ Q σ (vI (aR σ 6))) : Call G Y_X1_contractsEnded [vP (1, 0, x)] μ Q E := by
  refine Call.zo fun hok _ => ?_
  obtain ⟨-, -, ⟨s, hs, hs2⟩, -⟩ := id h
  exact S_X1_contractsEnded ⟨s, hs, _, hs2.w (w := 6) (by decide), k.rf h hok⟩
theorem C_xerrorCode (h : zXs G μ x d da bf sb sba n Z σ) (k : zXe G x d da bf sb Z σ μ Q σ (vI (aEc σ))) : Call G Y_X1_errorCode [vP (1, 0, x)] μ Q E :=
  Call.zo fun hok _ => S_X1_errorCode ⟨_, h.2.2.2.2.2.2.1.1, k.rf h hok⟩
theorem C_xerrorPosition (h : zXs G μ x d da bf sb sba n Z σ) (k : zXe G x d da bf sb Z σ μ Q σ (vI (aEp σ))) : Call G Y_X1_errorPosition [vP (1, 0, x)] μ Q E :=
  Call.zo fun hok _ => S_X1_errorPosition ⟨_, h.2.2.2.2.2.2.1.2, k.rf h hok⟩
theorem C_xechoCount (h : zXs G μ x d da bf sb sba n Z σ) (hg : sGd (aR σ) K V po D) (k : zXe G x d da bf sb Z σ μ Q σ (vI (aR σ 0))) : Call G Y_X1_echoCount [vP (1, 0, x)] μ Q E := by
  refine Call.zo fun hok _ => ?_
  obtain ⟨s, lo, hi, F, fg, el, ear, vl, var, ds, dm, sm, ea, va, ta, sa, hs0, b1, b2, b3, b4⟩ := h.st hg
  exact S_X1_echoCount ⟨s, hs0, el, b1.1.2.2.2.1.2.1, C_alSize b1.2.1.2.1 ⟨_, rfl, by rw [← b1.1.2.1.1]; exact k.rf h hok⟩⟩
theorem C_xvalleyCount (h : zXs G μ x d da bf sb sba n Z σ) (hg : sGd (aR σ) K V po D) (k : zXe G x d da bf sb Z σ μ Q σ (vI (aR σ 1))) : Call G Y_X1_valleyCount [vP (1, 0, x)] μ Q E := by
  refine Call.zo fun hok _ => ?_
  obtain ⟨s, lo, hi, F, fg, el, ear, vl, var, ds, dm, sm, ea, va, ta, sa, hs0, b1, b2, b3, b4⟩ := h.st hg
  exact S_X1_valleyCount ⟨s, hs0, vl, b1.1.2.2.2.1.2.2.1, C_alSize b1.2.2.1.2.1 ⟨_, rfl, by rw [← b1.1.2.1.2.1]; exact k.rf h hok⟩⟩
theorem C_xfogOf (h : zXs G μ x d da bf sb sba n Z σ) (hg : sGd (aR σ) K V po D) (kt : ∀ m, m ≤ 9999 → z = nI m → zXe G x d da bf sb Z σ μ Q σ (vI (sFogNow (aR σ) m))) (k1 : (∀ m, m ≤ 9999 → z ≠ nI m) → zXt G x d da bf sb Z σ μ E σ 26) : Call G Y_X1_fogOf [vP (1, 0, x), vI z] μ Q E := by
  refine Call.zo fun hok _ => ?_
  obtain ⟨s, lo, hi, F, fg, el, ear, vl, var, ds, dm, sm, ea, va, ta, sa, hs0, b1, b2, b3, b4⟩ := h.st hg
  exact S_X1_fogOf (C_xIn 0 10000 (by decide) (by decide) (fun m _ m2 hz => ⟨_, rfl, S_X1_checkArgument ⟨fun _ => ⟨rfl, s, hs0, C_sFog m hz (by omega) b1 ⟨_, rfl, (kt m (by omega) hz).rf h hok⟩⟩, fun q => absurd q (by decide)⟩⟩) (fun q => ⟨_, rfl, S_X1_checkArgument ⟨fun t => absurd rfl t, fun _ => ⟨rfl, (k1 fun m m1 => q m (by omega) (by omega) (by omega)).nw h hok⟩⟩⟩))
theorem C_xisTested (h : zXs G μ x d da bf sb sba n Z σ) (hg : sGd (aR σ) K V po D) (kt : ∀ v e, v < V → e < K → z1 = nI v → z2 = nI e → zXe G x d da bf sb Z σ μ Q σ (vI (if wP (aR σ) v e 0 = 1 then 1 else 0))) (k1 : (∀ v e, v < V → e < K → z1 = nI v → z2 ≠ nI e) → zXt G x d da bf sb Z σ μ E σ 27) : Call G Y_X1_isTested [vP (1, 0, x), vI z1, vI z2] μ Q E := by
  refine Call.zo fun hok _ => ?_
  obtain ⟨s, lo, hi, F, fg, el, ear, vl, var, ds, dm, sm, ea, va, ta, sa, hs0, b1, b2, b3, b4⟩ := h.st hg
  have hK := b1.1.2.1.2.2.2.1
  refine S_X1_isTested (C_xPair h hg (fun v e hv he hz1 hz2 => ⟨rfl, s, hs0, C_sValley v hz1 hv b1 ⟨_, rfl, _, rfl, 12, ta v, (b1.2.2.1.2.2.2.2.2.1 v hv).1, e, zix.eq hz2 (by omega) (by omega), _, (b1.2.2.1.2.2.2.2.2.2.1 v e hv (by omega)).1, ?_, ?_⟩⟩) (fun q => ⟨rfl, (k1 q).nw h hok⟩))
  · rcases (b1.2.2.1.2.2.2.2.2.2.1 v e hv (by omega)).2 with q | q <;> rw [q] <;> rfl
  · have := (kt v e hv he hz1 hz2).rf h hok
    rcases (b1.2.2.1.2.2.2.2.2.2.1 v e hv (by omega)).2 with q | q <;> rw [q] at this ⊢ <;> exact this
theorem C_xseenScore (h : zXs G μ x d da bf sb sba n Z σ) (hg : sGd (aR σ) K V po D) (kt : ∀ v e, v < V → e < K → z1 = nI v → z2 = nI e → zXe G x d da bf sb Z σ μ Q σ (vI (sSeen (aR σ) v e))) (k1 : (∀ v e, v < V → e < K → z1 = nI v → z2 ≠ nI e) → zXt G x d da bf sb Z σ μ E σ 27) : Call G Y_X1_seenScore [vP (1, 0, x), vI z1, vI z2] μ Q E := by
  refine Call.zo fun hok _ => ?_
  obtain ⟨s, lo, hi, F, fg, el, ear, vl, var, ds, dm, sm, ea, va, ta, sa, hs0, b1, b2, b3, b4⟩ := h.st hg
  exact S_X1_seenScore (C_xPair h hg (fun v e hv he hz1 hz2 => ⟨rfl, s, hs0, C_sSeen v e hz1 hz2 hv he b1 ⟨_, rfl, (kt v e hv he hz1 hz2).rf h hok⟩⟩) (fun q => ⟨rfl, (k1 q).nw h hok⟩))
theorem C_xpairReason (h : zXs G μ x d da bf sb sba n Z σ) (hg : sGd (aR σ) K V po D) (kt : ∀ v e, v < V → e < K → z1 = nI v → z2 = nI e → zXe G x d da bf sb Z σ μ Q σ (vI (sReason (aR σ) v e))) (k1 : (∀ v e, v < V → e < K → z1 = nI v → z2 ≠ nI e) → zXt G x d da bf sb Z σ μ E σ 27) : Call G Y_X1_pairReason [vP (1, 0, x), vI z1, vI z2] μ Q E := by
  refine Call.zo fun hok _ => ?_
  obtain ⟨s, lo, hi, F, fg, el, ear, vl, var, ds, dm, sm, ea, va, ta, sa, hs0, b1, b2, b3, b4⟩ := h.st hg
  exact S_X1_pairReason (C_xPair h hg (fun v e hv he hz1 hz2 => ⟨rfl, s, hs0, C_sReason v e hz1 hz2 hv he hok b2 b1 fun ν g => ⟨_, rfl, kt v e hv he hz1 hz2 ν (zXd.nw h hok g (by decide) (by decide))⟩⟩) (fun q => ⟨rfl, (k1 q).nw h hok⟩))
theorem C_xstaffMember (h : zXs G μ x d da bf sb sba n Z σ) (hg : sGd (aR σ) K V po D) (kt : ∀ v k, v < V → z1 = nI v → k < sSt (aR σ) v → z2 = nI k → zXe G x d da bf sb Z σ μ Q σ (vI (wV (aR σ) v (14 + k)))) (k2 : ∀ v, v < V → z1 = nI v → (∀ k, k < sSt (aR σ) v → z2 ≠ nI k) → zXe G x d da bf sb Z σ μ Q σ (vI (-1))) (k1 : (∀ v, v < V → z1 ≠ nI v) → zXt G x d da bf sb Z σ μ E σ 27) : Call G Y_X1_staffMember [vP (1, 0, x), vI z1, vI z2] μ Q E := by
  refine Call.zo fun hok _ => ?_
  obtain ⟨s, lo, hi, F, fg, el, ear, vl, var, ds, dm, sm, ea, va, ta, sa, hs0, b1, b2, b3, b4⟩ := h.st hg
  have gb := hg.1.1
  obtain ⟨sl, hs⟩ := hg.1.2.2.2.2.1
  refine S_X1_staffMember (C_xValleyA hs0 b1 (by omega) (fun v hv hz => ⟨_, rfl, _, rfl, _, b1.eV hv 13 (by decide), ?_⟩) (fun q => ⟨rfl, (k1 q).nw h hok⟩))
  obtain ⟨t1, t2, t3⟩ := sSt_eq hs (show v < 8 by omega)
  rw [t2]
  refine C_xIn 0 (sSt (aR σ) v) (by decide) ?_ (fun k _ hk hz2 => ⟨_, rfl, fun q => absurd q (by decide), fun _ => ⟨3, sa v, (b1.2.2.1.2.2.2.2.2.1 v hv).2, k, zix.eq hz2 (by omega) (by omega), _, b1.2.2.1.2.2.2.2.2.2.2 v k hv (by omega) (by rw [t2]; exact nI_lt hk (by omega)), (kt v k hv hz hk hz2).rf h hok⟩⟩) (fun hne => ⟨_, rfl, fun _ => (k2 v hv hz fun k hk => hne k (by omega) hk (by omega)).rf h hok, fun q => absurd rfl q⟩)
  rcases Nat.eq_zero_or_pos (sSt (aR σ) v) with q | q
  · rw [q]; decide
  · exact nI_m1L q (by omega)
theorem C_xdaysServed (h : zXs G μ x d da bf sb sba n Z σ) (hg : sGd (aR σ) K V po D) (kt : ∀ v e, v < V → e < K → z1 = nI v → z2 = nI e → zXe G x d da bf sb Z σ μ Q σ (vI (wP (aR σ) v e 2))) (k1 : (∀ v e, v < V → e < K → z1 = nI v → z2 ≠ nI e) → zXt G x d da bf sb Z σ μ E σ 27) : Call G Y_X1_daysServed [vP (1, 0, x), vI z1, vI z2] μ Q E := by
  refine Call.zo fun hok _ => ?_
  obtain ⟨s, lo, hi, F, fg, el, ear, vl, var, ds, dm, sm, ea, va, ta, sa, hs0, b1, b2, b3, b4⟩ := h.st hg
  have hK := b1.1.2.1.2.2.2.1
  have hV := b1.1.2.1.2.2.2.2.1
  refine S_X1_daysServed (C_xPair h hg (fun v e hv he hz1 hz2 => ⟨rfl, s, hs0, sm, b1.1.2.2.2.1.2.2.2.2, S_X9_init ⟨rfl, ?_⟩⟩) (fun q => ⟨rfl, (k1 q).nw h hok⟩))
  have g : zG (fun _ => False) 1 2 μ (zFi (zFi (zNew μ 9 0 2) 92 (zsz μ) z1) 93 (zsz μ) z2) := zG.nfi (zG.nfi zG.nw (Nat.le_refl _)) (Nat.le_refl _)
  have b1' := b1.nw hok b2 g
  obtain ⟨-, -, ks, nd, kp, vl', s4, s5, s6, s7⟩ := b1'.2.2.2.2.1
  have hx : (12 * v + e) / 12 = v ∧ (12 * v + e) % 12 = e := by omega
  have ew : wP (aR σ) v e 2 = aR σ (339 + 3 * (12 * v + e) + 2) := by unfold wP; first | rfl | (congr 1; omega)
  have fin : ∀ y, y = aR σ (339 + 3 * (12 * v + e) + 2) → Q (some (vI y)) (zFi (zFi (zNew μ 9 0 2) 92 (zsz μ) z1) 93 (zsz μ) z2) := fun y hy => by
    rw [hy, ← ew]; exact kt v e hv he hz1 hz2 _ (zXd.nw h hok g (by decide) (by decide))
  refine C_hmGet (k := 12 * v + e) s4 (by omega) ?_ ?_ (fun x hx => (s5 x hx).1.1) (fun hm => ⟨_, rfl, Or.inr ⟨(s5 _ hm).1.1, C_intValue (s5 _ hm).1 ⟨_, rfl, fin _ rfl⟩⟩⟩) (fun hm => ⟨_, rfl, Or.inl ⟨rfl, fin 0 (s7 _ (by omega) (by omega) hm).symm⟩⟩)
  · rw [zfi_zFi, if_neg (by omega), zfi_zFi, if_pos ⟨rfl, rfl⟩, hx.1]; exact hz1
  · rw [zfi_zFi, if_pos ⟨rfl, rfl⟩, hx.2]; exact hz2
end ZJ
