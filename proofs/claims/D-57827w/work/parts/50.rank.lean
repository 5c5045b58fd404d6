/-! CONTRACTS, 17: ranks, blocking pairs -/
/-- how many valleys an echo prefers to v, among the first n -/
def sAhV (r : Nat → Int32) (e v : Nat) : Nat → Nat
  | 0 => 0
  | n + 1 => sAhV r e v n + if sReason r n e = 0 ∧ sBV r n v = true then 1 else 0
def sVAt (r : Nat → Int32) (V e : Nat) (k : Int32) : Nat → Nat → Int32
  | 0, _ => -1
  | d + 1, v => if sReason r v e = 0 ∧ nI (sAhV r e v V) = k then nI v else sVAt r V e k d (v + 1)
def sAhE (r : Nat → Int32) (v e : Nat) : Nat → Nat
  | 0 => 0
  | n + 1 => sAhE r v e n + if sReason r v n = 0 ∧ sBE r v n e = true then 1 else 0
def sEAt (r : Nat → Int32) (K v : Nat) (k : Int32) : Nat → Nat → Int32
  | 0, _ => -1
  | d + 1, e => if sReason r v e = 0 ∧ nI (sAhE r v e K) = k then nI e else sEAt r K v k d (e + 1)
/-- the echo would leave for v; the valley would take e; the pair blocks -/
def sLv (r : Nat → Int32) (e v : Nat) : Prop := ¬ 0 < wE r e 13 ∨ ¬ sReason r (wE r e 13 - 1).toNatClampNeg e = 0 ∨ sBV r v (wE r e 13 - 1).toNatClampNeg = true
def sTk (r : Nat → Int32) (v e : Nat) : Prop := 0 < wV r v 8 - wV r v 13 ∨ ∃ k, k < sSt r v ∧ sBE r v e (sMem r v k) = true
def sBlk (r : Nat → Int32) (v e : Nat) : Prop := ¬ wE r e 13 - 1 = nI v ∧ sReason r v e = 0 ∧ sLv r e v ∧ sTk r v e
noncomputable def sBlkE (r : Nat → Int32) (v : Nat) : Nat → Nat
  | 0 => 0
  | n + 1 => sBlkE r v n + (@ite _ (sBlk r v n) (Classical.propDecidable _) 1 0)
noncomputable def sBlkV (r : Nat → Int32) (K : Nat) : Nat → Nat
  | 0 => 0
  | n + 1 => sBlkV r K n + sBlkE r n K
section ZRE
variable {G : ZG} {μ : ZM} {Q : Option ZV → ZM → Prop} {E : ZP → ZM → Prop} {m K V D B a : Nat} {po : Nat → Nat} {z z1 z2 : Int32} {σ : ZS} {r : Nat → Int32}
theorem C_valleyAt (e : Nat) (h1 : z1 = nI e) (he : e < 12) (h : zMo μ m a r) (hV : r 1 = nI V) (hV8 : V ≤ 8) (k : Q (some (vI (sVAt r V e z2 V 0))) μ) : Call G Y_X5_valleyAt [vP (5, 0, m), vI z1, vI z2] μ Q E := by
  subst h1
  refine S_X5_valleyAt ?_
  have key : ∀ d v, v + d = V → Q (some (vI (sVAt r V e z2 d v))) μ → Wp G Y_X5_valleyAt 2 [(0, vP (5, 0, m)), (1, vI (nI e)), (2, vI z2), (3, vI (nI v))] [] μ Q E := by
    intro d
    induction d with
    | zero =>
      intro v hv kk
      exact B_X5_valleyAt_2 ⟨_, _, h.1, by omega, _, (h.2 1 (by omega)).trans hV, fun _ => kk, fun q => absurd q (nI_nlt (by omega) (by omega))⟩
    | succ d ih =>
      intro v hv kk
      unfold sVAt at kk
      refine B_X5_valleyAt_2 ⟨_, _, h.1, by omega, _, (h.2 1 (by omega)).trans hV, fun q => absurd (nI_lt (by omega) (by omega)) q, fun _ => C_isAcceptable v e rfl rfl (by omega) he h (fun ha => ⟨_, rfl, fun _ => ?_, fun q => absurd q (by decide)⟩) (fun ha => ⟨_, rfl, fun q => absurd rfl q, fun _ => ?_⟩)⟩
      · have le : ∀ dd o, o + dd = V → sAhV r e v o ≤ o → Wp G Y_X5_valleyAt 30 [(0, vP (5, 0, m)), (1, vI (nI e)), (2, vI z2), (3, vI (nI v)), (4, vI (nI (sAhV r e v o))), (5, vI (nI o))] [] μ Q E := by
          intro dd
          induction dd with
          | zero =>
            intro o ho hle
            have ho' : o = V := by omega
            subst ho'
            refine B_X5_valleyAt_30 ⟨_, _, h.1, by omega, _, (h.2 1 (by omega)).trans hV, fun _ => ⟨fun hn => ?_, fun hy => ?_⟩, fun q => absurd q (nI_nlt (by omega) (by omega))⟩
            · rw [nI_1]
              rw [if_neg (fun q => hn q.2)] at kk
              exact ih (v + 1) (by omega) kk
            · rw [if_pos ⟨ha, hy⟩] at kk
              exact kk
          | succ dd ih2 =>
            intro o ho hle
            have st : sAhV r e v (o + 1) = sAhV r e v o + if sReason r o e = 0 ∧ sBV r o v = true then 1 else 0 := rfl
            refine B_X5_valleyAt_30 ⟨_, _, h.1, by omega, _, (h.2 1 (by omega)).trans hV, fun q => absurd (nI_lt (by omega) (by omega)) q, fun _ => C_isAcceptable o e rfl rfl (by omega) he h (fun ha2 => ⟨_, rfl, fun q => absurd q (by decide), fun _ => C_isBetterValley o v rfl rfl (by omega) (by omega) h (fun hb => ⟨_, rfl, fun q => absurd q (by decide), fun _ => C_truth1 ⟨_, rfl, ?_⟩⟩) (fun hb => ⟨_, rfl, fun _ => C_truth0 ⟨_, rfl, ?_⟩, fun q => absurd rfl q⟩)⟩) (fun ha2 => ⟨_, rfl, fun _ => C_truth0 ⟨_, rfl, ?_⟩, fun q => absurd rfl q⟩)⟩
            · dsimp only; rw [nI_1, nI_1]
              rw [if_pos ⟨ha2, hb⟩] at st
              have := ih2 (o + 1) (by omega) (by omega)
              rw [st] at this
              exact this
            · dsimp only; rw [nI_1, Int32.add_zero]
              rw [if_neg (fun q => hb q.2)] at st
              have := ih2 (o + 1) (by omega) (by omega)
              rw [st] at this
              exact this
            · dsimp only; rw [nI_1, Int32.add_zero]
              rw [if_neg (fun q => ha2 q.1)] at st
              have := ih2 (o + 1) (by omega) (by omega)
              rw [st] at this
              exact this
        exact le V 0 (by omega) (Nat.le_refl _)
      · rw [nI_1]
        rw [if_neg (fun q => ha q.1)] at kk
        exact ih (v + 1) (by omega) kk
  exact key V 0 (by omega) k
theorem C_echoAt (v : Nat) (h1 : z1 = nI v) (hv : v < 8) (h : zMo μ m a r) (hK : r 0 = nI K) (hK12 : K ≤ 12) (k : Q (some (vI (sEAt r K v z2 K 0))) μ) : Call G Y_X5_echoAt [vP (5, 0, m), vI z1, vI z2] μ Q E := by
  subst h1
  refine S_X5_echoAt ?_
  have key : ∀ d e, e + d = K → Q (some (vI (sEAt r K v z2 d e))) μ → Wp G Y_X5_echoAt 2 [(0, vP (5, 0, m)), (1, vI (nI v)), (2, vI z2), (3, vI (nI e))] [] μ Q E := by
    intro d
    induction d with
    | zero =>
      intro e he kk
      exact B_X5_echoAt_2 ⟨_, _, h.1, by omega, _, (h.2 0 (by omega)).trans hK, fun _ => kk, fun q => absurd q (nI_nlt (by omega) (by omega))⟩
    | succ d ih =>
      intro e he kk
      unfold sEAt at kk
      refine B_X5_echoAt_2 ⟨_, _, h.1, by omega, _, (h.2 0 (by omega)).trans hK, fun q => absurd (nI_lt (by omega) (by omega)) q, fun _ => C_isAcceptable v e rfl rfl (by omega) (by omega) h (fun ha => ⟨_, rfl, fun _ => ?_, fun q => absurd q (by decide)⟩) (fun ha => ⟨_, rfl, fun q => absurd rfl q, fun _ => ?_⟩)⟩
      · have le : ∀ dd o, o + dd = K → sAhE r v e o ≤ o → Wp G Y_X5_echoAt 30 [(0, vP (5, 0, m)), (1, vI (nI v)), (2, vI z2), (3, vI (nI e)), (4, vI (nI (sAhE r v e o))), (5, vI (nI o))] [] μ Q E := by
          intro dd
          induction dd with
          | zero =>
            intro o ho hle
            have ho' : o = K := by omega
            subst ho'
            refine B_X5_echoAt_30 ⟨_, _, h.1, by omega, _, (h.2 0 (by omega)).trans hK, fun _ => ⟨fun hn => ?_, fun hy => ?_⟩, fun q => absurd q (nI_nlt (by omega) (by omega))⟩
            · rw [nI_1]
              rw [if_neg (fun q => hn q.2)] at kk
              exact ih (e + 1) (by omega) kk
            · rw [if_pos ⟨ha, hy⟩] at kk
              exact kk
          | succ dd ih2 =>
            intro o ho hle
            have st : sAhE r v e (o + 1) = sAhE r v e o + if sReason r v o = 0 ∧ sBE r v o e = true then 1 else 0 := rfl
            refine B_X5_echoAt_30 ⟨_, _, h.1, by omega, _, (h.2 0 (by omega)).trans hK, fun q => absurd (nI_lt (by omega) (by omega)) q, fun _ => C_isAcceptable v o rfl rfl (by omega) (by omega) h (fun ha2 => ⟨_, rfl, fun q => absurd q (by decide), fun _ => C_isBetterEcho v o e rfl rfl rfl (by omega) (by omega) (by omega) h (fun hb => ⟨_, rfl, fun q => absurd q (by decide), fun _ => C_truth1 ⟨_, rfl, ?_⟩⟩) (fun hb => ⟨_, rfl, fun _ => C_truth0 ⟨_, rfl, ?_⟩, fun q => absurd rfl q⟩)⟩) (fun ha2 => ⟨_, rfl, fun _ => C_truth0 ⟨_, rfl, ?_⟩, fun q => absurd rfl q⟩)⟩
            · dsimp only; rw [nI_1, nI_1]
              rw [if_pos ⟨ha2, hb⟩] at st
              have := ih2 (o + 1) (by omega) (by omega)
              rw [st] at this
              exact this
            · dsimp only; rw [nI_1, Int32.add_zero]
              rw [if_neg (fun q => hb q.2)] at st
              have := ih2 (o + 1) (by omega) (by omega)
              rw [st] at this
              exact this
            · dsimp only; rw [nI_1, Int32.add_zero]
              rw [if_neg (fun q => ha2 q.1)] at st
              have := ih2 (o + 1) (by omega) (by omega)
              rw [st] at this
              exact this
        exact le K 0 (by omega) (Nat.le_refl _)
      · rw [nI_1]
        rw [if_neg (fun q => ha q.1)] at kk
        exact ih (e + 1) (by omega) kk
  exact key K 0 (by omega) k
theorem C_preferredValley (h : zMs μ m σ) (hg : sW (aR σ) K V po B) (kt : ∀ e, e < K → z1 = nI e → zEd μ m Q σ 0 (sVAt (aR σ) V e z2 V 0)) (k1 : (∀ e, e < K → z1 ≠ nI e) → zEd μ m Q σ 1 0) : Call G Y_X5_preferredValley [vP (5, 0, m), vI z1, vI z2] μ Q E := by
  obtain ⟨b, ⟨hK, hV⟩, -⟩ := id hg
  exact S_X5_preferredValley (C_isEcho h.mo hK b.2.2.1 b.1 (fun e he e1 => ⟨_, rfl, C_passes1 ⟨_, rfl, fun q => absurd q (by decide), fun _ => C_valleyAt e e1 (by omega) (h.thr 0).mo hV b.2.1 ⟨_, rfl, (kt e he e1).yes h⟩⟩⟩) (fun hne => ⟨_, rfl, C_passes0 ⟨_, rfl, fun _ => (k1 hne).no h, fun q => absurd rfl q⟩⟩))
theorem C_preferredEcho (h : zMs μ m σ) (hg : sW (aR σ) K V po B) (kt : ∀ v, v < V → z1 = nI v → zEd μ m Q σ 0 (sEAt (aR σ) K v z2 K 0)) (k1 : (∀ v, v < V → z1 ≠ nI v) → zEd μ m Q σ 1 0) : Call G Y_X5_preferredEcho [vP (5, 0, m), vI z1, vI z2] μ Q E := by
  obtain ⟨b, ⟨hK, hV⟩, -⟩ := id hg
  exact S_X5_preferredEcho (C_isValley h.mo hV b.2.2.2 b.2.1 (fun v hv e1 => ⟨_, rfl, C_passes1 ⟨_, rfl, fun q => absurd q (by decide), fun _ => C_echoAt v e1 (by omega) (h.thr 0).mo hK b.1 ⟨_, rfl, (kt v hv e1).yes h⟩⟩⟩) (fun hne => ⟨_, rfl, C_passes0 ⟨_, rfl, fun _ => (k1 hne).no h, fun q => absurd rfl q⟩⟩))
theorem C_wouldLeave (e v : Nat) (h1 : z1 = nI e) (h2 : z2 = nI v) (he : e < 12) (hv : v < 8) (h : zMo μ m a r) (hg : sW r K V po B) (kt : sLv r e v → Q (some (vI 1)) μ) (kf : ¬ sLv r e v → Q (some (vI 0)) μ) : Call G Y_X5_wouldLeave [vP (5, 0, m), vI z1, vI z2] μ Q E := by
  obtain ⟨sl, hs⟩ := hg.2.2.2.2.1
  refine S_X5_wouldLeave (C_hasContract e h1 he h (fun hc => ⟨_, rfl, fun _ => C_employer e h1 he h ⟨_, rfl, ?_⟩, fun q => absurd q (by decide)⟩) (fun hc => ⟨_, rfl, fun q => absurd rfl q, fun _ => kt (Or.inl hc)⟩))
  rcases hs.emp he with ⟨q, -⟩ | ⟨w, hw, hwV, hm, hw1⟩
  · rw [q] at hc; exact absurd hc (by decide)
  · have ew : wE r e 13 - 1 = nI w := by rw [hw1]; exact nI_pred w
    have ec : (wE r e 13 - 1).toNatClampNeg = w := by rw [ew]; exact nI_clamp (by omega)
    unfold sLv at kt kf
    rw [ec] at kt kf
    refine C_isAcceptable w e ew h1 hw he h (fun ha => ⟨_, rfl, fun q => absurd q (by decide), fun _ => C_isBetterValley v w h2 ew hv hw h (fun hb => ⟨_, rfl, fun q => absurd q (by decide), fun _ => kt (Or.inr (Or.inr hb))⟩) (fun hb => ⟨_, rfl, fun _ => kf ?_, fun q => absurd rfl q⟩)⟩) (fun ha => ⟨_, rfl, fun _ => kt (Or.inr (Or.inl ha)), fun q => absurd rfl q⟩)
    rintro (q | q | q)
    · exact q hc
    · exact q ha
    · exact hb q
theorem C_wouldTake (v e : Nat) (h1 : z1 = nI v) (h2 : z2 = nI e) (hv : v < 8) (he : e < 12) (h : zMo μ m a r) (hg : sW r K V po B) (kt : sTk r v e → Q (some (vI 1)) μ) (kf : ¬ sTk r v e → Q (some (vI 0)) μ) : Call G Y_X5_wouldTake [vP (5, 0, m), vI z1, vI z2] μ Q E := by
  obtain ⟨sl, hs⟩ := hg.2.2.2.2.1
  obtain ⟨t1, t2, t3⟩ := sSt_eq hs hv
  subst h1
  refine S_X5_wouldTake (C_freePosts v rfl hv h ⟨_, rfl, fun hn => ?_, fun hy => kt (Or.inl hy)⟩)
  have key : ∀ d i, i + d = sSt r v → (∀ k, k < i → ¬ sBE r v e (sMem r v k) = true) → Wp G Y_X5_wouldTake 12 [(0, vP (5, 0, m)), (1, vI (nI v)), (2, vI z2), (3, vI (nI i))] [] μ Q E := by
    intro d
    induction d with
    | zero =>
      intro i hi hb
      refine B_X5_wouldTake_12 (C_ofValley v 13 rfl rfl h (by omega) ⟨_, rfl, fun _ => kf ?_, fun q => absurd q (by rw [t2]; exact nI_nlt (by omega) (by omega))⟩)
      rintro (q | ⟨k, k1, k2⟩)
      · exact hn q
      · exact hb k (by omega) k2
    | succ d ih =>
      intro i hi hb
      obtain ⟨-, m2, m3, -⟩ := sMem_eq hs hg.1.1 hv (show i < sSt r v by omega)
      refine B_X5_wouldTake_12 (C_ofValley v 13 rfl rfl h (by omega) ⟨_, rfl, fun q => absurd (by rw [t2]; exact nI_lt (by omega) (by omega)) q, fun _ => C_ofValley v (14 + i) rfl (nI_add 14 i) h (by omega) ⟨_, rfl, C_isBetterEcho v e (sMem r v i) rfl h2 m2 hv he (by have := hg.1.1; omega) h (fun hy => ⟨_, rfl, fun q => absurd q (by decide), fun _ => kt (Or.inr ⟨i, by omega, hy⟩)⟩) (fun hno => ⟨_, rfl, fun _ => ?_, fun q => absurd rfl q⟩)⟩⟩)
      rw [nI_1]
      refine ih (i + 1) (by omega) fun k hk => ?_
      by_cases q : k = i
      · rw [q]; exact hno
      · exact hb k (by omega)
  exact key (sSt r v) 0 (by omega) (fun k hk => by omega)
theorem C_isBlocking (v e : Nat) (h1 : z1 = nI v) (h2 : z2 = nI e) (hv : v < 8) (he : e < 12) (h : zMo μ m a r) (hg : sW r K V po B) (kt : sBlk r v e → Q (some (vI 1)) μ) (kf : ¬ sBlk r v e → Q (some (vI 0)) μ) : Call G Y_X5_isBlocking [vP (5, 0, m), vI z1, vI z2] μ Q E := by
  refine S_X5_isBlocking (C_employer e h2 he h ⟨_, rfl, fun q => kf fun t => t.1 (q.trans h1), fun hne => C_isAcceptable v e h1 h2 hv he h (fun ha => ⟨_, rfl, fun q => absurd q (by decide), fun _ => C_wouldLeave e v h2 h1 he hv h hg (fun hl => ⟨_, rfl, fun q => absurd q (by decide), fun _ => C_wouldTake v e h1 h2 hv he h hg (fun ht => ⟨_, rfl, fun q => absurd q (by decide), fun _ => kt ⟨fun q => hne (q.trans h1.symm), ha, hl, ht⟩⟩) (fun ht => ⟨_, rfl, fun _ => kf fun t => ht t.2.2.2, fun q => absurd rfl q⟩)⟩) (fun hl => ⟨_, rfl, fun _ => kf fun t => hl t.2.2.1, fun q => absurd rfl q⟩)⟩) (fun ha => ⟨_, rfl, fun _ => kf fun t => ha t.2.1, fun q => absurd rfl q⟩)⟩)
theorem sBlkE_le (r : Nat → Int32) (v : Nat) : ∀ n, sBlkE r v n ≤ n := by
  intro n
  induction n with
  | zero => exact Nat.le_refl _
  | succ n ih => unfold sBlkE; split <;> omega
theorem sBlkV_le (r : Nat → Int32) (K : Nat) : ∀ n, sBlkV r K n ≤ n * K := by
  intro n
  induction n with
  | zero => exact Nat.zero_le _
  | succ n ih => unfold sBlkV; have := sBlkE_le r n K; rw [Nat.succ_mul]; omega
theorem C_blockingPairs (h : zMs μ m σ) (hg : sW (aR σ) K V po B) (k : zEd μ m Q σ 0 (nI (sBlkV (aR σ) K V))) : Call G Y_X5_blockingPairs [vP (5, 0, m)] μ Q E := by
  obtain ⟨b, ⟨hK, hV⟩, -⟩ := id hg
  have h0 := (h.thr 0).mo
  refine S_X5_blockingPairs ?_
  have kk := k.yes h
  have key : ∀ d v, v + d = V → Wp G Y_X5_blockingPairs 9 [(0, vP (5, 0, m)), (1, vI (nI (sBlkV (aR σ) K v))), (2, vI (nI v))] [] (zFi μ 46 m 0) Q E := by
    intro d
    induction d with
    | zero =>
      intro v hv
      have hv' : v = V := by omega
      subst hv'
      exact B_X5_blockingPairs_9 ⟨_, _, h0.1, by omega, _, (h0.2 1 (by omega)).trans hV, fun _ => kk, fun q => absurd q (nI_nlt (by omega) (by omega))⟩
    | succ d ih =>
      intro v hv
      refine B_X5_blockingPairs_9 ⟨_, _, h0.1, by omega, _, (h0.2 1 (by omega)).trans hV, fun q => absurd (nI_lt (by omega) (by omega)) q, fun _ => ?_⟩
      have le : ∀ dd e, e + dd = K → Wp G Y_X5_blockingPairs 21 [(0, vP (5, 0, m)), (1, vI (nI (sBlkV (aR σ) K v + sBlkE (aR σ) v e))), (2, vI (nI v)), (3, vI (nI e))] [] (zFi μ 46 m 0) Q E := by
        intro dd
        induction dd with
        | zero =>
          intro e he
          have he' : e = K := by omega
          subst he'
          refine B_X5_blockingPairs_21 ⟨_, _, h0.1, by omega, _, (h0.2 0 (by omega)).trans hK, fun _ => ?_, fun q => absurd q (nI_nlt (by omega) (by omega))⟩
          rw [nI_1]
          exact ih (v + 1) (by omega)
        | succ dd ih2 =>
          intro e he
          have st : sBlkE (aR σ) v (e + 1) = sBlkE (aR σ) v e + (@ite _ (sBlk (aR σ) v e) (Classical.propDecidable _) 1 0) := rfl
          refine B_X5_blockingPairs_21 ⟨_, _, h0.1, by omega, _, (h0.2 0 (by omega)).trans hK, fun q => absurd (nI_lt (by omega) (by omega)) q, fun _ => C_isBlocking v e rfl rfl (by omega) (by omega) h0 hg (fun hb => ⟨_, rfl, C_truth1 ⟨_, rfl, ?_⟩⟩) (fun hb => ⟨_, rfl, C_truth0 ⟨_, rfl, ?_⟩⟩)⟩
          · dsimp only; rw [nI_1, nI_1]
            rw [if_pos hb] at st
            have := ih2 (e + 1) (by omega)
            rw [st] at this
            exact this
          · dsimp only; rw [nI_1, Int32.add_zero]
            rw [if_neg hb] at st
            have := ih2 (e + 1) (by omega)
            rw [st] at this
            exact this
      exact le K 0 (by omega)
  exact key V 0 (by omega)
end ZRE
