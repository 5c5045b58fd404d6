/-! CONTRACTS, 21: names in the model's texts -/
section ZNM
variable {G : ZG} {μ ν : ZM} {Q : Option ZV → ZM → Prop} {E : ZP → ZM → Prop} {m a p q K V : Nat} {z z1 z2 : Int32} {b w : List Nat} {r : Nat → Int32} {e : Int32 × Nat}
theorem C_isNumberNext (h : pOk G μ m b a r) (k1 : (pDg b (pSk b a)).length ≠ 0 → ∀ ν, pOk G ν m b (pSk b a) r → zW (zFk m) (zA1 (m + 1)) μ ν → Q (some (vI 1)) ν) (k0 : (pDg b (pSk b a)).length = 0 → ∀ ν, pOk G ν m b (pSk b a) r → zW (zFk m) (zA1 (m + 1)) μ ν → Q (some (vI 0)) ν) : Call G Y_X5_isNumberNext [vP (5, 0, m)] μ Q E := by
  refine S_X5_isNumberNext ⟨_, h.2.2.2.1.1, fun t => absurd rfl t, fun _ => C_nextOk h fun ν hν hW => ⟨_, rfl, C_in 48 58 (by decide) (by decide) (fun x x1 x2 hx => ⟨_, rfl, fun t => absurd t (by decide), fun _ => k1 ?_ ν hν.1 hW⟩) (fun hne => ⟨_, rfl, fun _ => k0 ?_ ν hν.1 hW, fun t => absurd rfl t⟩)⟩⟩
  · obtain ⟨g1, g2⟩ := bAt_eq hν.1.1.by (by omega) hx
    unfold pDg
    rw [pTw_step g1 (by rw [g2]; unfold pDgt; exact decide_eq_true ⟨x1, by omega⟩)]
    simp
  · have h0 : pDg b (pSk b a) = [] := by
      unfold pDg
      refine pTw_stop fun hlt hf => ?_
      unfold pDgt at hf
      have hf := of_decide_eq_true hf
      exact hne _ hf.1 (by omega) (by omega) (bAt_lt hlt)
    rw [h0]; rfl
theorem C_isName (h : pOk G μ m b a r) (hz : sZ r) (kok : pName b a = .ok (pWd b (pSk b a), pSk b a) → 1 ≤ (pWd b (pSk b a)).length → (pWd b (pSk b a)).length ≤ 6 → ∀ ν, pTk G ν m b (pSk b a) r → zW (zFk m) (zA1 (m + 1)) μ ν → Q (some (vI 1)) ν) (ker : ∀ e, pName b a = .error e → ∀ ν, pEr G ν m b e → zai ν (m + 1) = r → zW (zFk m) (zA1 (m + 1)) μ ν → Q (some (vI 0)) ν) : Call G Y_X5_isName [vP (5, 0, m)] μ Q E := by
  have hl := h.len
  have hp := pSk_le h.2.2.1
  have hw := pWd_le hp
  refine S_X5_isName ⟨_, h.2.2.2.1.1, fun _ => C_nextOk h fun ν hν hW => ⟨_, rfl, _, hν.2.2.1, C_in 1 7 (by decide) (by decide) (fun x x1 x2 hx => ⟨_, rfl, C_must1 ⟨rfl, _, hν.1.2.2.2.1.1, fun t => absurd rfl t, fun _ => ?_⟩⟩) (fun hne => ⟨_, rfl, C_must0 hν.1.2.2.2.1.1 ⟨rfl, ?_⟩⟩)⟩, fun t => absurd rfl t⟩
  · have hx' : (pWd b (pSk b a)).length = x := (nI_eq (by omega) (by omega)).mp hx
    exact kok (by unfold pName; rw [if_pos (by omega)]) (by omega) (by omega) ν hν hW
  · obtain ⟨he, hW2⟩ := hν.err hz 1 (by decide)
    have hn60 : ¬ zfi (zFi (zFi ν 60 m 1) 61 m (zfi ν 58 m)) 60 m = 0 := by rw [he.2.1]; exact he.2.2.1
    refine ⟨_, rfl, fun _ => ker _ ?_ _ he hν.1.2.2.2.2 (hW.trans hW2), fun t => absurd t hn60⟩
    unfold pName
    rw [if_neg (fun t => hne _ t.1 (by omega) (by omega) rfl)]
theorem C_isName_e (h : pEr G μ m b e) (k : Q (some (vI 0)) μ) : Call G Y_X5_isName [vP (5, 0, m)] μ Q E := S_X5_isName ⟨_, h.2.1, fun t => absurd t h.2.2.1, fun _ => k⟩
/-- a token and its place, whether an error was noted or not -/
def zTp (G : ZG) (μ : ZM) (m : Nat) (b : List Nat) (p : Nat) (r : Nat → Int32) : Prop := zTb G μ m b ∧ zfi μ 58 m = nI p ∧ zfi μ 59 m = nI (pWd b p).length ∧ p ≤ b.length ∧ zai μ (m + 1) = r
theorem pTk.tp (h : pTk G μ m b p r) : zTp G μ m b p r := ⟨h.1.1, h.2.1, h.2.2.1, h.1.2.2.1, h.1.2.2.2.2⟩
theorem C_isNamed (q : Nat) (hq : z = nI q) (hq6 : q + 7 ≤ 627) (h : zTp G μ m b p r) (h6 : r q = nI (pWd b p).length → (pWd b p).length ≤ 6) (k1 : sIs r q (pWd b p) = true → Q (some (vI 1)) μ) (k0 : ¬ sIs r q (pWd b p) = true → Q (some (vI 0)) μ) : Call G Y_X5_isNamed [vP (5, 0, m), vI z] μ Q E := by
  obtain ⟨h1, h2, h3, h4, h5⟩ := h
  have hl : b.length ≤ 900 := h1.2.2.1
  have hw := pWd_le h4
  subst hq
  refine S_X5_isNamed ⟨_, _, h1.2.1.1, q, zix.eq rfl (by omega) (by omega), _, congrFun h5 q, _, h3, fun heq => ?_, fun hne => k0 fun t => ?_⟩
  · have h6' := h6 heq
    have key : ∀ d i, i + d = (pWd b p).length → (∀ j, j < i → r (q + 1 + j) = nI ((pWd b p).getD j 0)) → Wp G Y_X5_isNamed 17 [(0, vP (5, 0, m)), (1, vI (nI q)), (2, vI (nI i))] [] μ Q E := by
      intro d
      induction d with
      | zero =>
        intro i hi hj
        refine B_X5_isNamed_17 ⟨_, h3, fun _ => k1 ?_, fun t => absurd t (nI_nlt (by omega) (by omega))⟩
        unfold sIs
        rw [Bool.and_eq_true, List.all_eq_true]
        exact ⟨decide_eq_true heq, fun j hj' => decide_eq_true (hj j (by have := List.mem_range.mp hj'; omega))⟩
      | succ d ih =>
        intro i hi hj
        obtain ⟨g1, g2, g3⟩ := pTw_get (f := pLet) (b := b) (a := p) (k := i) rfl (show i < (pWd b p).length by omega)
        have g1' : (pWd b p).getD i 0 = b.getD (p + i) 0 := g1
        refine B_X5_isNamed_17 ⟨_, h3, fun t => absurd (nI_lt (by omega) (by omega)) t, fun _ => ⟨_, _, h1.2.1.1, q + 1 + i, zix.eq ?_ (by omega) (by omega), _, congrFun h5 _, _, h2, C_byteAt (p + i) h1 (nI_add _ _) (by omega) ⟨_, rfl, fun hy => ?_, fun hn => k0 fun t => ?_⟩⟩⟩
        · show (nI q + nI 1) + nI i = _
          rw [nI_add, nI_add]
        · rw [nI_1]
          refine ih (i + 1) (by omega) fun j hj' => ?_
          by_cases hji : j = i
          · rw [hji, g1', hy, bAt_lt g3]
          · exact hj j (by omega)
        · unfold sIs at t
          rw [Bool.and_eq_true, List.all_eq_true] at t
          have := of_decide_eq_true (t.2 i (List.mem_range.mpr (by omega)))
          rw [g1', ← bAt_lt g3] at this
          exact hn this
    exact key (pWd b p).length 0 (by omega) (fun j hj => by omega)
  · unfold sIs at t
    rw [Bool.and_eq_true] at t
    exact hne (of_decide_eq_true t.1)
theorem C_placeOf (k : Nat) (hk : z1 = nI k) (kv : z2 = 1 → Q (some (vI (nI (203 + 17 * k)))) μ) (ke : z2 = 0 → Q (some (vI (nI (23 + 15 * k)))) μ) (h2 : z2 = 0 ∨ z2 = 1) : Call G Y_X5_placeOf [vI z1, vI z2] μ Q E := by
  subst hk
  refine S_X5_placeOf ⟨fun h0 => ?_, fun h0 => ?_⟩
  · have : (23 + 15 * nI k : Int32) = nI (23 + 15 * k) := by show nI 23 + nI 15 * nI k = _; rw [pk_mul, nI_add]
    rw [this]; exact ke h0
  · have : (203 + 17 * nI k : Int32) = nI (203 + 17 * k) := by show nI 203 + nI 17 * nI k = _; rw [pk_mul, nI_add]
    rw [this]; exact kv (h2.resolve_left h0)
def sBl (v : Bool) : Int32 := if v = true then 1 else 0
/-- rows of few things -/
def sKV (r : Nat → Int32) (K V : Nat) : Prop := r 0 = nI K ∧ r 1 = nI V ∧ K ≤ 12 ∧ V ≤ 8
theorem C_thingHere (v : Bool) (hv : z = sBl v) (h : zTp G μ m b p r) (hr : sKV r K V) (h6 : (∀ k, k < K → r (23 + 15 * k) = nI (pWd b p).length → (pWd b p).length ≤ 6) ∧ ∀ k, k < V → r (203 + 17 * k) = nI (pWd b p).length → (pWd b p).length ≤ 6) (k : Q (some (vI (o2i (sThing r v (pWd b p))))) μ) : Call G Y_X5_thingHere [vP (5, 0, m), vI z] μ Q E := by
  obtain ⟨r0, r1, rK, rV⟩ := hr
  refine S_X5_thingHere ?_
  unfold sThing at k
  rw [r0, r1, nI_clamp (by omega), nI_clamp (by omega)] at k
  cases v with
  | true =>
    rw [if_pos rfl] at k
    have hz1 : z = 1 := hv
    subst hz1
    have key : ∀ d i, i + d = V → Q (some (vI (o2i (sFind r 203 17 (pWd b p) d i)))) μ → Wp G Y_X5_thingHere 2 [(0, vP (5, 0, m)), (1, vI 1), (2, vI (nI i))] [] μ Q E := by
      intro d
      induction d with
      | zero =>
        intro i hi kk
        exact B_X5_thingHere_2 ⟨fun t => absurd t (by decide), fun _ => ⟨_, _, h.1.2.1.1, by omega, _, (congrFun h.2.2.2.2 1).trans r1, fun _ => kk, fun t => absurd t (nI_nlt (by omega) (by omega))⟩⟩
      | succ d ih =>
        intro i hi kk
        unfold sFind at kk
        refine B_X5_thingHere_2 ⟨fun t => absurd t (by decide), fun _ => ⟨_, _, h.1.2.1.1, by omega, _, (congrFun h.2.2.2.2 1).trans r1, fun t => absurd (nI_lt (by omega) (by omega)) t, fun _ => C_placeOf i rfl (fun _ => ⟨_, rfl, C_isNamed (203 + 17 * i) rfl (by omega) h (h6.2 i (by omega)) (fun hy => ⟨_, rfl, fun t => absurd t (by decide), fun _ => ?_⟩) (fun hn => ⟨_, rfl, fun _ => ?_, fun t => absurd rfl t⟩)⟩) (fun t => absurd t (by decide)) (Or.inr rfl)⟩⟩
        · rw [if_pos hy] at kk; exact kk
        · rw [if_neg hn] at kk; rw [nI_1]; exact ih (i + 1) (by omega) kk
    exact key V 0 (by omega) k
  | false =>
    rw [if_neg (by decide)] at k
    have hz1 : z = 0 := hv
    subst hz1
    have key : ∀ d i, i + d = K → Q (some (vI (o2i (sFind r 23 15 (pWd b p) d i)))) μ → Wp G Y_X5_thingHere 2 [(0, vP (5, 0, m)), (1, vI 0), (2, vI (nI i))] [] μ Q E := by
      intro d
      induction d with
      | zero =>
        intro i hi kk
        exact B_X5_thingHere_2 ⟨fun _ => ⟨_, _, h.1.2.1.1, by omega, _, (congrFun h.2.2.2.2 0).trans r0, fun _ => kk, fun t => absurd t (nI_nlt (by omega) (by omega))⟩, fun t => absurd rfl t⟩
      | succ d ih =>
        intro i hi kk
        unfold sFind at kk
        refine B_X5_thingHere_2 ⟨fun _ => ⟨_, _, h.1.2.1.1, by omega, _, (congrFun h.2.2.2.2 0).trans r0, fun t => absurd (nI_lt (by omega) (by omega)) t, fun _ => C_placeOf i rfl (fun t => absurd t (by decide)) (fun _ => ⟨_, rfl, C_isNamed (23 + 15 * i) rfl (by omega) h (h6.1 i (by omega)) (fun hy => ⟨_, rfl, fun t => absurd t (by decide), fun _ => ?_⟩) (fun hn => ⟨_, rfl, fun _ => ?_, fun t => absurd rfl t⟩)⟩) (Or.inl rfl)⟩, fun t => absurd rfl t⟩
        · rw [if_pos hy] at kk; exact kk
        · rw [if_neg hn] at kk; rw [nI_1]; exact ih (i + 1) (by omega) kk
    exact key K 0 (by omega) k
theorem sFind_lt {r : Nat → Int32} {q d : Nat} {w : List Nat} : ∀ {n k x : Nat}, sFind r q d w n k = some x → k ≤ x ∧ x < k + n := by
  intro n
  induction n with
  | zero => intro k x h; cases h
  | succ n ih =>
    intro k x h
    unfold sFind at h
    split at h
    · cases h; omega
    · have := ih h; omega
theorem sThing_lt {v : Bool} {x : Nat} (hr : sKV r K V) (h : sThing r v w = some x) : x < (if v = true then V else K) := by
  obtain ⟨r0, r1, rK, rV⟩ := hr
  unfold sThing at h
  rw [r0, r1, nI_clamp (by omega), nI_clamp (by omega)] at h
  split at h
  · rw [if_pos (by assumption)]; have := sFind_lt h; omega
  · rw [if_neg (by assumption)]; have := sFind_lt h; omega
theorem sThing_12 {v : Bool} {x : Nat} (hr : sKV r K V) (h : sThing r v w = some x) : x < 12 := by
  have h1 := sThing_lt hr h
  obtain ⟨-, -, rK, rV⟩ := hr
  split at h1 <;> omega
theorem C_mustBe (v : Bool) (hv : z = sBl v) (h : pOk G μ m b a r) (hz : sZ r) (hr : sKV r K V) (kok : ∀ x a', pMust b r v a = .ok (x, a') → x < (if v = true then V else K) → ∀ ν, pOk G ν m b a' r → zW (zFk m) (zA1 (m + 1)) μ ν → Q (some (vI (nI x))) ν) (ker : ∀ e, pMust b r v a = .error e → ∀ ν, pEr G ν m b e → zai ν (m + 1) = r → zW (zFk m) (zA1 (m + 1)) μ ν → Q (some (vI 0)) ν) : Call G Y_X5_mustBe [vP (5, 0, m), vI z] μ Q E := by
  refine S_X5_mustBe (C_isName h hz (fun hn n1 n6 ν hν hW => ⟨_, rfl, fun _ => C_thingHere v hv hν.tp hr ⟨fun _ _ _ => n6, fun _ _ _ => n6⟩ ⟨_, rfl, fun hm => ?_, fun hm => ?_⟩, fun t => absurd t (by decide)⟩) (fun e he ν hν hrow hW => ⟨_, rfl, fun t => absurd rfl t, fun _ => ker e ?_ ν hν hrow hW⟩))
  · cases hs : sThing r v (pWd b (pSk b a)) with
    | some x => rw [hs] at hm; exact absurd hm (o2i_neg (by have := sThing_12 hr hs; omega))
    | none =>
      obtain ⟨he, hW2⟩ := hν.err hz 3 (by decide)
      have he2 := he.set57 (zfi (zFi (zFi ν 60 m 3) 61 m (zfi ν 58 m)) 58 m + zfi (zFi (zFi ν 60 m 3) 61 m (zfi ν 58 m)) 59 m)
      refine C_must0 hν.1.2.2.2.1.1 ⟨rfl, C_goesPast rfl rfl ⟨rfl, _, he2.2.1, fun _ => ker _ ?_ _ he2 hν.1.2.2.2.2 ((hW.trans hW2).trans (zFk_set (by omega) _ _)), fun t => absurd t he2.2.2.1⟩⟩
      unfold pMust; rw [hn]; dsimp only; rw [hs]
  · cases hs : sThing r v (pWd b (pSk b a)) with
    | none => rw [hs] at hm; exact absurd rfl hm
    | some x =>
      refine C_must1 ⟨rfl, hν.past fun ho hW2 => ⟨rfl, _, ho.2.2.2.1.1, fun t => absurd rfl t, fun _ => kok x _ ?_ (sThing_lt hr hs) _ ho (hW.trans hW2)⟩⟩
      unfold pMust; rw [hn]; dsimp only; rw [hs]
  · unfold pMust; rw [he]
theorem C_mustBe_e (h : pEr G μ m b e) (k : Q (some (vI 0)) μ) : Call G Y_X5_mustBe [vP (5, 0, m), vI z] μ Q E := S_X5_mustBe (C_isName_e h ⟨_, rfl, fun t => absurd rfl t, fun _ => k⟩)
theorem C_newName (v : Bool) (hv : z2 = sBl v) (hq : z1 = nI q) (hq6 : q + 7 ≤ 627) (h : pOk G μ m b a r) (hz : sZ r) (hr : sKV r K V) (kok : ∀ r' a', pNew b r v q a = .ok (r', a') → ∀ ν, pOk G ν m b a' r' → zW (zFk m) (zA1 (m + 1)) μ ν → Q none ν) (ker : ∀ e, pNew b r v q a = .error e → ∀ ν, pEr G ν m b e → zW (zFk m) (zA1 (m + 1)) μ ν → Q none ν) : Call G Y_X5_newName [vP (5, 0, m), vI z1, vI z2] μ Q E := by
  subst hq
  have hl := h.len
  refine S_X5_newName (C_isName h hz (fun hn n1 n6 ν hν hW => ⟨_, rfl, fun _ => C_thingHere v hv hν.tp hr ⟨fun _ _ _ => n6, fun _ _ _ => n6⟩ ⟨_, rfl, fun hm => ?_, fun hm => ?_⟩, fun t => absurd t (by decide)⟩) (fun e he ν hν _ hW => ⟨_, rfl, fun t => absurd rfl t, fun _ => ker e ?_ ν hν hW⟩))
  · cases hs : sThing r v (pWd b (pSk b a)) with
    | none => rw [hs] at hm; exact absurd rfl hm
    | some x =>
      obtain ⟨he, hW2⟩ := hν.err hz 3 (by decide)
      refine B_X5_newName_23 (C_must0 hν.1.2.2.2.1.1 ⟨rfl, _, he.2.1, fun t => absurd t he.2.2.1, fun _ => ker _ ?_ _ he (hW.trans hW2)⟩)
      unfold pNew; rw [hn]; dsimp only; rw [hs]
  · cases hs : sThing r v (pWd b (pSk b a)) with
    | some x => rw [hs] at hm; exact absurd hm (o2i_neg (by have := sThing_12 hr hs; omega))
    | none =>
      have hsp : pNew b r v q a = .ok (sNamed r q (pWd b (pSk b a)), pSk b a + (pWd b (pSk b a)).length) := by unfold pNew; rw [hn]; dsimp only; rw [hs]
      have hp := hν.1.2.2.1
      have hw := pWd_le hp
      refine B_X5_newName_23 (C_must1 ⟨rfl, _, hν.1.2.2.2.1.1, fun _ => ⟨_, _, hν.1.1.2.1.1, _, hν.2.2.1, q, zix.eq rfl (by omega) (by omega), ?_⟩, fun t => absurd rfl t⟩)
      have key : ∀ d i (ρ : ZM), i + d = (pWd b (pSk b a)).length → zW zF0 (zA1 (m + 1)) ν ρ → (∀ j, zai ρ (m + 1) j = if j = q then nI (pWd b (pSk b a)).length else if q + 1 ≤ j ∧ j < q + 1 + i then nI ((pWd b (pSk b a)).getD (j - (q + 1)) 0) else r j) → Wp G Y_X5_newName 47 [(0, vP (5, 0, m)), (1, vI (nI q)), (3, vI (nI i))] [] ρ Q E := by
        intro d
        induction d with
        | zero =>
          intro i ρ hi hρ hs'
          have hi' : i = (pWd b (pSk b a)).length := by omega
          have hWk : zW (zFk m) (zA1 (m + 1)) ν ρ := hρ.mono (fun f c t => t.elim) (fun c t => t)
          have oth : ∀ f, zfi ρ f m = zfi ν f m := fun f => hρ.2.2.2.2.2.2.1 f m (fun t => t)
          have hrow : zai ρ (m + 1) = sNamed r q (pWd b (pSk b a)) := by
            funext j; rw [hs' j, hi']; rfl
          have htk : pTk G ρ m b (pSk b a) (sNamed r q (pWd b (pSk b a))) := ⟨⟨hν.1.1.same hWk.kk, (oth 57).trans hν.1.2.1, hp, ⟨(oth 60).trans hν.1.2.2.2.1.1, (oth 61).trans hν.1.2.2.2.1.2⟩, hrow⟩, (oth 58).trans hν.2.1, (oth 59).trans hν.2.2.1, hν.2.2.2⟩
          exact B_X5_newName_47 ⟨_, htk.2.2.1, fun _ => htk.past fun ho hW2 => ⟨rfl, kok _ _ hsp _ ho ((hW.trans hWk).trans hW2)⟩, fun t => absurd t (nI_nlt (by omega) (by omega))⟩
        | succ d ih =>
          intro i ρ hi hρ hs'
          have hWk : zW (zFk m) (zA1 (m + 1)) ν ρ := hρ.mono (fun f c t => t.elim) (fun c t => t)
          have oth : ∀ f, zfi ρ f m = zfi ν f m := fun f => hρ.2.2.2.2.2.2.1 f m (fun t => t)
          have hb := hν.1.1.same hWk.kk
          obtain ⟨g1, g2, g3⟩ := pTw_get (f := pLet) (b := b) (a := pSk b a) (k := i) rfl (show i < (pWd b (pSk b a)).length by omega)
          have g1' : (pWd b (pSk b a)).getD i 0 = b.getD (pSk b a + i) 0 := g1
          refine B_X5_newName_47 ⟨_, (oth 59).trans hν.2.2.1, fun t => absurd (nI_lt (by omega) (by omega)) t, fun _ => ⟨_, _, hb.2.1.1, _, (oth 58).trans hν.2.1, C_byteAt (pSk b a + i) hb (nI_add _ _) (by omega) ⟨_, rfl, q + 1 + i, zix.eq ?_ (by omega) (by omega), ?_⟩⟩⟩
          · show (nI q + nI 1) + nI i = _
            rw [nI_add, nI_add]
          · rw [nI_1]
            refine ih (i + 1) _ (by omega) (hρ.trans (zW_A1 ρ (m + 1) _ _)) fun j => ?_
            rw [zai_zAi, hs' j]
            by_cases hj : j = q + 1 + i
            · rw [if_pos ⟨rfl, hj⟩, if_neg (by omega), if_pos (by omega), bAt_lt g3, ← g1', hj]
              congr 2; omega
            · rw [if_neg (fun t => hj t.2)]
              by_cases hjq : j = q
              · rw [if_pos hjq, if_pos hjq]
              · rw [if_neg hjq, if_neg hjq]
                by_cases hj2 : q + 1 ≤ j ∧ j < q + 1 + i
                · rw [if_pos hj2, if_pos (by omega)]
                · rw [if_neg hj2, if_neg (by omega)]
      refine key (pWd b (pSk b a)).length 0 _ (by omega) (zW_A1 ν (m + 1) _ _) fun j => ?_
      rw [zai_zAi]
      by_cases hj : j = q
      · rw [if_pos ⟨rfl, hj⟩, if_pos hj]
      · rw [if_neg (fun t => hj t.2), if_neg hj, if_neg (by omega)]
        exact congrFun hν.1.2.2.2.2 j
  · unfold pNew; rw [he]
theorem C_newName_e (h : pEr G μ m b e) (k : Q none μ) : Call G Y_X5_newName [vP (5, 0, m), vI z1, vI z2] μ Q E := S_X5_newName (C_isName_e h ⟨_, rfl, fun t => absurd rfl t, fun _ => k⟩)
end ZNM
