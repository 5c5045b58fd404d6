set_option maxRecDepth 100000
/-! THE COMPONENT, 20: a Matching -/
theorem kv_lt {K V v e : Nat} (hv : v < V) (he : e < K) : K * v + e < K * V := by
  have h1 : K * (v + 1) ≤ K * V := Nat.mul_le_mul_left K hv
  rw [Nat.mul_add] at h1
  omega
theorem kv_inj {K v e v' e' : Nat} (he : e < K) (he' : e' < K) (h : K * v + e = K * v' + e') : v = v' ∧ e = e' := by
  have h1 : (K * v + e) / K = v := by rw [Nat.mul_add_div (by omega), Nat.div_eq_of_lt he, Nat.add_zero]
  have h2 : (K * v' + e') / K = v' := by rw [Nat.mul_add_div (by omega), Nat.div_eq_of_lt he', Nat.add_zero]
  have h3 : v = v' := by rw [← h1, ← h2, h]
  subst h3
  exact ⟨rfl, by omega⟩
theorem kv_96 {K V : Nat} (hK : K ≤ 12) (hV : V ≤ 8) : K * V ≤ 96 := Nat.mul_le_mul hK hV
/-- numbers are small: differences do not overflow -/
def zSm (K V : Nat) (r : Nat → Int32) : Prop := (∀ v o, v < V → o < V → (0 < wV r v 9 - wV r o 9 ↔ wV r o 9 < wV r v 9)) ∧ ∀ v e o, v < V → e < K → o < K → (0 < sSeen r v e - sSeen r v o ↔ sSeen r v o < sSeen r v e)
theorem i32_sub0 {x y : Int32} : x - y = 0 ↔ x = y := by
  constructor
  · intro h
    have := Int32.sub_add_cancel x y
    rw [h] at this
    rw [← this]; exact (Int32.zero_add y).symm ▸ rfl
  · rintro rfl; exact Int32.sub_self x
/-- a Matching's fields, and what its arrays hold from the start -/
def zMt (μ : ZM) (M s K V as ab al aw ak ac : Nat) (rr : Nat → Int32) : Prop := (zfr μ 83 M = (2, 0, s) ∧ zfi μ 84 M = nI K ∧ zfi μ 85 M = nI V ∧ zfr μ 86 M = (200, K * V, as) ∧ zfr μ 90 M = (201, K * V, ab) ∧ zfr μ 91 M = (201, K * V, al) ∧ zfr μ 87 M = (200, V, aw) ∧ zfr μ 88 M = (200, 3 * V, ak) ∧ zfr μ 89 M = (200, V, ac)) ∧ (∀ v e, v < V → e < K → zai μ as (K * v + e) = sSeen rr v e ∧ zai μ ab (K * v + e) = if wP rr v e 1 = 1 then 1 else 0) ∧ ∀ v, v < V → zai μ aw v = wV rr v 9
/-- closed applications; what is kept -/
def zClo (μ : ZM) (al K V : Nat) (rr : Nat → Int32) (ap : Nat → Nat → Bool) : Prop := ∀ v e, v < V → e < K → zai μ al (K * v + e) = if sReason rr v e = 0 ∧ ap v e = false then 0 else 1
def zKk (μ : ZM) (ak ac K V : Nat) (rr : Nat → Int32) (kl : Nat → List Nat) : Prop := ∀ v, v < V → (kl v).length ≤ sPosts rr v ∧ zai μ ac v = nI (kl v).length ∧ ∀ k, k < (kl v).length → zai μ ak (3 * v + k) = nI ((kl v).getD k 0) ∧ (kl v).getD k 0 < K
def zAd (as ab al aw ak ac : Nat) : Prop := (as ≠ aw ∧ as ≠ ak ∧ as ≠ ac ∧ aw ≠ ak ∧ aw ≠ ac ∧ ak ≠ ac) ∧ (ab ≠ al ∧ as ≠ al ∧ aw ≠ al ∧ ak ≠ al ∧ ac ≠ al) ∧ (ab ≠ ak ∧ ab ≠ ac ∧ ab ≠ aw ∧ ab ≠ as)
theorem nextLt {r app : Nat → Int32} {e : Nat} : ∀ {n b : Nat}, sNext r app e n = some b → b < n := by
  intro n
  induction n with
  | zero => intro b h; cases h
  | succ n ih =>
    intro b h
    unfold sNext at h
    split at h
    · split at h
      · cases h; exact Nat.lt_succ_self _
      · rename_i b' hb
        split at h
        · cases h; exact Nat.lt_succ_self _
        · cases h; exact Nat.lt_succ_of_lt (ih hb)
    · exact Nat.lt_succ_of_lt (ih h)
section ZJ
variable {G : ZG} {μ : ZM} {Q : Option ZV → ZM → Prop} {E : ZP → ZM → Prop} {M s K V as ab al aw ak ac : Nat} {rr : Nat → Int32} {ap : Nat → Nat → Bool} {kl : Nat → List Nat} {z1 z2 z3 : Int32}
theorem ixKV {v e : Nat} (hK : K ≤ 12) (hV : V ≤ 8) (hv : v < V) (he : e < K) : zix ((nI K * nI v) + nI e) (K * v + e) (K * V) := by
  have := kv_96 hK hV
  have h2 := kv_lt hv he
  exact zix.eq (by rw [pk_mul, nI_add]) h2 (by omega)
theorem C_mPrefers (v e o : Nat) (h1 : z1 = nI v) (h2 : z2 = nI e) (h3 : z3 = nI o) (hv : v < V) (he : e < K) (ho : o < K) (hK : K ≤ 12) (hV : V ≤ 8) (hsm : zSm K V rr) (h : zMt μ M s K V as ab al aw ak ac rr) (kt : sBE rr v e o = true → Q (some (vI 1)) μ) (kf : ¬ sBE rr v e o = true → Q (some (vI 0)) μ) : Call G Y_X8_prefers [vP (8, 0, M), vI z1, vI z2, vI z3] μ Q E := by
  subst h1; subst h2; subst h3
  have hs := hsm.2 v e o (by omega) (by omega) (by omega)
  unfold sBE at kt kf
  simp only [decide_eq_true_eq] at kt kf
  refine S_X8_prefers ⟨_, _, h.1.2.2.2.1, _, h.1.2.1, _, ixKV hK hV hv he, _, (h.2.1 v e hv he).1, _, ixKV hK hV hv ho, _, (h.2.1 v o hv ho).1, fun q => ⟨fun q2 => kf ?_, fun q2 => kt ?_⟩, fun q => ⟨fun q2 => kf ?_, fun q2 => kt ?_⟩⟩
  · rintro (q3 | ⟨-, q3⟩)
    · rw [q, Int32.sub_self] at q3; exact absurd q3 (by decide)
    · exact q2 (nI_lt q3 (by omega))
  · exact Or.inr ⟨i32_sub0.mpr q, (nI_ltI (by omega) (by omega)).mp q2⟩
  · rintro (q3 | ⟨q3, -⟩)
    · exact q2 (hs.mp q3)
    · exact q (i32_sub0.mp q3)
  · exact Or.inl (hs.mpr q2)
theorem C_mNext (e : Nat) (h1 : z1 = nI e) (he : e < K) (hK : K ≤ 12) (hV : V ≤ 8) (hsm : zSm K V rr) (h : zMt μ M s K V as ab al aw ak ac rr) (hc : zClo μ al K V rr ap) (k : Q (some (vI (o2i (sNext rr (bA ap) e V)))) μ) : Call G Y_X8_nextValley [vP (8, 0, M), vI z1] μ Q E := by
  subst h1
  have main : ∀ d n, n + d = V → Wp G Y_X8_nextValley 4 [(0, vP (8, 0, M)), (1, vI (nI e)), (2, vI (o2i (sNext rr (bA ap) e n))), (3, vI (nI n))] [] μ Q E := by
    intro d
    induction d with
    | zero =>
      intro n hn
      have : n = V := by omega
      subst this
      exact B_X8_nextValley_4 ⟨_, h.1.2.2.1, fun _ => k, fun q => absurd q (nI_nlt (Nat.le_refl _) (by omega))⟩
    | succ d ih =>
      intro n hn
      have hnV : n < V := by omega
      have hcl := hc n e hnV he
      have eb : bA ap (12 * n + e) = if ap n e = true then 1 else 0 := by
        unfold bA
        rw [show (12 * n + e) / 12 = n by omega, show (12 * n + e) % 12 = e by omega]
      have hi := ih (n + 1) (by omega)
      have hstep : ∀ (x : Int32), x = o2i (sNext rr (bA ap) e (n + 1)) → Wp G Y_X8_nextValley 4 [(0, vP (8, 0, M)), (1, vI (nI e)), (2, vI x), (3, vI (nI n + 1))] [] μ Q E := fun x hx => by rw [hx, nI_1]; exact hi
      refine B_X8_nextValley_4 ⟨_, h.1.2.2.1, fun q => absurd (nI_lt hnV (by omega)) q, fun _ => ⟨_, _, h.1.2.2.2.2.2.1, _, h.1.2.1, _, ixKV hK hV hnV he, _, hcl, fun q => hstep _ ?_, fun q => ?_⟩⟩
      · have hno : ¬ (sReason rr n e = 0 ∧ ap n e = false) := fun q2 => q (if_pos q2)
        conv => rhs; unfold sNext
        rw [if_neg (fun q2 => hno ⟨q2.2, by
          have := q2.1
          rw [eb] at this
          cases hap : ap n e with
          | false => rfl
          | true => rw [hap, if_pos rfl] at this; exact absurd this (by decide)⟩)]
      · have hyes : sReason rr n e = 0 ∧ ap n e = false := by
          by_cases q2 : sReason rr n e = 0 ∧ ap n e = false
          · exact q2
          · rw [if_neg q2] at q; exact absurd q (by decide)
        have hcond : bA ap (12 * n + e) = 0 ∧ sReason rr n e = 0 := ⟨by rw [eb, hyes.2]; rfl, hyes.1⟩
        cases hs : sNext rr (bA ap) e n with
        | none =>
          refine ⟨fun _ => hstep _ ?_, fun q2 => absurd rfl q2⟩
          conv => rhs; unfold sNext
          rw [if_pos hcond, hs]; rfl
        | some b =>
          have hb := nextLt hs
          have hsb := hsm.1 n b (by omega) (by omega)
          have hbv : sBV rr n b = true ↔ wV rr b 9 < wV rr n 9 := by
            unfold sBV
            simp only [decide_eq_true_eq]
            constructor
            · rintro (q3 | ⟨-, q3⟩)
              · exact hsb.mp q3
              · omega
            · intro q3; exact Or.inl (hsb.mpr q3)
          refine ⟨fun q2 => absurd q2 (o2i_neg (n := b) (by omega)), fun _ => ⟨_, _, h.1.2.2.2.2.2.2.1, n, zix.eq rfl hnV (by omega), _, h.2.2 n hnV, b, zix.eq rfl (by omega) (by omega), _, h.2.2 b (by omega), fun q2 => hstep _ ?_, fun q2 => hstep _ ?_⟩⟩
          · conv => rhs; unfold sNext
            rw [if_pos hcond, hs]
            show _ = o2i (if sBV rr n b = true then some n else some b)
            rw [if_neg (fun q3 => q2 (hbv.mp q3))]
          · conv => rhs; unfold sNext
            rw [if_pos hcond, hs]
            show _ = o2i (if sBV rr n b = true then some n else some b)
            rw [if_pos (hbv.mpr q2)]; rfl
  exact S_X8_nextValley (main V 0 (by omega))
theorem leastLt {r : Nat → Int32} {v : Nat} {l : List Nat} : ∀ n, 0 < n → sLeast r v l n < n := by
  intro n
  induction n with
  | zero => intro h; omega
  | succ n ih =>
    intro _
    unfold sLeast
    split
    · omega
    · split
      · omega
      · have := ih (by omega); omega
theorem C_mWorst (v : Nat) (h1 : z1 = nI v) (hv : v < V) (hK : K ≤ 12) (hV : V ≤ 8) (hsm : zSm K V rr) (hp : sPosts rr v ≤ 3) (h : zMt μ M s K V as ab al aw ak ac rr) (hk : zKk μ ak ac K V rr kl) (h0 : 0 < (kl v).length) (k : Q (some (vI (nI (3 * v + sLeast rr v (kl v) (kl v).length)))) μ) : Call G Y_X8_worstPlace [vP (8, 0, M), vI z1] μ Q E := by
  subst h1
  obtain ⟨k1, k2, k3⟩ := hk v hv
  have e3 : (3 : Int32) * nI v = nI (3 * v) := by show nI 3 * nI v = _; rw [pk_mul]
  have main : ∀ d n, n + d = (kl v).length → 0 < n → Wp G Y_X8_worstPlace 8 [(0, vP (8, 0, M)), (1, vI (nI v)), (2, vI (nI (3 * v + sLeast rr v (kl v) n))), (3, vI (nI (3 * v + n)))] [] μ Q E := by
    intro d
    induction d with
    | zero =>
      intro n hn hn0
      have : n = (kl v).length := by omega
      refine B_X8_worstPlace_8 ⟨_, _, h.1.2.2.2.2.2.2.2.2, v, zix.eq rfl hv (by omega), _, k2, fun _ => by rw [this]; exact k, fun q => ?_⟩
      rw [e3, nI_add] at q
      exact absurd q (nI_nlt (by omega) (by omega))
    | succ d ih =>
      intro n hn hn0
      have hl := leastLt (r := rr) (v := v) (l := kl v) n hn0
      obtain ⟨a1, a2⟩ := k3 (sLeast rr v (kl v) n) (by omega)
      obtain ⟨b1, b2⟩ := k3 n (by omega)
      refine B_X8_worstPlace_8 ⟨_, _, h.1.2.2.2.2.2.2.2.2, v, zix.eq rfl hv (by omega), _, k2, fun q => ?_, fun _ => ⟨_, _, h.1.2.2.2.2.2.2.2.1, 3 * v + sLeast rr v (kl v) n, zix.eq rfl (by omega) (by omega), _, a1, 3 * v + n, zix.eq rfl (by omega) (by omega), _, b1, C_mPrefers v _ _ rfl rfl rfl hv a2 b2 hK hV hsm h (fun q => ⟨_, rfl, fun e => absurd e (by decide), fun _ => ?_⟩) (fun q => ⟨_, rfl, fun _ => ?_, fun e => absurd rfl e⟩)⟩⟩
      · rw [e3, nI_add] at q
        exact absurd (nI_lt (by omega) (by omega)) q
      · have := ih (n + 1) (by omega) (by omega)
        rw [nI_1]
        unfold sLeast at this
        rw [if_neg (by omega), if_pos q] at this
        exact this
      · have := ih (n + 1) (by omega) (by omega)
        rw [nI_1]
        unfold sLeast at this
        rw [if_neg (by omega), if_neg q] at this
        exact this
  refine S_X8_worstPlace ?_
  rw [e3, nI_1]
  have := main ((kl v).length - 1) 1 (by omega) (by omega)
  have e0 : sLeast rr v (kl v) 1 = 0 := rfl
  rw [e0, Nat.add_zero] at this
  exact this
end ZJ
