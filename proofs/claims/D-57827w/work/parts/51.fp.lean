/-! FLOATING POINT: a quotient of whole numbers is a number -/
/-- what rounding gives -/
def fpG (f : FP.Core.Fmt) (d : FP.Core.Datum) : Prop := match d with
  | .nan => False
  | .inf _ => True
  | .fin _ c q => c < 2 ^ f.p ∧ q ≤ f.qmax
theorem fpG_bound {f : FP.Core.Fmt} {s : Bool} {c : Nat} {q : Int} (h : c < 2 ^ f.p) : fpG f (FP.Core.bound f s c q) := by
  unfold FP.Core.bound
  split
  · exact ⟨h, by assumption⟩
  · exact True.intro
theorem fpG_settle {f : FP.Core.Fmt} (hf : f.tails < 2 ^ f.p) (s : Bool) (c : Nat) (q : Int) : fpG f (FP.Core.settle f s c q) := by
  unfold FP.Core.settle
  split
  · exact fpG_bound (by assumption)
  · exact fpG_bound hf
theorem fpG_rr {f : FP.Core.Fmt} (hf : f.tails < 2 ^ f.p) (hq : f.qmin ≤ f.qmax) (s : Bool) (n d : Nat) (e : Int) : fpG f (FP.Core.roundRatio f s n d e) := by
  unfold FP.Core.roundRatio
  split
  · exact ⟨Nat.two_pow_pos _, hq⟩
  · exact fpG_settle hf _ _ _
theorem asm64 (s : Bool) {e t : Nat} (he : e ≤ 2046) (ht : t < 4503599627370496) : FP.Core.assemble FP.Core.b64 s e t < 18446744073709551616 ∧ FP.Core.assemble FP.Core.b64 s e t % 9223372036854775808 ≤ 9218868437227405312 ∧ FP.Core.fieldE FP.Core.b64 (FP.Core.assemble FP.Core.b64 s e t) ≠ 2047 := by
  have h1 : FP.Core.b64.exps = 2048 := by decide
  have h2 : FP.Core.b64.tails = 4503599627370496 := by decide
  unfold FP.Core.fieldE FP.Core.assemble
  rw [h1, h2]
  cases s
  · simp only [Bool.toNat_false]; omega
  · simp only [Bool.toNat_true]; omega
theorem asm32 (s : Bool) {e t : Nat} (he : e ≤ 254) (ht : t < 8388608) : FP.Core.assemble FP.Core.b32 s e t < 4294967296 ∧ FP.Core.assemble FP.Core.b32 s e t % 2147483648 ≤ 2139095040 ∧ FP.Core.fieldE FP.Core.b32 (FP.Core.assemble FP.Core.b32 s e t) ≠ 255 := by
  have h1 : FP.Core.b32.exps = 256 := by decide
  have h2 : FP.Core.b32.tails = 8388608 := by decide
  unfold FP.Core.fieldE FP.Core.assemble
  rw [h1, h2]
  cases s
  · simp only [Bool.toNat_false]; omega
  · simp only [Bool.toNat_true]; omega
theorem dec_ne {f : FP.Core.Fmt} {n : Nat} (h : FP.Core.fieldE f n ≠ f.exps - 1 ∨ FP.Core.fieldT f n = 0) : FP.Core.decode f n ≠ .nan := by
  unfold FP.Core.decode
  split
  · split
    · intro q; cases q
    · rename_i h1 h2
      rcases h with h | h
      · exact absurd h1 h
      · exact absurd h h2
  · split <;> (intro q; cases q)
theorem enc64 {d : FP.Core.Datum} (h : fpG FP.Core.b64 d) : FP.Core.encode FP.Core.b64 d < 18446744073709551616 ∧ FP.Core.encode FP.Core.b64 d % 9223372036854775808 ≤ 9218868437227405312 ∧ FP.Core.decode FP.Core.b64 (FP.Core.encode FP.Core.b64 d) ≠ .nan := by
  have h1 : FP.Core.b64.exps = 2048 := by decide
  have h2 : FP.Core.b64.tails = 4503599627370496 := by decide
  have h3 : FP.Core.b64.qmin = -1074 := by decide
  have h4 : FP.Core.b64.qmax = 971 := by decide
  match d, h with
  | .inf s, _ =>
    cases s <;> decide
  | .fin s c q, h =>
    obtain ⟨c1, c2⟩ := h
    have c3 : c < 9007199254740992 := c1
    rw [h4] at c2
    unfold FP.Core.encode
    dsimp only
    split
    · rename_i hc
      rw [h2] at hc
      obtain ⟨a1, a2, a3⟩ := asm64 s (show 0 ≤ 2046 by omega) hc
      exact ⟨a1, a2, dec_ne (Or.inl (by rw [h1]; exact a3))⟩
    · rename_i hc
      rw [h2] at hc
      rw [h3, h2]
      obtain ⟨a1, a2, a3⟩ := asm64 s (show (q - -1074).toNat + 1 ≤ 2046 by omega) (show c - 4503599627370496 < 4503599627370496 by omega)
      exact ⟨a1, a2, dec_ne (Or.inl (by rw [h1]; exact a3))⟩
theorem enc32 {d : FP.Core.Datum} (h : fpG FP.Core.b32 d) : FP.Core.encode FP.Core.b32 d < 4294967296 ∧ FP.Core.encode FP.Core.b32 d % 2147483648 ≤ 2139095040 ∧ FP.Core.decode FP.Core.b32 (FP.Core.encode FP.Core.b32 d) ≠ .nan := by
  have h1 : FP.Core.b32.exps = 256 := by decide
  have h2 : FP.Core.b32.tails = 8388608 := by decide
  have h3 : FP.Core.b32.qmin = -149 := by decide
  have h4 : FP.Core.b32.qmax = 104 := by decide
  match d, h with
  | .inf s, _ =>
    cases s <;> decide
  | .fin s c q, h =>
    obtain ⟨c1, c2⟩ := h
    have c3 : c < 16777216 := c1
    rw [h4] at c2
    unfold FP.Core.encode
    dsimp only
    split
    · rename_i hc
      rw [h2] at hc
      obtain ⟨a1, a2, a3⟩ := asm32 s (show 0 ≤ 254 by omega) hc
      exact ⟨a1, a2, dec_ne (Or.inl (by rw [h1]; exact a3))⟩
    · rename_i hc
      rw [h2] at hc
      rw [h3, h2]
      obtain ⟨a1, a2, a3⟩ := asm32 s (show (q - -149).toNat + 1 ≤ 254 by omega) (show c - 8388608 < 8388608 by omega)
      exact ⟨a1, a2, dec_ne (Or.inl (by rw [h1]; exact a3))⟩
theorem vf_of64 {d : FP.Core.Datum} (h : fpG FP.Core.b64 d) : vf_n64 (UInt64.ofNat (FP.Core.encode FP.Core.b64 d)) ∧ FP.Core.decode FP.Core.b64 (UInt64.ofNat (FP.Core.encode FP.Core.b64 d)).toNat ≠ .nan := by
  obtain ⟨h1, h2, h3⟩ := enc64 h
  have e : (UInt64.ofNat (FP.Core.encode FP.Core.b64 d)).toNat = FP.Core.encode FP.Core.b64 d := by
    rw [UInt64.toNat_ofNat']; exact Nat.mod_eq_of_lt h1
  refine ⟨?_, by rw [e]; exact h3⟩
  unfold vf_n64
  rw [UInt64.le_iff_toNat_le, UInt64.toNat_and, e]
  show FP.Core.encode FP.Core.b64 d &&& (2 ^ 63 - 1) ≤ 9218868437227405312
  rw [Nat.and_two_pow_sub_one_eq_mod]
  exact h2
theorem vf_of32 {d : FP.Core.Datum} (h : fpG FP.Core.b32 d) : vf_n32 (UInt32.ofNat (FP.Core.encode FP.Core.b32 d)) ∧ FP.Core.decode FP.Core.b32 (UInt32.ofNat (FP.Core.encode FP.Core.b32 d)).toNat ≠ .nan := by
  obtain ⟨h1, h2, h3⟩ := enc32 h
  have e : (UInt32.ofNat (FP.Core.encode FP.Core.b32 d)).toNat = FP.Core.encode FP.Core.b32 d := by
    rw [UInt32.toNat_ofNat']; exact Nat.mod_eq_of_lt h1
  refine ⟨?_, by rw [e]; exact h3⟩
  unfold vf_n32
  rw [UInt32.le_iff_toNat_le, UInt32.toNat_and, e]
  show FP.Core.encode FP.Core.b32 d &&& (2 ^ 31 - 1) ≤ 2139095040
  rw [Nat.and_two_pow_sub_one_eq_mod]
  exact h2
theorem fpG_quo {f : FP.Core.Fmt} (hf : f.tails < 2 ^ f.p) (hq : f.qmin ≤ f.qmax) {a : FP.Core.Datum} (ha : a ≠ .nan) {t : Bool} {c : Nat} (q : Int) (hc : c ≠ 0) : fpG f (FP.Core.quotient f a (.fin t c q)) := by
  match a, ha with
  | .inf s, _ => exact True.intro
  | .fin s c' q', _ =>
    unfold FP.Core.quotient
    dsimp only
    rw [if_neg hc]
    exact fpG_rr hf hq _ _ _ _
def fpNz (f : FP.Core.Fmt) (n : Nat) : Bool := match FP.Core.decode f n with
  | .fin _ c _ => decide (c ≠ 0)
  | _ => false
theorem fpNz_spec {f : FP.Core.Fmt} {n : Nat} (h : fpNz f n = true) : ∃ t c q, FP.Core.decode f n = .fin t c q ∧ c ≠ 0 := by
  unfold fpNz at h
  split at h
  · rename_i t c q e
    exact ⟨t, c, q, e, of_decide_eq_true h⟩
  · cases h
theorem fpNz64 : ∀ K, K < 13 → 0 < K → fpNz FP.Core.b64 (FP.Core.i2d (nI K)).toNat = true := by decide +kernel
theorem fpNz32 : ∀ K, K < 13 → 0 < K → fpNz FP.Core.b32 (FP.Core.i2f (nI K)).toNat = true := by decide +kernel
theorem vf_div64 (x : Int32) {K : Nat} (h0 : 0 < K) (h12 : K ≤ 12) : vf_n64 (FP.ddiv (FP.i2d x) (FP.i2d (nI K))) ∧ FP.Core.decode FP.Core.b64 (FP.ddiv (FP.i2d x) (FP.i2d (nI K))).toNat ≠ .nan := by
  obtain ⟨t, c, q, e1, e2⟩ := fpNz_spec (fpNz64 K (by omega) h0)
  have hx : FP.Core.decode FP.Core.b64 (FP.i2d x).toNat ≠ .nan := (vf_of64 (fpG_rr (f := FP.Core.b64) (by decide) (by decide) _ _ _ _)).2
  have := fpG_quo (f := FP.Core.b64) (by decide) (by decide) hx (t := t) q e2
  rw [← e1] at this
  exact vf_of64 this
theorem vf_div32 (x : Int32) {K : Nat} (h0 : 0 < K) (h12 : K ≤ 12) : vf_n32 (FP.fdiv (FP.i2f x) (FP.i2f (nI K))) ∧ FP.Core.decode FP.Core.b32 (FP.fdiv (FP.i2f x) (FP.i2f (nI K))).toNat ≠ .nan := by
  obtain ⟨t, c, q, e1, e2⟩ := fpNz_spec (fpNz32 K (by omega) h0)
  have hx : FP.Core.decode FP.Core.b32 (FP.i2f x).toNat ≠ .nan := (vf_of32 (fpG_rr (f := FP.Core.b32) (by decide) (by decide) _ _ _ _)).2
  have := fpG_quo (f := FP.Core.b32) (by decide) (by decide) hx (t := t) q e2
  rw [← e1] at this
  exact vf_of32 this
