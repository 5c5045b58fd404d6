/-! THE COMPONENT: numbers of tables -/
theorem zpw_fp : ∀ n ∈ zpw, vf_n32 (FP.fmul (FP.i2f (nI n)) ((1061158912 : UInt32).toInt32).toUInt32) ∧ (Op.cmpValue (FP.fcmp (FP.fmul (FP.i2f (nI n)) ((1061158912 : UInt32).toInt32).toUInt32) 1317011456) .g) < 0 ∧ FP.f2i (FP.fmul (FP.i2f (nI n)) ((1061158912 : UInt32).toInt32).toUInt32) = nI (3 * n / 4) := by
  unfold vf_n32
  decide +kernel
theorem Wp.zo {G : ZG} {Y : ZY} {pc : Nat} {ls : List (Nat × ZV)} {st : List ZV} {μ : ZM} {Q : Option ZV → ZM → Prop} {E : ZP → ZM → Prop} (k : zok μ → Wp G Y pc ls st μ Q E) : Wp G Y pc ls st μ Q E := by
  exact Wp.adm fun _ h _ _ => k h.1
theorem Call.zo {G : ZG} {Y : ZY} {vs : List ZV} {μ : ZM} {Q : Option ZV → ZM → Prop} {E : ZP → ZM → Prop} (k : zok μ → (∀ v ∈ vs, zvk μ v) → Call G Y vs μ Q E) : Call G Y vs μ Q E := by
  exact Call.adm fun _ h hv => k h.1 hv
theorem Call.zq {G : ZG} {Y : ZY} {vs : List ZV} {μ : ZM} {Q : Option ZV → ZM → Prop} {E : ZP → ZM → Prop} (k : Call G Y vs μ (fun v ν => zok ν → zext μ ν → Q v ν) E) : Call G Y vs μ Q E := by
  refine Call.ok ?_
  intro h1 h2 h3
  obtain ⟨o, ν, e1, e2⟩ := k h1 h2 h3
  refine ⟨o, ν, ?_, e2⟩
  match o, e1 with
  | .inl v, e1 => exact fun a b _ => e1 a b
  | .inr q, e1 => exact fun _ _ _ => e1
theorem lf_fp : 0 < (Op.cmpValue (FP.fcmp 1061158912 FP.fconst0) .g) ∧ (Op.cmpValue (FP.fcmp 1061158912 1061158912) .l) = 0 := by
  decide +kernel
