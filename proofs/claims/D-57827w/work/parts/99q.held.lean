set_option maxRecDepth 100000
/-! THE COMPONENT, 36: states that are held; what stays of the old world -/
/-- tags of the component's own objects -/
def zxt (t : Nat) : Prop := t = 1 ∨ t = 12 ∨ t = 204 ∨ t = 202 ∨ t = 22 ∨ t = 5 ∨ t = 200 ∨ t = 201
/-- all but X has stayed, but for maps' caches -/
def zOld (X : Nat → Prop) (μ ν : ZM) : Prop := zext μ ν ∧ (∀ a, a < zsz μ → ¬ X a → zsmC μ ν a) ∧ (∀ m, m < zsz μ → (ztg μ m).1 = 15 → zKc μ m → zKc ν m) ∧ ∀ m, m < zsz μ → (ztg μ m).1 = 14 → zEc μ m → zEc ν m
theorem zOld.rf (X : Nat → Prop) (μ : ZM) : zOld X μ μ := ⟨zext.rf μ, fun a _ _ => (zsame.rf μ a).c, fun _ _ _ h => h, fun _ _ _ h => h⟩
theorem zOld.trans {X Y : Nat → Prop} {μ ν ρ : ZM} (h : zOld X μ ν) (k : zOld Y ν ρ) (hY : ∀ a, a < zsz μ → Y a → X a) : zOld X μ ρ :=
  ⟨h.1.trans k.1, fun a ha hx => (h.2.1 a ha hx).trans (k.2.1 a (Nat.lt_of_lt_of_le ha h.1.1) (fun q => hx (hY a ha q))), fun m hm ht hk => k.2.2.1 m (Nat.lt_of_lt_of_le hm h.1.1) (by rw [h.1.2.2 m hm]; exact ht) (h.2.2.1 m hm ht hk), fun m hm ht hk => k.2.2.2 m (Nat.lt_of_lt_of_le hm h.1.1) (by rw [h.1.2.2 m hm]; exact ht) (h.2.2.2 m hm ht hk)⟩
theorem zOld.of {X W : Nat → Prop} {c d : Nat} {μ ν : ZM} (g : zG W c d μ ν) (hok : zok μ) (hX : ∀ a, a < zsz μ → X a → zxt (ztg μ a).1) (hW : ∀ a, a < zsz μ → W a → X a) : zOld X μ ν := by
  have nt : ∀ a, a < zsz μ → ¬ zxt (ztg μ a).1 → zsame μ ν a := fun a ha hn => g.same ha (fun w => hn (hX a ha (hW a ha w)))
  refine ⟨g.1, fun a ha hx => (g.same ha (fun w => hx (hW a ha w))).c, fun m hm ht hk => hk.kp ((nt m hm (by rw [ht]; unfold zxt; omega)).2.1 _) fun b hb => ?_, fun m hm ht hk => hk.kp ((nt m hm (by rw [ht]; unfold zxt; omega)).2.1 _) fun b hb => ?_⟩
  · have := hok.ref hb (by decide) (by decide)
    have sb := nt b this.1 (by rw [this.2]; unfold zxt; omega)
    exact ⟨sb.2.1 _, sb.1 _⟩
  · have := hok.ref hb (by decide) (by decide)
    exact (nt b this.1 (by rw [this.2]; unfold zxt; omega)).2.1 _
theorem zOld.nw {X : Nat → Prop} {c d : Nat} {μ ν : ZM} (g : zG (fun _ => False) c d μ ν) (hok : zok μ) : zOld X μ ν := by
  have := zOld.of (X := fun _ => False) g hok (fun _ _ q => q.elim) (fun _ _ q => q.elim)
  exact ⟨this.1, fun a ha _ => this.2.1 a ha id, this.2.2⟩
/-- behind a state's copy -/
theorem zOld.cp {X : Nat → Prop} {dm sm c d : Nat} {μ σ : ZM} (k : zCk dm sm μ σ) (g : zG (fun a => a = dm ∨ a = sm) c d μ σ) (hok : zok μ) (hd : (ztg μ dm).1 = 15) (hs : (ztg μ sm).1 = 14) : zOld X μ σ := by
  have nb : ∀ b, b < zsz μ → (ztg μ b).1 ≠ 15 → (ztg μ b).1 ≠ 14 → zsame μ σ b := fun b hb h1 h2 => g.same hb (fun w => w.elim (fun e => h1 (by rw [e]; exact hd)) (fun e => h2 (by rw [e]; exact hs)))
  refine ⟨g.1, fun a ha _ => k.1 a ha, fun m hm ht hk => ?_, fun m hm ht hk => ?_⟩
  · by_cases q : m = dm
    · rw [q]; exact k.2.1
    · refine hk.kp ((g.same hm (fun w => w.elim q (fun e => by rw [e, hs] at ht; cases ht))).2.1 _) fun b hb => ?_
      have := hok.ref hb (by decide) (by decide)
      have sb := nb b this.1 (by rw [this.2]; decide) (by rw [this.2]; decide)
      exact ⟨sb.2.1 _, sb.1 _⟩
  · by_cases q : m = sm
    · rw [q]; exact k.2.2
    · refine hk.kp ((g.same hm (fun w => w.elim (fun e => by rw [e, hd] at ht; cases ht) q)).2.1 _) fun b hb => ?_
      have := hok.ref hb (by decide) (by decide)
      exact (nb b this.1 (by rw [this.2]; decide) (by rw [this.2]; decide)).2.1 _
/-- behind an operation on what is new -/
theorem zOld.op {X : Nat → Prop} {lo c d : Nat} {μ σ ρ : ZM} (h : zOld X μ σ) (hok : zok σ) (hlo : zsz μ ≤ lo) (g : zG (zWl lo σ) c d σ ρ) : zOld X μ ρ := by
  have sl : ∀ a, a < zsz μ → zsame σ ρ a := fun a ha => g.same (Nat.lt_of_lt_of_le ha h.1.1) (fun w => by have := w.1; omega)
  refine ⟨h.1.trans g.1, fun a ha hx => (h.2.1 a ha hx).trans (sl a ha).c, fun m hm ht hk => (h.2.2.1 m hm ht hk).kp ((sl m hm).2.1 _) fun b hb => ?_, fun m hm ht hk => (h.2.2.2 m hm ht hk).kp ((sl m hm).2.1 _) fun b hb => ?_⟩
  · have := hok.ref hb (by decide) (by decide)
    have sb := g.same this.1 (fun w => w.2 (by rw [this.2]; unfold zim; omega))
    exact ⟨sb.2.1 _, sb.1 _⟩
  · have := hok.ref hb (by decide) (by decide)
    exact (g.same this.1 (fun w => w.2 (by rw [this.2]; unfold zim; omega))).2.1 _
/-- a name: a String of signs outside X -/
def zNa (μ : ZM) (X : Nat → Prop) (B : Nat) (p : ZP) (w : List Nat) : Prop := zStr μ B p w ∧ ¬ X p.2.2 ∧ ¬ X (zfr μ 140 p.2.2).2.2
theorem zNa.kp {μ ν : ZM} {X : Nat → Prop} {B : Nat} {p : ZP} {w : List Nat} (h : zNa μ X B p w) (k : ∀ a, a < B → ¬ X a → zsmC μ ν a) : zNa ν X B p w := by
  obtain ⟨⟨a1, a2, a3, a4, q, a5, a6, a7, a8, a9⟩, h2, h3⟩ := h
  have k1 := k _ a2 h2
  have e : zfr ν 140 p.2.2 = zfr μ 140 p.2.2 := k1.2.1 140 (by decide) (by decide)
  have k2 := k q.2.2 a7 (by rw [← a5]; exact h3)
  exact ⟨⟨a1, a2, (k1.1 _).trans a3, a4, q, e.trans a5, a6, a7, a8, fun j hj => ⟨(k2.2.2.1 j).trans (a9 j hj).1, (a9 j hj).2⟩⟩, h2, by rw [e]; exact h3⟩
theorem zNa.up {μ : ZM} {X : Nat → Prop} {B C : Nat} {p : ZP} {w : List Nat} (h : zNa μ X B p w) (k : B ≤ C) : zNa μ X C p w := by
  obtain ⟨⟨a1, a2, a3, a4, q, a5, a6, a7, a8⟩, h2⟩ := h
  exact ⟨⟨a1, by omega, a3, a4, q, a5, a6, by omega, a8⟩, h2⟩
/-- the names of echoes and valleys -/
def zNs (μ : ZM) (X : Nat → Prop) (B K V : Nat) (ea va : Nat → Nat) (r : Nat → Int32) : Prop := (∀ e, e < K → zNa μ X B (zfr μ 21 (ea e)) (sName r (23 + 15 * e))) ∧ ∀ v, v < V → zNa μ X B (zfr μ 30 (va v)) (sName r (203 + 17 * v))
/-- a State that is held -/
def zHs (μ : ZM) (X : Nat → Prop) (s : Nat) (r : Nat → Int32) : Prop := ∃ (lo hi K V F fg el ear vl var ds dm sm : Nat) (ea va ta sa : Nat → Nat), zSta μ lo hi s r K V F fg el ear vl var ds dm sm ea va ta sa ∧ hi ≤ zsz μ ∧ zNs μ X hi K V ea va r ∧ (∀ a, X a → (a < lo ∨ hi ≤ a) ∧ a ≠ fg)
theorem zHs.kp {μ ν : ZM} {X : Nat → Prop} {s : Nat} {r : Nat → Int32} (h : zHs μ X s r) (hok : zok μ) (hX : ∀ a, a < zsz μ → X a → zxt (ztg μ a).1) (k : zOld X μ ν) : zHs ν X s r := by
  obtain ⟨lo, hi, K, V, F, fg, el, ear, vl, var, ds, dm, sm, ea, va, ta, sa, h1, h2, h3, h4⟩ := h
  obtain ⟨t1, t2, t3, t4, t5, -⟩ := h1.tg hok
  have hE := h1.2.1.2.2.1
  have hVb := h1.2.2.1.2.2.1
  have hdt : (ztg μ dm).1 = 15 := by rw [(hok.ref h1.2.2.2.1.2.1 (by decide) (by decide)).2]
  have d1 := h1.2.2.2.1.1
  have s1 := h1.2.2.2.2.1.1
  have f1 := h1.1.1.2.2
  have kl : ∀ a, lo ≤ a → a < hi → zsmC μ ν a := fun a q1 q2 => k.2.1 a (by omega) (fun q => by have := (h4 a q).1; omega)
  refine ⟨lo, hi, K, V, F, fg, el, ear, vl, var, ds, dm, sm, ea, va, ta, sa, h1.kq hok k.1 kl (k.2.1 fg (by omega) (fun q => (h4 fg q).2 rfl)) (fun a ha hz => k.2.1 a ha (fun q => by have := hX a ha q; unfold zim at hz; unfold zxt at this; omega)) (fun q => k.2.2.1 dm (by omega) hdt q) (fun q => k.2.2.2 sm (by omega) t3 q), Nat.le_trans h2 k.1.1, ⟨fun e he => ?_, fun v hv => ?_⟩, h4⟩
  · have := (h3.1 e he).kp (ν := ν) (fun a ha hx => k.2.1 a (by omega) hx)
    rw [(kl (ea e) (hE e he).1 (hE e he).2).2.1 21 (by decide) (by decide)]; exact this
  · have := (h3.2 v hv).kp (ν := ν) (fun a ha hx => k.2.1 a (by omega) hx)
    rw [(kl (va v) (hVb v hv).1.1 (hVb v hv).1.2).2.1 30 (by decide) (by decide)]; exact this
