/-! CONTRACTS, 14: the abstract state; the model's memory of it -/
/-- row, saved row, past rows (the oldest first), buffer, error code, error position, output -/
abbrev ZS : Type := (Nat → Int32) × Option (Nat → Int32) × List (Nat → Int32) × List Nat × Int32 × Int32 × List Nat
def aR (σ : ZS) : Nat → Int32 := σ.1
def aSv (σ : ZS) : Option (Nat → Int32) := σ.2.1
def aPa (σ : ZS) : List (Nat → Int32) := σ.2.2.1
def aBu (σ : ZS) : List Nat := σ.2.2.2.1
def aEc (σ : ZS) : Int32 := σ.2.2.2.2.1
def aEp (σ : ZS) : Int32 := σ.2.2.2.2.2.1
def aOu (σ : ZS) : List Nat := σ.2.2.2.2.2.2
def zSv (μ : ZM) (m : Nat) (x : Option (Nat → Int32)) : Prop := match x with
  | none => zfi μ 47 m = 0
  | some r => zfi μ 47 m = 1 ∧ ∀ j, j < 627 → zai μ (m + 2) j = r j
def zPa (μ : ZM) (m : Nat) (l : List (Nat → Int32)) : Prop := l.length ≤ 8 ∧ zfi μ 45 m = nI l.length ∧ ∀ i, i < l.length → ∀ j, j < 627 → zai μ (m + 5) (627 * i + j) = (l.getD i (fun _ => 0)) j
def zBu (μ : ZM) (m : Nat) (l : List Nat) : Prop := l.length ≤ 900 ∧ zfi μ 56 m = nI l.length ∧ ∀ k, k < l.length → zai μ (m + 10) k = nI (l.getD k 0) ∧ l.getD k 0 < 256
def zOu (μ : ZM) (m : Nat) (l : List Nat) : Prop := l.length ≤ 256 ∧ zfi μ 67 m = nI l.length ∧ ∀ k, k < l.length → zai μ (m + 12) k = nI (l.getD k 0) ∧ l.getD k 0 < 65536
/-- the model's memory of a state -/
def zMs (μ : ZM) (m : Nat) (σ : ZS) : Prop := zMm μ m ∧ zai μ (m + 1) = aR σ ∧ zSv μ m (aSv σ) ∧ zPa μ m (aPa σ) ∧ zBu μ m (aBu σ) ∧ (zfi μ 62 m = aEc σ ∧ zfi μ 63 m = aEp σ) ∧ zOu μ m (aOu σ)
theorem zSv.same {μ ν : ZM} {m : Nat} {x : Option (Nat → Int32)} (h : zSv μ m x) (h1 : zfi ν 47 m = zfi μ 47 m) (h2 : zai ν (m + 2) = zai μ (m + 2)) : zSv ν m x := by
  cases x with
  | none => exact h1.trans h
  | some r => exact ⟨h1.trans h.1, fun j hj => by rw [h2]; exact h.2 j hj⟩
theorem zPa.same {μ ν : ZM} {m : Nat} {l : List (Nat → Int32)} (h : zPa μ m l) (h1 : zfi ν 45 m = zfi μ 45 m) (h2 : zai ν (m + 5) = zai μ (m + 5)) : zPa ν m l := ⟨h.1, h1.trans h.2.1, fun i hi j hj => by rw [h2]; exact h.2.2 i hi j hj⟩
theorem zBu.same {μ ν : ZM} {m : Nat} {l : List Nat} (h : zBu μ m l) (h1 : zfi ν 56 m = zfi μ 56 m) (h2 : zai ν (m + 10) = zai μ (m + 10)) : zBu ν m l := ⟨h.1, h1.trans h.2.1, fun i hi => by rw [h2]; exact h.2.2 i hi⟩
theorem zOu.same {μ ν : ZM} {m : Nat} {l : List Nat} (h : zOu μ m l) (h1 : zfi ν 67 m = zfi μ 67 m) (h2 : zai ν (m + 12) = zai μ (m + 12)) : zOu ν m l := ⟨h.1, h1.trans h.2.1, fun i hi => by rw [h2]; exact h.2.2 i hi⟩
/-- the places that hold no part of a state, but for the row -/
def zFt (m f b : Nat) : Prop := b = m ∧ f ≠ 45 ∧ f ≠ 47 ∧ f ≠ 56 ∧ f ≠ 62 ∧ f ≠ 63 ∧ f ≠ 67
def zAt (m b : Nat) : Prop := m < b ∧ b ≤ m + 12 ∧ b ≠ m + 2 ∧ b ≠ m + 5 ∧ b ≠ m + 10 ∧ b ≠ m + 12
theorem zMs.go {μ ν : ZM} {m : Nat} {σ : ZS} {r : Nat → Int32} (h : zMs μ m σ) (hW : zW (zFt m) (zAt m) μ ν) (hr : zai ν (m + 1) = r) : zMs ν m (r, σ.2) := by
  obtain ⟨h1, h2, h3, h4, h5, ⟨h6, h7⟩, h8⟩ := h
  have hf : ∀ f, ¬ zFt m f m → zfi ν f m = zfi μ f m := fun f q => hW.2.2.2.2.2.2.1 f m q
  exact ⟨h1.fr hW.fr, hr, h3.same (hf 47 (by unfold zFt; omega)) (hW.ai (by unfold zAt; omega)), h4.same (hf 45 (by unfold zFt; omega)) (hW.ai (by unfold zAt; omega)), h5.same (hf 56 (by unfold zFt; omega)) (hW.ai (by unfold zAt; omega)), ⟨(hf 62 (by unfold zFt; omega)).trans h6, (hf 63 (by unfold zFt; omega)).trans h7⟩, h8.same (hf 67 (by unfold zFt; omega)) (hW.ai (by unfold zAt; omega))⟩
theorem zMs.go0 {μ ν : ZM} {m : Nat} {σ : ZS} (h : zMs μ m σ) (hW : zW (zFt m) (zAt m) μ ν) (hr : zai ν (m + 1) = zai μ (m + 1)) : zMs ν m σ := h.go hW (hr.trans h.2.1)
theorem zW.t {m : Nat} {μ ν : ZM} (h : zW (zFs m) (zAs m) μ ν) : zW (zFt m) (zAt m) μ ν := h.mono (fun f b q => by unfold zFs at q; unfold zFt; omega) (fun b q => by unfold zAs at q; unfold zAt; omega)
theorem zW.t1 {m a : Nat} {μ ν : ZM} (h : zW zF0 (zA1 a) μ ν) (ha : zAt m a) : zW (zFt m) (zAt m) μ ν := h.mono (fun f b q => q.elim) (fun b q => by unfold zA1 at q; rw [q]; exact ha)
theorem zW.tm {m : Nat} {μ ν : ZM} (h : zW (zFt m) (zAt m) μ ν) : zW (zFm m) (zAm m) μ ν := h.mono (fun f b q => q.1) (fun b q => ⟨q.1, q.2.1⟩)
theorem zW_t46 (μ : ZM) (m : Nat) (x : Int32) : zW (zFt m) (zAt m) μ (zFi μ 46 m x) := zW_Fi (by unfold zFt; omega) μ x
theorem zMs.thr {μ : ZM} {m : Nat} {σ : ZS} (h : zMs μ m σ) (x : Int32) : zMs (zFi μ 46 m x) m σ := h.go0 (zW_t46 μ m x) rfl
/-- a row behind its end; names; ranges -/
def sZ (r : Nat → Int32) : Prop := ∀ j, 627 ≤ j → r j = 0
def sNm (r : Nat → Int32) (p : Nat) : Prop := ∃ n, r p = nI n ∧ 1 ≤ n ∧ n ≤ 6 ∧ ∀ k, k < n → ∃ c, r (p + 1 + k) = nI c ∧ 97 ≤ c ∧ c ≤ 122
def sRg (r : Nat → Int32) (K V : Nat) : Prop := (∀ e, e < K → (∃ x, wE r e 7 = nI x ∧ 1 ≤ x ∧ x ≤ 9) ∧ (∃ x, wE r e 8 = nI x ∧ 1 ≤ x ∧ x ≤ 9) ∧ sNm r (23 + 15 * e)) ∧ (∀ v, v < V → (∃ x, wV r v 7 = nI x ∧ 1 ≤ x ∧ x ≤ 9) ∧ (∃ x, wV r v 9 = nI x ∧ 1 ≤ x ∧ x ≤ 99) ∧ sNm r (203 + 17 * v)) ∧ ∀ v e, v < 8 → e < 12 → wP r v e 0 = 0 ∨ wP r v e 0 = 1
/-- a good row: what holds of it at all times, till day D -/
def sGd (r : Nat → Int32) (K V : Nat) (po : Nat → Nat) (D : Nat) : Prop := sW r K V po (24 * D) ∧ sRg r K V ∧ sZ r ∧ ∃ d, r 2 = nI d ∧ d ≤ D
theorem sW.le {r : Nat → Int32} {K V : Nat} {po : Nat → Nat} {B C : Nat} (h : sW r K V po B) (hC : B ≤ C) : sW r K V po C := ⟨h.1, h.2.1, h.2.2.1, h.2.2.2.1, h.2.2.2.2.1, h.2.2.2.2.2.le hC⟩
theorem sGd.le {r : Nat → Int32} {K V : Nat} {po : Nat → Nat} {D D' : Nat} (h : sGd r K V po D) (hD : D ≤ D') : sGd r K V po D' := by
  obtain ⟨h1, h2, h3, d, h4, h5⟩ := h
  exact ⟨h1.le (by omega), h2, h3, d, h4, by omega⟩
theorem sRg.kp {r r' : Nat → Int32} {K V : Nat} (h : sRg r K V) (hK : K ≤ 12) (hV : V ≤ 8) (k : sKd r r') : sRg r' K V := by
  have hE : ∀ e u, e < 12 → u < 11 → wE r' e u = wE r e u := fun e u he hu => k _ (by unfold iDyn; omega) (by omega)
  have hVv : ∀ v u, v < 8 → u < 10 → wV r' v u = wV r v u := fun v u hv hu => k _ (by unfold iDyn; omega) (by omega)
  obtain ⟨h1, h2, h3⟩ := h
  refine ⟨fun e he => ?_, fun v hv => ?_, fun v e hv he => ?_⟩
  · obtain ⟨a, b, n, c1, c2, c3, c4⟩ := h1 e he
    refine ⟨by rw [hE e 7 (by omega) (by omega)]; exact a, by rw [hE e 8 (by omega) (by omega)]; exact b, n, ?_, c2, c3, fun k' hk => ?_⟩
    · have := hE e 0 (by omega) (by omega)
      exact this.trans c1
    · obtain ⟨c, d1, d2⟩ := c4 k' hk
      have := hE e (1 + k') (by omega) (by omega)
      refine ⟨c, ?_, d2⟩
      rw [Nat.add_assoc]
      rw [Nat.add_assoc] at d1
      exact this.trans d1
  · obtain ⟨a, b, n, c1, c2, c3, c4⟩ := h2 v hv
    refine ⟨by rw [hVv v 7 (by omega) (by omega)]; exact a, by rw [hVv v 9 (by omega) (by omega)]; exact b, n, ?_, c2, c3, fun k' hk => ?_⟩
    · have := hVv v 0 (by omega) (by omega)
      exact this.trans c1
    · obtain ⟨c, d1, d2⟩ := c4 k' hk
      have := hVv v (1 + k') (by omega) (by omega)
      refine ⟨c, ?_, d2⟩
      rw [Nat.add_assoc]
      rw [Nat.add_assoc] at d1
      exact this.trans d1
  · have : wP r' v e 0 = wP r v e 0 := k _ (by unfold iDyn; omega) (by omega)
    rw [this]; exact h3 v e hv he
theorem sKp.kd {r r' : Nat → Int32} (h : sKp r r') : sKd r r' := fun j hj _ => h j hj
theorem sZ.kp {r r' : Nat → Int32} (h : sZ r) (k : sKd r r') : sZ r' := fun j hj => by rw [k j (by unfold iDyn; omega) (by omega)]; exact h j hj
theorem sGd.days {r : Nat → Int32} {K V : Nat} {po : Nat → Nat} {D : Nat} (h : sGd r K V po D) (hD : D < 10000000) {n : Nat} (hn : n ≤ 120) : sGd (sDays r K V n) K V po (D + n) := by
  obtain ⟨h1, h2, h3, d, h4, h5⟩ := h
  obtain ⟨k1, k2, k3⟩ := sDays_ok h1 (by omega) n hn
  exact ⟨k2.le (by omega), h2.kp h1.1.1 h1.1.2.1 k1, h3.kp k1, d + n, by rw [k3, h4, nI_add], by omega⟩
theorem sGd.kp {r r' : Nat → Int32} {K V : Nat} {po : Nat → Nat} {D : Nat} (h : sGd r K V po D) (k : sKp r r') (hw : sW r' K V po (24 * D)) : sGd r' K V po D := by
  obtain ⟨h1, h2, h3, d, h4, h5⟩ := h
  exact ⟨hw, h2.kp h1.1.1 h1.1.2.1 k.kd, h3.kp k.kd, d, by rw [k 2 (by unfold iDyn; omega)]; exact h4, h5⟩
theorem sGd.fair {r : Nat → Int32} {K V : Nat} {po : Nat → Nat} {D : Nat} (h : sGd r K V po D) : sGd (sFair r K V) K V po D := h.kp (sFair_ok h.1).1 (sFair_ok h.1).2.1
theorem sGd.end {r : Nat → Int32} {K V : Nat} {po : Nat → Nat} {D e : Nat} (h : sGd r K V po D) (he : e < 12) (hc : 0 < wE r e 13) : sGd (sEnd r e) K V po D := h.kp (sEnd_ok h.1 he hc).1 (sEnd_ok h.1 he hc).2
