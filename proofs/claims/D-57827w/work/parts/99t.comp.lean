set_option maxRecDepth 100000
/-! THE COMPONENT, 39: the whole object -/
theorem zIc.old {G : ZG} {X : Nat → Prop} {μ ν : ZM} (h : zIc G μ) (hok : zok μ) (hX : ∀ a, a < zsz μ → X a → zxt (ztg μ a).1) (k : zOld X μ ν) : zIc G ν := by
  obtain ⟨a1, h1, h2, h3, h4⟩ := h
  have k1 := k.2.1 a1 h2 (fun w => by have := hX a1 h2 w; unfold zxt at this; omega)
  refine ⟨a1, h1, Nat.lt_of_lt_of_le h2 k.1.1, by rw [k.1.2.2 a1 h2]; exact h3, fun j hj => ?_⟩
  obtain ⟨q1, q2⟩ := h4 j hj
  have hp := hok.2.2.2.2.2.2 a1 j
  have ht : (zar μ a1 j).1 = 24 ∨ (zar μ a1 j).1 = 124 := q1
  have hl := hp.lt (by omega) (by omega)
  have e9 : (ztg μ (zar μ a1 j).2.2).1 = (zar μ a1 j).1 := congrArg Prod.fst hl.2
  have k2 := k.2.1 _ hl.1 (fun w => by have := hX _ hl.1 w; unfold zxt at this; omega)
  rw [k1.2.2.2]
  exact ⟨q1, (k2.1 _).trans q2⟩
/-- the component's own addresses; Z: the model's -/
def zXo (x d da bf sb sba : Nat) (Z : Nat → Prop) (a : Nat) : Prop := a = x ∨ a = d ∨ a = da ∨ a = bf ∨ a = sb ∨ a = sba ∨ Z a
/-- states in a queue -/
def zPs (μ : ZM) (X : Nat → Prop) : List ZP → List (Nat → Int32) → Prop
  | [], [] => True
  | p :: ps, r :: rs => (∃ s, p = (2, 0, s) ∧ zHs μ X s r) ∧ zPs μ X ps rs
  | _, _ => False
theorem zPs.len {μ : ZM} {X : Nat → Prop} : ∀ {ps : List ZP} {rs : List (Nat → Int32)}, zPs μ X ps rs → ps.length = rs.length := by
  intro ps
  induction ps with
  | nil => intro rs h; cases rs with
    | nil => rfl
    | cons r rs => exact h.elim
  | cons p ps ih => intro rs h; cases rs with
    | nil => exact h.elim
    | cons r rs => show _ + 1 = _ + 1; rw [ih h.2]
theorem zPs.kp {μ ν : ZM} {X X' : Nat → Prop} (k : ∀ s r, zHs μ X s r → zHs ν X' s r) : ∀ {ps : List ZP} {rs : List (Nat → Int32)}, zPs μ X ps rs → zPs ν X' ps rs := by
  intro ps
  induction ps with
  | nil => intro rs h; cases rs with
    | nil => trivial
    | cons r rs => exact h.elim
  | cons p ps ih => intro rs h; cases rs with
    | nil => exact h.elim
    | cons r rs => obtain ⟨⟨s, e, h1⟩, h2⟩ := h; exact ⟨⟨s, e, k s r h1⟩, ih h2⟩
theorem zPs.snoc {μ : ZM} {X : Nat → Prop} {s : Nat} {r : Nat → Int32} (hs : zHs μ X s r) : ∀ {ps : List ZP} {rs : List (Nat → Int32)}, zPs μ X ps rs → zPs μ X (ps ++ [(2, 0, s)]) (rs ++ [r]) := by
  intro ps
  induction ps with
  | nil => intro rs h; cases rs with
    | nil => exact ⟨⟨s, rfl, hs⟩, trivial⟩
    | cons r rs => exact h.elim
  | cons p ps ih => intro rs h; cases rs with
    | nil => exact h.elim
    | cons r rs => exact ⟨h.1, ih h.2⟩
theorem zPs.last {μ : ZM} {X : Nat → Prop} {r : Nat → Int32} : ∀ {rs : List (Nat → Int32)} {ps : List ZP}, zPs μ X ps (rs ++ [r]) → ∃ ps' s, ps = ps' ++ [(2, 0, s)] ∧ zHs μ X s r ∧ zPs μ X ps' rs := by
  intro rs
  induction rs with
  | nil => intro ps h; cases ps with
    | nil => exact h.elim
    | cons p ps =>
      obtain ⟨⟨s, e, h1⟩, h2⟩ := h
      cases ps with
      | nil => exact ⟨[], s, by rw [e]; rfl, h1, trivial⟩
      | cons q ps => exact h2.elim
  | cons r' rs ih => intro ps h; cases ps with
    | nil => exact h.elim
    | cons p ps =>
      obtain ⟨h1, h2⟩ := h
      obtain ⟨ps', s, e, h3, h4⟩ := ih h2
      exact ⟨p :: ps', s, by rw [e]; rfl, h3, h1, h4⟩
/-- a byte in a byte array -/
def sB (b : Nat) : Int32 := (nI b).toInt8.toInt32
theorem sB_and : ∀ b : Fin 256, sB b.val &&& 255 = nI b.val ∧ ((sB b.val).toInt8.toInt32 = sB b.val) := by decide
/-- the saved state -/
def zXv (μ : ZM) (X : Nat → Prop) (x : Nat) : Option (Nat → Int32) → Prop
  | none => zfr μ 1 x = zN
  | some r => ∃ s, zfr μ 1 x = (2, 0, s) ∧ zHs μ X s r
/-- the component holds σ -/
def zXs (G : ZG) (μ : ZM) (x d da bf sb sba n : Nat) (Z : Nat → Prop) (σ : ZS) : Prop :=
  ((ztg μ x).1 = 1 ∧ x < zsz μ ∧ zfr μ 2 x = (12, 0, d) ∧ zfr μ 3 x = (202, 900, bf) ∧ zfr μ 7 x = (22, 0, sb) ∧ (bf ≠ sba ∧ n ≤ 600) ∧ ∀ a, Z a → a < zsz μ ∧ ((ztg μ a).1 = 5 ∨ (ztg μ a).1 = 200 ∨ (ztg μ a).1 = 201)) ∧ zIc G μ ∧
  (∃ s, zfr μ 0 x = (2, 0, s) ∧ zHs μ (zXo x d da bf sb sba Z) s (aR σ)) ∧ zXv μ (zXo x d da bf sb sba Z) x (aSv σ) ∧
  ((∃ h ps, zDq μ d da 10 h ps ∧ zPs μ (zXo x d da bf sb sba Z) ps (aPa σ)) ∧ (aPa σ).length ≤ 8) ∧
  ((aBu σ).length ≤ 900 ∧ zfi μ 4 x = nI (aBu σ).length ∧ ∀ k, k < (aBu σ).length → zai μ bf k = sB ((aBu σ).getD k 0) ∧ (aBu σ).getD k 0 < 256) ∧
  (zfi μ 5 x = aEc σ ∧ zfi μ 6 x = aEp σ) ∧ zSb μ sb sba n (aOu σ)
section KP
variable {G : ZG} {μ ν : ZM} {x d da bf sb sba n : Nat} {Z : Nat → Prop} {σ : ZS}
/-- the own addresses' tags -/
theorem zXs.tg (h : zXs G μ x d da bf sb sba n Z σ) (hok : zok μ) : ((ztg μ d).1 = 12 ∧ d < zsz μ) ∧ ((ztg μ da).1 = 204 ∧ da < zsz μ) ∧ ((ztg μ bf).1 = 202 ∧ bf < zsz μ) ∧ ((ztg μ sb).1 = 22 ∧ sb < zsz μ) ∧ ((ztg μ sba).1 = 202 ∧ sba < zsz μ) := by
  obtain ⟨⟨h1, h2, h3, h4, h5, h6, h7⟩, -, -, -, ⟨⟨hh, ps, hq, -⟩, -⟩, -, -, hs⟩ := h
  have e1 := hok.ref h3 (by decide) (by decide)
  have e2 := hok.ref hq.1 (by decide) (by decide)
  have e3 := hok.ref h4 (by decide) (by decide)
  have e4 := hok.ref h5 (by decide) (by decide)
  have e5 := hok.ref hs.1.1 (by decide) (by decide)
  exact ⟨⟨by rw [e1.2], e1.1⟩, ⟨by rw [e2.2], e2.1⟩, ⟨by rw [e3.2], e3.1⟩, ⟨by rw [e4.2], e4.1⟩, ⟨by rw [e5.2], e5.1⟩⟩
theorem zXs.xt (h : zXs G μ x d da bf sb sba n Z σ) (hok : zok μ) : ∀ a, a < zsz μ → zXo x d da bf sb sba Z a → zxt (ztg μ a).1 := by
  obtain ⟨t1, t2, t3, t4, t5⟩ := h.tg hok
  have h1 := h.1
  intro a _ ha
  unfold zxt
  rcases ha with q | q | q | q | q | q | q
  · rw [q]; omega
  · rw [q]; omega
  · rw [q]; omega
  · rw [q]; omega
  · rw [q]; omega
  · rw [q]; omega
  · have := (h1.2.2.2.2.2.2 a q).2; omega
theorem zXs.zt (h : zXs G μ x d da bf sb sba n Z σ) : ∀ a, a < zsz μ → Z a → zxt (ztg μ a).1 := fun a _ q => by
  have := (h.1.2.2.2.2.2.2 a q).2
  unfold zxt; omega
theorem zXs.nz (h : zXs G μ x d da bf sb sba n Z σ) (hok : zok μ) : ¬ Z x ∧ ¬ Z d ∧ ¬ Z da ∧ ¬ Z bf ∧ ¬ Z sb ∧ ¬ Z sba := by
  obtain ⟨t1, t2, t3, t4, t5⟩ := h.tg hok
  have h1 := h.1
  refine ⟨fun q => ?_, fun q => ?_, fun q => ?_, fun q => ?_, fun q => ?_, fun q => ?_⟩ <;> have := (h1.2.2.2.2.2.2 _ q).2 <;> omega
theorem zOld.mono {X Y : Nat → Prop} (k : zOld X μ ν) (h : ∀ a, a < zsz μ → X a → Y a) : zOld Y μ ν := ⟨k.1, fun a ha hy => k.2.1 a ha (fun q => hy (h a ha q)), k.2.2⟩
theorem zHs.kX {X : Nat → Prop} {s : Nat} {r : Nat → Int32} (h : zHs μ X s r) (hok : zok μ) (hX : ∀ a, a < zsz μ → X a → zxt (ztg μ a).1) {Y : Nat → Prop} (k : zOld Y μ ν) (hY : ∀ a, a < zsz μ → Y a → X a) : zHs ν X s r := h.kp hok hX (k.mono hY)
/-- what holds but for the own fields -/
theorem zXs.kp (h : zXs G μ x d da bf sb sba n Z σ) (hok : zok μ) (k : zOld Z μ ν) : zXs G ν x d da bf sb sba n Z σ := by
  have hxt := h.xt hok
  have hzt := h.zt
  obtain ⟨t1, t2, t3, t4, t5⟩ := h.tg hok
  obtain ⟨n1, n2, n3, n4, n5, n6⟩ := h.nz hok
  obtain ⟨⟨h1, h2, h3, h4, h5, h6, h7⟩, hI, ⟨s, hs, hs2⟩, hv, ⟨⟨hh, ps, hq, hp⟩, hl⟩, ⟨b1, b2, b3⟩, ⟨e1, e2⟩, ho⟩ := h
  have kx := k.2.1 x h2 n1
  have kd := k.2.1 d t1.2 n2
  have kda := k.2.1 da t2.2 n3
  have kb := k.2.1 bf t3.2 n4
  have KH : ∀ s r, zHs μ (zXo x d da bf sb sba Z) s r → zHs ν (zXo x d da bf sb sba Z) s r := fun s r q => q.kX hok hxt k (fun a _ q => Or.inr (Or.inr (Or.inr (Or.inr (Or.inr (Or.inr q))))))
  refine ⟨⟨by rw [k.1.2.2 x h2]; exact h1, Nat.lt_of_lt_of_le h2 k.1.1, (kx.2.1 _ (by decide) (by decide)).trans h3, (kx.2.1 _ (by decide) (by decide)).trans h4, (kx.2.1 _ (by decide) (by decide)).trans h5, h6, fun a q => ⟨Nat.lt_of_lt_of_le (h7 a q).1 k.1.1, by rw [k.1.2.2 a (h7 a q).1]; exact (h7 a q).2⟩⟩, hI.old hok hzt k, ⟨s, (kx.2.1 _ (by decide) (by decide)).trans hs, KH s _ hs2⟩, ?_, ⟨⟨hh, ps, ?_, hp.kp KH⟩, hl⟩, ⟨b1, (kx.1 _).trans b2, fun j hj => ⟨(kb.2.2.1 j).trans (b3 j hj).1, (b3 j hj).2⟩⟩, ⟨(kx.1 _).trans e1, (kx.1 _).trans e2⟩, ho.kp (k.2.1 sb t4.2 n5) (k.2.1 sba t5.2 n6)⟩
  · cases hc : aSv σ with
    | none => rw [hc] at hv; exact (kx.2.1 _ (by decide) (by decide)).trans hv
    | some r =>
      rw [hc] at hv
      obtain ⟨s', q1, q2⟩ := hv
      exact ⟨s', (kx.2.1 _ (by decide) (by decide)).trans q1, KH s' r q2⟩
  · obtain ⟨q1, q2, q3, q4, q5, q6, q7, q8⟩ := hq
    exact ⟨(kd.2.1 _ (by decide) (by decide)).trans q1, (kd.1 _).trans q2, (kd.1 _).trans q3, q4, q5, q6, fun i p hi => (kda.2.2.2 _).trans (q7 i p hi), q8⟩
end KP
