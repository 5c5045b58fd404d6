set_option maxRecDepth 100000
/-! THE COMPONENT, 4: HashMap.resize -/
theorem zfr_ne {μ : ZM} {f g a b : Nat} {v : ZP} (h : b ≠ a) : zfr (zFr μ f a v) g b = zfr μ g b := by rw [zfr_zFr, if_neg (fun e => h e.2)]
/-- nodes linked in this order, the last one's link e -/
def zLe (μ : ZM) (T : Nat) (nd : Nat → Nat) (e : ZP) : List Nat → Prop
  | [] => True
  | x :: rs => zfr μ 120 (nd x) = (match rs with | [] => e | y :: _ => (T, 0, nd y)) ∧ zLe μ T nd e rs
theorem zLe.lk {μ : ZM} {T : Nat} {nd : Nat → Nat} : ∀ {L : List Nat}, zLe μ T nd zN L → zLk μ T nd L := by
  intro L
  induction L with
  | nil => intro _; trivial
  | cons x rs ih =>
    intro h
    refine ⟨?_, ih h.2⟩
    cases rs with
    | nil => exact h.1
    | cons y rs => exact h.1
theorem zLk.le {μ : ZM} {T : Nat} {nd : Nat → Nat} : ∀ {L : List Nat}, zLk μ T nd L → zLe μ T nd zN L := by
  intro L
  induction L with
  | nil => intro _; trivial
  | cons x rs ih =>
    intro h
    refine ⟨?_, ih h.2⟩
    cases rs with
    | nil => exact h.1
    | cons y rs => exact h.1
theorem zLe.kp {μ ν : ZM} {T : Nat} {nd : Nat → Nat} {e : ZP} : ∀ {L : List Nat}, zLe μ T nd e L → (∀ x ∈ L, zfr ν 120 (nd x) = zfr μ 120 (nd x)) → zLe ν T nd e L := by
  intro L
  induction L with
  | nil => intro _ _; trivial
  | cons x rs ih => intro h k; exact ⟨(k x List.mem_cons_self).trans h.1, ih h.2 (fun y hy => k y (List.mem_cons_of_mem _ hy))⟩
theorem zLe.snoc {μ : ZM} {T : Nat} {nd : Nat → Nat} {e : ZP} {z : Nat} (k : zfr μ 120 (nd z) = e) : ∀ {L : List Nat}, zLe μ T nd (T, 0, nd z) L → zLe μ T nd e (L ++ [z]) := by
  intro L
  induction L with
  | nil => intro _; exact ⟨k, trivial⟩
  | cons x rs ih =>
    intro h
    cases rs with
    | nil => exact ⟨h.1, k, trivial⟩
    | cons y rs => exact ⟨h.1, ih h.2⟩
/-- a part of a chain under way: its first node, its last; the last one's link is not yet set -/
def zPt (μ : ZM) (T : Nat) (nd : Nat → Nat) (M : List Nat) (p q : ZP) : Prop := (M = [] ∧ p = zN ∧ q = zN) ∨ ∃ I z, M = I ++ [z] ∧ p = zpt T nd M.head? ∧ q = (T, 0, nd z) ∧ zLe μ T nd (T, 0, nd z) I
theorem zPt.kp {μ ν : ZM} {T : Nat} {nd : Nat → Nat} {M : List Nat} {p q : ZP} (h : zPt μ T nd M p q) (k : ∀ x ∈ M, zfr ν 120 (nd x) = zfr μ 120 (nd x)) : zPt ν T nd M p q := by
  rcases h with h | ⟨I, z, h1, h2, h3, h4⟩
  · exact Or.inl h
  · exact Or.inr ⟨I, z, h1, h2, h3, h4.kp fun x hx => k x (by rw [h1]; exact List.mem_append_left _ hx)⟩
theorem zPt.push {μ : ZM} {T : Nat} {nd : Nat → Nat} {M : List Nat} {p q : ZP} {x : Nat} (h : zPt μ T nd M p q) (hd : M.Pairwise fun a b => nd a ≠ nd b) :
    (q = zN ∧ zPt μ T nd (M ++ [x]) (T, 0, nd x) (T, 0, nd x)) ∨ ∃ z ∈ M, q = (T, 0, nd z) ∧ zPt (zFr μ 120 (nd z) (T, 0, nd x)) T nd (M ++ [x]) p (T, 0, nd x) := by
  rcases h with ⟨h1, h2, h3⟩ | ⟨I, z, h1, h2, h3, h4⟩
  · subst h1
    exact Or.inl ⟨h3, Or.inr ⟨[], x, rfl, rfl, rfl, trivial⟩⟩
  · subst h1
    rw [List.pairwise_append] at hd
    refine Or.inr ⟨z, List.mem_append_right _ (List.mem_singleton.mpr rfl), h3, Or.inr ⟨I ++ [z], x, rfl, ?_, rfl, ?_⟩⟩
    · rw [h2]; cases I <;> rfl
    · exact zLe.snoc (by rw [zfr_zFr, if_pos ⟨rfl, rfl⟩]) (h4.kp fun y hy => by rw [zfr_zFr, if_neg (fun e => hd.2.2 y hy z (List.mem_singleton.mpr rfl) e.2)])
theorem zPt.fin {μ : ZM} {T : Nat} {nd : Nat → Nat} {M : List Nat} {p q : ZP} (h : zPt μ T nd M p q) (hd : M.Pairwise fun a b => nd a ≠ nd b) :
    (M = [] ∧ q = zN) ∨ ∃ z ∈ M, q = (T, 0, nd z) ∧ p.1 = T ∧ zCh (zFr μ 120 (nd z) zN) T nd p M := by
  rcases h with ⟨h1, h2, h3⟩ | ⟨I, z, h1, h2, h3, h4⟩
  · exact Or.inl ⟨h1, h3⟩
  · subst h1
    rw [List.pairwise_append] at hd
    refine Or.inr ⟨z, List.mem_append_right _ (List.mem_singleton.mpr rfl), h3, ?_, h2, ?_⟩
    · rw [h2]; cases I <;> rfl
    · exact (zLe.snoc (by rw [zfr_zFr, if_pos ⟨rfl, rfl⟩]) (h4.kp fun y hy => by rw [zfr_zFr, if_neg (fun e => hd.2.2 y hy z (List.mem_singleton.mpr rfl) e.2)])).lk
/-- only links of nodes in A have changed -/
def zN1 (A : Nat → Prop) (μ ν : ZM) : Prop := zG A 0 0 μ ν ∧ (∀ f a, zfi ν f a = zfi μ f a) ∧ (∀ f a, f ≠ 120 ∨ ¬ A a → zfr ν f a = zfr μ f a) ∧ ∀ a i, zar ν a i = zar μ a i
theorem zN1.rf (A : Nat → Prop) (μ : ZM) : zN1 A μ μ := ⟨zG.rf _ _, fun _ _ => rfl, fun _ _ _ => rfl, fun _ _ => rfl⟩
theorem zN1.tr {A : Nat → Prop} {μ ν ρ : ZM} (h : zN1 A μ ν) (k : zN1 A ν ρ) : zN1 A μ ρ := ⟨h.1.tr k.1, fun f a => (k.2.1 f a).trans (h.2.1 f a), fun f a ha => (k.2.2.1 f a ha).trans (h.2.2.1 f a ha), fun a i => (k.2.2.2 a i).trans (h.2.2.2 a i)⟩
theorem zN1.st {A : Nat → Prop} {μ : ZM} {a : Nat} {v : ZP} (h : A a) : zN1 A μ (zFr μ 120 a v) := ⟨zG.fr h, fun _ _ => rfl, fun f b hb => by rw [zfr_zFr, if_neg (by rintro ⟨rfl, rfl⟩; exact hb.elim (fun q => q rfl) (fun q => q h))], fun _ _ => rfl⟩
/-- the old table t behind bucket j, the new table u before it -/
def zRs (μ : ZM) (T t u n j : Nat) (ks : List Nat) (nd : Nat → Nat) : Prop := (∀ i, i < n → j ≤ i → zCh μ T nd (zar μ t i) (ks.filter fun x => x % n = i)) ∧ (∀ i, i < 2 * n → i % n < j → zCh μ T nd (zar μ u i) (ks.filter fun x => x % (2 * n) = i)) ∧ ∀ i, i < 2 * n → j ≤ i % n → zar μ u i = zN
theorem flt2 {ks : List Nat} {n i j : Nat} (h : i % n = j) (hi : i < 2 * n) : (ks.filter fun x => x % (2 * n) = i) = (ks.filter fun x => x % n = j).filter fun x => x % (2 * n) = i := by
  rw [List.filter_filter]
  apply List.filter_congr
  intro x _
  have : x % (2 * n) = i → x % n = j := by
    intro e
    rw [← h, ← e, Nat.mod_mul_left_mod]
  by_cases e : x % (2 * n) = i
  · simp [e, this e]
  · simp [e]
theorem zRs.step {μ ν : ZM} {T t u n j : Nat} {ks : List Nat} {nd : Nat → Nat} (h : zRs μ T t u n j ks nd) (hj : j < n)
    (h1 : zCh ν T nd (zar ν u j) ((ks.filter fun x => x % n = j).filter fun x => x % (2 * n) = j))
    (h2 : zCh ν T nd (zar ν u (j + n)) ((ks.filter fun x => x % n = j).filter fun x => x % (2 * n) = j + n))
    (h3 : ∀ i, i ≠ j → zar ν t i = zar μ t i) (h4 : ∀ i, i ≠ j → i ≠ j + n → zar ν u i = zar μ u i)
    (h5 : ∀ x ∈ ks, x % n ≠ j → zfr ν 120 (nd x) = zfr μ 120 (nd x)) : zRs ν T t u n (j + 1) ks nd := by
  obtain ⟨a1, a2, a3⟩ := h
  have hsp : ∀ i, i < 2 * n → i % n = j → i = j ∨ i = j + n := by
    intro i hi e
    by_cases q : i < n
    · rw [Nat.mod_eq_of_lt q] at e; exact Or.inl e
    · have : i = (i - n) + n := by omega
      rw [this, Nat.add_mod_right, Nat.mod_eq_of_lt (by omega)] at e
      omega
  have hjn : (j + n) % n = j := by rw [Nat.add_mod_right, Nat.mod_eq_of_lt hj]
  refine ⟨fun i hi hj1 => ?_, fun i hi hj1 => ?_, fun i hi hj1 => ?_⟩
  · obtain ⟨c1, c2⟩ := a1 i hi (by omega)
    refine ⟨(h3 i (by omega)).trans c1, c2.kp fun x hx => ?_⟩
    have hx2 := List.mem_filter.mp hx
    simp only [decide_eq_true_eq] at hx2
    exact h5 x hx2.1 (by omega)
  · by_cases e : i % n = j
    · rw [flt2 e hi]
      rcases hsp i hi e with rfl | rfl
      · exact h1
      · exact h2
    · obtain ⟨c1, c2⟩ := a2 i hi (by omega)
      have e1 : i ≠ j := by rintro rfl; exact e (Nat.mod_eq_of_lt hj)
      have e2 : i ≠ j + n := by rintro rfl; exact e hjn
      refine ⟨(h4 i e1 e2).trans c1, c2.kp fun x hx => ?_⟩
      have hx2 := List.mem_filter.mp hx
      simp only [decide_eq_true_eq] at hx2
      refine h5 x hx2.1 fun q => e ?_
      rw [← hx2.2, Nat.mod_mul_left_mod, q]
  · have e1 : i ≠ j := by rintro rfl; rw [Nat.mod_eq_of_lt hj] at hj1; omega
    have e2 : i ≠ j + n := by rintro rfl; rw [hjn] at hj1; omega
    exact (h4 i e1 e2).trans (a3 i hi (by omega))
/-- only the tables and links of nodes have changed -/
def zN2 (A : Nat → Prop) (μ ν : ZM) : Prop := zG A 0 0 μ ν ∧ (∀ f a, zfi ν f a = zfi μ f a) ∧ ∀ f a, f ≠ 120 → zfr ν f a = zfr μ f a
theorem zN2.tr {A : Nat → Prop} {μ ν ρ : ZM} (h : zN2 A μ ν) (k : zN2 A ν ρ) : zN2 A μ ρ := ⟨h.1.tr k.1, fun f a => (k.2.1 f a).trans (h.2.1 f a), fun f a ha => (k.2.2 f a ha).trans (h.2.2 f a ha)⟩
theorem zN2.st {A : Nat → Prop} {μ : ZM} {a i : Nat} {v : ZP} (h : A a) : zN2 A μ (zAr μ a i v) := ⟨zG.ar h, fun _ _ => rfl, fun _ _ _ => rfl⟩
theorem zN2.sl {A : Nat → Prop} {μ : ZM} {a : Nat} {v : ZP} (h : A a) : zN2 A μ (zFr μ 120 a v) := ⟨zG.fr h, fun _ _ => rfl, fun f b hb => by rw [zfr_zFr, if_neg (fun e => hb e.1)]⟩
theorem zN1.to {A B : Nat → Prop} {μ ν : ZM} (h : zN1 A μ ν) (k : ∀ a, A a → B a) : zN2 B μ ν := ⟨h.1.mono (fun a _ ha => k a ha) (Nat.le_refl _) (Nat.le_refl _), h.2.1, fun f a hf => h.2.2.1 f a (Or.inl hf)⟩
section ZJ
variable {G : ZG} {μ : ZM} {Q : Option ZV → ZM → Prop} {E : ZP → ZM → Prop}
theorem L_rsIn_14 {r0 t1 r1 n t6 r6 j : Nat} {nd : Nat → Nat} {L : List Nat} (hn : n ∈ zpw) (hd : L.Pairwise fun a b => nd a ≠ nd b) (hh : ∀ y ∈ L, y < 96 ∧ zfi μ 117 (nd y) = nI y ∧ y % n = j) :
    ∀ (rs : List Nat) (x : Nat) (dn : List Nat) (ν : ZM) (p9 p10 p11 p12 : ZP), L = dn ++ x :: rs → zN1 (fun a => ∃ y ∈ L, a = nd y) μ ν → zLk ν 16 nd (x :: rs) →
    zPt ν 16 nd (dn.filter fun y => y % (2 * n) = j) p9 p10 → zPt ν 16 nd (dn.filter fun y => y % (2 * n) = j + n) p11 p12 →
    (∀ ρ q9 q10 q11 q12, zN1 (fun a => ∃ y ∈ L, a = nd y) μ ρ → zPt ρ 16 nd (L.filter fun y => y % (2 * n) = j) q9 q10 → zPt ρ 16 nd (L.filter fun y => y % (2 * n) = j + n) q11 q12 →
      Wp G Y_J22_resize 301 [(0, vP (14, 0, r0)), (1, vP (205, t1, r1)), (2, vI (nI n)), (4, vI (nI (2 * n))), (6, vP (205, t6, r6)), (7, vI (nI j)), (9, vP q9), (10, vP q10), (11, vP q11), (12, vP q12), (13, vP zN)] [] ρ Q E) →
    Wp G Y_J22_resize 235 [(0, vP (14, 0, r0)), (1, vP (205, t1, r1)), (2, vI (nI n)), (4, vI (nI (2 * n))), (6, vP (205, t6, r6)), (7, vI (nI j)), (8, vP (16, 0, nd x)), (9, vP p9), (10, vP p10), (11, vP p11), (12, vP p12)] [] ν Q E := by
  intro rs
  induction rs with
  | nil =>
    intro x dn ν p9 p10 p11 p12 hL hN hl h9 h11 K
    have hx : x ∈ L := by rw [hL]; exact List.mem_append_right _ List.mem_cons_self
    have hsub : ∀ y ∈ dn, y ∈ L := fun y hy => by rw [hL]; exact List.mem_append_left _ hy
    have hdn : dn.Pairwise fun a b => nd a ≠ nd b := by rw [hL, List.pairwise_append] at hd; exact hd.1
    have hcr : ∀ y ∈ dn, ∀ z ∈ dn, y ≠ z → nd y ≠ nd z := fun y hy z hz hne e => by
      have := hh y (hsub y hy); have h2 := hh z (hsub z hz)
      rw [e, h2.2.1] at this
      exact hne ((nI_eq (by omega) (by omega)).mp this.2.1).symm
    refine B_J22_resize_14_235 ⟨_, hl.1, nI x, (hN.2.1 _ _).trans (hh x hx).2.1, fun e => ?_, fun e => ?_⟩
    all_goals
      rcases zpw_bit n hn ⟨x, (hh x hx).1⟩ with ⟨e1, e2⟩ | ⟨e1, e2⟩
      all_goals first | exact absurd e1 e | exact absurd e e1 | skip
    · dsimp only at e2
      rw [(hh x hx).2.2] at e2
      have hne : ¬ x % (2 * n) = j := by have := zpw_le n hn; omega
      have f1 : L.filter (fun y => decide (y % (2 * n) = j)) = dn.filter (fun y => decide (y % (2 * n) = j)) := by rw [hL, List.filter_append]; simp [hne]
      have f2 : L.filter (fun y => decide (y % (2 * n) = j + n)) = dn.filter (fun y => decide (y % (2 * n) = j + n)) ++ [x] := by rw [hL, List.filter_append]; simp [e2]
      rcases h11.push (x := x) (hdn.filter _) with ⟨c1, c2⟩ | ⟨z, hz, c1, c2⟩
      · exact Or.inl ⟨c1, K _ _ _ _ _ hN (by rw [f1]; exact h9) (by rw [f2]; exact c2)⟩
      · have hz2 := List.mem_filter.mp hz
        simp only [decide_eq_true_eq] at hz2
        have k9 : zPt (zFr ν 120 (nd z) (16, 0, nd x)) 16 nd (dn.filter fun y => decide (y % (2 * n) = j)) p9 p10 := h9.kp fun y hy => by
          have hy2 := List.mem_filter.mp hy
          simp only [decide_eq_true_eq] at hy2
          exact zfr_ne (hcr y hy2.1 z hz2.1 (by rintro rfl; have := zpw_le n hn; omega))
        refine Or.inr ⟨_, c1, K _ _ _ _ _ (hN.tr (zN1.st ⟨z, hsub z hz2.1, rfl⟩)) (by rw [f1]; exact k9) (by rw [f2]; exact c2)⟩
    · dsimp only at e2
      rw [(hh x hx).2.2] at e2
      have hne : ¬ x % (2 * n) = j + n := by have := zpw_le n hn; omega
      have f1 : L.filter (fun y => decide (y % (2 * n) = j + n)) = dn.filter (fun y => decide (y % (2 * n) = j + n)) := by rw [hL, List.filter_append]; simp [hne]
      have f2 : L.filter (fun y => decide (y % (2 * n) = j)) = dn.filter (fun y => decide (y % (2 * n) = j)) ++ [x] := by rw [hL, List.filter_append]; simp [e2]
      rcases h9.push (x := x) (hdn.filter _) with ⟨c1, c2⟩ | ⟨z, hz, c1, c2⟩
      · exact Or.inl ⟨c1, K _ _ _ _ _ hN (by rw [f2]; exact c2) (by rw [f1]; exact h11)⟩
      · have hz2 := List.mem_filter.mp hz
        simp only [decide_eq_true_eq] at hz2
        have k9 : zPt (zFr ν 120 (nd z) (16, 0, nd x)) 16 nd (dn.filter fun y => decide (y % (2 * n) = j + n)) p11 p12 := h11.kp fun y hy => by
          have hy2 := List.mem_filter.mp hy
          simp only [decide_eq_true_eq] at hy2
          exact zfr_ne (hcr y hy2.1 z hz2.1 (by rintro rfl; have := zpw_le n hn; omega))
        refine Or.inr ⟨_, c1, K _ _ _ _ _ (hN.tr (zN1.st ⟨z, hsub z hz2.1, rfl⟩)) (by rw [f2]; exact c2) (by rw [f1]; exact k9)⟩
  | cons w rs ih =>
    intro x dn ν p9 p10 p11 p12 hL hN hl h9 h11 K
    have hx : x ∈ L := by rw [hL]; exact List.mem_append_right _ List.mem_cons_self
    have hsub : ∀ y ∈ dn, y ∈ L := fun y hy => by rw [hL]; exact List.mem_append_left _ hy
    have hdn : dn.Pairwise fun a b => nd a ≠ nd b := by rw [hL, List.pairwise_append] at hd; exact hd.1
    have hcr : ∀ y ∈ dn, ∀ z ∈ dn, y ≠ z → nd y ≠ nd z := fun y hy z hz hne e => by
      have := hh y (hsub y hy); have h2 := hh z (hsub z hz)
      rw [e, h2.2.1] at this
      exact hne ((nI_eq (by omega) (by omega)).mp this.2.1).symm
    have hL2 : L = (dn ++ [x]) ++ w :: rs := by rw [hL, List.append_assoc]; rfl
    have hcx : ∀ y ∈ dn, ∀ z ∈ w :: rs, nd y ≠ nd z := by rw [hL, List.pairwise_append] at hd; exact fun y hy z hz => hd.2.2 y hy z (List.mem_cons_of_mem _ hz)
    refine B_J22_resize_14_235 ⟨_, hl.1, nI x, (hN.2.1 _ _).trans (hh x hx).2.1, fun e => ?_, fun e => ?_⟩
    all_goals
      rcases zpw_bit n hn ⟨x, (hh x hx).1⟩ with ⟨e1, e2⟩ | ⟨e1, e2⟩
      all_goals first | exact absurd e1 e | exact absurd e e1 | skip
    · dsimp only at e2
      rw [(hh x hx).2.2] at e2
      have hne : ¬ x % (2 * n) = j := by have := zpw_le n hn; omega
      have f1 : (dn ++ [x]).filter (fun y => decide (y % (2 * n) = j)) = dn.filter (fun y => decide (y % (2 * n) = j)) := by rw [List.filter_append]; simp [hne]
      have f2 : (dn ++ [x]).filter (fun y => decide (y % (2 * n) = j + n)) = dn.filter (fun y => decide (y % (2 * n) = j + n)) ++ [x] := by rw [List.filter_append]; simp [e2]
      rcases h11.push (x := x) (hdn.filter _) with ⟨c1, c2⟩ | ⟨z, hz, c1, c2⟩
      · exact Or.inl ⟨c1, B_J22_resize_14_301 (Or.inr ⟨_, rfl, ih w _ _ _ _ _ _ hL2 hN hl.2 (by rw [f1]; exact h9) (by rw [f2]; exact c2) K⟩)⟩
      · have hz2 := List.mem_filter.mp hz
        simp only [decide_eq_true_eq] at hz2
        have k9 : zPt (zFr ν 120 (nd z) (16, 0, nd x)) 16 nd (dn.filter fun y => decide (y % (2 * n) = j)) p9 p10 := h9.kp fun y hy => by
          have hy2 := List.mem_filter.mp hy
          simp only [decide_eq_true_eq] at hy2
          exact zfr_ne (hcr y hy2.1 z hz2.1 (by rintro rfl; have := zpw_le n hn; omega))
        refine Or.inr ⟨_, c1, B_J22_resize_14_301 (Or.inr ⟨_, rfl, ih w _ _ _ _ _ _ hL2 (hN.tr (zN1.st ⟨z, hsub z hz2.1, rfl⟩)) (hl.2.kp fun y hy => ?_) (by rw [f1]; exact k9) (by rw [f2]; exact c2) K⟩)⟩
        exact zfr_ne (fun e => hcx z hz2.1 y hy e.symm)
    · dsimp only at e2
      rw [(hh x hx).2.2] at e2
      have hne : ¬ x % (2 * n) = j + n := by have := zpw_le n hn; omega
      have f1 : (dn ++ [x]).filter (fun y => decide (y % (2 * n) = j + n)) = dn.filter (fun y => decide (y % (2 * n) = j + n)) := by rw [List.filter_append]; simp [hne]
      have f2 : (dn ++ [x]).filter (fun y => decide (y % (2 * n) = j)) = dn.filter (fun y => decide (y % (2 * n) = j)) ++ [x] := by rw [List.filter_append]; simp [e2]
      rcases h9.push (x := x) (hdn.filter _) with ⟨c1, c2⟩ | ⟨z, hz, c1, c2⟩
      · exact Or.inl ⟨c1, B_J22_resize_14_301 (Or.inr ⟨_, rfl, ih w _ _ _ _ _ _ hL2 hN hl.2 (by rw [f2]; exact c2) (by rw [f1]; exact h11) K⟩)⟩
      · have hz2 := List.mem_filter.mp hz
        simp only [decide_eq_true_eq] at hz2
        have k9 : zPt (zFr ν 120 (nd z) (16, 0, nd x)) 16 nd (dn.filter fun y => decide (y % (2 * n) = j + n)) p11 p12 := h11.kp fun y hy => by
          have hy2 := List.mem_filter.mp hy
          simp only [decide_eq_true_eq] at hy2
          exact zfr_ne (hcr y hy2.1 z hz2.1 (by rintro rfl; have := zpw_le n hn; omega))
        refine Or.inr ⟨_, c1, B_J22_resize_14_301 (Or.inr ⟨_, rfl, ih w _ _ _ _ _ _ hL2 (hN.tr (zN1.st ⟨z, hsub z hz2.1, rfl⟩)) (hl.2.kp fun y hy => ?_) (by rw [f2]; exact c2) (by rw [f1]; exact k9) K⟩)⟩
        exact zfr_ne (fun e => hcx z hz2.1 y hy e.symm)
theorem L_rsOut_14 {r0 t u n : Nat} {nd : Nat → Nat} {ks : List Nat} (hn : n ∈ zpw) (h64 : 2 * n ∈ zpw) (hne : t ≠ u) (hnd : ks.Nodup) (hh : ∀ y ∈ ks, y < 96 ∧ zfi μ 117 (nd y) = nI y)
    (K : ∀ ρ, zN2 (fun a => a = t ∨ a = u ∨ ∃ y ∈ ks, a = nd y) μ ρ → zRs ρ 16 t u n n ks nd → Q (some (vP (205, 2 * n, u))) ρ) :
    ∀ (d j : Nat) (ν : ZM), d + j = n → zN2 (fun a => a = t ∨ a = u ∨ ∃ y ∈ ks, a = nd y) μ ν → zRs ν 16 t u n j ks nd →
    Wp G Y_J22_resize 151 [(0, vP (14, 0, r0)), (1, vP (205, n, t)), (2, vI (nI n)), (4, vI (nI (2 * n))), (6, vP (205, 2 * n, u)), (7, vI (nI j))] [] ν Q E := by
  have hle := zpw_le n hn
  have hcr : ∀ y ∈ ks, ∀ z ∈ ks, y ≠ z → nd y ≠ nd z := fun y hy z hz hq e => by
    have := hh y hy; have h2 := hh z hz
    rw [e, h2.2] at this
    exact hq ((nI_eq (by omega) (by omega)).mp this.2).symm
  intro d
  induction d with
  | zero =>
    intro j ν hd hN hR
    have : j = n := by omega
    subst this
    exact B_J22_resize_14_151 ⟨fun _ => K ν hN hR, fun e => absurd e (nI_nlt (Nat.le_refl _) (by omega))⟩
  | succ d ih =>
    intro j ν hd hN hR
    have hj : j < n := by omega
    have hjn : (j + n) % n = j := by rw [Nat.add_mod_right, Nat.mod_eq_of_lt hj]
    obtain ⟨c1, c2⟩ := hR.1 j hj (Nat.le_refl _)
    have u1 := hR.2.2 j (by omega) (by rw [Nat.mod_eq_of_lt hj]; exact Nat.le_refl _)
    have u2 := hR.2.2 (j + n) (by omega) (by rw [hjn]; exact Nat.le_refl _)
    have hLp : (ks.filter fun x => x % n = j).Pairwise fun a b => nd a ≠ nd b := by
      refine List.Pairwise.imp_of_mem ?_ (hnd.filter fun x => decide (x % n = j))
      intro a b ha hb e
      exact hcr a (List.mem_filter.mp ha).1 b (List.mem_filter.mp hb).1 e
    have hLm : ∀ y ∈ ks.filter (fun x => x % n = j), y ∈ ks ∧ y % n = j := fun y hy => by
      have := List.mem_filter.mp hy
      simp only [decide_eq_true_eq] at this
      exact this
    refine B_J22_resize_14_151 ⟨fun e => absurd (nI_lt hj (by omega)) e, fun _ => ⟨j, zix.eq rfl hj (by omega), _, rfl, ?_⟩⟩
    rw [c1]
    rcases hL : ks.filter (fun x => x % n = j) with _ | ⟨x, _ | ⟨w, rs⟩⟩
    · refine Or.inl ⟨rfl, ?_⟩
      rw [nI_1]
      refine ih (j + 1) ν (by omega) hN (hR.step hj ?_ ?_ (fun _ _ => rfl) (fun _ _ _ => rfl) (fun _ _ _ => rfl))
      · rw [hL]; exact ⟨u1, trivial⟩
      · rw [hL]; exact ⟨u2, trivial⟩
    · rw [hL] at c2
      have hx := hLm x (by rw [hL]; exact List.mem_cons_self)
      have hx2 := hh x hx.1
      refine Or.inr ⟨_, rfl, _, c2.1, Or.inl ⟨rfl, nI x, (hN.2.1 _ _).trans hx2.2, x % (2 * n), ?_, ?_⟩⟩
      · refine zix.eq ?_ (Nat.mod_lt _ (by omega)) (by have := Nat.mod_lt x (show 0 < 2 * n by omega); omega)
        rw [Int32.and_comm]; exact zpw_and (2 * n) h64 ⟨x, hx2.1⟩
      · rw [nI_1]
        refine ih (j + 1) _ (by omega) (hN.tr ((zN2.st (Or.inl rfl)).tr (zN2.st (Or.inr (Or.inl rfl))))) (hR.step hj ?_ ?_ (fun i hi => ?_) (fun i hi1 hi2 => ?_) (fun _ _ _ => rfl))
        · rw [hL]
          rcases zpw_bit n hn ⟨x, hx2.1⟩ with ⟨e1, e2⟩ | ⟨e1, e2⟩ <;> dsimp only at e2 <;> rw [hx.2] at e2
          · refine ⟨?_, ?_⟩
            · rw [zar_zAr, if_pos ⟨rfl, e2.symm⟩]; simp [e2, zpt]
            · simp only [List.filter_cons, e2, List.filter_nil]; exact ⟨c2.1, trivial⟩
          · have q : ¬ j + n = j := by omega
            refine ⟨?_, ?_⟩
            · rw [zar_zAr, if_neg (fun e => q (e2.symm.trans e.2.symm)), zar_zAr, if_neg (fun e => hne e.1.symm), u1]
              simp [e2, zpt, q, show ¬ n = 0 by omega]
            · simp [e2, q, zLk, show ¬ n = 0 by omega]
        · rw [hL]
          rcases zpw_bit n hn ⟨x, hx2.1⟩ with ⟨e1, e2⟩ | ⟨e1, e2⟩ <;> dsimp only at e2 <;> rw [hx.2] at e2
          · have q : ¬ j = j + n := by omega
            refine ⟨?_, ?_⟩
            · rw [zar_zAr, if_neg (fun e => q (e2.symm.trans e.2.symm)), zar_zAr, if_neg (fun e => hne e.1.symm), u2]
              simp [e2, zpt, q, show ¬ n = 0 by omega]
            · simp [e2, q, zLk, show ¬ n = 0 by omega]
          · refine ⟨?_, ?_⟩
            · rw [zar_zAr, if_pos ⟨rfl, e2.symm⟩]; simp [e2, zpt]
            · simp only [List.filter_cons, e2, List.filter_nil]; exact ⟨c2.1, trivial⟩
        · rw [zar_zAr, if_neg (fun e => hne e.1), zar_zAr, if_neg (fun e => hi e.2)]
        · rw [zar_zAr, if_neg (fun e => ?_), zar_zAr, if_neg (fun e => hne e.1.symm)]
          rcases zpw_bit n hn ⟨x, hx2.1⟩ with ⟨e1, e2⟩ | ⟨e1, e2⟩ <;> dsimp only at e2 <;> rw [hx.2] at e2 <;> omega
    · rw [hL] at c2
      have hLw := hL ▸ hLm
      have hLk := hL ▸ hLp
      generalize hLL : x :: w :: rs = L at *
      have hA : ∀ a, (∃ y ∈ L, a = nd y) → (a = t ∨ a = u ∨ ∃ y ∈ ks, a = nd y) := fun a ⟨y, hy, e⟩ => Or.inr (Or.inr ⟨y, (hLw y hy).1, e⟩)
      have c2' := c2
      rw [← hLL] at c2'
      have hN0 : zN2 (fun a => a = t ∨ a = u ∨ ∃ y ∈ ks, a = nd y) μ (zAr ν t j zN) := hN.tr (zN2.st (Or.inl rfl))
      refine Or.inr ⟨_, by rw [← hLL]; rfl, _, c2'.1, Or.inr ⟨_, rfl, L_rsIn_14 (μ := zAr ν t j zN) hn hLk (fun y hy => ⟨(hh y (hLw y hy).1).1, (hN0.2.1 _ _).trans (hh y (hLw y hy).1).2, (hLw y hy).2⟩) (w :: rs) x [] _ _ _ _ _ hLL.symm (zN1.rf _ _) (c2'.kp fun _ _ => rfl) (Or.inl ⟨rfl, rfl, rfl⟩) (Or.inl ⟨rfl, rfl, rfl⟩) ?_⟩⟩
      intro ρ q9 q10 q11 q12 hN1 z9 z11
      have hNρ := hN0.tr (hN1.to hA)
      have hot : ∀ y ∈ ks, y % n ≠ j → ∀ z ∈ L, nd y ≠ nd z := fun y hy hyj z hz => hcr y hy z (hLw z hz).1 (by rintro rfl; exact hyj (hLw y hz).2)
      have f327 : ∀ σ, zN2 (fun a => a = t ∨ a = u ∨ ∃ y ∈ ks, a = nd y) μ σ → zPt σ 16 nd (L.filter fun y => y % (2 * n) = j + n) q11 q12 → zCh σ 16 nd (zar σ u j) (L.filter fun y => y % (2 * n) = j) → (∀ i, i ≠ j → zar σ t i = zar ν t i) → (∀ i, i ≠ j → zar σ u i = zar ν u i) → (∀ y ∈ ks, y % n ≠ j → zfr σ 120 (nd y) = zfr ν 120 (nd y)) → Wp G Y_J22_resize 327 [(0, vP (14, 0, r0)), (1, vP (205, n, t)), (2, vI (nI n)), (4, vI (nI (2 * n))), (6, vP (205, 2 * n, u)), (7, vI (nI j)), (11, vP q11), (12, vP q12)] [] σ Q E := by
        intro σ s1 s2 s3 s4 s5 s6
        rcases s2.fin (hLk.filter _) with ⟨d1, d2⟩ | ⟨z, hz, d2, d3, d4⟩
        · refine B_J22_resize_14_327 (Or.inl ⟨d2, ?_⟩)
          rw [nI_1]
          refine ih (j + 1) σ (by omega) s1 (hR.step hj (by rw [hL]; exact s3) ?_ s4 (fun i hi _ => s5 i hi) s6)
          rw [hL, d1]
          exact ⟨(s5 (j + n) (by omega)).trans u2, trivial⟩
        · refine B_J22_resize_14_327 (Or.inr ⟨_, d2, j + n, zix.eq (nI_add _ _) (by omega) (by omega), by rw [d3]; rfl, ?_⟩)
          rw [nI_1]
          have hz2 := List.mem_filter.mp hz
          simp only [decide_eq_true_eq] at hz2
          refine ih (j + 1) _ (by omega) (s1.tr ((zN2.sl (hA _ ⟨z, hz2.1, rfl⟩)).tr (zN2.st (Or.inr (Or.inl rfl))))) (hR.step hj ?_ ?_ (fun i hi => ?_) (fun i hi1 hi2 => ?_) (fun y hy hyj => ?_))
          · rw [hL]
            refine ⟨?_, s3.2.kp fun y hy => ?_⟩
            · rw [zar_zAr, if_neg (fun e => by have := e.2; omega)]; exact s3.1
            · have hy2 := List.mem_filter.mp hy
              simp only [decide_eq_true_eq] at hy2
              exact zfr_ne (hcr y (hLw y hy2.1).1 z (hLw z hz2.1).1 (by rintro rfl; omega))
          · rw [hL]
            refine ⟨?_, d4.2.kp fun _ _ => rfl⟩
            rw [zar_zAr, if_pos ⟨rfl, rfl⟩]; exact d4.1
          · rw [zar_zAr, if_neg (fun e => hne e.1)]; exact s4 i hi
          · rw [zar_zAr, if_neg (fun e => hi2 e.2)]; exact s5 i hi1
          · exact (zfr_ne (hot y hy hyj z hz2.1)).trans (s6 y hy hyj)
      have ko : ∀ y ∈ ks, y % n ≠ j → zfr ρ 120 (nd y) = zfr ν 120 (nd y) := fun y hy hyj => hN1.2.2.1 120 (nd y) (Or.inr (fun ⟨z, hz, e⟩ => hot y hy hyj z hz e))
      have kt : ∀ i, i ≠ j → zar ρ t i = zar ν t i := fun i hi => (hN1.2.2.2 t i).trans (by rw [zar_zAr, if_neg (fun e => hi e.2)])
      have ku : ∀ i, zar ρ u i = zar ν u i := fun i => (hN1.2.2.2 u i).trans (by rw [zar_zAr, if_neg (fun e => hne e.1.symm)])
      refine B_J22_resize_14_301 (Or.inl ⟨rfl, ?_⟩)
      rcases z9.fin (hLk.filter _) with ⟨d1, d2⟩ | ⟨z, hz, d2, d3, d4⟩
      · exact Or.inl ⟨d2, f327 ρ hNρ z11 (by rw [d1]; exact ⟨(ku j).trans u1, trivial⟩) kt (fun i _ => ku i) ko⟩
      · have hz2 := List.mem_filter.mp hz
        simp only [decide_eq_true_eq] at hz2
        refine Or.inr ⟨_, d2, j, zix.eq rfl (by omega) (by omega), by rw [d3]; rfl, f327 _ (hNρ.tr ((zN2.sl (hA _ ⟨z, hz2.1, rfl⟩)).tr (zN2.st (Or.inr (Or.inl rfl))))) (z11.kp fun y hy => ?_) ⟨?_, d4.2.kp fun _ _ => rfl⟩ (fun i hi => ?_) (fun i hi => ?_) (fun y hy hyj => ?_)⟩
        · have hy2 := List.mem_filter.mp hy
          simp only [decide_eq_true_eq] at hy2
          exact zfr_ne (hcr y (hLw y hy2.1).1 z (hLw z hz2.1).1 (by rintro rfl; omega))
        · rw [zar_zAr, if_pos ⟨rfl, rfl⟩]; exact d4.1
        · rw [zar_zAr, if_neg (fun e => hne e.1)]; exact kt i hi
        · rw [zar_zAr, if_neg (fun e => hi e.2)]; exact ku i
        · exact (zfr_ne (hot y hy hyj z hz2.1)).trans (ko y hy hyj)
theorem L_rsIn_15 {r0 t1 r1 n t6 r6 j : Nat} {nd : Nat → Nat} {L : List Nat} (hn : n ∈ zpw) (hd : L.Pairwise fun a b => nd a ≠ nd b) (hh : ∀ y ∈ L, y < 96 ∧ zfi μ 117 (nd y) = nI y ∧ y % n = j) :
    ∀ (rs : List Nat) (x : Nat) (dn : List Nat) (ν : ZM) (p9 p10 p11 p12 : ZP), L = dn ++ x :: rs → zN1 (fun a => ∃ y ∈ L, a = nd y) μ ν → zLk ν 17 nd (x :: rs) →
    zPt ν 17 nd (dn.filter fun y => y % (2 * n) = j) p9 p10 → zPt ν 17 nd (dn.filter fun y => y % (2 * n) = j + n) p11 p12 →
    (∀ ρ q9 q10 q11 q12, zN1 (fun a => ∃ y ∈ L, a = nd y) μ ρ → zPt ρ 17 nd (L.filter fun y => y % (2 * n) = j) q9 q10 → zPt ρ 17 nd (L.filter fun y => y % (2 * n) = j + n) q11 q12 →
      Wp G Y_J22_resize 301 [(0, vP (15, 0, r0)), (1, vP (205, t1, r1)), (2, vI (nI n)), (4, vI (nI (2 * n))), (6, vP (205, t6, r6)), (7, vI (nI j)), (9, vP q9), (10, vP q10), (11, vP q11), (12, vP q12), (13, vP zN)] [] ρ Q E) →
    Wp G Y_J22_resize 235 [(0, vP (15, 0, r0)), (1, vP (205, t1, r1)), (2, vI (nI n)), (4, vI (nI (2 * n))), (6, vP (205, t6, r6)), (7, vI (nI j)), (8, vP (17, 0, nd x)), (9, vP p9), (10, vP p10), (11, vP p11), (12, vP p12)] [] ν Q E := by
  intro rs
  induction rs with
  | nil =>
    intro x dn ν p9 p10 p11 p12 hL hN hl h9 h11 K
    have hx : x ∈ L := by rw [hL]; exact List.mem_append_right _ List.mem_cons_self
    have hsub : ∀ y ∈ dn, y ∈ L := fun y hy => by rw [hL]; exact List.mem_append_left _ hy
    have hdn : dn.Pairwise fun a b => nd a ≠ nd b := by rw [hL, List.pairwise_append] at hd; exact hd.1
    have hcr : ∀ y ∈ dn, ∀ z ∈ dn, y ≠ z → nd y ≠ nd z := fun y hy z hz hne e => by
      have := hh y (hsub y hy); have h2 := hh z (hsub z hz)
      rw [e, h2.2.1] at this
      exact hne ((nI_eq (by omega) (by omega)).mp this.2.1).symm
    refine B_J22_resize_15_235 ⟨_, hl.1, nI x, (hN.2.1 _ _).trans (hh x hx).2.1, fun e => ?_, fun e => ?_⟩
    all_goals
      rcases zpw_bit n hn ⟨x, (hh x hx).1⟩ with ⟨e1, e2⟩ | ⟨e1, e2⟩
      all_goals first | exact absurd e1 e | exact absurd e e1 | skip
    · dsimp only at e2
      rw [(hh x hx).2.2] at e2
      have hne : ¬ x % (2 * n) = j := by have := zpw_le n hn; omega
      have f1 : L.filter (fun y => decide (y % (2 * n) = j)) = dn.filter (fun y => decide (y % (2 * n) = j)) := by rw [hL, List.filter_append]; simp [hne]
      have f2 : L.filter (fun y => decide (y % (2 * n) = j + n)) = dn.filter (fun y => decide (y % (2 * n) = j + n)) ++ [x] := by rw [hL, List.filter_append]; simp [e2]
      rcases h11.push (x := x) (hdn.filter _) with ⟨c1, c2⟩ | ⟨z, hz, c1, c2⟩
      · exact Or.inl ⟨c1, K _ _ _ _ _ hN (by rw [f1]; exact h9) (by rw [f2]; exact c2)⟩
      · have hz2 := List.mem_filter.mp hz
        simp only [decide_eq_true_eq] at hz2
        have k9 : zPt (zFr ν 120 (nd z) (17, 0, nd x)) 17 nd (dn.filter fun y => decide (y % (2 * n) = j)) p9 p10 := h9.kp fun y hy => by
          have hy2 := List.mem_filter.mp hy
          simp only [decide_eq_true_eq] at hy2
          exact zfr_ne (hcr y hy2.1 z hz2.1 (by rintro rfl; have := zpw_le n hn; omega))
        refine Or.inr ⟨_, c1, K _ _ _ _ _ (hN.tr (zN1.st ⟨z, hsub z hz2.1, rfl⟩)) (by rw [f1]; exact k9) (by rw [f2]; exact c2)⟩
    · dsimp only at e2
      rw [(hh x hx).2.2] at e2
      have hne : ¬ x % (2 * n) = j + n := by have := zpw_le n hn; omega
      have f1 : L.filter (fun y => decide (y % (2 * n) = j + n)) = dn.filter (fun y => decide (y % (2 * n) = j + n)) := by rw [hL, List.filter_append]; simp [hne]
      have f2 : L.filter (fun y => decide (y % (2 * n) = j)) = dn.filter (fun y => decide (y % (2 * n) = j)) ++ [x] := by rw [hL, List.filter_append]; simp [e2]
      rcases h9.push (x := x) (hdn.filter _) with ⟨c1, c2⟩ | ⟨z, hz, c1, c2⟩
      · exact Or.inl ⟨c1, K _ _ _ _ _ hN (by rw [f2]; exact c2) (by rw [f1]; exact h11)⟩
      · have hz2 := List.mem_filter.mp hz
        simp only [decide_eq_true_eq] at hz2
        have k9 : zPt (zFr ν 120 (nd z) (17, 0, nd x)) 17 nd (dn.filter fun y => decide (y % (2 * n) = j + n)) p11 p12 := h11.kp fun y hy => by
          have hy2 := List.mem_filter.mp hy
          simp only [decide_eq_true_eq] at hy2
          exact zfr_ne (hcr y hy2.1 z hz2.1 (by rintro rfl; have := zpw_le n hn; omega))
        refine Or.inr ⟨_, c1, K _ _ _ _ _ (hN.tr (zN1.st ⟨z, hsub z hz2.1, rfl⟩)) (by rw [f2]; exact c2) (by rw [f1]; exact k9)⟩
  | cons w rs ih =>
    intro x dn ν p9 p10 p11 p12 hL hN hl h9 h11 K
    have hx : x ∈ L := by rw [hL]; exact List.mem_append_right _ List.mem_cons_self
    have hsub : ∀ y ∈ dn, y ∈ L := fun y hy => by rw [hL]; exact List.mem_append_left _ hy
    have hdn : dn.Pairwise fun a b => nd a ≠ nd b := by rw [hL, List.pairwise_append] at hd; exact hd.1
    have hcr : ∀ y ∈ dn, ∀ z ∈ dn, y ≠ z → nd y ≠ nd z := fun y hy z hz hne e => by
      have := hh y (hsub y hy); have h2 := hh z (hsub z hz)
      rw [e, h2.2.1] at this
      exact hne ((nI_eq (by omega) (by omega)).mp this.2.1).symm
    have hL2 : L = (dn ++ [x]) ++ w :: rs := by rw [hL, List.append_assoc]; rfl
    have hcx : ∀ y ∈ dn, ∀ z ∈ w :: rs, nd y ≠ nd z := by rw [hL, List.pairwise_append] at hd; exact fun y hy z hz => hd.2.2 y hy z (List.mem_cons_of_mem _ hz)
    refine B_J22_resize_15_235 ⟨_, hl.1, nI x, (hN.2.1 _ _).trans (hh x hx).2.1, fun e => ?_, fun e => ?_⟩
    all_goals
      rcases zpw_bit n hn ⟨x, (hh x hx).1⟩ with ⟨e1, e2⟩ | ⟨e1, e2⟩
      all_goals first | exact absurd e1 e | exact absurd e e1 | skip
    · dsimp only at e2
      rw [(hh x hx).2.2] at e2
      have hne : ¬ x % (2 * n) = j := by have := zpw_le n hn; omega
      have f1 : (dn ++ [x]).filter (fun y => decide (y % (2 * n) = j)) = dn.filter (fun y => decide (y % (2 * n) = j)) := by rw [List.filter_append]; simp [hne]
      have f2 : (dn ++ [x]).filter (fun y => decide (y % (2 * n) = j + n)) = dn.filter (fun y => decide (y % (2 * n) = j + n)) ++ [x] := by rw [List.filter_append]; simp [e2]
      rcases h11.push (x := x) (hdn.filter _) with ⟨c1, c2⟩ | ⟨z, hz, c1, c2⟩
      · exact Or.inl ⟨c1, B_J22_resize_15_301 (Or.inr ⟨_, rfl, ih w _ _ _ _ _ _ hL2 hN hl.2 (by rw [f1]; exact h9) (by rw [f2]; exact c2) K⟩)⟩
      · have hz2 := List.mem_filter.mp hz
        simp only [decide_eq_true_eq] at hz2
        have k9 : zPt (zFr ν 120 (nd z) (17, 0, nd x)) 17 nd (dn.filter fun y => decide (y % (2 * n) = j)) p9 p10 := h9.kp fun y hy => by
          have hy2 := List.mem_filter.mp hy
          simp only [decide_eq_true_eq] at hy2
          exact zfr_ne (hcr y hy2.1 z hz2.1 (by rintro rfl; have := zpw_le n hn; omega))
        refine Or.inr ⟨_, c1, B_J22_resize_15_301 (Or.inr ⟨_, rfl, ih w _ _ _ _ _ _ hL2 (hN.tr (zN1.st ⟨z, hsub z hz2.1, rfl⟩)) (hl.2.kp fun y hy => ?_) (by rw [f1]; exact k9) (by rw [f2]; exact c2) K⟩)⟩
        exact zfr_ne (fun e => hcx z hz2.1 y hy e.symm)
    · dsimp only at e2
      rw [(hh x hx).2.2] at e2
      have hne : ¬ x % (2 * n) = j + n := by have := zpw_le n hn; omega
      have f1 : (dn ++ [x]).filter (fun y => decide (y % (2 * n) = j + n)) = dn.filter (fun y => decide (y % (2 * n) = j + n)) := by rw [List.filter_append]; simp [hne]
      have f2 : (dn ++ [x]).filter (fun y => decide (y % (2 * n) = j)) = dn.filter (fun y => decide (y % (2 * n) = j)) ++ [x] := by rw [List.filter_append]; simp [e2]
      rcases h9.push (x := x) (hdn.filter _) with ⟨c1, c2⟩ | ⟨z, hz, c1, c2⟩
      · exact Or.inl ⟨c1, B_J22_resize_15_301 (Or.inr ⟨_, rfl, ih w _ _ _ _ _ _ hL2 hN hl.2 (by rw [f2]; exact c2) (by rw [f1]; exact h11) K⟩)⟩
      · have hz2 := List.mem_filter.mp hz
        simp only [decide_eq_true_eq] at hz2
        have k9 : zPt (zFr ν 120 (nd z) (17, 0, nd x)) 17 nd (dn.filter fun y => decide (y % (2 * n) = j + n)) p11 p12 := h11.kp fun y hy => by
          have hy2 := List.mem_filter.mp hy
          simp only [decide_eq_true_eq] at hy2
          exact zfr_ne (hcr y hy2.1 z hz2.1 (by rintro rfl; have := zpw_le n hn; omega))
        refine Or.inr ⟨_, c1, B_J22_resize_15_301 (Or.inr ⟨_, rfl, ih w _ _ _ _ _ _ hL2 (hN.tr (zN1.st ⟨z, hsub z hz2.1, rfl⟩)) (hl.2.kp fun y hy => ?_) (by rw [f2]; exact c2) (by rw [f1]; exact k9) K⟩)⟩
        exact zfr_ne (fun e => hcx z hz2.1 y hy e.symm)
theorem L_rsOut_15 {r0 t u n : Nat} {nd : Nat → Nat} {ks : List Nat} (hn : n ∈ zpw) (h64 : 2 * n ∈ zpw) (hne : t ≠ u) (hnd : ks.Nodup) (hh : ∀ y ∈ ks, y < 96 ∧ zfi μ 117 (nd y) = nI y)
    (K : ∀ ρ, zN2 (fun a => a = t ∨ a = u ∨ ∃ y ∈ ks, a = nd y) μ ρ → zRs ρ 17 t u n n ks nd → Q (some (vP (205, 2 * n, u))) ρ) :
    ∀ (d j : Nat) (ν : ZM), d + j = n → zN2 (fun a => a = t ∨ a = u ∨ ∃ y ∈ ks, a = nd y) μ ν → zRs ν 17 t u n j ks nd →
    Wp G Y_J22_resize 151 [(0, vP (15, 0, r0)), (1, vP (205, n, t)), (2, vI (nI n)), (4, vI (nI (2 * n))), (6, vP (205, 2 * n, u)), (7, vI (nI j))] [] ν Q E := by
  have hle := zpw_le n hn
  have hcr : ∀ y ∈ ks, ∀ z ∈ ks, y ≠ z → nd y ≠ nd z := fun y hy z hz hq e => by
    have := hh y hy; have h2 := hh z hz
    rw [e, h2.2] at this
    exact hq ((nI_eq (by omega) (by omega)).mp this.2).symm
  intro d
  induction d with
  | zero =>
    intro j ν hd hN hR
    have : j = n := by omega
    subst this
    exact B_J22_resize_15_151 ⟨fun _ => K ν hN hR, fun e => absurd e (nI_nlt (Nat.le_refl _) (by omega))⟩
  | succ d ih =>
    intro j ν hd hN hR
    have hj : j < n := by omega
    have hjn : (j + n) % n = j := by rw [Nat.add_mod_right, Nat.mod_eq_of_lt hj]
    obtain ⟨c1, c2⟩ := hR.1 j hj (Nat.le_refl _)
    have u1 := hR.2.2 j (by omega) (by rw [Nat.mod_eq_of_lt hj]; exact Nat.le_refl _)
    have u2 := hR.2.2 (j + n) (by omega) (by rw [hjn]; exact Nat.le_refl _)
    have hLp : (ks.filter fun x => x % n = j).Pairwise fun a b => nd a ≠ nd b := by
      refine List.Pairwise.imp_of_mem ?_ (hnd.filter fun x => decide (x % n = j))
      intro a b ha hb e
      exact hcr a (List.mem_filter.mp ha).1 b (List.mem_filter.mp hb).1 e
    have hLm : ∀ y ∈ ks.filter (fun x => x % n = j), y ∈ ks ∧ y % n = j := fun y hy => by
      have := List.mem_filter.mp hy
      simp only [decide_eq_true_eq] at this
      exact this
    refine B_J22_resize_15_151 ⟨fun e => absurd (nI_lt hj (by omega)) e, fun _ => ⟨j, zix.eq rfl hj (by omega), _, rfl, ?_⟩⟩
    rw [c1]
    rcases hL : ks.filter (fun x => x % n = j) with _ | ⟨x, _ | ⟨w, rs⟩⟩
    · refine Or.inl ⟨rfl, ?_⟩
      rw [nI_1]
      refine ih (j + 1) ν (by omega) hN (hR.step hj ?_ ?_ (fun _ _ => rfl) (fun _ _ _ => rfl) (fun _ _ _ => rfl))
      · rw [hL]; exact ⟨u1, trivial⟩
      · rw [hL]; exact ⟨u2, trivial⟩
    · rw [hL] at c2
      have hx := hLm x (by rw [hL]; exact List.mem_cons_self)
      have hx2 := hh x hx.1
      refine Or.inr ⟨_, rfl, _, c2.1, Or.inl ⟨rfl, nI x, (hN.2.1 _ _).trans hx2.2, x % (2 * n), ?_, ?_⟩⟩
      · refine zix.eq ?_ (Nat.mod_lt _ (by omega)) (by have := Nat.mod_lt x (show 0 < 2 * n by omega); omega)
        rw [Int32.and_comm]; exact zpw_and (2 * n) h64 ⟨x, hx2.1⟩
      · rw [nI_1]
        refine ih (j + 1) _ (by omega) (hN.tr ((zN2.st (Or.inl rfl)).tr (zN2.st (Or.inr (Or.inl rfl))))) (hR.step hj ?_ ?_ (fun i hi => ?_) (fun i hi1 hi2 => ?_) (fun _ _ _ => rfl))
        · rw [hL]
          rcases zpw_bit n hn ⟨x, hx2.1⟩ with ⟨e1, e2⟩ | ⟨e1, e2⟩ <;> dsimp only at e2 <;> rw [hx.2] at e2
          · refine ⟨?_, ?_⟩
            · rw [zar_zAr, if_pos ⟨rfl, e2.symm⟩]; simp [e2, zpt]
            · simp only [List.filter_cons, e2, List.filter_nil]; exact ⟨c2.1, trivial⟩
          · have q : ¬ j + n = j := by omega
            refine ⟨?_, ?_⟩
            · rw [zar_zAr, if_neg (fun e => q (e2.symm.trans e.2.symm)), zar_zAr, if_neg (fun e => hne e.1.symm), u1]
              simp [e2, zpt, q, show ¬ n = 0 by omega]
            · simp [e2, q, zLk, show ¬ n = 0 by omega]
        · rw [hL]
          rcases zpw_bit n hn ⟨x, hx2.1⟩ with ⟨e1, e2⟩ | ⟨e1, e2⟩ <;> dsimp only at e2 <;> rw [hx.2] at e2
          · have q : ¬ j = j + n := by omega
            refine ⟨?_, ?_⟩
            · rw [zar_zAr, if_neg (fun e => q (e2.symm.trans e.2.symm)), zar_zAr, if_neg (fun e => hne e.1.symm), u2]
              simp [e2, zpt, q, show ¬ n = 0 by omega]
            · simp [e2, q, zLk, show ¬ n = 0 by omega]
          · refine ⟨?_, ?_⟩
            · rw [zar_zAr, if_pos ⟨rfl, e2.symm⟩]; simp [e2, zpt]
            · simp only [List.filter_cons, e2, List.filter_nil]; exact ⟨c2.1, trivial⟩
        · rw [zar_zAr, if_neg (fun e => hne e.1), zar_zAr, if_neg (fun e => hi e.2)]
        · rw [zar_zAr, if_neg (fun e => ?_), zar_zAr, if_neg (fun e => hne e.1.symm)]
          rcases zpw_bit n hn ⟨x, hx2.1⟩ with ⟨e1, e2⟩ | ⟨e1, e2⟩ <;> dsimp only at e2 <;> rw [hx.2] at e2 <;> omega
    · rw [hL] at c2
      have hLw := hL ▸ hLm
      have hLk := hL ▸ hLp
      generalize hLL : x :: w :: rs = L at *
      have hA : ∀ a, (∃ y ∈ L, a = nd y) → (a = t ∨ a = u ∨ ∃ y ∈ ks, a = nd y) := fun a ⟨y, hy, e⟩ => Or.inr (Or.inr ⟨y, (hLw y hy).1, e⟩)
      have c2' := c2
      rw [← hLL] at c2'
      have hN0 : zN2 (fun a => a = t ∨ a = u ∨ ∃ y ∈ ks, a = nd y) μ (zAr ν t j zN) := hN.tr (zN2.st (Or.inl rfl))
      refine Or.inr ⟨_, by rw [← hLL]; rfl, _, c2'.1, Or.inr ⟨_, rfl, L_rsIn_15 (μ := zAr ν t j zN) hn hLk (fun y hy => ⟨(hh y (hLw y hy).1).1, (hN0.2.1 _ _).trans (hh y (hLw y hy).1).2, (hLw y hy).2⟩) (w :: rs) x [] _ _ _ _ _ hLL.symm (zN1.rf _ _) (c2'.kp fun _ _ => rfl) (Or.inl ⟨rfl, rfl, rfl⟩) (Or.inl ⟨rfl, rfl, rfl⟩) ?_⟩⟩
      intro ρ q9 q10 q11 q12 hN1 z9 z11
      have hNρ := hN0.tr (hN1.to hA)
      have hot : ∀ y ∈ ks, y % n ≠ j → ∀ z ∈ L, nd y ≠ nd z := fun y hy hyj z hz => hcr y hy z (hLw z hz).1 (by rintro rfl; exact hyj (hLw y hz).2)
      have f327 : ∀ σ, zN2 (fun a => a = t ∨ a = u ∨ ∃ y ∈ ks, a = nd y) μ σ → zPt σ 17 nd (L.filter fun y => y % (2 * n) = j + n) q11 q12 → zCh σ 17 nd (zar σ u j) (L.filter fun y => y % (2 * n) = j) → (∀ i, i ≠ j → zar σ t i = zar ν t i) → (∀ i, i ≠ j → zar σ u i = zar ν u i) → (∀ y ∈ ks, y % n ≠ j → zfr σ 120 (nd y) = zfr ν 120 (nd y)) → Wp G Y_J22_resize 327 [(0, vP (15, 0, r0)), (1, vP (205, n, t)), (2, vI (nI n)), (4, vI (nI (2 * n))), (6, vP (205, 2 * n, u)), (7, vI (nI j)), (11, vP q11), (12, vP q12)] [] σ Q E := by
        intro σ s1 s2 s3 s4 s5 s6
        rcases s2.fin (hLk.filter _) with ⟨d1, d2⟩ | ⟨z, hz, d2, d3, d4⟩
        · refine B_J22_resize_15_327 (Or.inl ⟨d2, ?_⟩)
          rw [nI_1]
          refine ih (j + 1) σ (by omega) s1 (hR.step hj (by rw [hL]; exact s3) ?_ s4 (fun i hi _ => s5 i hi) s6)
          rw [hL, d1]
          exact ⟨(s5 (j + n) (by omega)).trans u2, trivial⟩
        · refine B_J22_resize_15_327 (Or.inr ⟨_, d2, j + n, zix.eq (nI_add _ _) (by omega) (by omega), by rw [d3]; rfl, ?_⟩)
          rw [nI_1]
          have hz2 := List.mem_filter.mp hz
          simp only [decide_eq_true_eq] at hz2
          refine ih (j + 1) _ (by omega) (s1.tr ((zN2.sl (hA _ ⟨z, hz2.1, rfl⟩)).tr (zN2.st (Or.inr (Or.inl rfl))))) (hR.step hj ?_ ?_ (fun i hi => ?_) (fun i hi1 hi2 => ?_) (fun y hy hyj => ?_))
          · rw [hL]
            refine ⟨?_, s3.2.kp fun y hy => ?_⟩
            · rw [zar_zAr, if_neg (fun e => by have := e.2; omega)]; exact s3.1
            · have hy2 := List.mem_filter.mp hy
              simp only [decide_eq_true_eq] at hy2
              exact zfr_ne (hcr y (hLw y hy2.1).1 z (hLw z hz2.1).1 (by rintro rfl; omega))
          · rw [hL]
            refine ⟨?_, d4.2.kp fun _ _ => rfl⟩
            rw [zar_zAr, if_pos ⟨rfl, rfl⟩]; exact d4.1
          · rw [zar_zAr, if_neg (fun e => hne e.1)]; exact s4 i hi
          · rw [zar_zAr, if_neg (fun e => hi2 e.2)]; exact s5 i hi1
          · exact (zfr_ne (hot y hy hyj z hz2.1)).trans (s6 y hy hyj)
      have ko : ∀ y ∈ ks, y % n ≠ j → zfr ρ 120 (nd y) = zfr ν 120 (nd y) := fun y hy hyj => hN1.2.2.1 120 (nd y) (Or.inr (fun ⟨z, hz, e⟩ => hot y hy hyj z hz e))
      have kt : ∀ i, i ≠ j → zar ρ t i = zar ν t i := fun i hi => (hN1.2.2.2 t i).trans (by rw [zar_zAr, if_neg (fun e => hi e.2)])
      have ku : ∀ i, zar ρ u i = zar ν u i := fun i => (hN1.2.2.2 u i).trans (by rw [zar_zAr, if_neg (fun e => hne e.1.symm)])
      refine B_J22_resize_15_301 (Or.inl ⟨rfl, ?_⟩)
      rcases z9.fin (hLk.filter _) with ⟨d1, d2⟩ | ⟨z, hz, d2, d3, d4⟩
      · exact Or.inl ⟨d2, f327 ρ hNρ z11 (by rw [d1]; exact ⟨(ku j).trans u1, trivial⟩) kt (fun i _ => ku i) ko⟩
      · have hz2 := List.mem_filter.mp hz
        simp only [decide_eq_true_eq] at hz2
        refine Or.inr ⟨_, d2, j, zix.eq rfl (by omega) (by omega), by rw [d3]; rfl, f327 _ (hNρ.tr ((zN2.sl (hA _ ⟨z, hz2.1, rfl⟩)).tr (zN2.st (Or.inr (Or.inl rfl))))) (z11.kp fun y hy => ?_) ⟨?_, d4.2.kp fun _ _ => rfl⟩ (fun i hi => ?_) (fun i hi => ?_) (fun y hy hyj => ?_)⟩
        · have hy2 := List.mem_filter.mp hy
          simp only [decide_eq_true_eq] at hy2
          exact zfr_ne (hcr y (hLw y hy2.1).1 z (hLw z hz2.1).1 (by rintro rfl; omega))
        · rw [zar_zAr, if_pos ⟨rfl, rfl⟩]; exact d4.1
        · rw [zar_zAr, if_neg (fun e => hne e.1)]; exact kt i hi
        · rw [zar_zAr, if_neg (fun e => hi e.2)]; exact ku i
        · exact (zfr_ne (hot y hy hyj z hz2.1)).trans (ko y hy hyj)
end ZJ
