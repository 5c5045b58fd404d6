/-! LAWS OF ROWS, 3: a fair gives each echo at most one valley -/
def sSum (f : Nat → Nat) : Nat → Nat
  | 0 => 0
  | n + 1 => sSum f n + f n
theorem sSum_congr {f g : Nat → Nat} : ∀ n, (∀ i, i < n → f i = g i) → sSum f n = sSum g n := by
  intro n
  induction n with
  | zero => intro _; rfl
  | succ n ih => intro h; unfold sSum; rw [ih (fun i hi => h i (by omega)), h n (by omega)]
theorem sSum_ge {f : Nat → Nat} {v : Nat} : ∀ n, v < n → f v ≤ sSum f n := by
  intro n
  induction n with
  | zero => intro h; omega
  | succ n ih =>
    intro h
    unfold sSum
    by_cases q : v = n
    · subst q; omega
    · have := ih (by omega); omega
theorem sSum_ge2 {f : Nat → Nat} {v w : Nat} (hvw : v < w) : ∀ n, w < n → f v + f w ≤ sSum f n := by
  intro n
  induction n with
  | zero => intro h; omega
  | succ n ih =>
    intro h
    unfold sSum
    by_cases q : w = n
    · subst q
      have := sSum_ge (f := f) w hvw
      omega
    · have := ih (by omega); omega
theorem sSum_kU {kl : Nat → List Nat} {v x : Nat} {l : List Nat} : ∀ n, v < n → sSum (fun w => (kU kl v l w).count x) n + (kl v).count x = sSum (fun w => (kl w).count x) n + l.count x := by
  intro n
  induction n with
  | zero => intro h; omega
  | succ n ih =>
    intro h
    unfold sSum
    by_cases q : v = n
    · subst q
      have e1 : sSum (fun w => (kU kl v l w).count x) v = sSum (fun w => (kl w).count x) v := sSum_congr v fun i hi => by
        unfold kU; rw [if_neg (by omega)]
      have e2 : (kU kl v l v).count x = l.count x := by unfold kU; rw [if_pos rfl]
      rw [e1, e2]; omega
    · have := ih (by omega)
      have e2 : (kU kl v l n).count x = (kl n).count x := by unfold kU; rw [if_neg (fun t => q t.symm)]
      rw [e2]; omega
/-- each echo of P stands at most once in queue and lists, no other does -/
def sIn (P : Nat → Prop) (q : List Nat) (kl : Nat → List Nat) : Prop := ∀ x, (q.count x + sSum (fun w => (kl w).count x) 8 ≤ 1) ∧ (¬ P x → q.count x + sSum (fun w => (kl w).count x) 8 = 0)
theorem sIn.apply {P : Nat → Prop} {r : Nat → Int32} {fr e v : Nat} {q : List Nat} {kl : Nat → List Nat} (h : sIn P (e :: q) kl) (hv : v < 8) : sIn P (sApply r fr q kl e v).1 (sApply r fr q kl e v).2 := by
  intro x
  have hx := h x
  rw [List.count_cons] at hx
  unfold sApply
  split
  · have := sSum_kU (kl := kl) (v := v) (x := x) (l := kl v ++ [e]) 8 hv
    rw [List.count_append, List.count_singleton] at this
    dsimp only
    refine ⟨?_, fun hp => ?_⟩
    · have := hx.1; omega
    · have := hx.2 hp; omega
  · split
    · dsimp only
      rw [List.count_append, List.count_singleton]
      refine ⟨?_, fun hp => ?_⟩
      · have := hx.1; omega
      · have := hx.2 hp; omega
    · split
      · rename_i hpos _
        have hl := sLeast_lt (r := r) (v := v) (l := kl v) (kl v).length (by omega)
        have := sSum_kU (kl := kl) (v := v) (x := x) (l := (kl v).set (sLeast r v (kl v) (kl v).length) e) 8 hv
        rw [List.count_set hl] at this
        dsimp only
        rw [List.count_append, List.count_singleton, List.getD_eq_getElem?_getD, List.getElem?_eq_getElem hl, Option.getD_some]
        have hc : (if (kl v)[sLeast r v (kl v) (kl v).length] == x then 1 else 0) ≤ (kl v).count x := by
          split
          · rename_i hh
            have hm := List.getElem_mem hl
            rw [eq_of_beq hh] at hm
            exact List.count_pos_iff.mpr hm
          · omega
        refine ⟨?_, fun hp => ?_⟩
        · have := hx.1; omega
        · have := hx.2 hp; omega
      · dsimp only
        rw [List.count_append, List.count_singleton]
        refine ⟨?_, fun hp => ?_⟩
        · have := hx.1; omega
        · have := hx.2 hp; omega
theorem sIn.run {P : Nat → Prop} {r : Nat → Int32} {V : Nat} (hV : V ≤ 8) : ∀ n q ap kl, sIn P q kl → ∃ q', sIn P q' (sRun r V n q ap kl) := by
  intro n
  induction n with
  | zero => intro q ap kl h; exact ⟨q, h⟩
  | succ n ih =>
    intro q ap kl h
    cases q with
    | nil => exact ⟨[], h⟩
    | cons e q =>
      unfold sRun
      cases hs : sNext r (bA ap) e V with
      | none =>
        refine ih q ap kl fun x => ?_
        have hx := h x
        rw [List.count_cons] at hx
        exact ⟨by have := hx.1; omega, fun hp => by have := hx.2 hp; omega⟩
      | some v => exact ih _ _ _ (h.apply (by have := sNext_lt hs; omega))
theorem sFree_count (r : Nat → Int32) (x : Nat) : ∀ n, (sFree r n).count x ≤ 1 ∧ (¬ (x < n ∧ ¬ 0 < wE r x 13) → (sFree r n).count x = 0) := by
  intro n
  induction n with
  | zero => exact ⟨by unfold sFree; simp, fun _ => by unfold sFree; simp⟩
  | succ n ih =>
    unfold sFree
    split
    · rename_i hc
      refine ⟨ih.1, fun hp => ih.2 fun q => hp ⟨by omega, q.2⟩⟩
    · rename_i hc
      rw [List.count_append, List.count_singleton]
      by_cases q : n = x
      · subst q
        have := ih.2 (by omega)
        rw [this]
        exact ⟨by simp, fun hp => absurd ⟨by omega, hc⟩ hp⟩
      · have : (n == x) = false := by simpa using q
        rw [this]
        refine ⟨by have := ih.1; simp; omega, fun hp => ?_⟩
        have := ih.2 (fun t => hp ⟨by omega, t.2⟩)
        rw [this]; rfl
/-- what is kept at the end of a fair -/
def sKept (r : Nat → Int32) (K V : Nat) : Nat → List Nat := sRun r V 300 (sFree r K) (fun _ _ => false) (fun _ => [])
theorem sKept_in (r : Nat → Int32) (K : Nat) {V : Nat} (hV : V ≤ 8) : (∀ v, v < 8 → (sKept r K V v).Nodup ∧ ∀ x, x ∈ sKept r K V v → x < K ∧ ¬ 0 < wE r x 13) ∧ ∀ v w x, v < 8 → w < 8 → x ∈ sKept r K V v → x ∈ sKept r K V w → v = w := by
  have h0 : sIn (fun x => x < K ∧ ¬ 0 < wE r x 13) (sFree r K) (fun _ => []) := fun x => by
    have h := sFree_count r x K
    have e0 : sSum (fun w => ((fun _ => []) w : List Nat).count x) 8 = 0 := rfl
    rw [e0]
    exact ⟨by have := h.1; omega, fun hp => by have := h.2 hp; omega⟩
  obtain ⟨q, hq⟩ := sIn.run (r := r) hV 300 (sFree r K) (fun _ _ => false) (fun _ => []) h0
  refine ⟨fun v hv => ⟨List.nodup_iff_count.mpr fun x => ?_, fun x hx => ?_⟩, fun v w x hv hw h1 h2 => ?_⟩
  · have := (hq x).1
    have := sSum_ge (f := fun w => (sKept r K V w).count x) 8 hv
    unfold sKept at *
    omega
  · apply Decidable.byContradiction
    intro hp
    have := (hq x).2 hp
    have h3 := sSum_ge (f := fun w => (sKept r K V w).count x) 8 hv
    have h4 := List.count_pos_iff.mpr hx
    unfold sKept at *
    omega
  · apply Decidable.byContradiction
    intro hne
    have h5 := (hq x).1
    have h3 := List.count_pos_iff.mpr h1
    have h4 := List.count_pos_iff.mpr h2
    rcases Nat.lt_or_ge v w with hl | hl
    · have h6 := sSum_ge2 (f := fun w => (sKept r K V w).count x) hl 8 hw
      unfold sKept at *
      omega
    · have h6 := sSum_ge2 (f := fun w => (sKept r K V w).count x) (show w < v by omega) 8 hv
      unfold sKept at *
      omega
theorem sSignV_succ (kl : Nat → List Nat) (K v : Nat) (r : Nat → Int32) : sSignV kl K (v + 1) r = sSignE kl v K (sSignV kl K v r) := rfl
/-- what holds while the kept echoes sign, before valley v and echo i -/
def sSg (r : Nat → Int32) (kl : Nat → List Nat) (K V : Nat) (po : Nat → Nat) (B : Nat) (sl : Nat → List Nat) (v i : Nat) (r' : Nat → Int32) : Prop :=
  sKp r r' ∧ sUn r' B ∧ ∃ sl', sStaff r' K V sl' po ∧ (∀ w x, w < 8 → (x ∈ sl' w ↔ x ∈ sl w ∨ (x ∈ kl w ∧ (w < v ∨ (w = v ∧ x < i))))) ∧ (∀ w, w < 8 → v < w → sl' w = sl w) ∧ (v < 8 → (sl' v).length = (sl v).length + sHas (kl v) i)
theorem sSg.step {r r' : Nat → Int32} {kl : Nat → List Nat} {K V : Nat} {po : Nat → Nat} {B : Nat} {sl : Nat → List Nat} {v i : Nat} (h : sSg r kl K V po B sl v i r') (hs : sStaff r K V sl po) (hK : K ≤ 12) (hV : V ≤ 8) (hv : v < V) (hi : i < K)
    (h1 : ∀ w, w < 8 → ∀ x, x ∈ kl w → x < K ∧ ¬ 0 < wE r x 13) (h2 : ∀ v w x, v < 8 → w < 8 → x ∈ kl v → x ∈ kl w → v = w) (h3 : (sl v).length + (kl v).length ≤ po v) : sSg r kl K V po B sl v (i + 1) (if i ∈ kl v then sComes r' v i (wV r' v 13).toNatClampNeg else r') := by
  obtain ⟨a1, a2, sl', a3, a4, a5, a6⟩ := h
  have hle := sHas_le (kl v) (i + 1)
  rw [sHas_succ] at hle
  have a6' := a6 (by omega)
  obtain ⟨b1, b2, b3, b4, -⟩ := a3.1 v (by omega)
  by_cases hm : i ∈ kl v
  · rw [if_pos hm] at hle
    rw [if_pos hm, b1, nI_clamp (by omega)]
    have hfree : ∀ w, w < 8 → i ∉ sl' w := fun w hw q => by
      rcases (a4 w i hw).mp q with q | ⟨q1, q2⟩
      · have e1 := ((hs.1 w hw).2.2.2.2.2.2.1 i q).2
        refine (h1 v (by omega) i hm).2 ?_
        rw [e1]; exact nI_lt (a := 0) (by omega) (by omega)
      · have := h2 v w i (by omega) hw hm q1
        omega
    refine ⟨a1.trans (sComes_kp (by omega) (by omega) (by omega)), sComes_un a2 (by omega) (by omega) (by omega), kU sl' v (sl' v ++ [i]), sComes_staff a3 hv hV hi hK hfree (by omega), fun w x hw => ?_, fun w hw hwv => ?_, fun _ => ?_⟩
    · unfold kU
      split
      · rename_i hwv
        subst hwv
        rw [List.mem_append, List.mem_singleton, a4 w x hw]
        constructor
        · rintro ((q | ⟨q1, q2⟩) | q)
          · exact Or.inl q
          · exact Or.inr ⟨q1, by omega⟩
          · subst q; exact Or.inr ⟨hm, by omega⟩
        · rintro (q | ⟨q1, q2⟩)
          · exact Or.inl (Or.inl q)
          · by_cases hx : x = i
            · exact Or.inr hx
            · exact Or.inl (Or.inr ⟨q1, by omega⟩)
      · rename_i hwv
        rw [a4 w x hw]
        constructor
        · rintro (q | ⟨q1, q2⟩)
          · exact Or.inl q
          · exact Or.inr ⟨q1, by omega⟩
        · rintro (q | ⟨q1, q2⟩)
          · exact Or.inl q
          · exact Or.inr ⟨q1, by omega⟩
    · unfold kU; rw [if_neg (by omega)]; exact a5 w hw hwv
    · unfold kU; rw [if_pos rfl, List.length_append, sHas_succ, if_pos hm, a6']
      simp; omega
  · rw [if_neg hm]
    refine ⟨a1, a2, sl', a3, fun w x hw => ?_, a5, fun _ => by rw [sHas_succ, if_neg hm]; exact a6'⟩
    rw [a4 w x hw]
    constructor
    · rintro (q | ⟨q1, q2⟩)
      · exact Or.inl q
      · exact Or.inr ⟨q1, by omega⟩
    · rintro (q | ⟨q1, q2⟩)
      · exact Or.inl q
      · refine Or.inr ⟨q1, ?_⟩
        by_cases hx : x = i
        · subst hx
          rcases q2 with q2 | ⟨q2, q3⟩
          · exact Or.inl q2
          · rw [q2] at q1; exact absurd q1 hm
        · omega
theorem sSg.row {r r' : Nat → Int32} {kl : Nat → List Nat} {K V : Nat} {po : Nat → Nat} {B : Nat} {sl : Nat → List Nat} {v : Nat} (h : sSg r kl K V po B sl v 0 r') (hs : sStaff r K V sl po) (hK : K ≤ 12) (hV : V ≤ 8) (hv : v < V)
    (h1 : ∀ w, w < 8 → ∀ x, x ∈ kl w → x < K ∧ ¬ 0 < wE r x 13) (h2 : ∀ v w x, v < 8 → w < 8 → x ∈ kl v → x ∈ kl w → v = w) (h3 : (sl v).length + (kl v).length ≤ po v) : ∀ i, i ≤ K → sSg r kl K V po B sl v i (sSignE kl v i r') := by
  intro i
  induction i with
  | zero => intro _; exact h
  | succ i ih => intro hi; rw [sSignE_succ]; exact (ih (by omega)).step hs hK hV hv (by omega) h1 h2 h3
theorem sSg.all {r : Nat → Int32} {kl : Nat → List Nat} {K V : Nat} {po : Nat → Nat} {B : Nat} {sl : Nat → List Nat} (hs : sStaff r K V sl po) (hu : sUn r B) (hK : K ≤ 12) (hV : V ≤ 8)
    (h1 : ∀ w, w < 8 → ∀ x, x ∈ kl w → x < K ∧ ¬ 0 < wE r x 13) (h2 : ∀ v w x, v < 8 → w < 8 → x ∈ kl v → x ∈ kl w → v = w) (h3 : ∀ v, v < V → (sl v).length + (kl v).length ≤ po v) : ∀ v, v ≤ V → sSg r kl K V po B sl v 0 (sSignV kl K v r) := by
  intro v
  induction v with
  | zero =>
    intro _
    refine ⟨sKp.rf r, hu, sl, hs, fun w x hw => ⟨fun q => Or.inl q, ?_⟩, fun _ _ _ => rfl, fun _ => rfl⟩
    rintro (q | ⟨q1, q2⟩)
    · exact q
    · omega
  | succ v ih =>
    intro hv
    rw [sSignV_succ]
    obtain ⟨a1, a2, sl', a3, a4, a5, a6⟩ := (ih (by omega)).row hs hK hV (by omega) h1 h2 (h3 v (by omega)) K (Nat.le_refl _)
    refine ⟨a1, a2, sl', a3, fun w x hw => ?_, fun w hw hwv => a5 w hw (by omega), fun hv8 => by rw [a5 (v + 1) hv8 (by omega)]; rfl⟩
    rw [a4 w x hw]
    constructor
    · rintro (q | ⟨q1, q2⟩)
      · exact Or.inl q
      · exact Or.inr ⟨q1, by omega⟩
    · rintro (q | ⟨q1, q2⟩)
      · exact Or.inl q
      · have := (h1 w hw x q1).1
        exact Or.inr ⟨q1, by omega⟩
theorem sFair_ok {r : Nat → Int32} {K V : Nat} {po : Nat → Nat} {B : Nat} (h : sW r K V po B) : sKp r (sFair r K V) ∧ sW (sFair r K V) K V po B ∧ ∃ sl sl', sStaff r K V sl po ∧ sStaff (sFair r K V) K V sl' po ∧ ∀ w x, w < 8 → (x ∈ sl' w ↔ x ∈ sl w ∨ x ∈ sKept r K V w) := by
  obtain ⟨⟨hK, hV, -, -⟩, -, -, -, ⟨sl, hs⟩, hu⟩ := id h
  obtain ⟨c1, c2⟩ := sKept_in r K hV
  obtain ⟨n1, n2⟩ := sRun_len r V 300 (sFree r K) (fun _ _ => false) (fun _ => []) (fun v _ => by simp) (fun v _ => rfl)
  have h3 : ∀ v, v < V → (sl v).length + (sKept r K V v).length ≤ po v := fun v hv => by
    obtain ⟨b1, b2, b3, b4, -⟩ := hs.1 v (by omega)
    have hn := n1 v hv
    have e1 : sPosts r v = po v - (sl v).length := by
      unfold sPosts
      rw [b1, b2, pk_sub b3]; exact nI_clamp (by omega)
    rw [e1] at hn
    have : (sKept r K V v).length ≤ po v - (sl v).length := hn
    omega
  obtain ⟨a1, a2, sl', a3, a4, -, -⟩ := sSg.all (kl := sKept r K V) hs hu hK hV (fun w hw => (c1 w hw).2) c2 h3 V (Nat.le_refl _)
  refine ⟨a1, h.mk a1 ⟨sl', a3⟩ a2, sl, sl', hs, a3, fun w x hw => ?_⟩
  rw [a4 w x hw]
  constructor
  · rintro (q | ⟨q1, q2⟩)
    · exact Or.inl q
    · exact Or.inr q1
  · rintro (q | q)
    · exact Or.inl q
    · refine Or.inr ⟨q, Or.inl ?_⟩
      apply Decidable.byContradiction
      intro hw2
      have : sKept r K V w = [] := n2 w hw2
      rw [this] at q
      cases q
theorem sW.okF {r : Nat → Int32} {K V : Nat} {po : Nat → Nat} {B : Nat} (h : sW r K V po B) : ∃ s0, sOkF r K V s0 po := by
  obtain ⟨⟨hK, hV, -, -⟩, ⟨h0, h1⟩, -, -, ⟨sl, hs⟩, -⟩ := h
  exact ⟨fun v => (sl v).length, h0, h1, hK, hV, fun v hv => by
    obtain ⟨b1, b2, b3, b4, -⟩ := hs.1 v hv
    exact ⟨b1, b2, b3, b4⟩⟩
