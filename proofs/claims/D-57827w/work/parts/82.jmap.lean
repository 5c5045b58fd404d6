set_option maxRecDepth 100000
/-! THE COMPONENT, 3: HashMap (keys are pairs, hash 12 * valley + echo): what a map holds; get -/
/-- lengths of tables -/
def zpw : List Nat := [2, 4, 8, 16, 32, 64, 128]
theorem zpw_le : ∀ n ∈ zpw, 2 ≤ n ∧ n ≤ 128 := by decide
theorem zpw_and : ∀ n ∈ zpw, ∀ k : Fin 96, (nI n - 1) &&& nI k.val = nI (k.val % n) := by decide +kernel
theorem zpw_bit : ∀ n ∈ zpw, ∀ k : Fin 96, (nI k.val &&& nI n = 0 ∧ k.val % (2 * n) = k.val % n) ∨ (¬ nI k.val &&& nI n = 0 ∧ k.val % (2 * n) = k.val % n + n) := by decide +kernel
theorem zpw_hash : ∀ k : Fin 96, (nI k.val ^^^ (((nI k.val).toUInt32 >>> (Int32.toUInt32 16 &&& Int32.toUInt32 31)).toInt32)) = nI k.val := by decide +kernel
theorem zpw_few : ∀ n ∈ [16, 32, 64, 128], ∀ i : Fin 128, ((List.range 96).filter fun x => x % n = i.val).length ≤ 6 := by decide +kernel
theorem nd_len {α : Type} [DecidableEq α] : ∀ (ks L : List α), ks.Nodup → (∀ x ∈ ks, x ∈ L) → ks.length ≤ L.length := by
  intro ks
  induction ks with
  | nil => intro L _ _; exact Nat.zero_le _
  | cons k ks ih =>
    intro L h1 h2
    rw [List.nodup_cons] at h1
    have hk := h2 k List.mem_cons_self
    have := ih (L.erase k) h1.2 (fun x hx => (List.mem_erase_of_ne (by rintro rfl; exact h1.1 hx)).mpr (h2 x (List.mem_cons_of_mem _ hx)))
    rw [List.length_erase, if_pos hk] at this
    have hL : 0 < L.length := List.length_pos_of_mem hk
    rw [List.length_cons]
    omega
theorem nd_96 {ks : List Nat} (h1 : ks.Nodup) (h2 : ∀ x ∈ ks, x < 96) : ks.length ≤ 96 := by
  have := nd_len ks (List.range 96) h1 (fun x hx => List.mem_range.mpr (h2 x hx))
  rwa [List.length_range] at this
/-- a bucket is short -/
theorem nd_few {ks : List Nat} {n i : Nat} (hn : n ∈ zpw) (h1 : ks.Nodup) (h2 : ∀ x ∈ ks, x < 96) (h3 : ks.length ≤ 3 * n / 4) (hi : i < n) : (ks.filter fun x => x % n = i).length ≤ 6 := by
  have hle := zpw_le n hn
  by_cases h16 : 16 ≤ n
  · have hm : n ∈ [16, 32, 64, 128] := by
      unfold zpw at hn
      simp only [List.mem_cons, List.not_mem_nil, or_false] at hn ⊢
      omega
    have h5 := nd_len (ks.filter fun x => x % n = i) ((List.range 96).filter fun x => x % n = i) (h1.filter _) (fun x hx => by
      rw [List.mem_filter] at hx ⊢
      exact ⟨List.mem_range.mpr (h2 x hx.1), hx.2⟩)
    exact Nat.le_trans h5 (zpw_few n hm ⟨i, by omega⟩)
  · have h5 := List.length_filter_le (fun x => decide (x % n = i)) ks
    have h6 : 3 * n / 4 ≤ 6 := by
      unfold zpw at hn
      simp only [List.mem_cons, List.not_mem_nil, or_false] at hn
      omega
    omega
/-- a node's pointer, or null -/
def zpt (T : Nat) (nd : Nat → Nat) : Option Nat → ZP
  | none => zN
  | some x => (T, 0, nd x)
/-- nodes linked in this order, the last one's link null -/
def zLk (μ : ZM) (T : Nat) (nd : Nat → Nat) : List Nat → Prop
  | [] => True
  | x :: rs => zfr μ 120 (nd x) = zpt T nd rs.head? ∧ zLk μ T nd rs
def zCh (μ : ZM) (T : Nat) (nd : Nat → Nat) (p : ZP) (hs : List Nat) : Prop := p = zpt T nd hs.head? ∧ zLk μ T nd hs
/-- the node of hash x: its key and value -/
def zNd (μ : ZM) (nd kp : Nat → Nat) (vl : Nat → ZP) (x : Nat) : Prop := x < 96 ∧ nd x < zsz μ ∧ zfi μ 117 (nd x) = nI x ∧ zfr μ 118 (nd x) = (9, 0, kp x) ∧ zfi μ 92 (kp x) = nI (x / 12) ∧ zfi μ 93 (kp x) = nI (x % 12) ∧ zfr μ 119 (nd x) = vl x
/-- a map with a table: table t of length n; hashes in the order of their coming -/
def zHm (μ : ZM) (T m t n : Nat) (ks : List Nat) (nd kp : Nat → Nat) (vl : Nat → ZP) : Prop := zfr μ 107 m = (205, n, t) ∧ zfi μ 109 m = nI ks.length ∧ zfi μ 111 m = nI (3 * n / 4) ∧ zfi μ 112 m = (1061158912 : UInt32).toInt32 ∧ n ∈ zpw ∧ ks.length ≤ 3 * n / 4 ∧ ks.Nodup ∧ (∀ x ∈ ks, zNd μ nd kp vl x) ∧ ∀ i, i < n → zCh μ T nd (zar μ t i) (ks.filter fun x => x % n = i)
theorem zLk.kp {μ ν : ZM} {T : Nat} {nd : Nat → Nat} : ∀ {hs : List Nat}, zLk μ T nd hs → (∀ x ∈ hs, zfr ν 120 (nd x) = zfr μ 120 (nd x)) → zLk ν T nd hs := by
  intro hs
  induction hs with
  | nil => intro _ _; trivial
  | cons x rs ih => intro h k; exact ⟨(k x List.mem_cons_self).trans h.1, ih h.2 (fun y hy => k y (List.mem_cons_of_mem _ hy))⟩
theorem zNd.kp {μ ν : ZM} {nd kp : Nat → Nat} {vl : Nat → ZP} {x : Nat} (h : zNd μ nd kp vl x) (hs : zsz μ ≤ zsz ν) (h1 : zsame μ ν (nd x)) (h2 : zsame μ ν (kp x)) : zNd ν nd kp vl x :=
  ⟨h.1, Nat.lt_of_lt_of_le h.2.1 hs, (h1.1 _).trans h.2.2.1, (h1.2.1 _).trans h.2.2.2.1, (h2.1 _).trans h.2.2.2.2.1, (h2.1 _).trans h.2.2.2.2.2.1, (h1.2.1 _).trans h.2.2.2.2.2.2⟩
theorem zHm.kp {μ ν : ZM} {T m t n : Nat} {ks : List Nat} {nd kp : Nat → Nat} {vl : Nat → ZP} (h : zHm μ T m t n ks nd kp vl) (hs : zsz μ ≤ zsz ν) (h1 : zsame μ ν m) (h2 : zsame μ ν t) (h3 : ∀ x ∈ ks, zsame μ ν (nd x) ∧ zsame μ ν (kp x)) : zHm ν T m t n ks nd kp vl := by
  obtain ⟨a1, a2, a3, a4, a5, a6, a7, a8, a9⟩ := h
  refine ⟨(h1.2.1 _).trans a1, (h1.1 _).trans a2, (h1.1 _).trans a3, (h1.1 _).trans a4, a5, a6, a7, fun x hx => (a8 x hx).kp hs (h3 x hx).1 (h3 x hx).2, fun i hi => ⟨(h2.2.2.2.1 i).trans (a9 i hi).1, (a9 i hi).2.kp fun x hx => (h3 x (List.mem_filter.mp hx).1).1.2.1 120⟩⟩
/-- different hashes, different nodes -/
theorem zNd.ne {μ : ZM} {nd kp : Nat → Nat} {vl : Nat → ZP} {x y : Nat} (h : zNd μ nd kp vl x) (k : zNd μ nd kp vl y) (e : nd x = nd y) : x = y := by
  have h1 := h.2.2.1
  rw [e, k.2.2.1] at h1
  exact ((nI_eq (by have := k.1; omega) (by have := h.1; omega)).mp h1).symm
section ZJ
variable {G : ZG} {μ : ZM} {Q : Option ZV → ZM → Prop} {E : ZP → ZM → Prop}
theorem C_pHash {r k : Nat} (hk : k < 96) (h1 : zfi μ 92 r = nI (k / 12)) (h2 : zfi μ 93 r = nI (k % 12)) (kk : Q (some (vI (nI k))) μ) : Call G Y_J22_hash [vP (9, 0, r)] μ Q E := by
  have e : (12 * nI (k / 12)) + nI (k % 12) = nI k := by
    show (nI 12 * nI (k / 12)) + nI (k % 12) = nI k
    rw [pk_mul, nI_add, Nat.div_add_mod]
  refine S_J22_hash (S_X9_hashCode ⟨_, h1, _, h2, ⟨_, rfl, ?_⟩⟩)
  have e2 := zpw_hash ⟨k, hk⟩
  rw [e]
  dsimp only at e2 ⊢
  rw [e2]
  exact kk
theorem C_pEq {r s k : Nat} (h1 : zfi μ 92 r = nI (k / 12)) (h2 : zfi μ 93 r = nI (k % 12)) (h3 : zfi μ 92 s = nI (k / 12)) (h4 : zfi μ 93 s = nI (k % 12)) (kk : Q (some (vI 1)) μ) : Call G Y_X9_equals [vP (9, 0, r), vP (9, 0, s)] μ Q E :=
  S_X9_equals ⟨_, h3, _, h1, fun e => absurd rfl e, fun _ => ⟨_, h4, _, h2, fun e => absurd rfl e, fun _ => kk⟩⟩
theorem L_hmGet_14 {nd kp : Nat → Nat} {vl : Nat → ZP} {r k : Nat} (hk : k < 96) (h1 : zfi μ 92 r = nI (k / 12)) (h2 : zfi μ 93 r = nI (k % 12)) : ∀ (rs : List Nat) (x : Nat), zLk μ 16 nd (x :: rs) → (∀ y ∈ x :: rs, zNd μ nd kp vl y) → Q (some (vP (if k ∈ x :: rs then (16, 0, nd k) else zN))) μ → Wp G Y_J22_getNode 99 [(1, vP (9, 0, r)), (4, vP (16, 0, nd x)), (6, vI (nI k))] [] μ Q E := by
  intro rs
  induction rs with
  | nil =>
    intro x hl hn kk
    have n1 := hn x List.mem_cons_self
    refine B_J22_getNode_14_99 ⟨_, n1.2.2.1, fun e => ⟨_, hl.1, Or.inl ⟨rfl, ?_⟩⟩, fun e => ?_⟩
    · rw [if_neg (fun q => e (by rw [List.mem_singleton.mp q]))] at kk
      exact kk
    · have ex := (nI_eq (by have := n1.1; omega) (by omega)).mp e
      subst ex
      rw [if_pos List.mem_cons_self] at kk
      exact ⟨_, n1.2.2.2.1, fun _ => kk, fun _ => C_pEq h1 h2 n1.2.2.2.2.1 n1.2.2.2.2.2.1 ⟨_, rfl, fun q => absurd q (by decide), fun _ => kk⟩⟩
  | cons y rs ih =>
    intro x hl hn kk
    have n1 := hn x List.mem_cons_self
    refine B_J22_getNode_14_99 ⟨_, n1.2.2.1, fun e => ⟨_, hl.1, Or.inr ⟨_, rfl, ih y hl.2 (fun z hz => hn z (List.mem_cons_of_mem _ hz)) ?_⟩⟩, fun e => ?_⟩
    · have : k ∈ x :: y :: rs ↔ k ∈ y :: rs := by
        rw [List.mem_cons (a := k) (b := x)]
        exact ⟨fun q => q.elim (fun q => absurd (by rw [q]) e) id, Or.inr⟩
      simp only [this] at kk
      exact kk
    · have ex := (nI_eq (by have := n1.1; omega) (by omega)).mp e
      subst ex
      rw [if_pos List.mem_cons_self] at kk
      exact ⟨_, n1.2.2.2.1, fun _ => kk, fun _ => C_pEq h1 h2 n1.2.2.2.2.1 n1.2.2.2.2.2.1 ⟨_, rfl, fun q => absurd q (by decide), fun _ => kk⟩⟩
theorem C_hmNode_14 {m t n r k : Nat} {ks : List Nat} {nd kp : Nat → Nat} {vl : Nat → ZP} (h : zHm μ 16 m t n ks nd kp vl) (hk : k < 96) (h1 : zfi μ 92 r = nI (k / 12)) (h2 : zfi μ 93 r = nI (k % 12)) (kk : Q (some (vP (if k ∈ ks then (16, 0, nd k) else zN))) μ) : Call G Y_J22_getNode [vP (14, 0, m), vP (9, 0, r)] μ Q E := by
  obtain ⟨a1, a2, a3, a4, a5, a6, a7, a8, a9⟩ := h
  have hle := zpw_le n a5
  have hmod : k % n < n := Nat.mod_lt _ (by omega)
  obtain ⟨c1, c2⟩ := a9 (k % n) hmod
  have hmem : k ∈ ks ↔ k ∈ ks.filter fun x => x % n = k % n := by rw [List.mem_filter]; exact ⟨fun q => ⟨q, by simp⟩, fun q => q.1⟩
  have hn : ∀ y ∈ ks.filter (fun x => x % n = k % n), zNd μ nd kp vl y := fun y hy => a8 y (List.mem_filter.mp hy).1
  simp only [hmem] at kk
  generalize ks.filter (fun x => x % n = k % n) = L at c1 c2 kk hn
  refine S_J22_getNode_14 ⟨_, a1, Or.inr ⟨_, _, rfl, fun q => absurd (nI_lt (a := 0) (by omega) (by omega)) q, fun _ => C_pHash hk h1 h2 ⟨_, rfl, k % n, ?_, _, c1, ?_⟩⟩⟩
  · rw [zpw_and n a5 ⟨k, hk⟩]
    exact zix.eq rfl hmod (by omega)
  · cases L with
    | nil => exact Or.inl ⟨rfl, by simpa using kk⟩
    | cons x rs =>
      have n1 := hn x List.mem_cons_self
      refine Or.inr ⟨_, rfl, _, n1.2.2.1, fun e => ?_, fun e => ?_⟩
      · cases rs with
        | nil =>
          rw [if_neg (fun q => e (by rw [List.mem_singleton.mp q]))] at kk
          exact B_J22_getNode_14_71 ⟨_, c2.1, Or.inl ⟨rfl, kk⟩⟩
        | cons y rs =>
          refine B_J22_getNode_14_71 ⟨_, c2.1, Or.inr ⟨_, rfl, L_hmGet_14 hk h1 h2 rs y c2.2 (fun z hz => hn z (List.mem_cons_of_mem _ hz)) ?_⟩⟩
          have : k ∈ x :: y :: rs ↔ k ∈ y :: rs := by
            rw [List.mem_cons (a := k) (b := x)]
            exact ⟨fun q => q.elim (fun q => absurd (by rw [q]) e) id, Or.inr⟩
          simp only [this] at kk
          exact kk
      · have ex := (nI_eq (by have := n1.1; omega) (by omega)).mp e
        subst ex
        rw [if_pos List.mem_cons_self] at kk
        exact ⟨_, n1.2.2.2.1, fun _ => kk, fun _ => C_pEq h1 h2 n1.2.2.2.2.1 n1.2.2.2.2.2.1 ⟨_, rfl, fun q => absurd q (by decide), fun _ => kk⟩⟩
theorem L_hmGet_15 {nd kp : Nat → Nat} {vl : Nat → ZP} {r k : Nat} (hk : k < 96) (h1 : zfi μ 92 r = nI (k / 12)) (h2 : zfi μ 93 r = nI (k % 12)) : ∀ (rs : List Nat) (x : Nat), zLk μ 17 nd (x :: rs) → (∀ y ∈ x :: rs, zNd μ nd kp vl y) → Q (some (vP (if k ∈ x :: rs then (17, 0, nd k) else zN))) μ → Wp G Y_J22_getNode 99 [(1, vP (9, 0, r)), (4, vP (17, 0, nd x)), (6, vI (nI k))] [] μ Q E := by
  intro rs
  induction rs with
  | nil =>
    intro x hl hn kk
    have n1 := hn x List.mem_cons_self
    refine B_J22_getNode_15_99 ⟨_, n1.2.2.1, fun e => ⟨_, hl.1, Or.inl ⟨rfl, ?_⟩⟩, fun e => ?_⟩
    · rw [if_neg (fun q => e (by rw [List.mem_singleton.mp q]))] at kk
      exact kk
    · have ex := (nI_eq (by have := n1.1; omega) (by omega)).mp e
      subst ex
      rw [if_pos List.mem_cons_self] at kk
      exact ⟨_, n1.2.2.2.1, fun _ => kk, fun _ => C_pEq h1 h2 n1.2.2.2.2.1 n1.2.2.2.2.2.1 ⟨_, rfl, fun q => absurd q (by decide), fun _ => kk⟩⟩
  | cons y rs ih =>
    intro x hl hn kk
    have n1 := hn x List.mem_cons_self
    refine B_J22_getNode_15_99 ⟨_, n1.2.2.1, fun e => ⟨_, hl.1, Or.inr ⟨_, rfl, ih y hl.2 (fun z hz => hn z (List.mem_cons_of_mem _ hz)) ?_⟩⟩, fun e => ?_⟩
    · have : k ∈ x :: y :: rs ↔ k ∈ y :: rs := by
        rw [List.mem_cons (a := k) (b := x)]
        exact ⟨fun q => q.elim (fun q => absurd (by rw [q]) e) id, Or.inr⟩
      simp only [this] at kk
      exact kk
    · have ex := (nI_eq (by have := n1.1; omega) (by omega)).mp e
      subst ex
      rw [if_pos List.mem_cons_self] at kk
      exact ⟨_, n1.2.2.2.1, fun _ => kk, fun _ => C_pEq h1 h2 n1.2.2.2.2.1 n1.2.2.2.2.2.1 ⟨_, rfl, fun q => absurd q (by decide), fun _ => kk⟩⟩
theorem C_hmNode_15 {m t n r k : Nat} {ks : List Nat} {nd kp : Nat → Nat} {vl : Nat → ZP} (h : zHm μ 17 m t n ks nd kp vl) (hk : k < 96) (h1 : zfi μ 92 r = nI (k / 12)) (h2 : zfi μ 93 r = nI (k % 12)) (kk : Q (some (vP (if k ∈ ks then (17, 0, nd k) else zN))) μ) : Call G Y_J22_getNode [vP (15, 0, m), vP (9, 0, r)] μ Q E := by
  obtain ⟨a1, a2, a3, a4, a5, a6, a7, a8, a9⟩ := h
  have hle := zpw_le n a5
  have hmod : k % n < n := Nat.mod_lt _ (by omega)
  obtain ⟨c1, c2⟩ := a9 (k % n) hmod
  have hmem : k ∈ ks ↔ k ∈ ks.filter fun x => x % n = k % n := by rw [List.mem_filter]; exact ⟨fun q => ⟨q, by simp⟩, fun q => q.1⟩
  have hn : ∀ y ∈ ks.filter (fun x => x % n = k % n), zNd μ nd kp vl y := fun y hy => a8 y (List.mem_filter.mp hy).1
  simp only [hmem] at kk
  generalize ks.filter (fun x => x % n = k % n) = L at c1 c2 kk hn
  refine S_J22_getNode_15 ⟨_, a1, Or.inr ⟨_, _, rfl, fun q => absurd (nI_lt (a := 0) (by omega) (by omega)) q, fun _ => C_pHash hk h1 h2 ⟨_, rfl, k % n, ?_, _, c1, ?_⟩⟩⟩
  · rw [zpw_and n a5 ⟨k, hk⟩]
    exact zix.eq rfl hmod (by omega)
  · cases L with
    | nil => exact Or.inl ⟨rfl, by simpa using kk⟩
    | cons x rs =>
      have n1 := hn x List.mem_cons_self
      refine Or.inr ⟨_, rfl, _, n1.2.2.1, fun e => ?_, fun e => ?_⟩
      · cases rs with
        | nil =>
          rw [if_neg (fun q => e (by rw [List.mem_singleton.mp q]))] at kk
          exact B_J22_getNode_15_71 ⟨_, c2.1, Or.inl ⟨rfl, kk⟩⟩
        | cons y rs =>
          refine B_J22_getNode_15_71 ⟨_, c2.1, Or.inr ⟨_, rfl, L_hmGet_15 hk h1 h2 rs y c2.2 (fun z hz => hn z (List.mem_cons_of_mem _ hz)) ?_⟩⟩
          have : k ∈ x :: y :: rs ↔ k ∈ y :: rs := by
            rw [List.mem_cons (a := k) (b := x)]
            exact ⟨fun q => q.elim (fun q => absurd (by rw [q]) e) id, Or.inr⟩
          simp only [this] at kk
          exact kk
      · have ex := (nI_eq (by have := n1.1; omega) (by omega)).mp e
        subst ex
        rw [if_pos List.mem_cons_self] at kk
        exact ⟨_, n1.2.2.2.1, fun _ => kk, fun _ => C_pEq h1 h2 n1.2.2.2.2.1 n1.2.2.2.2.2.1 ⟨_, rfl, fun q => absurd q (by decide), fun _ => kk⟩⟩
end ZJ
