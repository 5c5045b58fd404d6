set_option maxRecDepth 100000
/-! THE COMPONENT, 10: HashMap: its entries' iterator, putAll -/
/-- the keys of the buckets j .. j+d-1, in the order of the table -/
def bk (ks : List Nat) (n : Nat) : Nat → Nat → List Nat
  | 0, _ => []
  | d + 1, j => (ks.filter fun x => x % n = j) ++ bk ks n d (j + 1)
theorem bk_mem {ks : List Nat} {n x : Nat} : ∀ (d j : Nat), x ∈ bk ks n d j ↔ x ∈ ks ∧ j ≤ x % n ∧ x % n < j + d := by
  intro d
  induction d with
  | zero => intro j; simp only [bk, List.not_mem_nil, false_iff]; omega
  | succ d ih =>
    intro j
    simp only [bk, List.mem_append, ih, List.mem_filter, decide_eq_true_eq]
    constructor
    · rintro (⟨h1, h2⟩ | ⟨h1, h2, h3⟩)
      · exact ⟨h1, by omega, by omega⟩
      · exact ⟨h1, by omega, by omega⟩
    · rintro ⟨h1, h2, h3⟩
      rcases Nat.eq_or_lt_of_le h2 with q | q
      · exact Or.inl ⟨h1, q.symm⟩
      · exact Or.inr ⟨h1, q, by omega⟩
theorem bk_nd {ks : List Nat} {n : Nat} (h : ks.Nodup) : ∀ (d j : Nat), (bk ks n d j).Nodup := by
  intro d
  induction d with
  | zero => intro j; exact List.nodup_nil
  | succ d ih =>
    intro j
    show ((ks.filter fun x => x % n = j) ++ bk ks n d (j + 1)).Nodup
    rw [List.nodup_append]
    refine ⟨h.filter _, ih _, fun x hx y hy e => ?_⟩
    subst e
    have h1 := (List.mem_filter.mp hx).2
    have h2 := (bk_mem d (j + 1)).mp hy
    simp only [decide_eq_true_eq] at h1
    omega
/-- an entries' iterator ahead of the keys L -/
def zEj (μ : ZM) (it n : Nat) (ks : List Nat) (nd : Nat → Nat) (L : List Nat) : Prop := (L = [] ∧ zfr μ 124 it = zN) ∨ ∃ x rs d j, L = x :: (rs ++ bk ks n d (j + 1)) ∧ zfr μ 124 it = (16, 0, nd x) ∧ zLk μ 16 nd (x :: rs) ∧ zfi μ 127 it = nI (j + 1) ∧ n = j + 1 + d
def zEi (μ : ZM) (it m n : Nat) (ks : List Nat) (nd : Nat → Nat) (L : List Nat) : Prop := zfr μ 128 it = (14, 0, m) ∧ zfi μ 126 it = zfi μ 110 m ∧ zEj μ it n ks nd L
def zEc (μ : ZM) (m : Nat) : Prop := zfr μ 108 m = zN ∨ ∃ b, zfr μ 108 m = (18, 0, b) ∧ zfr μ 123 b = (14, 0, m)
theorem zEc.kp {μ ν : ZM} {m : Nat} (h : zEc μ m) (h1 : zfr ν 108 m = zfr μ 108 m) (h2 : ∀ b, zfr μ 108 m = (18, 0, b) → zfr ν 123 b = zfr μ 123 b) : zEc ν m := by
  rcases h with h | ⟨b, a1, a2⟩
  · exact Or.inl (h1.trans h)
  · exact Or.inr ⟨b, h1.trans a1, (h2 b a1).trans a2⟩
section ZJ
variable {G : ZG} {μ : ZM} {Q : Option ZV → ZM → Prop} {E : ZP → ZM → Prop} {m t n : Nat} {ks : List Nat} {nd kp : Nat → Nat} {vl : Nat → ZP}
theorem L_adv48 {it : Nat} (hn : n ≤ 128) : ∀ (d j : Nat) (μ : ZM), n = j + d → zfi μ 127 it = nI j → zfr μ 124 it = zN → (∀ i, i < n → zCh μ 16 nd (zar μ t i) (ks.filter fun x => x % n = i)) →
    (∀ ν, zG (fun a => a = it) 0 0 μ ν → zfr ν 128 it = zfr μ 128 it → zfi ν 126 it = zfi μ 126 it → zfi ν 110 = zfi μ 110 → zEj ν it n ks nd (bk ks n d j) → Q none ν) → Wp G Y_J40_init 48 [(0, vP (19, 0, it)), (2, vP (205, n, t))] [] μ Q E := by
  intro d
  induction d with
  | zero =>
    intro j μ hd h1 h2 hz K
    exact B_J40_init_19_48 ⟨_, h1, fun _ => K μ (zG.rf _ _) rfl rfl rfl (Or.inl ⟨rfl, h2⟩), fun e => absurd e (nI_nlt (by omega) (by omega))⟩
  | succ d ih =>
    intro j μ hd h1 h2 hz K
    obtain ⟨c1, c2⟩ := hz j (by omega)
    refine B_J40_init_19_48 ⟨_, h1, fun e => absurd (nI_lt (by omega) (by omega)) e, fun _ => ⟨j, zix.eq rfl (by omega) (by omega), _, c1, ?_⟩⟩
    rw [nI_1]
    cases hL : ks.filter (fun x => decide (x % n = j)) with
    | nil =>
      refine Or.inl ⟨rfl, ih (j + 1) _ (by omega) ?_ ?_ (fun i hi => ⟨(hz i hi).1, (hz i hi).2.kp fun x _ => ?_⟩) fun ν g k1 k2 k3 k4 => K ν (((zG.fi (W := fun a => a = it) rfl).tr (zG.fr rfl)).tr g) (k1.trans ?_) (k2.trans ?_) (k3.trans ?_) ?_⟩
      · rw [zfi_zFr, zfi_zFi, if_pos ⟨rfl, rfl⟩]
      · rw [zfr_zFr, if_pos ⟨rfl, rfl⟩]
      · rw [zfr_zFr, if_neg (fun e => by cases e.1)]; rfl
      · rw [zfr_zFr, if_neg (fun e => by cases e.1)]; rfl
      · rw [zfi_zFr, zfi_zFi, if_neg (fun e => by cases e.1)]
      · funext a; rw [zfi_zFr, zfi_zFi, if_neg (fun e => by cases e.1)]
      · show zEj ν it n ks nd (ks.filter (fun x => decide (x % n = j)) ++ bk ks n d (j + 1))
        rw [hL]; exact k4
    | cons x rs =>
      rw [hL] at c2
      refine Or.inr ⟨_, rfl, K _ ((zG.fi (W := fun a => a = it) rfl).tr (zG.fr rfl)) ?_ ?_ ?_ (Or.inr ⟨x, rs, d, j, ?_, ?_, c2.kp fun y _ => ?_, ?_, by omega⟩)⟩
      · rw [zfr_zFr, if_neg (fun e => by cases e.1)]; rfl
      · rw [zfi_zFr, zfi_zFi, if_neg (fun e => by cases e.1)]
      · funext a; rw [zfi_zFr, zfi_zFi, if_neg (fun e => by cases e.1)]
      · show ks.filter (fun x => decide (x % n = j)) ++ bk ks n d (j + 1) = _
        rw [hL]; rfl
      · rw [zfr_zFr, if_pos ⟨rfl, rfl⟩]
      · rw [zfr_zFr, if_neg (fun e => by cases e.1)]; rfl
      · rw [zfi_zFr, zfi_zFi, if_pos ⟨rfl, rfl⟩]
theorem L_adv68 {it r : Nat} (hn : n ≤ 128) : ∀ (d j : Nat) (μ : ZM), n = j + d → zfi μ 127 it = nI j → zfr μ 124 it = zN → (∀ i, i < n → zCh μ 16 nd (zar μ t i) (ks.filter fun x => x % n = i)) →
    (∀ ν, zG (fun a => a = it) 0 0 μ ν → zfr ν 128 it = zfr μ 128 it → zfi ν 126 it = zfi μ 126 it → zfi ν 110 = zfi μ 110 → zEj ν it n ks nd (bk ks n d j) → Q (some (vP (16, 0, r))) ν) → Wp G Y_J40_nextNode 68 [(0, vP (19, 0, it)), (1, vP (205, n, t)), (2, vP (16, 0, r))] [] μ Q E := by
  intro d
  induction d with
  | zero =>
    intro j μ hd h1 h2 hz K
    exact B_J40_nextNode_19_68 ⟨_, h1, fun _ => K μ (zG.rf _ _) rfl rfl rfl (Or.inl ⟨rfl, h2⟩), fun e => absurd e (nI_nlt (by omega) (by omega))⟩
  | succ d ih =>
    intro j μ hd h1 h2 hz K
    obtain ⟨c1, c2⟩ := hz j (by omega)
    refine B_J40_nextNode_19_68 ⟨_, h1, fun e => absurd (nI_lt (by omega) (by omega)) e, fun _ => ⟨j, zix.eq rfl (by omega) (by omega), _, c1, ?_⟩⟩
    rw [nI_1]
    cases hL : ks.filter (fun x => decide (x % n = j)) with
    | nil =>
      refine Or.inl ⟨rfl, ih (j + 1) _ (by omega) ?_ ?_ (fun i hi => ⟨(hz i hi).1, (hz i hi).2.kp fun x _ => ?_⟩) fun ν g k1 k2 k3 k4 => K ν (((zG.fi (W := fun a => a = it) rfl).tr (zG.fr rfl)).tr g) (k1.trans ?_) (k2.trans ?_) (k3.trans ?_) ?_⟩
      · rw [zfi_zFr, zfi_zFi, if_pos ⟨rfl, rfl⟩]
      · rw [zfr_zFr, if_pos ⟨rfl, rfl⟩]
      · rw [zfr_zFr, if_neg (fun e => by cases e.1)]; rfl
      · rw [zfr_zFr, if_neg (fun e => by cases e.1)]; rfl
      · rw [zfi_zFr, zfi_zFi, if_neg (fun e => by cases e.1)]
      · funext a; rw [zfi_zFr, zfi_zFi, if_neg (fun e => by cases e.1)]
      · show zEj ν it n ks nd (ks.filter (fun x => decide (x % n = j)) ++ bk ks n d (j + 1))
        rw [hL]; exact k4
    | cons x rs =>
      rw [hL] at c2
      refine Or.inr ⟨_, rfl, K _ ((zG.fi (W := fun a => a = it) rfl).tr (zG.fr rfl)) ?_ ?_ ?_ (Or.inr ⟨x, rs, d, j, ?_, ?_, c2.kp fun y _ => ?_, ?_, by omega⟩)⟩
      · rw [zfr_zFr, if_neg (fun e => by cases e.1)]; rfl
      · rw [zfi_zFr, zfi_zFi, if_neg (fun e => by cases e.1)]
      · funext a; rw [zfi_zFr, zfi_zFi, if_neg (fun e => by cases e.1)]
      · show ks.filter (fun x => decide (x % n = j)) ++ bk ks n d (j + 1) = _
        rw [hL]; rfl
      · rw [zfr_zFr, if_pos ⟨rfl, rfl⟩]
      · rw [zfr_zFr, if_neg (fun e => by cases e.1)]; rfl
      · rw [zfi_zFr, zfi_zFi, if_pos ⟨rfl, rfl⟩]
theorem C_eiHas {it : Nat} {L : List Nat} (hi : zEi μ it m n ks nd L) (kt : L ≠ [] → Q (some (vI 1)) μ) (kf : L = [] → Q (some (vI 0)) μ) : Call G Y_J40_hasNext [vP (19, 0, it)] μ Q E := by
  rcases hi.2.2 with ⟨e, h⟩ | ⟨x, rs, d, j, e, h, -⟩
  · exact S_J40_hasNext_19 ⟨_, h, Or.inl ⟨rfl, kf e⟩⟩
  · exact S_J40_hasNext_19 ⟨_, h, Or.inr ⟨_, rfl, kt (by rw [e]; exact List.cons_ne_nil _ _)⟩⟩
theorem C_eiNext {it x : Nat} {L : List Nat} (h : zHm μ 16 m t n ks nd kp vl) (hi : zEi μ it m n ks nd (x :: L)) (k : ∀ ν, zEi ν it m n ks nd L → zG (fun a => a = it) 0 0 μ ν → zfi ν 110 = zfi μ 110 → Q (some (vP (16, 0, nd x))) ν) : Call G Y_J41_next [vP (19, 0, it)] μ Q E := by
  have hle := zpw_le n h.2.2.2.2.1
  obtain ⟨a1, a2, a3⟩ := hi
  rcases a3 with ⟨e, -⟩ | ⟨x', rs, d, j, e, b1, b2, b3, b4⟩
  · cases e
  injection e with e1 e2
  subst e1
  have kk : ∀ ν, zEi ν it m n ks nd L → zG (fun a => a = it) 0 0 μ ν → zfi ν 110 = zfi μ 110 → rP (fun q1 ν1 => ∃ b1, q1 = (16, 0, b1) ∧ rP (fun q1 ν1 => ∃ b1, q1 = (16, 0, b1) ∧ Q (some (vP (16, 0, b1))) ν1) (some (vP (16, 0, b1))) ν1) (some (vP (16, 0, nd x))) ν := fun ν c1 c2 c3 => ⟨_, rfl, _, rfl, _, rfl, _, rfl, k ν c1 c2 c3⟩
  refine S_J41_next (S_J41_next_2 (S_J40_nextNode_19 ⟨_, b1, _, a1, _, rfl, _, a2, fun _ => Or.inr ⟨_, rfl, _, b2.1, ?_⟩, fun e => absurd rfl e⟩))
  cases rs with
  | nil =>
    refine Or.inl ⟨rfl, _, h.1, Or.inr ⟨_, _, rfl, L_adv68 (nd := nd) (ks := ks) hle.2 d (j + 1) _ b4 b3 ?_ (fun i hi => ?_) fun ν g k1 k2 k3 k4 => kk ν ⟨k1.trans ?_, ?_, ?_⟩ (((zG.fr (W := fun a => a = it) rfl).tr (zG.fr rfl)).tr g) k3⟩⟩
    · rw [zfr_zFr, if_pos ⟨rfl, rfl⟩]
    · have hz := h.2.2.2.2.2.2.2.2 i hi
      exact ⟨hz.1, hz.2.kp fun y _ => by rw [zfr_zFr, if_neg (fun e => by cases e.1), zfr_zFr, if_neg (fun e => by cases e.1)]⟩
    · rw [zfr_zFr, if_neg (fun e => by cases e.1), zfr_zFr, if_neg (fun e => by cases e.1)]; exact a1
    · rw [k2, k3]; exact a2
    · rw [e2]; exact k4
  | cons y rs =>
    refine Or.inr ⟨_, rfl, kk _ ⟨?_, a2, Or.inr ⟨y, rs, d, j, e2, ?_, b2.2.kp fun y _ => ?_, b3, b4⟩⟩ ((zG.fr (W := fun a => a = it) rfl).tr (zG.fr rfl)) rfl⟩
    · rw [zfr_zFr, if_neg (fun e => by cases e.1), zfr_zFr, if_neg (fun e => by cases e.1)]; exact a1
    · rw [zfr_zFr, if_pos ⟨rfl, rfl⟩]
    · rw [zfr_zFr, if_neg (fun e => by cases e.1), zfr_zFr, if_neg (fun e => by cases e.1)]
end ZJ
