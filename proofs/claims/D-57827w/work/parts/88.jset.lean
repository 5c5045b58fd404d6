set_option maxRecDepth 100000
/-! THE COMPONENT, 9: LinkedHashSet: its iterator, addAll -/
/-- the cached key set of a map -/
def zKc (μ : ZM) (m : Nat) : Prop := zfr μ 105 m = zN ∨ ∃ b, zfr μ 105 m = (20, 0, b) ∧ zfr μ 130 b = (15, 0, m) ∧ zfi μ 129 b = 0
/-- an iterator of a linked set, behind i keys -/
def zLi (μ : ZM) (it m : Nat) (ks : List Nat) (nd : Nat → Nat) (i : Nat) : Prop := zfr μ 131 it = zpt 17 nd ks[i]? ∧ zfr μ 135 it = (15, 0, m) ∧ zfi μ 133 it = zfi μ 110 m ∧ zfi μ 134 it = 0
/-- all addresses that a map rests on -/
def zSr (μ : ZM) (m : Nat) (ks : List Nat) (nd kp : Nat → Nat) (a : Nat) : Prop := a = m ∨ (∃ n, zfr μ 107 m = (205, n, a)) ∨ ∃ x ∈ ks, a = nd x ∨ a = kp x
theorem zMp.far {μ ν : ZM} {T m c d : Nat} {ks : List Nat} {nd kp : Nat → Nat} {vl : Nat → ZP} {W : Nat → Prop} (h : zMp μ T m ks nd kp vl) (hs : ∀ a, zSr μ m ks nd kp a → a < zsz μ ∧ ¬ W a) (g : zG W c d μ ν) : zMp ν T m ks nd kp vl ∧ (∀ n a, zfr ν 107 m = (205, n, a) → zfr μ 107 m = (205, n, a)) ∧ tl ν m = tl μ m := by
  have k : ∀ a, zSr μ m ks nd kp a → zsame μ ν a := fun a ha => g.same (hs a ha).1 (hs a ha).2
  have km := k m (Or.inl rfl)
  refine ⟨h.kp g.1.1 km.1 (fun f _ _ => km.2.1 f) (fun n t e => (k t (Or.inr (Or.inl ⟨n, e⟩))).2.2.2.1) (fun x hx => ⟨(k _ (Or.inr (Or.inr ⟨x, hx, Or.inl rfl⟩))).1, fun f _ _ => (k _ (Or.inr (Or.inr ⟨x, hx, Or.inl rfl⟩))).2.1 f, (k _ (Or.inr (Or.inr ⟨x, hx, Or.inr rfl⟩))).1⟩), fun n a e => (km.2.1 107).symm.trans e, ?_⟩
  unfold tl; rw [km.2.1]
/-- what a map rests on is known -/
theorem zMp.kn {μ : ZM} {T m : Nat} {ks : List Nat} {nd kp : Nat → Nat} {vl : Nat → ZP} (h : zMp μ T m ks nd kp vl) (hok : zok μ) (hm : m < zsz μ) (hT : T = 16 ∨ T = 17) : (∀ a, zSr μ m ks nd kp a → a < zsz μ) ∧ (∀ n a, zfr μ 107 m = (205, n, a) → (ztg μ a).1 = 205) ∧ ∀ x ∈ ks, (ztg μ (nd x)).1 = T ∧ (ztg μ (kp x)).1 = 9 := by
  have h1 : ∀ n a, zfr μ 107 m = (205, n, a) → a < zsz μ ∧ (ztg μ a).1 = 205 := fun n a e => by
    have := hok.ref e (by decide) (by decide)
    exact ⟨this.1, by rw [this.2]⟩
  have h2 : ∀ x ∈ ks, kp x < zsz μ ∧ (ztg μ (kp x)).1 = 9 := fun x hx => by
    have := hok.ref (h.nd.2 x hx).2.2.2.1 (by decide) (by decide)
    exact ⟨this.1, by rw [this.2]⟩
  have h3 : ∀ x ∈ ks, (ztg μ (nd x)).1 = T := fun x hx => by
    rcases h.1 with ⟨rfl, -⟩ | ⟨t, n, q⟩
    · cases hx
    · have hn := q.2.2.2.2.1
      have hle := zpw_le n hn
      obtain ⟨c1, c2⟩ := q.2.2.2.2.2.2.2.2 (x % n) (Nat.mod_lt _ (by omega))
      have hT0 : T ≠ 0 ∧ T ≠ 251 := by omega
      have aux : ∀ (L : List Nat) (p : ZP), zpk μ p → p = zpt T nd L.head? → zLk μ T nd L → ∀ y ∈ L, (ztg μ (nd y)).1 = T := by
        intro L
        induction L with
        | nil => intro _ _ _ _ y hy; cases hy
        | cons z L ih =>
          intro p hp e hl y hy
          have hz : (ztg μ (nd z)).1 = T := by
            rw [e] at hp
            have := hp.lt hT0.1 hT0.2
            exact congrArg Prod.fst this.2
          rcases List.mem_cons.mp hy with rfl | hy
          · exact hz
          · exact ih _ (hok.2.2.2.2.2.1 120 (nd z)) hl.1 hl.2 y hy
      exact aux _ _ (hok.2.2.2.2.2.2 t (x % n)) c1 c2 x (List.mem_filter.mpr ⟨hx, by simp⟩)
  refine ⟨fun a ha => ?_, fun n a e => (h1 n a e).2, fun x hx => ⟨h3 x hx, (h2 x hx).2⟩⟩
  rcases ha with q | ⟨n, q⟩ | ⟨x, hx, q | q⟩
  · rw [q]; exact hm
  · exact (h1 n a q).1
  · rw [q]; exact (h.nd.2 x hx).2.1
  · rw [q]; exact (h2 x hx).1
/-- a place unchanged but in the caches of maps -/
def zsmC (μ ν : ZM) (a : Nat) : Prop := (∀ f, zfi ν f a = zfi μ f a) ∧ (∀ f, f ≠ 105 → f ≠ 108 → zfr ν f a = zfr μ f a) ∧ (∀ j, zai ν a j = zai μ a j) ∧ ∀ j, zar ν a j = zar μ a j
theorem zsame.c {μ ν : ZM} {a : Nat} (h : zsame μ ν a) : zsmC μ ν a := ⟨h.1, fun f _ _ => h.2.1 f, h.2.2.1, h.2.2.2.1⟩
theorem zsmC.trans {μ ν ρ : ZM} {a : Nat} (h : zsmC μ ν a) (k : zsmC ν ρ a) : zsmC μ ρ a := ⟨fun f => (k.1 f).trans (h.1 f), fun f h1 h2 => (k.2.1 f h1 h2).trans (h.2.1 f h1 h2), fun j => (k.2.2.1 j).trans (h.2.2.1 j), fun j => (k.2.2.2 j).trans (h.2.2.2 j)⟩
theorem zKc.kp {μ ν : ZM} {m : Nat} (h : zKc μ m) (h1 : zfr ν 105 m = zfr μ 105 m) (h2 : ∀ b, zfr μ 105 m = (20, 0, b) → zfr ν 130 b = zfr μ 130 b ∧ zfi ν 129 b = zfi μ 129 b) : zKc ν m := by
  rcases h with h | ⟨b, a1, a2, a3⟩
  · exact Or.inl (h1.trans h)
  · exact Or.inr ⟨b, h1.trans a1, (h2 b a1).1.trans a2, (h2 b a1).2.trans a3⟩
section ZJ
variable {G : ZG} {μ : ZM} {Q : Option ZV → ZM → Prop} {E : ZP → ZM → Prop} {m s : Nat} {ks : List Nat} {nd kp : Nat → Nat} {vl : Nat → ZP}
theorem C_lsIter (hs : zfr μ 104 s = (15, 0, m)) (hm : m < zsz μ) (h : zMp μ 17 m ks nd kp vl) (hc : zKc μ m)
    (k : ∀ ν it, zsz μ ≤ it → it < zsz ν → zLi ν it m ks nd 0 → zKc ν m → (∀ f a, a < zsz μ → f ≠ 105 ∨ a ≠ m → zfr ν f a = zfr μ f a) → zG (fun a => a = m) 2 7 μ ν → (∀ f a, a < zsz μ → zfi ν f a = zfi μ f a) → (∀ a i, zar ν a i = zar μ a i) → (∀ a i, zai ν a i = zai μ a i) → (ztg ν it).1 = 21 → Q (some (vP (21, 0, it))) ν) : Call G Y_J19_iterator [vP (13, 0, s)] μ Q E := by
  obtain ⟨l1, l2, l3, l4, l5⟩ := h.2 rfl
  have hd : zpt 17 nd ks.head? = zpt 17 nd ks[0]? := by cases ks <;> rfl
  have main : ∀ (ρ : ZM) (b : Nat), zfr ρ 130 b = (15, 0, m) → zfi ρ 129 b = 0 → zsz μ ≤ zsz ρ → zsz ρ ≤ zsz μ + 1 → zsl ρ ≤ zsl μ + 2 → zG (fun a => a = m) 1 2 μ ρ → zfr ρ 113 m = zfr μ 113 m → (∀ f, zfi ρ f m = zfi μ f m) → zKc ρ m → (∀ f a, a < zsz μ → f ≠ 105 ∨ a ≠ m → zfr ρ f a = zfr μ f a) → (∀ f a, a < zsz μ → zfi ρ f a = zfi μ f a) → (∀ a i, zar ρ a i = zar μ a i) → (∀ a i, zai ρ a i = zai μ a i) →
      Call G Y_J47_iterator [vP (20, 0, b)] ρ (rP fun q2 ν2 => ∃ b2, q2 = (21, 0, b2) ∧ Q (some (vP (21, 0, b2))) ν2) (fun q ν => zkc q.1 = true ∧ E q ν) := by
    intro ρ b h1 h2 h3 h3' h3s h4 h5 h6 h7 h8 h9 h10 h11
    have z : zsz ρ = zsz μ ∨ zsz ρ = zsz μ + 1 := by omega
    refine S_J47_iterator ⟨_, h1, _, h2, S_J45_init (S_J43_init_21 ⟨Or.inl rfl, fun _ => ⟨_, h5.trans (l3.trans hd), _, rfl, ⟨rfl, rfl, _, rfl, _, rfl, k _ (zsz ρ) h3 (Nat.lt_succ_self _) ⟨?_, ?_, ?_, ?_⟩ ?_ (fun f a ha hf => ?_) ?_ (fun f a ha => ?_) h10 h11 ?_⟩⟩, fun e => absurd rfl e⟩)⟩
    · simp [zfr_zFr, zfr_zFi]
    · simp [zfr_zFr, zfr_zFi]
    · simp [zfi_zFr, zfi_zFi, zfi_zNew, Nat.ne_of_lt (Nat.lt_of_lt_of_le hm h3)]
    · simp [zfi_zFr, zfi_zFi, zfi_zNew]
    · rcases h7 with q | ⟨c, q1, q2, q3⟩
      · exact Or.inl (by simp [zfr_zFr, zfr_zFi, zfr_zNew]; exact q)
      · refine Or.inr ⟨c, ?_, ?_, ?_⟩
        · simp [zfr_zFr, zfr_zFi, zfr_zNew]; exact q1
        · simp [zfr_zFr, zfr_zFi, zfr_zNew]; exact q2
        · simp [zfi_zFr, zfi_zFi, zfi_zNew]; exact q3
    · have hb : a ≠ zsz ρ := by omega
      rw [zfr_ne hb, zfr_zFi, zfr_ne hb, zfr_zFi, zfr_ne hb, zfr_zNew]
      exact h8 f a ha hf
    · have q : ((zsz ρ = m ∨ zsz μ ≤ zsz ρ)) := Or.inr h3
      have q' : ((zsz ρ = m) ∨ zsz ρ ≤ zsz ρ) := Or.inr (Nat.le_refl _)
      exact (h4.tr (zG.trN (W := fun a => a = m) (zG.nw (t := 21) (n := 0) (k := 5)) (((((zG.fr q').tr (zG.fi q')).tr (zG.fr q')).tr (zG.fi q')).tr (zG.fr q')))).mono (fun _ _ h => h) (by omega) (by omega)
    · have hb : a ≠ zsz ρ := by omega
      rw [zfi_zFr, zfi_zFi, if_neg (fun e => hb e.2), zfi_zFr, zfi_zFi, if_neg (fun e => hb e.2), zfi_zFr, zfi_zNew]
      exact h9 f a ha
    · show (ztg (zNew ρ 21 0 5) (zsz ρ)).1 = 21
      rw [ztg_zNew, if_pos rfl]
  refine S_J19_iterator_13 ⟨_, hs, S_J23_keySet (S_J23_sequencedKeySet ⟨_, rfl, ?_⟩)⟩
  rcases hc with hc | ⟨b, c1, c2, c3⟩
  · refine Or.inl ⟨hc, S_J47_init (S_J18_init_20 (S_J0_init_20 ⟨rfl, rfl, Or.inl rfl, rfl, _, rfl, _, rfl, _, rfl, _, rfl, main _ _ ?_ ?_ (Nat.le_succ _) (Nat.le_refl _) (Nat.le_refl _) ?_ ?_ (fun f => ?_) (Or.inr ⟨zsz μ, ?_, ?_, ?_⟩) (fun f a ha hf => ?_) (fun f a ha => ?_) (fun _ _ => rfl) (fun _ _ => rfl)⟩))⟩
    · simp [zfr_zFr, zfr_zFi]
    · simp [zfi_zFr, zfi_zFi]
    · have q' : ((zsz μ = m) ∨ zsz μ ≤ zsz μ) := Or.inr (Nat.le_refl _)
      exact (zG.trN (W := fun a => a = m) (zG.nw (t := 20) (n := 0) (k := 2)) ((zG.fr q').tr (zG.fi q'))).tr (zG.fr rfl)
    · simp [zfr_zFr, zfr_zFi, zfr_zNew]
    · simp [zfi_zFr, zfi_zFi, zfi_zNew, Nat.ne_of_lt hm]
    · simp [zfr_zFr]
    · simp [zfr_zFr, zfr_zFi]
    · simp [zfi_zFr, zfi_zFi]
    · rw [zfr_zFr, if_neg (fun e => hf.elim (fun q => q e.1) (fun q => q e.2)), zfr_zFi, zfr_ne (Nat.ne_of_lt ha)]; rfl
    · rw [zfi_zFr, zfi_zFi, if_neg (fun e => Nat.ne_of_lt ha e.2)]; rfl
  · exact Or.inr ⟨b, c1, _, rfl, _, rfl, _, rfl, _, rfl, main _ _ c2 c3 (Nat.le_refl _) (by omega) (by omega) ((zG.rf _ _).mono (fun _ _ h => h) (by omega) (by omega)) rfl (fun _ => rfl) (Or.inr ⟨b, c1, c2, c3⟩) (fun _ _ _ _ => rfl) (fun _ _ _ => rfl) (fun _ _ => rfl) (fun _ _ => rfl)⟩
theorem C_liHas {it i : Nat} (hi : zLi μ it m ks nd i) (kt : i < ks.length → Q (some (vI 1)) μ) (kf : ks.length ≤ i → Q (some (vI 0)) μ) : Call G Y_J43_hasNext [vP (21, 0, it)] μ Q E := by
  refine S_J43_hasNext_21 ⟨_, hi.1, ?_⟩
  rcases Nat.lt_or_ge i ks.length with q | q
  · rw [List.getElem?_eq_getElem q]; exact Or.inr ⟨_, rfl, kt q⟩
  · rw [List.getElem?_eq_none q]; exact Or.inl ⟨rfl, kf q⟩
theorem C_liNext {it i x : Nat} (h : zMp μ 17 m ks nd kp vl) (hi : zLi μ it m ks nd i) (hx : ks[i]? = some x) (k : ∀ ν, zLi ν it m ks nd (i + 1) → zG (fun a => a = it) 0 0 μ ν → Q (some (vP (9, 0, kp x))) ν) : Call G Y_J45_next [vP (21, 0, it)] μ Q E := by
  obtain ⟨l1, l2, l3, l4, l5⟩ := h.2 rfl
  have hn := h.nd.2 x (List.mem_of_getElem? hx)
  refine S_J45_next (S_J43_nextNode_21 ⟨_, hi.1, _, hi.2.1, _, rfl, _, hi.2.2.1, fun _ => ?_, fun e => absurd rfl e⟩)
  rw [hx]
  refine Or.inr ⟨_, rfl, _, hi.2.2.2, fun _ => ⟨_, l5 i x hx, _, rfl, _, rfl, S_J36_getKey_17 ⟨kp x, ?_, _, rfl, _, rfl, k _ ⟨?_, ?_, hi.2.2.1, hi.2.2.2⟩ ((zG.fr (W := fun a => a = it) rfl).tr (zG.fr rfl))⟩⟩, fun e => absurd rfl e⟩
  · rw [zfr_zFr, if_neg (fun e => by cases e.1), zfr_zFr, if_neg (fun e => by cases e.1)]; exact hn.2.2.2.1
  · rw [zfr_zFr, if_pos ⟨rfl, rfl⟩]
  · rw [zfr_zFr, if_neg (fun e => by cases e.1), zfr_zFr, if_neg (fun e => by cases e.1)]; exact hi.2.1
/-- a map's table and nodes lie behind B -/
def zBl (μ : ZM) (m B : Nat) (ks : List Nat) (nd : Nat → Nat) : Prop := (∀ n t, zfr μ 107 m = (205, n, t) → B ≤ t) ∧ ∀ x ∈ ks, B ≤ nd x
theorem take_snoc {ks : List Nat} {i x : Nat} (h : ks[i]? = some x) : ks.take (i + 1) = ks.take i ++ [x] := by
  rw [List.take_add_one, h]; rfl
theorem take_new {ks : List Nat} {i x : Nat} (hN : ks.Nodup) (h : ks[i]? = some x) : x ∉ ks.take i := by
  intro hm
  obtain ⟨j, hj⟩ := List.mem_iff_getElem?.mp hm
  rw [List.getElem?_take] at hj
  split at hj
  · rename_i hji
    have hl := (List.getElem?_eq_some_iff.mp hj).1
    have := (List.getElem?_inj hl hN).mp (hj.trans h.symm)
    omega
  · cases hj
theorem L_addAll {s1 m1 it B : Nat} (hm1 : m1 < B) (hitB : it < B) (hitm : it ≠ m1) (hs1 : s1 < B) (hs2 : s1 ≠ m1) (hs3 : s1 ≠ it) (hg : (zgS G 7).1 ≠ 0) :
    ∀ (d i : Nat) (μ : ZM) (z : Int32) (nd1 kp1 : Nat → Nat) (vl1 : Nat → ZP), ks.length = i + d → (z = 0 ∨ z = 1) → B ≤ zsz μ → (∀ a, zSr μ m ks nd kp a → a < B ∧ a ≠ m1 ∧ a ≠ it) → (ztg μ it).1 = 21 → zMp μ 17 m ks nd kp vl → zLi μ it m ks nd i → zfr μ 104 s1 = (15, 0, m1) → zMp μ 17 m1 (ks.take i) nd1 kp1 vl1 → zBl μ m1 B (ks.take i) nd1 → (∀ x ∈ ks.take i, (vl1 x).1 ≠ 0) →
    (∀ ν z nd1 kp1 vl1, (z = 0 ∨ z = 1) → zMp ν 17 m1 ks nd1 kp1 vl1 → zBl ν m1 B ks nd1 → (∀ x ∈ ks, (vl1 x).1 ≠ 0) → tl μ m1 ≤ tl ν m1 → zfr ν 105 m1 = zfr μ 105 m1 → zG (fun a => a = it ∨ a = m1 ∨ B ≤ a) (3 * d) (6 * d + 2 * (tl ν m1 - tl μ m1)) μ ν → Q (some (vI z)) ν) →
    Wp G Y_J0_addAll 9 [(0, vP (13, 0, s1)), (2, vI z), (3, vP (21, 0, it))] [] μ Q E := by
  intro d
  induction d with
  | zero =>
    intro i μ z nd1 kp1 vl1 hl hz hB hsep htag h hi h104 h1 hb hv K
    refine B_J0_addAll_13_9 (C_liHas hi (fun q => absurd q (by omega)) fun _ => ⟨_, rfl, fun _ => ⟨by rcases hz with rfl | rfl <;> rfl, ?_⟩, fun e => absurd rfl e⟩)
    have e : ks.take i = ks := List.take_of_length_le (by omega)
    rw [e] at h1 hb hv
    exact K μ z nd1 kp1 vl1 hz h1 hb hv (Nat.le_refl _) rfl ((zG.rf _ _).mono (fun _ _ q => q) (Nat.zero_le _) (Nat.zero_le _))
  | succ d ih =>
    intro i μ z nd1 kp1 vl1 hl hz hB hsep htag h hi h104 h1 hb hv K
    have hil : i < ks.length := by omega
    have hx : ks[i]? = some ks[i] := List.getElem?_eq_getElem hil
    generalize ks[i] = x at hx
    have hxm := List.mem_of_getElem? hx
    have hnx := h.nd.2 x hxm
    have hnew := take_new h.nd.1 hx
    refine Wp.zo fun hok => ?_
    obtain ⟨o1, o2, o3⟩ := h1.kn hok (Nat.lt_of_lt_of_le hm1 hB) (Or.inr rfl)
    have ho : ∀ a, zSr μ m1 (ks.take i) nd1 kp1 a → a < zsz μ ∧ ¬ a = it := fun a ha => ⟨o1 a ha, by
      rcases ha with q | ⟨n, q⟩ | ⟨y, hy, q | q⟩
      · rw [q]; exact fun e => hitm e.symm
      · rintro rfl; have := o2 n a q; omega
      · rintro rfl; have := (o3 y hy).1; rw [← q] at this; omega
      · rintro rfl; have := (o3 y hy).2; rw [← q] at this; omega⟩
    refine B_J0_addAll_13_9 (C_liHas hi (fun _ => ⟨_, rfl, fun e => absurd e (by decide), fun _ => C_liNext h hi hx fun ν li g => ⟨_, rfl, _, rfl, ?_⟩⟩) (fun q => absurd q (by omega)))
    have hBν : B ≤ zsz ν := Nat.le_trans hB g.1.1
    obtain ⟨h', ht'⟩ := h.far (fun a ha => ⟨Nat.lt_of_lt_of_le (hsep a ha).1 hB, (hsep a ha).2.2⟩) g
    obtain ⟨h1', -⟩ := h1.far ho g
    have hsm1 := g.same (Nat.lt_of_lt_of_le hm1 hB) (fun e => hitm e.symm)
    have hss1 := g.same (Nat.lt_of_lt_of_le hs1 hB) hs3
    refine Call.zo fun hokν _ => ?_
    have itν : (ztg ν it).1 = 21 := by rw [g.1.2.2 it (Nat.lt_of_lt_of_le hitB hB)]; exact htag
    refine C_lsAdd ((hss1.2.1 _).trans h104) (Nat.lt_of_lt_of_le hm1 hBν) (μ := ν) (ks := ks.take i) (nd := nd1) (kp := kp1) (vl := vl1) ?_ hnx.1 ((h'.nd.2 x hxm).2.2.2.2.1) ((h'.nd.2 x hxm).2.2.2.2.2.1) hv (fun q => absurd q hnew) fun _ ρ b hbb j1 j2 jc j3 j4 => ⟨_, rfl, fun e => absurd e (by decide), fun _ => ?_⟩
    · exact h1'
    · have own : ∀ a, zMw ν m1 (ks.take i) nd1 a → a = m1 ∨ B ≤ a := fun a ha => by
        rcases ha with q | ⟨n, q⟩ | ⟨y, hy, q⟩
        · exact Or.inl q
        · rw [hsm1.2.1] at q
          exact Or.inr (hb.1 n a q)
        · rw [q]; exact Or.inr (hb.2 y hy)
      have hsepν : ∀ a, zSr ν m ks nd kp a → a < B ∧ a ≠ m1 ∧ a ≠ it := fun a ha => by
        rcases ha with q | ⟨n, q⟩ | q
        · exact hsep a (Or.inl q)
        · exact hsep a (Or.inr (Or.inl ⟨n, ht'.1 n a q⟩))
        · exact hsep a (Or.inr (Or.inr q))
      have nown : ∀ a, a < B → a ≠ m1 → ¬ zMw ν m1 (ks.take i) nd1 a := fun a h1 h2 q => (own a q).elim h2 (fun q => absurd h1 (Nat.not_lt.mpr q))
      obtain ⟨h'', ht''⟩ := h'.far (fun a ha => ⟨Nat.lt_of_lt_of_le (hsepν a ha).1 hBν, nown a (hsepν a ha).1 (hsepν a ha).2.1⟩) j4
      have sit := j4.same (Nat.lt_of_lt_of_le hitB hBν) (nown it hitB hitm)
      have sm := j4.same (Nat.lt_of_lt_of_le (hsepν m (Or.inl rfl)).1 hBν) (nown m (hsepν m (Or.inl rfl)).1 (hsepν m (Or.inl rfl)).2.1)
      have ss1 := j4.same (Nat.lt_of_lt_of_le hs1 hBν) (nown s1 hs1 hs2)
      have htl : tl ν m1 = tl μ m1 := by unfold tl; rw [hsm1.2.1]
      refine ih (i + 1) ρ 1 (upd1 nd1 x b) (upd1 kp1 x (kp x)) (upd1 vl1 x (zgS G 7)) (by omega) (Or.inr rfl) (Nat.le_trans hBν j4.1.1) (fun a ha => ?_) (by rw [j4.1.2.2 it (Nat.lt_of_lt_of_le hitB hBν)]; exact itν) h'' ⟨(sit.2.1 _).trans li.1, (sit.2.1 _).trans li.2.1, ?_, (sit.1 _).trans li.2.2.2⟩ ((ss1.2.1 _).trans ((hss1.2.1 _).trans h104)) (by rw [take_snoc hx]; exact j1) ⟨fun n a e => ?_, fun y hy => ?_⟩ (fun y hy => ?_) fun σ z' nd2 kp2 vl2 q1 q2 q3 q4 q5 qc q6 => K σ z' nd2 kp2 vl2 q1 q2 q3 q4 (by omega) (qc.trans (jc.1.trans (hsm1.2.1 _))) ?_
      · rcases ha with q | ⟨n, q⟩ | q
        · exact hsep a (Or.inl q)
        · exact hsep a (Or.inr (Or.inl ⟨n, ht'.1 n a (ht''.1 n a q)⟩))
        · exact hsep a (Or.inr (Or.inr q))
      · rw [sit.1, sm.1]; exact li.2.2.1
      · rcases j2 n a e with ⟨n', q⟩ | q
        · rw [hsm1.2.1] at q; exact hb.1 n' a q
        · exact Nat.le_trans hBν q
      · rw [take_snoc hx] at hy
        rcases List.mem_append.mp hy with hy1 | hy1
        · rw [upd1_n (by rintro rfl; exact hnew hy1)]; exact hb.2 y hy1
        · rw [List.mem_singleton.mp hy1, upd1_s]; exact Nat.le_trans hBν hbb
      · rw [take_snoc hx] at hy
        rcases List.mem_append.mp hy with hy1 | hy1
        · rw [upd1_n (by rintro rfl; exact hnew hy1)]; exact hv y hy1
        · rw [List.mem_singleton.mp hy1, upd1_s]; exact hg
      · have g1 := g.mono (V := fun a => a = it ∨ a = m1 ∨ B ≤ a) (fun a _ q => Or.inl q) (Nat.le_refl _) (Nat.le_refl _)
        have g2 := j4.mono (V := fun a => a = it ∨ a = m1 ∨ B ≤ a) (fun a _ q => Or.inr (own a q)) (Nat.le_refl _) (Nat.le_refl _)
        exact ((g1.tr g2).tr q6).mono (fun _ _ q => q) (by omega) (by omega)
theorem C_lsAddAll {s0 s1 m1 : Nat} (hs0 : zfr μ 104 s0 = (15, 0, m)) (hm : m < zsz μ) (h : zMp μ 17 m ks nd kp vl) (hc : zKc μ m) (hs1 : zfr μ 104 s1 = (15, 0, m1)) (hsz1 : s1 < zsz μ) (hm1 : m1 < zsz μ) (h1 : ∀ nd kp vl, zMp μ 17 m1 [] nd kp vl) (ht1 : zfr μ 107 m1 = zN) (hne : s1 ≠ m1) (hm01 : m ≠ m1) (hg : (zgS G 7).1 ≠ 0)
    (K : ∀ ν z nd1 kp1 vl1, zMp ν 17 m1 ks nd1 kp1 vl1 → zBl ν m1 (zsz μ) ks nd1 → (∀ x ∈ ks, (vl1 x).1 ≠ 0) → zKc ν m → zsmC μ ν m → zfr ν 105 m1 = zfr μ 105 m1 → zG (fun a => a = m ∨ a = m1) 290 (583 + 2 * tl ν m1) μ ν → Q (some (vI z)) ν) : Call G Y_J0_addAll [vP (13, 0, s1), vP (13, 0, s0)] μ Q E := by
  refine Call.zo fun hok _ => ?_
  have hlen := h.len
  obtain ⟨o1, o2, o3⟩ := h.kn hok hm (Or.inr rfl)
  have h104 := hok.ref hs1 (by decide) (by decide)
  refine S_J0_addAll_13 (Call.zq (C_lsIter hs0 hm h hc fun ν it i1 i2 i3 i4 i5 i6 i7 i8 i9 i10 => fun hokν hext => ⟨_, rfl, _, rfl, ?_⟩))
  have hsm : ∀ a, a < zsz μ → a ≠ m → zsame μ ν a := fun a ha hne => i6.same ha hne
  have h107 : zfr ν 107 m = zfr μ 107 m := i5 _ _ hm (Or.inl (by decide))
  have hmν : zMp ν 17 m ks nd kp vl := by
    refine h.kp i6.1.1 (fun f => i7 f m hm) (fun f q1 _ => i5 f m hm (Or.inl q1)) (fun n t _ i => i8 t i) (fun x hx => ⟨fun f => i7 f _ (h.nd.2 x hx).2.1, fun f q1 _ => i5 f _ (h.nd.2 x hx).2.1 (Or.inl q1), fun f => i7 f _ (o1 _ (Or.inr (Or.inr ⟨x, hx, Or.inr rfl⟩)))⟩)
  have hsr : ∀ a, zSr ν m ks nd kp a → zSr μ m ks nd kp a := fun a ha => by
    rcases ha with q | ⟨n, q⟩ | q
    · exact Or.inl q
    · exact Or.inr (Or.inl ⟨n, by rw [← h107]; exact q⟩)
    · exact Or.inr (Or.inr q)
  have s1m := hsm m1 hm1 (fun e => hm01 e.symm)
  have e104 : zfr ν 104 s1 = (15, 0, m1) := (i5 _ _ hsz1 (Or.inl (by decide))).trans hs1
  have h1ν : ∀ nd kp vl, zMp ν 17 m1 [] nd kp vl := fun nd kp vl => (h1 nd kp vl).kp i6.1.1 s1m.1 (fun f _ _ => s1m.2.1 f) (fun n t e => by rw [ht1] at e; cases e) (fun x hx => by cases hx)
  have h107' : zfr ν 107 m1 = zN := (s1m.2.1 _).trans ht1
  have htl0 : tl ν m1 = 0 := by unfold tl; rw [h107']
  have m1t : (ztg ν m1).1 = 15 := by have := hokν.ref e104 (by decide) (by decide); rw [this.2]
  have hBl : zBl ν m1 (zsz ν) [] nd := ⟨fun n t e => (by rw [h107'] at e; cases e), fun x hx => (by cases hx)⟩
  have hsz := i6.1.1
  refine L_addAll (B := zsz ν) (Nat.lt_of_lt_of_le hm1 hsz) i2 (by omega) (Nat.lt_of_lt_of_le hsz1 hsz) hne (by omega) hg ks.length 0 ν 0 nd kp vl (by omega) (Or.inl rfl) (Nat.le_refl _) (fun a ha => ?_) i10 hmν i3 e104 (h1ν _ _ _) hBl (fun x hx => by simp at hx) fun ρ z nd1 kp1 vl1 _ q1 q2 q3 q4 qc q5 => K ρ z nd1 kp1 vl1 q1 ⟨fun n t e => Nat.le_trans hsz (q2.1 n t e), fun x hx => Nat.le_trans hsz (q2.2 x hx)⟩ q3 ?_ ?_ (qc.trans (s1m.2.1 _)) ?_
  · have ha' := o1 a (hsr a ha)
    refine ⟨Nat.lt_of_lt_of_le ha' hsz, ?_, by omega⟩
    rintro rfl
    rcases hsr a ha with q | ⟨n, q⟩ | ⟨x, hx, q | q⟩
    · exact hm01 q.symm
    · have := o2 n a q; rw [← i6.1.2.2 a ha', m1t] at this; omega
    · have := (o3 x hx).1; rw [← q, ← i6.1.2.2 a ha', m1t] at this; omega
    · have := (o3 x hx).2; rw [← q, ← i6.1.2.2 a ha', m1t] at this; omega
  · have sm := q5.same (Nat.lt_of_lt_of_le hm hsz) (by omega)
    refine i4.kp (sm.2.1 _) fun b e => ?_
    have hb := hokν.ref e (by decide) (by decide)
    have sb := q5.same hb.1 (by
      have := hb.2
      rintro (rfl | rfl | q)
      · rw [this] at i10; omega
      · rw [this] at m1t; omega
      · omega)
    exact ⟨sb.2.1 _, sb.1 _⟩
  · have sm := q5.same (Nat.lt_of_lt_of_le hm hsz) (by omega)
    have s0 : zsmC μ ν m := ⟨fun f => i7 f m hm, fun f q1 _ => i5 f m hm (Or.inl q1), fun j => i9 m j, fun j => i8 m j⟩
    exact s0.trans sm.c
  · have g1 := i6.mono (V := fun a => a = m ∨ a = m1) (fun a _ q => Or.inl q) (Nat.le_refl _) (Nat.le_refl _)
    refine (g1.trans (V := fun a => a = it ∨ a = m1 ∨ zsz ν ≤ a) q5 (fun a ha q => ?_)).mono (fun _ _ q => q) (by omega) (by omega)
    rcases q with q | q | q
    · omega
    · exact Or.inr q
    · omega
end ZJ
