set_option maxRecDepth 100000
/-! THE COMPONENT, 5: HashMap.resize, the whole -/
/-- a map with a table, perhaps one too full -/
def zHc (μ : ZM) (T m t n : Nat) (ks : List Nat) (nd kp : Nat → Nat) (vl : Nat → ZP) : Prop := zfr μ 107 m = (205, n, t) ∧ zfi μ 109 m = nI ks.length ∧ zfi μ 111 m = nI (3 * n / 4) ∧ zfi μ 112 m = (1061158912 : UInt32).toInt32 ∧ n ∈ zpw ∧ ks.Nodup ∧ (∀ x ∈ ks, zNd μ nd kp vl x) ∧ ∀ i, i < n → zCh μ T nd (zar μ t i) (ks.filter fun x => x % n = i)
theorem zHm.c {μ : ZM} {T m t n : Nat} {ks : List Nat} {nd kp : Nat → Nat} {vl : Nat → ZP} (h : zHm μ T m t n ks nd kp vl) : zHc μ T m t n ks nd kp vl := ⟨h.1, h.2.1, h.2.2.1, h.2.2.2.1, h.2.2.2.2.1, h.2.2.2.2.2.2.1, h.2.2.2.2.2.2.2.1, h.2.2.2.2.2.2.2.2⟩
theorem zHc.m {μ : ZM} {T m t n : Nat} {ks : List Nat} {nd kp : Nat → Nat} {vl : Nat → ZP} (h : zHc μ T m t n ks nd kp vl) (k : ks.length ≤ 3 * n / 4) : zHm μ T m t n ks nd kp vl := ⟨h.1, h.2.1, h.2.2.1, h.2.2.2.1, h.2.2.2.2.1, k, h.2.2.2.2.2.1, h.2.2.2.2.2.2.1, h.2.2.2.2.2.2.2⟩
/-- a map without a table -/
def zHz (μ : ZM) (m n : Nat) : Prop := zfr μ 107 m = zN ∧ zfi μ 109 m = 0 ∧ zfi μ 112 m = (1061158912 : UInt32).toInt32 ∧ ((zfi μ 111 m = 0 ∧ n = 16) ∨ (zfi μ 111 m = nI n ∧ n ∈ zpw))
theorem zpw_shl : ∀ n ∈ zpw, (nI n <<< (1 &&& 31) : Int32) = nI (2 * n) ∧ nI n < 1073741824 ∧ nI (2 * n) < 1073741824 ∧ ¬ nI (3 * n / 4) = 0 := by decide +kernel
theorem zpw_thr : ∀ n ∈ zpw, ¬ nI n < 16 → (nI (3 * n / 4) <<< (1 &&& 31) : Int32) = nI (3 * (2 * n) / 4) := by decide +kernel
theorem zpw_dbl {n : Nat} (h : n ∈ zpw) (k : n < 128) : 2 * n ∈ zpw := by
  unfold zpw at h ⊢
  simp only [List.mem_cons, List.not_mem_nil, or_false] at h ⊢
  omega
theorem nd_apart {μ : ZM} {nd : Nat → Nat} {ks : List Nat} (hh : ∀ y ∈ ks, y < 96 ∧ zfi μ 117 (nd y) = nI y) : ∀ y ∈ ks, ∀ z ∈ ks, y ≠ z → nd y ≠ nd z := fun y hy z hz hq e => by
  have := hh y hy; have h2 := hh z hz
  rw [e, h2.2] at this
  exact hq ((nI_eq (by omega) (by omega)).mp this.2).symm
section ZJ
variable {G : ZG} {μ : ZM} {Q : Option ZV → ZM → Prop} {E : ZP → ZM → Prop}
theorem L_rs85_14 {m n z : Nat} {p1 : ZP} {zs z5 : Int32} (hn : n ∈ zpw) (h5 : z5 = 0 ∨ z5 = nI (3 * n / 4)) (h1 : zfi μ 112 m = (1061158912 : UInt32).toInt32)
    (k : Wp G Y_J22_resize 125 [(0, vP (14, 0, m)), (1, vP p1), (2, vI zs), (4, vI (nI n)), (5, vI (nI (3 * n / 4)))] [] μ Q E) : Wp G Y_J22_resize 85 [(0, vP (14, 0, m)), (1, vP p1), (2, vI zs), (4, vI (nI n)), (5, vI z5)] [] μ Q E := by
  have f := zpw_fp n hn
  have s := zpw_shl n hn
  refine B_J22_resize_14_85 ⟨fun e => ?_, fun _ => ⟨_, h1, f.1, fun e => absurd s.2.1 e, fun _ => ⟨fun e => absurd f.2.1 e, fun _ => ?_⟩⟩⟩
  · rcases h5 with h5 | h5
    · exact absurd h5 e
    · rw [h5]; exact k
  · rw [f.2.2]; exact k
/-- the first table -/
theorem C_hmResize0_14 {m n : Nat} {nd kp : Nat → Nat} {vl : Nat → ZP} (hok : zok μ) (hm : m < zsz μ) (h : zHz μ m n)
    (k : ∀ ν, zHm ν 16 m (zsz μ) n [] nd kp vl → n ≤ 128 → zsz ν = zsz μ + 1 → zG (fun a => a = m) 1 n μ ν → (∀ f a, f ≠ 111 → zfi ν f a = zfi μ f a) → (∀ f a, f ≠ 107 → zfr ν f a = zfr μ f a) → Q (some (vP (205, n, zsz μ))) ν) : Call G Y_J22_resize [vP (14, 0, m)] μ Q E := by
  obtain ⟨h1, h2, h3, h4⟩ := h
  have hn : n ∈ zpw := by rcases h4 with ⟨-, rfl⟩ | h4; · decide
                          exact h4.2
  have hle := zpw_le n hn
  have fin : ∀ zs, Wp G Y_J22_resize 125 [(0, vP (14, 0, m)), (1, vP zN), (2, vI zs), (4, vI (nI n)), (5, vI (nI (3 * n / 4)))] [] μ Q E := by
    intro zs
    refine B_J22_resize_14_125 ⟨n, rfl, by omega, Or.inl ⟨rfl, k _ ⟨?_, ?_, ?_, ?_, hn, by simp, List.nodup_nil, fun x hx => (by cases hx), fun i hi => ⟨?_, trivial⟩⟩ hle.2 rfl ?_ (fun f a hf => ?_) (fun f a hf => ?_)⟩⟩
    · rw [zfr_zFr, if_pos ⟨rfl, rfl⟩]
    · rw [zfi_zFr, zfi_zNew, zfi_zFi, if_neg (fun e => by cases e.1)]; exact h2
    · rw [zfi_zFr, zfi_zNew, zfi_zFi, if_pos ⟨rfl, rfl⟩]
    · rw [zfi_zFr, zfi_zNew, zfi_zFi, if_neg (fun e => by cases e.1)]; exact h3
    · rw [zar_zFr, zar_zNew, zar_zFi, hok.2.2.2.1 _ _ (Nat.le_refl _)]; rfl
    · have := ((zG.fi (μ := μ) (f := 111) (v := nI (3 * n / 4)) (W := fun a => a = m) rfl).tr (zG.nw (t := 205) (n := n) (k := n))).tr (zG.fr (f := 107) (v := (205, n, zsz μ)) rfl)
      rw [Nat.zero_add, Nat.add_zero, Nat.zero_add, Nat.add_zero] at this
      exact this
    · rw [zfi_zFr, zfi_zNew, zfi_zFi, if_neg (fun e => hf e.1)]
    · rw [zfr_zFr, if_neg (fun e => hf e.1)]; rfl
  refine S_J22_resize_14 ⟨_, h1, Or.inl ⟨rfl, ?_⟩⟩
  rcases h4 with ⟨h4, rfl⟩ | ⟨h4, h5⟩
  · exact B_J22_resize_14_15 ⟨_, h4, fun _ => ⟨fun _ => L_rs85_14 (n := 16) (z := 0) hn (Or.inr rfl) h3 (fin _), fun e => absurd e (by decide)⟩, fun e => absurd e (by decide)⟩
  · exact B_J22_resize_14_15 ⟨_, h4, fun _ => ⟨fun e => absurd (nI_lt (a := 0) (by omega) (by omega)) e, fun _ => L_rs85_14 (z := 0) hn (Or.inl rfl) h3 (fin _)⟩, fun e => absurd e (by decide)⟩
/-- twice the table -/
theorem C_hmResize_14 {m t n : Nat} {ks : List Nat} {nd kp : Nat → Nat} {vl : Nat → ZP} (hok : zok μ) (hm : m < zsz μ) (h : zHc μ 16 m t n ks nd kp vl) (hn : n < 128)
    (k : ∀ ν, zHc ν 16 m (zsz μ) (2 * n) ks nd kp vl → zsz ν = zsz μ + 1 → zG (fun a => a = m ∨ a = t ∨ ∃ x ∈ ks, a = nd x) 1 (2 * n) μ ν → (∀ f a, f ≠ 111 → zfi ν f a = zfi μ f a) → (∀ f a, f ≠ 107 → f ≠ 120 → zfr ν f a = zfr μ f a) → Q (some (vP (205, 2 * n, zsz μ))) ν) : Call G Y_J22_resize [vP (14, 0, m)] μ Q E := by
  obtain ⟨h1, h2, h3, h4, h5, h6, h7, h8⟩ := h
  have hle := zpw_le n h5
  have s := zpw_shl n h5
  have h2n := zpw_dbl h5 hn
  have ht := (hok.ref h1 (by decide) (by decide)).1
  have fin : Wp G Y_J22_resize 125 [(0, vP (14, 0, m)), (1, vP (205, n, t)), (2, vI (nI n)), (4, vI (nI (2 * n))), (5, vI (nI (3 * (2 * n) / 4)))] [] μ Q E := by
    refine B_J22_resize_14_125 ⟨2 * n, rfl, by omega, Or.inr ⟨_, _, rfl, ?_⟩⟩
    have g0 : zG (fun a => a = m ∨ a = t ∨ ∃ x ∈ ks, a = nd x) 1 (2 * n) μ (zFr (zNew (zFi μ 111 m (nI (3 * (2 * n) / 4))) 205 (2 * n) (2 * n)) 107 m (205, 2 * n, zsz μ)) := by
      have := ((zG.fi (μ := μ) (f := 111) (v := nI (3 * (2 * n) / 4)) (W := fun a => a = m ∨ a = t ∨ ∃ x ∈ ks, a = nd x) (Or.inl rfl)).tr (zG.nw (t := 205) (n := 2 * n) (k := 2 * n))).tr (zG.fr (f := 107) (v := (205, 2 * n, zsz μ)) (Or.inl rfl))
      rw [Nat.zero_add, Nat.add_zero, Nat.zero_add, Nat.add_zero] at this
      exact this
    have r0 : ∀ f a, f ≠ 107 → zfr (zFr (zNew (zFi μ 111 m (nI (3 * (2 * n) / 4))) 205 (2 * n) (2 * n)) 107 m (205, 2 * n, zsz μ)) f a = zfr μ f a := fun f a hf => by rw [zfr_zFr, if_neg (fun e => hf e.1)]; rfl
    have i0 : ∀ f a, f ≠ 111 → zfi (zFr (zNew (zFi μ 111 m (nI (3 * (2 * n) / 4))) 205 (2 * n) (2 * n)) 107 m (205, 2 * n, zsz μ)) f a = zfi μ f a := fun f a hf => by rw [zfi_zFr, zfi_zNew, zfi_zFi, if_neg (fun e => hf e.1)]
    refine L_rsOut_14 (μ := zFr (zNew (zFi μ 111 m (nI (3 * (2 * n) / 4))) 205 (2 * n) (2 * n)) 107 m (205, 2 * n, zsz μ)) h5 h2n (by omega) h6 (fun y hy => ⟨(h7 y hy).1, (i0 _ _ (by decide)).trans (h7 y hy).2.2.1⟩) ?_ n 0 _ rfl ⟨zG.rf _ _, fun _ _ => rfl, fun _ _ _ => rfl⟩ ⟨fun i hi _ => ⟨(h8 i hi).1, (h8 i hi).2.kp fun x hx => r0 _ _ (by decide)⟩, fun i _ q => absurd q (Nat.not_lt_zero _), fun i hi _ => hok.2.2.2.1 _ _ (Nat.le_refl _)⟩
    intro ρ ⟨g1, i1, r1⟩ hR
    refine k ρ ⟨(r1 _ _ (by decide)).trans (by rw [zfr_zFr, if_pos ⟨rfl, rfl⟩]), (i1 _ _).trans ((i0 _ _ (by decide)).trans h2), (i1 _ _).trans (by rw [zfi_zFr, zfi_zNew, zfi_zFi, if_pos ⟨rfl, rfl⟩]), (i1 _ _).trans ((i0 _ _ (by decide)).trans h4), h2n, h6, fun x hx => ?_, fun i hi => hR.2.1 i hi (Nat.mod_lt _ (by omega))⟩ ?_ ?_ (fun f a hf => (i1 f a).trans (i0 f a hf)) (fun f a hf hf2 => (r1 f a hf2).trans (r0 f a hf))
    · obtain ⟨b1, b2, b3, b4, b5, b6, b7⟩ := h7 x hx
      exact ⟨b1, Nat.lt_of_lt_of_le b2 (Nat.le_trans g0.1.1 g1.1.1), (i1 _ _).trans ((i0 _ _ (by decide)).trans b3), (r1 _ _ (by decide)).trans ((r0 _ _ (by decide)).trans b4), (i1 _ _).trans ((i0 _ _ (by decide)).trans b5), (i1 _ _).trans ((i0 _ _ (by decide)).trans b6), (r1 _ _ (by decide)).trans ((r0 _ _ (by decide)).trans b7)⟩
    · exact Nat.le_antisymm g1.2.1 g1.1.1
    · refine g0.trans (c' := 0) (d' := 0) (g1.mono (V := fun a => (a = m ∨ a = t ∨ ∃ x ∈ ks, a = nd x) ∨ a = zsz μ) (fun a _ q => ?_) (Nat.le_refl _) (Nat.le_refl _)) (fun a ha q => q.elim id (fun e => absurd e (Nat.ne_of_lt ha)))
      rcases q with q | q | q
      · exact Or.inl (Or.inr (Or.inl q))
      · exact Or.inr q
      · exact Or.inl (Or.inr (Or.inr q))
  refine S_J22_resize_14 ⟨_, h1, Or.inr ⟨_, _, rfl, B_J22_resize_14_15 ⟨_, h3, fun e => absurd (nI_lt (a := 0) (by omega) (by omega)) e, fun _ => ⟨fun _ => ?_, fun e => absurd s.2.1 e⟩⟩⟩⟩
  rw [s.1]
  exact ⟨fun e => absurd s.2.2.1 e, fun _ => ⟨fun _ => L_rs85_14 (z := 0) h2n (Or.inl rfl) h4 fin, fun e => L_rs85_14 (z := 0) h2n (Or.inr (zpw_thr n h5 e)) h4 fin⟩⟩
theorem L_rs85_15 {m n z : Nat} {p1 : ZP} {zs z5 : Int32} (hn : n ∈ zpw) (h5 : z5 = 0 ∨ z5 = nI (3 * n / 4)) (h1 : zfi μ 112 m = (1061158912 : UInt32).toInt32)
    (k : Wp G Y_J22_resize 125 [(0, vP (15, 0, m)), (1, vP p1), (2, vI zs), (4, vI (nI n)), (5, vI (nI (3 * n / 4)))] [] μ Q E) : Wp G Y_J22_resize 85 [(0, vP (15, 0, m)), (1, vP p1), (2, vI zs), (4, vI (nI n)), (5, vI z5)] [] μ Q E := by
  have f := zpw_fp n hn
  have s := zpw_shl n hn
  refine B_J22_resize_15_85 ⟨fun e => ?_, fun _ => ⟨_, h1, f.1, fun e => absurd s.2.1 e, fun _ => ⟨fun e => absurd f.2.1 e, fun _ => ?_⟩⟩⟩
  · rcases h5 with h5 | h5
    · exact absurd h5 e
    · rw [h5]; exact k
  · rw [f.2.2]; exact k
/-- the first table -/
theorem C_hmResize0_15 {m n : Nat} {nd kp : Nat → Nat} {vl : Nat → ZP} (hok : zok μ) (hm : m < zsz μ) (h : zHz μ m n)
    (k : ∀ ν, zHm ν 17 m (zsz μ) n [] nd kp vl → n ≤ 128 → zsz ν = zsz μ + 1 → zG (fun a => a = m) 1 n μ ν → (∀ f a, f ≠ 111 → zfi ν f a = zfi μ f a) → (∀ f a, f ≠ 107 → zfr ν f a = zfr μ f a) → Q (some (vP (205, n, zsz μ))) ν) : Call G Y_J22_resize [vP (15, 0, m)] μ Q E := by
  obtain ⟨h1, h2, h3, h4⟩ := h
  have hn : n ∈ zpw := by rcases h4 with ⟨-, rfl⟩ | h4; · decide
                          exact h4.2
  have hle := zpw_le n hn
  have fin : ∀ zs, Wp G Y_J22_resize 125 [(0, vP (15, 0, m)), (1, vP zN), (2, vI zs), (4, vI (nI n)), (5, vI (nI (3 * n / 4)))] [] μ Q E := by
    intro zs
    refine B_J22_resize_15_125 ⟨n, rfl, by omega, Or.inl ⟨rfl, k _ ⟨?_, ?_, ?_, ?_, hn, by simp, List.nodup_nil, fun x hx => (by cases hx), fun i hi => ⟨?_, trivial⟩⟩ hle.2 rfl ?_ (fun f a hf => ?_) (fun f a hf => ?_)⟩⟩
    · rw [zfr_zFr, if_pos ⟨rfl, rfl⟩]
    · rw [zfi_zFr, zfi_zNew, zfi_zFi, if_neg (fun e => by cases e.1)]; exact h2
    · rw [zfi_zFr, zfi_zNew, zfi_zFi, if_pos ⟨rfl, rfl⟩]
    · rw [zfi_zFr, zfi_zNew, zfi_zFi, if_neg (fun e => by cases e.1)]; exact h3
    · rw [zar_zFr, zar_zNew, zar_zFi, hok.2.2.2.1 _ _ (Nat.le_refl _)]; rfl
    · have := ((zG.fi (μ := μ) (f := 111) (v := nI (3 * n / 4)) (W := fun a => a = m) rfl).tr (zG.nw (t := 205) (n := n) (k := n))).tr (zG.fr (f := 107) (v := (205, n, zsz μ)) rfl)
      rw [Nat.zero_add, Nat.add_zero, Nat.zero_add, Nat.add_zero] at this
      exact this
    · rw [zfi_zFr, zfi_zNew, zfi_zFi, if_neg (fun e => hf e.1)]
    · rw [zfr_zFr, if_neg (fun e => hf e.1)]; rfl
  refine S_J22_resize_15 ⟨_, h1, Or.inl ⟨rfl, ?_⟩⟩
  rcases h4 with ⟨h4, rfl⟩ | ⟨h4, h5⟩
  · exact B_J22_resize_15_15 ⟨_, h4, fun _ => ⟨fun _ => L_rs85_15 (n := 16) (z := 0) hn (Or.inr rfl) h3 (fin _), fun e => absurd e (by decide)⟩, fun e => absurd e (by decide)⟩
  · exact B_J22_resize_15_15 ⟨_, h4, fun _ => ⟨fun e => absurd (nI_lt (a := 0) (by omega) (by omega)) e, fun _ => L_rs85_15 (z := 0) hn (Or.inl rfl) h3 (fin _)⟩, fun e => absurd e (by decide)⟩
/-- twice the table -/
theorem C_hmResize_15 {m t n : Nat} {ks : List Nat} {nd kp : Nat → Nat} {vl : Nat → ZP} (hok : zok μ) (hm : m < zsz μ) (h : zHc μ 17 m t n ks nd kp vl) (hn : n < 128)
    (k : ∀ ν, zHc ν 17 m (zsz μ) (2 * n) ks nd kp vl → zsz ν = zsz μ + 1 → zG (fun a => a = m ∨ a = t ∨ ∃ x ∈ ks, a = nd x) 1 (2 * n) μ ν → (∀ f a, f ≠ 111 → zfi ν f a = zfi μ f a) → (∀ f a, f ≠ 107 → f ≠ 120 → zfr ν f a = zfr μ f a) → Q (some (vP (205, 2 * n, zsz μ))) ν) : Call G Y_J22_resize [vP (15, 0, m)] μ Q E := by
  obtain ⟨h1, h2, h3, h4, h5, h6, h7, h8⟩ := h
  have hle := zpw_le n h5
  have s := zpw_shl n h5
  have h2n := zpw_dbl h5 hn
  have ht := (hok.ref h1 (by decide) (by decide)).1
  have fin : Wp G Y_J22_resize 125 [(0, vP (15, 0, m)), (1, vP (205, n, t)), (2, vI (nI n)), (4, vI (nI (2 * n))), (5, vI (nI (3 * (2 * n) / 4)))] [] μ Q E := by
    refine B_J22_resize_15_125 ⟨2 * n, rfl, by omega, Or.inr ⟨_, _, rfl, ?_⟩⟩
    have g0 : zG (fun a => a = m ∨ a = t ∨ ∃ x ∈ ks, a = nd x) 1 (2 * n) μ (zFr (zNew (zFi μ 111 m (nI (3 * (2 * n) / 4))) 205 (2 * n) (2 * n)) 107 m (205, 2 * n, zsz μ)) := by
      have := ((zG.fi (μ := μ) (f := 111) (v := nI (3 * (2 * n) / 4)) (W := fun a => a = m ∨ a = t ∨ ∃ x ∈ ks, a = nd x) (Or.inl rfl)).tr (zG.nw (t := 205) (n := 2 * n) (k := 2 * n))).tr (zG.fr (f := 107) (v := (205, 2 * n, zsz μ)) (Or.inl rfl))
      rw [Nat.zero_add, Nat.add_zero, Nat.zero_add, Nat.add_zero] at this
      exact this
    have r0 : ∀ f a, f ≠ 107 → zfr (zFr (zNew (zFi μ 111 m (nI (3 * (2 * n) / 4))) 205 (2 * n) (2 * n)) 107 m (205, 2 * n, zsz μ)) f a = zfr μ f a := fun f a hf => by rw [zfr_zFr, if_neg (fun e => hf e.1)]; rfl
    have i0 : ∀ f a, f ≠ 111 → zfi (zFr (zNew (zFi μ 111 m (nI (3 * (2 * n) / 4))) 205 (2 * n) (2 * n)) 107 m (205, 2 * n, zsz μ)) f a = zfi μ f a := fun f a hf => by rw [zfi_zFr, zfi_zNew, zfi_zFi, if_neg (fun e => hf e.1)]
    refine L_rsOut_15 (μ := zFr (zNew (zFi μ 111 m (nI (3 * (2 * n) / 4))) 205 (2 * n) (2 * n)) 107 m (205, 2 * n, zsz μ)) h5 h2n (by omega) h6 (fun y hy => ⟨(h7 y hy).1, (i0 _ _ (by decide)).trans (h7 y hy).2.2.1⟩) ?_ n 0 _ rfl ⟨zG.rf _ _, fun _ _ => rfl, fun _ _ _ => rfl⟩ ⟨fun i hi _ => ⟨(h8 i hi).1, (h8 i hi).2.kp fun x hx => r0 _ _ (by decide)⟩, fun i _ q => absurd q (Nat.not_lt_zero _), fun i hi _ => hok.2.2.2.1 _ _ (Nat.le_refl _)⟩
    intro ρ ⟨g1, i1, r1⟩ hR
    refine k ρ ⟨(r1 _ _ (by decide)).trans (by rw [zfr_zFr, if_pos ⟨rfl, rfl⟩]), (i1 _ _).trans ((i0 _ _ (by decide)).trans h2), (i1 _ _).trans (by rw [zfi_zFr, zfi_zNew, zfi_zFi, if_pos ⟨rfl, rfl⟩]), (i1 _ _).trans ((i0 _ _ (by decide)).trans h4), h2n, h6, fun x hx => ?_, fun i hi => hR.2.1 i hi (Nat.mod_lt _ (by omega))⟩ ?_ ?_ (fun f a hf => (i1 f a).trans (i0 f a hf)) (fun f a hf hf2 => (r1 f a hf2).trans (r0 f a hf))
    · obtain ⟨b1, b2, b3, b4, b5, b6, b7⟩ := h7 x hx
      exact ⟨b1, Nat.lt_of_lt_of_le b2 (Nat.le_trans g0.1.1 g1.1.1), (i1 _ _).trans ((i0 _ _ (by decide)).trans b3), (r1 _ _ (by decide)).trans ((r0 _ _ (by decide)).trans b4), (i1 _ _).trans ((i0 _ _ (by decide)).trans b5), (i1 _ _).trans ((i0 _ _ (by decide)).trans b6), (r1 _ _ (by decide)).trans ((r0 _ _ (by decide)).trans b7)⟩
    · exact Nat.le_antisymm g1.2.1 g1.1.1
    · refine g0.trans (c' := 0) (d' := 0) (g1.mono (V := fun a => (a = m ∨ a = t ∨ ∃ x ∈ ks, a = nd x) ∨ a = zsz μ) (fun a _ q => ?_) (Nat.le_refl _) (Nat.le_refl _)) (fun a ha q => q.elim id (fun e => absurd e (Nat.ne_of_lt ha)))
      rcases q with q | q | q
      · exact Or.inl (Or.inr (Or.inl q))
      · exact Or.inr q
      · exact Or.inl (Or.inr (Or.inr q))
  refine S_J22_resize_15 ⟨_, h1, Or.inr ⟨_, _, rfl, B_J22_resize_15_15 ⟨_, h3, fun e => absurd (nI_lt (a := 0) (by omega) (by omega)) e, fun _ => ⟨fun _ => ?_, fun e => absurd s.2.1 e⟩⟩⟩⟩
  rw [s.1]
  exact ⟨fun e => absurd s.2.2.1 e, fun _ => ⟨fun _ => L_rs85_15 (z := 0) h2n (Or.inl rfl) h4 fin, fun e => L_rs85_15 (z := 0) h2n (Or.inr (zpw_thr n h5 e)) h4 fin⟩⟩
end ZJ
