set_option maxRecDepth 100000
/-! THE COMPONENT, 8: maps: replaced values, get, contains, clear, new -/
theorem zHm.set {μ : ZM} {T m t n k : Nat} {ks : List Nat} {nd kp : Nat → Nat} {vl : Nat → ZP} {p : ZP} (h : zHm μ T m t n ks nd kp vl) (hk : k ∈ ks) : zHm (zFr μ 119 (nd k) p) T m t n ks nd kp (upd1 vl k p) := by
  obtain ⟨a1, a2, a3, a4, a5, a6, a7, a8, a9⟩ := h
  have r : ∀ f a, f ≠ 119 → zfr (zFr μ 119 (nd k) p) f a = zfr μ f a := fun f a hf => by rw [zfr_zFr, if_neg (fun e => hf e.1)]
  refine ⟨(r _ _ (by decide)).trans a1, a2, a3, a4, a5, a6, a7, fun x hx => ?_, fun i hi => ⟨(a9 i hi).1, (a9 i hi).2.kp fun x _ => r _ _ (by decide)⟩⟩
  obtain ⟨b1, b2, b3, b4, b5, b6, b7⟩ := a8 x hx
  refine ⟨b1, b2, b3, (r _ _ (by decide)).trans b4, b5, b6, ?_⟩
  by_cases e : x = k
  · subst e; rw [upd1_s, zfr_zFr, if_pos ⟨rfl, rfl⟩]
  · rw [upd1_n e, zfr_ne (fun q => e ((a8 x hx).ne (a8 k hk) q))]; exact b7
theorem zMp.set {μ : ZM} {T m k : Nat} {ks : List Nat} {nd kp : Nat → Nat} {vl : Nat → ZP} {p : ZP} (h : zMp μ T m ks nd kp vl) (hk : k ∈ ks) : zMp (zFr μ 119 (nd k) p) T m ks nd kp (upd1 vl k p) := by
  obtain ⟨h, hl⟩ := h
  have r : ∀ f a, f ≠ 119 → zfr (zFr μ 119 (nd k) p) f a = zfr μ f a := fun f a hf => by rw [zfr_zFr, if_neg (fun e => hf e.1)]
  refine ⟨?_, hl.kp rfl rfl (r _ _ (by decide)) (r _ _ (by decide)) (fun x _ => r _ _ (by decide))⟩
  rcases h with ⟨rfl, -⟩ | ⟨t, n, h⟩
  · cases hk
  · exact Or.inr ⟨t, n, h.set hk⟩
theorem zMp.nd {μ : ZM} {T m : Nat} {ks : List Nat} {nd kp : Nat → Nat} {vl : Nat → ZP} (h : zMp μ T m ks nd kp vl) : ks.Nodup ∧ ∀ x ∈ ks, zNd μ nd kp vl x := by
  rcases h.1 with ⟨rfl, -⟩ | ⟨t, n, h⟩
  · exact ⟨List.nodup_nil, fun x hx => by cases hx⟩
  · exact ⟨h.2.2.2.2.2.2.1, h.2.2.2.2.2.2.2.1⟩
theorem zMp.sz {μ : ZM} {T m : Nat} {ks : List Nat} {nd kp : Nat → Nat} {vl : Nat → ZP} (h : zMp μ T m ks nd kp vl) : zfi μ 109 m = nI ks.length := by
  rcases h.1 with ⟨rfl, n, h⟩ | ⟨t, n, h⟩
  · exact h.2.1
  · exact h.2.1
theorem zMp.len {μ : ZM} {T m : Nat} {ks : List Nat} {nd kp : Nat → Nat} {vl : Nat → ZP} (h : zMp μ T m ks nd kp vl) : ks.length ≤ 96 := nd_96 h.nd.1 (fun x hx => (h.nd.2 x hx).1)
/-- a map whose objects have not changed but in their caches -/
theorem zMp.kp {μ ν : ZM} {T m : Nat} {ks : List Nat} {nd kp : Nat → Nat} {vl : Nat → ZP} (h : zMp μ T m ks nd kp vl) (hs : zsz μ ≤ zsz ν) (h0 : ∀ f, zfi ν f m = zfi μ f m) (h1 : ∀ f, f ≠ 105 → f ≠ 108 → zfr ν f m = zfr μ f m) (h2 : ∀ n t, zfr μ 107 m = (205, n, t) → ∀ i, zar ν t i = zar μ t i)
    (h3 : ∀ x ∈ ks, (∀ f, zfi ν f (nd x) = zfi μ f (nd x)) ∧ (∀ f, f ≠ 105 → f ≠ 108 → zfr ν f (nd x) = zfr μ f (nd x)) ∧ ∀ f, zfi ν f (kp x) = zfi μ f (kp x)) : zMp ν T m ks nd kp vl := by
  refine ⟨?_, h.2.kp (h0 _) (h0 _) (h1 _ (by decide) (by decide)) (h1 _ (by decide) (by decide)) (fun x hx => (h3 x hx).2.1 _ (by decide) (by decide))⟩
  rcases h.1 with ⟨e, n, a1, a2, a3, a4⟩ | ⟨t, n, a1, a2, a3, a4, a5, a6, a7, a8, a9⟩
  · exact Or.inl ⟨e, n, (h1 _ (by decide) (by decide)).trans a1, (h0 _).trans a2, (h0 _).trans a3, by rw [h0]; exact a4⟩
  · refine Or.inr ⟨t, n, (h1 _ (by decide) (by decide)).trans a1, (h0 _).trans a2, (h0 _).trans a3, (h0 _).trans a4, a5, a6, a7, fun x hx => ?_, fun i hi => ⟨(h2 _ _ a1 i).trans (a9 i hi).1, (a9 i hi).2.kp fun x hx => (h3 x (List.mem_filter.mp hx).1).2.1 _ (by decide) (by decide)⟩⟩
    obtain ⟨b1, b2, b3, b4, b5, b6, b7⟩ := a8 x hx
    obtain ⟨c1, c2, c3⟩ := h3 x hx
    exact ⟨b1, Nat.lt_of_lt_of_le b2 hs, (c1 _).trans b3, (c2 _ (by decide) (by decide)).trans b4, (c3 _).trans b5, (c3 _).trans b6, (c2 _ (by decide) (by decide)).trans b7⟩
theorem nlz_fp : ∀ v : Fin 128, 0 < v.val → 0 < nI v.val ∧ nI v.val < 65536 ∧ nI v.val < 256 ∧ (nI v.val < 16 → nI v.val < 4 → (31 : Int32) - (((nI v.val).toUInt32 >>> (Int32.toUInt32 1 &&& Int32.toUInt32 31)).toInt32) = nI (31 - Nat.log2 v.val)) ∧
    (nI v.val < 16 → ¬ nI v.val < 4 → ((31 : Int32) + (-2)) - (((((nI v.val).toUInt32 >>> (Int32.toUInt32 2 &&& Int32.toUInt32 31)).toInt32).toUInt32 >>> (Int32.toUInt32 1 &&& Int32.toUInt32 31)).toInt32) = nI (31 - Nat.log2 v.val)) ∧
    (¬ nI v.val < 16 → (((nI v.val).toUInt32 >>> (Int32.toUInt32 4 &&& Int32.toUInt32 31)).toInt32) < 4 → ((31 : Int32) + (-4)) - (((((nI v.val).toUInt32 >>> (Int32.toUInt32 4 &&& Int32.toUInt32 31)).toInt32).toUInt32 >>> (Int32.toUInt32 1 &&& Int32.toUInt32 31)).toInt32) = nI (31 - Nat.log2 v.val)) ∧
    (¬ nI v.val < 16 → ¬ (((nI v.val).toUInt32 >>> (Int32.toUInt32 4 &&& Int32.toUInt32 31)).toInt32) < 4 → (((31 : Int32) + (-4)) + (-2)) - (((((((nI v.val).toUInt32 >>> (Int32.toUInt32 4 &&& Int32.toUInt32 31)).toInt32).toUInt32 >>> (Int32.toUInt32 2 &&& Int32.toUInt32 31)).toInt32).toUInt32 >>> (Int32.toUInt32 1 &&& Int32.toUInt32 31)).toInt32) = nI (31 - Nat.log2 v.val)) := by decide +kernel
/-- HashMap.tableSizeFor -/
def tsf (t : Nat) : Nat := 2 ^ (Nat.log2 (t - 1) + 1)
theorem tsf_fp : ∀ t : Fin 129, 2 ≤ t.val → nI t.val - 1 = nI (t.val - 1) ∧ ¬ (((-1 : Int32).toUInt32 >>> ((nI (31 - Nat.log2 (t.val - 1))).toUInt32 &&& Int32.toUInt32 31)).toInt32) < 0 ∧ (((-1 : Int32).toUInt32 >>> ((nI (31 - Nat.log2 (t.val - 1))).toUInt32 &&& Int32.toUInt32 31)).toInt32) < 1073741824 ∧ (((-1 : Int32).toUInt32 >>> ((nI (31 - Nat.log2 (t.val - 1))).toUInt32 &&& Int32.toUInt32 31)).toInt32) + 1 = nI (tsf t.val) ∧ tsf t.val ∈ zpw ∧ t.val ≤ tsf t.val := by decide +kernel
section ZJ
variable {G : ZG} {μ : ZM} {Q : Option ZV → ZM → Prop} {E : ZP → ZM → Prop}
theorem C_nlz {v : Nat} (h0 : 0 < v) (h1 : v < 128) (k : Q (some (vI (nI (31 - Nat.log2 v)))) μ) : Call G Y_J17_numberOfLeadingZeros [vI (nI v)] μ Q E := by
  obtain ⟨a1, a2, a3, a4, a5, a6, a7⟩ := nlz_fp ⟨v, h1⟩ h0
  dsimp only at a1 a2 a3 a4 a5 a6 a7
  exact S_J17_numberOfLeadingZeros ⟨fun _ => ⟨fun _ => B_J17_numberOfLeadingZeros_33 ⟨fun _ => ⟨fun e => B_J17_numberOfLeadingZeros_61 ⟨fun e2 => by rw [a4 e e2]; exact k, fun e2 => by rw [a5 e e2]; exact k⟩, fun e => B_J17_numberOfLeadingZeros_61 ⟨fun e2 => by rw [a6 e e2]; exact k, fun e2 => by rw [a7 e e2]; exact k⟩⟩, fun e => absurd a3 e⟩, fun e => absurd a2 e⟩, fun e => absurd a1 e⟩
theorem C_tsf {t : Nat} (h0 : 2 ≤ t) (h1 : t ≤ 128) (k : tsf t ∈ zpw → t ≤ tsf t → Q (some (vI (nI (tsf t)))) μ) : Call G Y_J22_tableSizeFor [vI (nI t)] μ Q E := by
  obtain ⟨a1, a2, a3, a4, a5, a6⟩ := tsf_fp ⟨t, by omega⟩ h0
  dsimp only at a1 a2 a3 a4 a5 a6
  refine S_J22_tableSizeFor ?_
  rw [a1]
  refine C_nlz (by omega) (by omega) ⟨_, rfl, fun _ => ⟨fun _ => ?_, fun e => absurd a3 e⟩, fun e => absurd e a2⟩
  rw [a4]
  exact k a5 a6
/-- new HashMap<>() -/
theorem C_hmInit {m : Nat} (h1 : zfr μ 107 m = zN) (h2 : zfi μ 109 m = 0) (h3 : zfi μ 111 m = 0) (k : ∀ ν, ν = zFi μ 112 m ((1061158912 : UInt32).toInt32) → (∀ nd kp vl, zMp ν 16 m [] nd kp vl) → Q none ν) : Call G Y_J22_init_2 [vP (14, 0, m)] μ Q E := by
  refine S_J22_init_2_14 (S_J21_init_14 ⟨rfl, k _ rfl fun nd kp vl => ⟨Or.inl ⟨rfl, 16, h1, ?_, ?_, Or.inl ⟨?_, rfl⟩⟩, zLn.no⟩⟩)
  · rw [zfi_zFi, if_neg (fun e => by cases e.1)]; exact h2
  · rw [zfi_zFi, if_pos ⟨rfl, rfl⟩]
  · rw [zfi_zFi, if_neg (fun e => by cases e.1)]; exact h3
/-- new LinkedHashSet<>() -/
theorem C_lsInit {s : Nat} (hok : zok μ) (hs : s < zsz μ) (k : ∀ ν, (∀ nd kp vl, zMp ν 17 (zsz μ) [] nd kp vl) → zfr ν 104 s = (15, 0, zsz μ) → zfr ν 105 (zsz μ) = zN → zfr ν 107 (zsz μ) = zN → zsz ν = zsz μ + 1 → zG (fun a => a = s) 1 12 μ ν → Q none ν) : Call G Y_J20_init [vP (13, 0, s)] μ Q E := by
  have lf := lf_fp
  have z := Nat.le_refl (zsz μ)
  refine S_J20_init (S_J19_init_13 (S_J18_init_13 (S_J0_init_13 ⟨rfl, rfl, S_J23_init (S_J22_init_15 (S_J21_init_15 ⟨rfl, fun _ => ⟨fun _ => B_J22_init_15_44 ⟨fun e => absurd lf.1 e, fun _ => S_J24_isNaN ⟨fun _ => ⟨_, rfl, fun _ => C_tsf (t := 16) (by decide) (by decide) fun _ _ => ⟨_, rfl, rfl, rfl, rfl, k _ (fun nd kp vl => ⟨Or.inl ⟨rfl, 16, ?_, ?_, ?_, Or.inr ⟨?_, by decide⟩⟩, fun _ => ⟨?_, ?_, ?_, ?_, fun i x hx => by simp at hx⟩⟩) ?_ ?_ ?_ rfl ?_⟩, fun e => absurd rfl e⟩, fun e => absurd lf.2 e⟩⟩, fun e => absurd e (by decide)⟩, fun e => absurd e (by decide)⟩))⟩)))
  · rw [zfr_zFr, if_neg (fun e => by cases e.1)]; exact hok.2.1 _ _ z
  · simp [zfi_zFr, zfi_zFi, zfi_zNew]; exact hok.1 _ _ z
  · simp [zfi_zFr, zfi_zFi, zfi_zNew]
  · simp [zfi_zFr, zfi_zFi, zfi_zNew]; rfl
  · simp [zfi_zFr, zfi_zFi, zfi_zNew]
  · simp [zfi_zFr, zfi_zFi, zfi_zNew]
  · rw [zfr_zFr, if_neg (fun e => by cases e.1)]; exact hok.2.1 _ _ z
  · rw [zfr_zFr, if_neg (fun e => by cases e.1)]; exact hok.2.1 _ _ z
  · rw [zfr_zFr, if_pos ⟨rfl, rfl⟩]
  · rw [zfr_zFr, if_neg (fun e => by cases e.1)]; exact hok.2.1 _ _ z
  · rw [zfr_zFr, if_neg (fun e => by cases e.1)]; exact hok.2.1 _ _ z
  · have q : zsz μ = s ∨ zsz μ ≤ zsz μ := Or.inr z
    exact (zG.trN (W := fun a => a = s) (zG.nw (t := 15) (n := 0) (k := 12)) ((((zG.fi q).tr (zG.fi q)).tr (zG.fi q)).tr (zG.fi q))).tr (zG.fr rfl)
section MP
variable {m r k : Nat} {ks : List Nat} {nd kp : Nat → Nat} {vl : Nat → ZP}
theorem C_mpNode_14 (h : zMp μ 16 m ks nd kp vl) (hk : k < 96) (h1 : zfi μ 92 r = nI (k / 12)) (h2 : zfi μ 93 r = nI (k % 12)) (kk : Q (some (vP (if k ∈ ks then (16, 0, nd k) else zN))) μ) : Call G Y_J22_getNode [vP (14, 0, m), vP (9, 0, r)] μ Q E := by
  rcases h.1 with ⟨rfl, n, h⟩ | ⟨t, n, h⟩
  · exact S_J22_getNode_14 ⟨_, h.1, Or.inl ⟨rfl, by simpa using kk⟩⟩
  · exact C_hmNode_14 h hk h1 h2 kk
theorem C_mpNode_15 (h : zMp μ 17 m ks nd kp vl) (hk : k < 96) (h1 : zfi μ 92 r = nI (k / 12)) (h2 : zfi μ 93 r = nI (k % 12)) (kk : Q (some (vP (if k ∈ ks then (17, 0, nd k) else zN))) μ) : Call G Y_J22_getNode [vP (15, 0, m), vP (9, 0, r)] μ Q E := by
  rcases h.1 with ⟨rfl, n, h⟩ | ⟨t, n, h⟩
  · exact S_J22_getNode_15 ⟨_, h.1, Or.inl ⟨rfl, by simpa using kk⟩⟩
  · exact C_hmNode_15 h hk h1 h2 kk
theorem C_hmGet (h : zMp μ 16 m ks nd kp vl) (hk : k < 96) (h1 : zfi μ 92 r = nI (k / 12)) (h2 : zfi μ 93 r = nI (k % 12)) (hv : ∀ x ∈ ks, zis 24 (vl x)) (kt : k ∈ ks → Q (some (vP (vl k))) μ) (kf : k ∉ ks → Q (some (vP zN)) μ) : Call G Y_J22_get [vP (14, 0, m), vP (9, 0, r)] μ Q E := by
  refine S_J22_get_14 (C_mpNode_14 h hk h1 h2 ⟨_, rfl, ?_⟩)
  by_cases hm : k ∈ ks
  · rw [if_pos hm]; exact Or.inr ⟨_, rfl, _, (h.nd.2 k hm).2.2.2.2.2.2, hv k hm, kt hm⟩
  · rw [if_neg hm]; exact Or.inl ⟨rfl, kf hm⟩
variable {s : Nat}
theorem C_lsHas (hs : zfr μ 104 s = (15, 0, m)) (h : zMp μ 17 m ks nd kp vl) (hk : k < 96) (h1 : zfi μ 92 r = nI (k / 12)) (h2 : zfi μ 93 r = nI (k % 12)) (kt : k ∈ ks → Q (some (vI 1)) μ) (kf : k ∉ ks → Q (some (vI 0)) μ) : Call G Y_J19_contains [vP (13, 0, s), vP (9, 0, r)] μ Q E := by
  refine S_J19_contains_13 ⟨_, hs, S_J22_containsKey_15 (C_mpNode_15 h hk h1 h2 ⟨_, rfl, ?_⟩)⟩
  by_cases hm : k ∈ ks
  · rw [if_pos hm]; exact Or.inr ⟨_, rfl, _, rfl, rfl, kt hm⟩
  · rw [if_neg hm]; exact Or.inl ⟨rfl, _, rfl, rfl, kf hm⟩
theorem C_lsEmpty (hs : zfr μ 104 s = (15, 0, m)) (h : zMp μ 17 m ks nd kp vl) (kt : ks = [] → Q (some (vI 1)) μ) (kf : ks ≠ [] → Q (some (vI 0)) μ) : Call G Y_J19_isEmpty [vP (13, 0, s)] μ Q E := by
  have hl := h.len
  refine S_J19_isEmpty_13 ⟨_, hs, S_J22_isEmpty_15 ⟨_, h.sz, fun e => ⟨_, rfl, rfl, kf (by rintro rfl; exact e rfl)⟩, fun e => ⟨_, rfl, rfl, kt ?_⟩⟩⟩
  have := (nI_eq (a := ks.length) (b := 0) (by omega) (by omega)).mp e
  exact List.length_eq_zero_iff.mp this
theorem C_lsAdd (hs : zfr μ 104 s = (15, 0, m)) (hm : m < zsz μ) (h : zMp μ 17 m ks nd kp vl) (hk : k < 96) (h1 : zfi μ 92 r = nI (k / 12)) (h2 : zfi μ 93 r = nI (k % 12)) (hv : ∀ x ∈ ks, (vl x).1 ≠ 0)
    (K1 : k ∈ ks → zMp (zFr μ 119 (nd k) (zgS G 7)) 17 m ks nd kp (upd1 vl k (zgS G 7)) → Q (some (vI 0)) (zFr μ 119 (nd k) (zgS G 7)))
    (K2 : k ∉ ks → ∀ ν b, zsz μ ≤ b → zMp ν 17 m (ks ++ [k]) (upd1 nd k b) (upd1 kp k r) (upd1 vl k (zgS G 7)) → (∀ n a, zfr ν 107 m = (205, n, a) → (∃ n', zfr μ 107 m = (205, n', a)) ∨ zsz μ ≤ a) → (zfr ν 105 m = zfr μ 105 m ∧ zfr ν 108 m = zfr μ 108 m) → tl μ m ≤ tl ν m → zG (zMw μ m ks nd) 3 (6 + 2 * (tl ν m - tl μ m)) μ ν → Q (some (vI 1)) ν) : Call G Y_J19_add [vP (13, 0, s), vP (9, 0, r)] μ Q E := by
  refine S_J19_add_13 ⟨_, hs, C_hmPut_15 hm h hk h1 h2 (fun q => ⟨_, rfl, fun _ => K1 q (h.set q), fun e => absurd e (hv k q)⟩) (fun q ν b hb j1 j2 j3 j4 j5 => ⟨_, rfl, fun e => absurd rfl e, fun _ => K2 q ν b hb j1 j2 j3 j4 j5⟩)⟩
theorem L_hmClr {t n : Nat} (hn : n ≤ 128) (i : Nat) (hi : i ≤ n) (K : ∀ ν, zG (fun a => a = t) 0 0 μ ν → (∀ f a, zfi ν f a = zfi μ f a) → (∀ f a, zfr ν f a = zfr μ f a) → (∀ j, i ≤ j → j < n → zar ν t j = zN) → (∀ j, j < i → zar ν t j = zar μ t j) → Q none ν) : Wp G Y_J22_clear 33 [(1, vP (205, n, t)), (2, vI (nI i))] [] μ Q E := by
  obtain ⟨d, hd⟩ : ∃ d, n = i + d := ⟨n - i, by omega⟩
  induction d generalizing i μ with
  | zero => exact B_J22_clear_15_33 ⟨fun _ => K μ (zG.rf _ _) (fun _ _ => rfl) (fun _ _ => rfl) (fun j h1 h2 => by omega) (fun _ _ => rfl), fun e => absurd e (nI_nlt (by omega) (by omega))⟩
  | succ d ih =>
    refine B_J22_clear_15_33 ⟨fun e => absurd (nI_lt (by omega) (by omega)) e, fun _ => ⟨i, zix.eq rfl (by omega) (by omega), ?_⟩⟩
    rw [nI_1]
    refine ih (i + 1) (by omega) (fun ν g h1 h2 h3 h4 => K ν ((zG.ar (W := fun a => a = t) rfl).tr g) (fun f a => (h1 f a).trans rfl) (fun f a => (h2 f a).trans rfl) (fun j hj1 hj2 => ?_) (fun j hj => ?_)) (by omega)
    · rcases Nat.lt_or_ge i j with q | q
      · exact h3 j q hj2
      · rw [h4 j (by omega), zar_zAr, if_pos ⟨rfl, by omega⟩]
    · rw [h4 j (by omega), zar_zAr, if_neg (fun e => by have := e.2; omega)]
theorem C_lsClear (hs : zfr μ 104 s = (15, 0, m)) (h : zMp μ 17 m ks nd kp vl) (K : ∀ ν, (∀ nd kp vl, zMp ν 17 m [] nd kp vl) → zG (zMw μ m ks nd) 0 0 μ ν → (∀ f a, f ≠ 113 → f ≠ 114 → zfr ν f a = zfr μ f a) → Q none ν) : Call G Y_J19_clear [vP (13, 0, s)] μ Q E := by
  have hlen := h.len
  have hL := h.2 rfl
  refine S_J19_clear_13 ⟨_, hs, S_J23_clear (S_J22_clear_15 ⟨_, rfl, ?_⟩)⟩
  have fr : ∀ ν : ZM, ∀ f a, f ≠ 113 → f ≠ 114 → zfr (zFr (zFr ν 114 m zN) 113 m zN) f a = zfr ν f a := fun ν f a h1 h2 => by rw [zfr_zFr, if_neg (fun e => h1 e.1), zfr_zFr, if_neg (fun e => h2 e.1)]
  have e1 : ∀ v f, f ≠ 110 → zfi (zFi μ 110 m v) f m = zfi μ f m := fun v f hf => by rw [zfi_zFi, if_neg (fun e => hf e.1)]
  have ln : ∀ ν : ZM, zfi ν 116 m = 0 → zfi ν 115 m = 0 → ∀ nd, zLn (zFr (zFr ν 114 m zN) 113 m zN) 17 m [] nd := fun ν h1 h2 nd _ => ⟨h1, h2, by rw [zfr_zFr, if_pos ⟨rfl, rfl⟩]; rfl, by rw [zfr_zFr, if_neg (fun e => by cases e.1), zfr_zFr, if_pos ⟨rfl, rfl⟩]; rfl, fun i x hx => by simp at hx⟩
  rcases h.1 with ⟨rfl, n, a1, a2, a3, a4⟩ | ⟨t, n, a1, a2, a3, a4, a5, a6, a7, a8, a9⟩
  · refine ⟨_, a1, Or.inl ⟨rfl, rfl, rfl, K _ (fun nd kp vl => ⟨Or.inl ⟨rfl, n, ?_, ?_, ?_, ?_⟩, ln _ ?_ ?_ nd⟩) (((zG.fi (Or.inl rfl)).tr (zG.fr (Or.inl rfl))).tr (zG.fr (Or.inl rfl))) (fun f a h1 h2 => fr _ f a h1 h2)⟩⟩
    · rw [fr _ _ _ (by decide) (by decide)]; exact a1
    · exact (e1 (zfi μ 110 m + 1) _ (by decide)).trans a2
    · exact (e1 (zfi μ 110 m + 1) _ (by decide)).trans a3
    · exact a4.imp (fun q => ⟨(e1 (zfi μ 110 m + 1) 111 (by decide)).trans q.1, q.2⟩) (fun q => ⟨(e1 (zfi μ 110 m + 1) 111 (by decide)).trans q.1, q.2⟩)
    · exact (e1 (zfi μ 110 m + 1) _ (by decide)).trans hL.1
    · exact (e1 (zfi μ 110 m + 1) _ (by decide)).trans hL.2.1
  · have hle := zpw_le n a5
    refine ⟨_, a1, Or.inr ⟨_, _, rfl, _, a2, fun e => ?_, fun e => ?_⟩⟩
    · have hks : ks = [] := by
        rcases Nat.eq_zero_or_pos ks.length with q | q
        · exact List.length_eq_zero_iff.mp q
        · exact absurd (nI_lt (a := 0) q (by omega)) e
      subst hks
      refine ⟨rfl, rfl, K _ (fun nd kp vl => ⟨Or.inr ⟨t, n, ?_, ?_, ?_, ?_, a5, by simp, List.nodup_nil, fun x hx => (by cases hx), fun i hi => ⟨(a9 i hi).1, trivial⟩⟩, ln _ ?_ ?_ nd⟩) (((zG.fi (Or.inl rfl)).tr (zG.fr (Or.inl rfl))).tr (zG.fr (Or.inl rfl))) (fun f a h1 h2 => fr _ f a h1 h2)⟩
      · rw [fr _ _ _ (by decide) (by decide)]; exact a1
      · exact (e1 (zfi μ 110 m + 1) _ (by decide)).trans a2
      · exact (e1 (zfi μ 110 m + 1) _ (by decide)).trans a3
      · exact (e1 (zfi μ 110 m + 1) _ (by decide)).trans a4
      · exact (e1 (zfi μ 110 m + 1) _ (by decide)).trans hL.1
      · exact (e1 (zfi μ 110 m + 1) _ (by decide)).trans hL.2.1
    · refine L_hmClr hle.2 0 (Nat.zero_le _) fun ν g h1 h2 h3 _ => ⟨rfl, rfl, K _ (fun nd kp vl => ⟨Or.inr ⟨t, n, ?_, ?_, ?_, ?_, a5, by simp, List.nodup_nil, fun x hx => (by cases hx), fun i hi => ⟨h3 i (Nat.zero_le _) hi, trivial⟩⟩, ln _ ?_ ?_ nd⟩) ?_ (fun f a q1 q2 => (fr _ f a q1 q2).trans (h2 f a))⟩
      · rw [fr _ _ _ (by decide) (by decide), h2]; exact a1
      · show zfi ν 109 m = _; rw [h1, zfi_zFi, if_pos ⟨rfl, rfl⟩]; rfl
      · show zfi ν 111 m = _; rw [h1, zfi_zFi, if_neg (fun e => by cases e.1), zfi_zFi, if_neg (fun e => by cases e.1)]; exact a3
      · show zfi ν 112 m = _; rw [h1, zfi_zFi, if_neg (fun e => by cases e.1), zfi_zFi, if_neg (fun e => by cases e.1)]; exact a4
      · rw [h1, zfi_zFi, if_neg (fun e => by cases e.1), zfi_zFi, if_neg (fun e => by cases e.1)]; exact hL.1
      · rw [h1, zfi_zFi, if_neg (fun e => by cases e.1), zfi_zFi, if_neg (fun e => by cases e.1)]; exact hL.2.1
      · have g' := g.mono (V := zMw μ m ks nd) (fun a _ e => Or.inr (Or.inl ⟨n, by rw [e]; exact a1⟩)) (Nat.le_refl _) (Nat.le_refl _)
        exact ((((zG.fi (Or.inl rfl)).tr (zG.fi (Or.inl rfl))).tr g').tr (zG.fr (Or.inl rfl))).tr (zG.fr (Or.inl rfl))
end MP
end ZJ
