/-! THE COMPONENT, 1: frames; ArrayList; ArrayDeque -/
/-- names stay -/
def zfin (μ ν : ZM) : Prop := ∀ f a, f = 21 ∨ f = 30 → a < zsz μ → zfr ν f a = zfr μ f a
theorem zfin.rf (μ : ZM) : zfin μ μ := fun _ _ _ _ => rfl
theorem zfin.fr {μ : ZM} {f a : Nat} {v : ZP} (h : f ≠ 21 ∧ f ≠ 30) : zfin μ (zFr μ f a v) := fun g b hg _ => by rw [zfr_zFr, if_neg (fun q => by have := q.1; omega)]
/-- memory has grown by at most c cells and d slots; of the old addresses only those in W may have changed; names stay -/
def zG (W : Nat → Prop) (c d : Nat) (μ ν : ZM) : Prop := zext μ ν ∧ zsz ν ≤ zsz μ + c ∧ zsl ν ≤ zsl μ + d ∧ (∀ a, a < zsz μ → ¬ W a → zsame μ ν a) ∧ zfin μ ν
theorem zG.rf (W : Nat → Prop) (μ : ZM) : zG W 0 0 μ μ := ⟨zext.rf μ, Nat.le_refl _, Nat.le_refl _, fun a _ _ => zsame.rf μ a, zfin.rf μ⟩
theorem zG.mono {W V : Nat → Prop} {c d c' d' : Nat} {μ ν : ZM} (h : zG W c d μ ν) (hW : ∀ a, a < zsz μ → W a → V a) (hc : c ≤ c') (hd : d ≤ d') : zG V c' d' μ ν :=
  ⟨h.1, Nat.le_trans h.2.1 (Nat.add_le_add_left hc _), Nat.le_trans h.2.2.1 (Nat.add_le_add_left hd _), fun a ha hn => h.2.2.2.1 a ha (fun w => hn (hW a ha w)), h.2.2.2.2⟩
theorem zG.trans {W V : Nat → Prop} {c d c' d' : Nat} {μ ν ρ : ZM} (h : zG W c d μ ν) (k : zG V c' d' ν ρ) (hV : ∀ a, a < zsz μ → V a → W a) : zG W (c + c') (d + d') μ ρ :=
  ⟨h.1.trans k.1, by have := h.2.1; have := k.2.1; omega, by have := h.2.2.1; have := k.2.2.1; omega, fun a ha hn => (h.2.2.2.1 a ha hn).trans (k.2.2.2.1 a (Nat.lt_of_lt_of_le ha h.1.1) (fun w => hn (hV a ha w))), fun f a hf ha => (k.2.2.2.2 f a hf (Nat.lt_of_lt_of_le ha h.1.1)).trans (h.2.2.2.2 f a hf ha)⟩
theorem zG.tr {W : Nat → Prop} {c d c' d' : Nat} {μ ν ρ : ZM} (h : zG W c d μ ν) (k : zG W c' d' ν ρ) : zG W (c + c') (d + d') μ ρ := h.trans k (fun _ _ w => w)
/-- behind: writes to what is new -/
theorem zG.trN {W : Nat → Prop} {c d c' d' : Nat} {μ ν ρ : ZM} (h : zG W c d μ ν) (k : zG (fun a => W a ∨ zsz μ ≤ a) c' d' ν ρ) : zG W (c + c') (d + d') μ ρ := h.trans k (fun a ha w => w.elim id (fun q => absurd ha (Nat.not_lt.mpr q)))
theorem zG.same {W : Nat → Prop} {c d : Nat} {μ ν : ZM} (h : zG W c d μ ν) {a : Nat} (ha : a < zsz μ) (hn : ¬ W a) : zsame μ ν a := h.2.2.2.1 a ha hn
theorem zG.fi {W : Nat → Prop} {μ : ZM} {f a : Nat} {v : Int32} (h : W a) : zG W 0 0 μ (zFi μ f a v) := ⟨zext_zFi μ f a v, Nat.le_refl _, Nat.le_refl _, fun b _ hn => zsame_zFi (by rintro rfl; exact hn h) v, zfin.rf μ⟩
theorem zG.fr {W : Nat → Prop} {μ : ZM} {f a : Nat} {v : ZP} (h : W a) (hf : f ≠ 21 ∧ f ≠ 30 := by decide) : zG W 0 0 μ (zFr μ f a v) := ⟨zext_zFr μ f a v, Nat.le_refl _, Nat.le_refl _, fun b _ hn => zsame_zFr (by rintro rfl; exact hn h) v, zfin.fr hf⟩
theorem zG.ai {W : Nat → Prop} {μ : ZM} {a i : Nat} {v : Int32} (h : W a) : zG W 0 0 μ (zAi μ a i v) := ⟨zext_zAi μ a i v, Nat.le_refl _, Nat.le_refl _, fun b _ hn => zsame_zAi (by rintro rfl; exact hn h) v, zfin.rf μ⟩
theorem zG.ar {W : Nat → Prop} {μ : ZM} {a i : Nat} {v : ZP} (h : W a) : zG W 0 0 μ (zAr μ a i v) := ⟨zext_zAr μ a i v, Nat.le_refl _, Nat.le_refl _, fun b _ hn => zsame_zAr (by rintro rfl; exact hn h) v, zfin.rf μ⟩
theorem zG.ci {W : Nat → Prop} {μ : ZM} {a i b j n : Nat} (h : W b) : zG W 0 0 μ (zCi μ a i b j n) := ⟨zext_zCi μ a i b j n, Nat.le_refl _, Nat.le_refl _, fun x _ hn => ⟨fun _ => rfl, fun _ => rfl, fun y => by rw [zai_zCi, if_neg (by rintro ⟨rfl, -⟩; exact hn h)], fun _ => rfl, fun _ => rfl⟩, zfin.rf μ⟩
theorem zG.nw {W : Nat → Prop} {μ : ZM} {t n k : Nat} : zG W 1 k μ (zNew μ t n k) := ⟨zext_zNew μ t n k, Nat.le_refl _, Nat.le_refl _, fun b _ _ => zsame_zNew, fun _ _ _ _ => rfl⟩
theorem zsame.sy {μ ν : ZM} {a : Nat} (h : zsame μ ν a) : zsame ν μ a := ⟨fun f => (h.1 f).symm, fun f => (h.2.1 f).symm, fun j => (h.2.2.1 j).symm, fun j => (h.2.2.2.1 j).symm, fun j => (h.2.2.2.2 j).symm⟩
/-- a known pointer's place -/
theorem zok.ref {μ : ZM} (h : zok μ) {f a t n b : Nat} (e : zfr μ f a = (t, n, b)) (ht : t ≠ 0) (ho : t ≠ 251) : b < zsz μ ∧ ztg μ b = (t, n) := by
  have := h.2.2.2.2.2.1 f a
  rw [e] at this
  exact this.lt ht ho
theorem zok.el {μ : ZM} (h : zok μ) {a j t n b : Nat} (e : zar μ a j = (t, n, b)) (ht : t ≠ 0) (ho : t ≠ 251) : b < zsz μ ∧ ztg μ b = (t, n) := by
  have := h.2.2.2.2.2.2 a j
  rw [e] at this
  exact this.lt ht ho
theorem ztg_ne {μ : ZM} {a b t n u m : Nat} (ha : ztg μ a = (t, n)) (hb : ztg μ b = (u, m)) (h : t ≠ u) : a ≠ b := by
  rintro rfl
  rw [ha] at hb
  exact h (congrArg Prod.fst hb)
/-- an ArrayList: its array, its size, what it holds -/
def zLs (μ : ZM) (l ar cap n : Nat) (f : Nat → ZP) : Prop := zfr μ 95 l = (204, cap, ar) ∧ zfi μ 96 l = nI n ∧ n ≤ cap ∧ cap ≤ 1000 ∧ ∀ i, i < n → zar μ ar i = f i
theorem zLs.kp {μ ν : ZM} {l ar cap n : Nat} {f : Nat → ZP} (h : zLs μ l ar cap n f) (h1 : zsame μ ν l) (h2 : zsame μ ν ar) : zLs ν l ar cap n f :=
  ⟨(h1.2.1 95).trans h.1, (h1.1 96).trans h.2.1, h.2.2.1, h.2.2.2.1, fun i hi => (h2.2.2.2.1 i).trans (h.2.2.2.2 i hi)⟩
section ZJ
variable {G : ZG} {μ : ZM} {Q : Option ZV → ZM → Prop} {E : ZP → ZM → Prop} {l ar cap n : Nat} {f : Nat → ZP}
theorem C_alSize (h : zLs μ l ar cap n f) (k : Q (some (vI (nI n))) μ) : Call G Y_J2_size [vP (10, 0, l)] μ Q E := S_J2_size ⟨_, h.2.1, k⟩
theorem C_alEmpty (h : zLs μ l ar cap n f) (kt : n = 0 → Q (some (vI 1)) μ) (kf : n ≠ 0 → Q (some (vI 0)) μ) : Call G Y_J2_isEmpty [vP (10, 0, l)] μ Q E := by
  have h1 := h.2.2.1
  have h2 := h.2.2.2.1
  refine S_J2_isEmpty ⟨_, h.2.1, fun hn => kf (fun e => hn (by rw [e]; rfl)), fun hy => kt ?_⟩
  exact (nI_eq (a := n) (b := 0) (by omega) (by omega)).mp hy
theorem C_chkIx {i m : Nat} (hi : i < m) (hm : m < 2 ^ 31) (k : Q (some (vI (nI i))) μ) : Call G Y_J30_checkIndex [vI (nI i), vI (nI m)] μ Q E :=
  S_J30_checkIndex (S_J14_checkIndex ⟨fun q => absurd q (nI_pos (by omega)), fun _ => ⟨fun _ => ⟨_, rfl, k⟩, fun q => absurd (nI_lt hi hm) q⟩⟩)
theorem C_alGet (i : Nat) {z : Int32} (hz : z = nI i) (hi : i < n) (h : zLs μ l ar cap n f) (k : Q (some (vP (f i))) μ) : Call G Y_J2_get [vP (10, 0, l), vI z] μ Q E := by
  have h1 := h.2.2.1
  have h2 := h.2.2.2.1
  subst hz
  exact S_J2_get ⟨_, h.2.1, C_chkIx hi (by omega) ⟨_, rfl, S_J2_elementData ⟨_, _, h.1, i, zix.eq rfl (by omega) (by omega), _, h.2.2.2.2 i hi, ⟨_, rfl, k⟩⟩⟩⟩
theorem C_alAdd {p : ZP} (h : zLs μ l ar cap n f) (hn : n < cap) (hp : zsto 204 p.1 = true) (hl : l ≠ ar) (k : ∀ ν, zG (fun a => a = l ∨ a = ar) 0 0 μ ν → zLs ν l ar cap (n + 1) (fun i => if i = n then p else f i) → Q (some (vI 1)) ν) : Call G Y_J2_add [vP (10, 0, l), vP p] μ Q E := by
  have h2 := h.2.2.2.1
  refine S_J2_add ⟨_, rfl, _, _, h.1, _, h.2.1, S_J2_add_2 ⟨fun _ => ⟨n, zix.eq rfl hn (by omega), hp, ⟨rfl, k _ ?_ ?_⟩⟩, fun q => absurd ((nI_eq (by omega) (by omega)).mp q) (by omega)⟩⟩
  · exact ((zG.fi (Or.inl rfl)).tr (zG.ar (Or.inr rfl))).tr (zG.fi (Or.inl rfl))
  · refine ⟨h.1, ?_, by omega, h2, fun i hi => ?_⟩
    · rw [zfi_zFi, if_pos ⟨rfl, rfl⟩, nI_1]
    · rw [zar_zFi, zar_zAr]
      show _ = if i = n then p else f i
      by_cases e : i = n
      · rw [if_pos ⟨rfl, e⟩, if_pos e]
      · rw [if_neg (fun q => e q.2), if_neg e]
        exact h.2.2.2.2 i (by omega)
/-- an iterator of the list, at j -/
def zIt (μ : ZM) (it l j : Nat) : Prop := zfi μ 97 it = nI j ∧ zfr μ 100 it = (10, 0, l) ∧ zfi μ 99 it = zfi μ 94 l
theorem C_alIter (hok : zok μ) (hl : l < zsz μ) (k : ∀ ν, zG (fun _ => False) 1 4 μ ν → zIt ν (zsz μ) l 0 → Q (some (vP (11, 0, zsz μ))) ν) : Call G Y_J2_iterator [vP (10, 0, l)] μ Q E := by
  refine S_J2_iterator (S_J33_init ⟨_, rfl, ⟨rfl, k _ ?_ ⟨?_, ?_, ?_⟩⟩⟩)
  · exact zG.trN (zG.nw (t := 11) (n := 0)) (((zG.fr (Or.inr (Nat.le_refl _))).tr (zG.fi (Or.inr (Nat.le_refl _)))).tr (zG.fi (Or.inr (Nat.le_refl _))))
  · rw [zfi_zFi, if_neg (fun e => by cases e.1), zfi_zFi, if_neg (fun e => by cases e.1), zfi_zFr, zfi_zNew, hok.1 97 _ (Nat.le_refl _)]; rfl
  · rw [zfr_zFi, zfr_zFi, zfr_zFr, if_pos ⟨rfl, rfl⟩]
  · simp [zfi_zFi, zfi_zFr]
theorem C_itHas {it j : Nat} (h : zLs μ l ar cap n f) (hi : zIt μ it l j) (hj : j ≤ n) (kt : j < n → Q (some (vI 1)) μ) (kf : j = n → Q (some (vI 0)) μ) : Call G Y_J33_hasNext [vP (11, 0, it)] μ Q E := by
  have h1 := h.2.2.1
  have h2 := h.2.2.2.1
  refine S_J33_hasNext ⟨_, hi.1, _, hi.2.1, _, h.2.1, fun e => kf ((nI_eq (by omega) (by omega)).mp e), fun e => kt ?_⟩
  exact Nat.lt_of_le_of_ne hj (fun q => e (by rw [q]))
theorem C_itNext {it j : Nat} (h : zLs μ l ar cap n f) (hi : zIt μ it l j) (hj : j < n) (hne : l ≠ it) (k : ∀ ν, zG (fun a => a = it) 0 0 μ ν → zIt ν it l (j + 1) → Q (some (vP (f j))) ν) : Call G Y_J33_next [vP (11, 0, it)] μ Q E := by
  have h1 := h.2.2.1
  have h2 := h.2.2.2.1
  refine S_J33_next (S_J33_checkForComodification ⟨_, hi.2.1, _, rfl, _, hi.2.2, fun _ => ⟨rfl, _, hi.1, _, hi.2.1, _, h.2.1, fun _ => ⟨_, _, h.1, fun _ => ⟨j, zix.eq rfl (by omega) (by omega), _, h.2.2.2.2 j hj, k _ ((zG.fi (W := fun a => a = it) rfl).tr (zG.fi rfl)) ⟨?_, hi.2.1, ?_⟩⟩, fun q => absurd (nI_lt (by omega) (by omega)) q⟩, fun q => absurd (nI_lt hj (by omega)) q⟩, fun q => absurd rfl q⟩)
  · rw [zfi_zFi, if_neg (fun e => by cases e.1), zfi_zFi, if_pos ⟨rfl, rfl⟩, nI_1]
  · rw [zfi_zFi, if_neg (fun e => by cases e.1), zfi_zFi, if_neg (fun e => by cases e.1), zfi_zFi, if_neg (fun e => by cases e.1), zfi_zFi, if_neg (fun e => by cases e.1)]
    exact hi.2.2
theorem zIt.kp {ν : ZM} {it j : Nat} (h : zIt μ it l j) (h1 : zsame μ ν it) (h2 : zsame μ ν l) : zIt ν it l j := ⟨(h1.1 97).trans h.1, (h1.2.1 100).trans h.2.1, by rw [h1.1 99, h2.1 94]; exact h.2.2⟩
/-- new ArrayList<>(c): of the object, behind 'new' -/
theorem C_alInit {z : Int32} {c : Nat} (hz : z = nI c) (hc : 0 < c) (hc2 : c ≤ 1000) (hok : zok μ) (hl : l < zsz μ) (h0 : zfi μ 96 l = 0) (k : ∀ ν, zG (fun a => a = l) 1 c μ ν → zLs ν l (zsz μ) c 0 (fun _ => zN) → zsz ν = zsz μ + 1 → Q none ν) : Call G Y_J2_init [vP (10, 0, l), vI z] μ Q E := by
  subst hz
  refine S_J2_init (S_J1_init_10 (S_J0_init_10 ⟨rfl, ⟨rfl, fun q => absurd (nI_lt (a := 0) hc (by omega)) q, fun _ => ⟨c, rfl, by omega, k _ ?_ ⟨?_, ?_, by omega, hc2, fun i hi => by omega⟩ rfl⟩⟩⟩))
  · have := ((zG.fi (μ := μ) (f := 94) (v := 0) (W := fun a => a = l) rfl).tr (zG.nw (t := 204) (n := c) (k := c))).tr (zG.fr (f := 95) (v := (204, c, zsz μ)) rfl)
    rw [Nat.zero_add, Nat.add_zero, Nat.zero_add, Nat.add_zero] at this
    exact this
  · rw [zfr_zFr, if_pos ⟨rfl, rfl⟩]; rfl
  · rw [zfi_zFr, zfi_zNew, zfi_zFi, if_neg (fun e => by cases e.1), h0]; rfl
end ZJ
