set_option maxRecDepth 100000
/-! THE COMPONENT, 7: HashMap.put, the whole -/
theorem zLe.cg {μ ν : ZM} {T : Nat} {nd nd' : Nat → Nat} {e : ZP} : ∀ {L : List Nat}, zLe μ T nd e L → (∀ x ∈ L, nd' x = nd x) → (∀ x ∈ L, zfr ν 120 (nd x) = zfr μ 120 (nd x)) → zLe ν T nd' e L := by
  intro L
  induction L with
  | nil => intro _ _ _; trivial
  | cons x rs ih =>
    intro h k1 k2
    refine ⟨?_, ih h.2 (fun y hy => k1 y (List.mem_cons_of_mem _ hy)) (fun y hy => k2 y (List.mem_cons_of_mem _ hy))⟩
    rw [k1 x List.mem_cons_self, k2 x List.mem_cons_self]
    cases rs with
    | nil => exact h.1
    | cons y rs => show _ = (T, 0, nd' y); rw [k1 y (List.mem_cons_of_mem _ List.mem_cons_self)]; exact h.1
theorem zLe.un {μ : ZM} {T : Nat} {nd : Nat → Nat} {e : ZP} {z : Nat} : ∀ {L : List Nat}, zLe μ T nd e (L ++ [z]) → zLe μ T nd (T, 0, nd z) L ∧ zfr μ 120 (nd z) = e := by
  intro L
  induction L with
  | nil => intro h; exact ⟨trivial, h.1⟩
  | cons x rs ih =>
    intro h
    refine ⟨⟨?_, (ih h.2).1⟩, (ih h.2).2⟩
    cases rs with
    | nil => exact h.1
    | cons y rs => exact h.1
theorem zCh.cg {μ ν : ZM} {T : Nat} {nd nd' : Nat → Nat} {L : List Nat} {p q : ZP} (h : zCh μ T nd p L) (e : q = p) (k1 : ∀ x ∈ L, nd' x = nd x) (k2 : ∀ x ∈ L, zfr ν 120 (nd x) = zfr μ 120 (nd x)) : zCh ν T nd' q L := by
  refine ⟨?_, (h.2.le.cg k1 k2).lk⟩
  rw [e, h.1]
  cases L with
  | nil => rfl
  | cons x rs => show (T, 0, nd x) = (T, 0, nd' x); rw [k1 x List.mem_cons_self]
theorem flt_app {ks : List Nat} {k n i : Nat} : ((ks ++ [k]).filter fun x => decide (x % n = i)) = (ks.filter fun x => decide (x % n = i)) ++ (if k % n = i then [k] else []) := by
  rw [List.filter_append]
  by_cases h : k % n = i <;> simp [h]
/-- a new node in its place -/
theorem zIns {μ ν ρ : ZM} {T m t n k r : Nat} {p : ZP} {ks : List Nat} {nd kp : Nat → Nat} {vl : Nat → ZP} (hok : zok μ) (h : zHm μ T m t n ks nd kp vl) (hw : zNw μ ν T m k r p ks nd) (hk : k < 96) (hkn : k ∉ ks) (hm : m < zsz μ) (hr : zfi μ 92 r = nI (k / 12)) (hr2 : zfi μ 93 r = nI (k % 12))
    (hρ : ((ks.filter fun x => x % n = k % n) = [] ∧ ρ = zAr ν t (k % n) (T, 0, zsz μ)) ∨ ∃ I z, (ks.filter fun x => x % n = k % n) = I ++ [z] ∧ ρ = zFr ν 120 (nd z) (T, 0, zsz μ)) :
    (∀ X, zHc (zFi (zFi ρ 110 m X) 109 m (nI (ks.length + 1))) T m t n (ks ++ [k]) (upd1 nd k (zsz μ)) (upd1 kp k r) (upd1 vl k p)) ∧ zLn ρ T m (ks ++ [k]) (upd1 nd k (zsz μ)) ∧ zG (fun a => a = m ∨ a = t ∨ ∃ x ∈ ks, a = nd x) 1 6 μ ρ ∧ zfi ρ 109 m = nI ks.length ∧ zfi ρ 111 m = nI (3 * n / 4) := by
  obtain ⟨a1, a2, a3, a4, a5, a6, a7, a8, a9⟩ := h
  obtain ⟨b1, b2, b3, b4, b5, b6, b7, b8, b9, b10⟩ := hw
  have hle := zpw_le n a5
  have hap := nd_apart (μ := μ) (nd := nd) (ks := ks) (fun y hy => ⟨(a8 y hy).1, (a8 y hy).2.2.1⟩)
  have hlt : ∀ x ∈ ks, nd x < zsz μ := fun x hx => (a8 x hx).2.1
  have hne : ∀ x ∈ ks, x ≠ k := fun x hx e => hkn (e ▸ hx)
  have iρ : ∀ f a, zfi ρ f a = zfi ν f a := by rcases hρ with ⟨-, rfl⟩ | ⟨I, z, -, rfl⟩ <;> exact fun _ _ => rfl
  have rρ : ∀ f a, f ≠ 120 → zfr ρ f a = zfr ν f a := by
    rcases hρ with ⟨-, rfl⟩ | ⟨I, z, -, rfl⟩
    · exact fun _ _ _ => rfl
    · exact fun f a hf => by rw [zfr_zFr, if_neg (fun e => hf e.1)]
  have hsz : zsz ρ = zsz μ + 1 := by rcases hρ with ⟨-, rfl⟩ | ⟨I, z, -, rfl⟩ <;> exact b1
  have hIz : ∀ I z, (ks.filter fun x => x % n = k % n) = I ++ [z] → z ∈ ks ∧ z % n = k % n := fun I z e => by
    have := List.mem_filter.mp (show z ∈ ks.filter (fun x => x % n = k % n) by rw [e]; exact List.mem_append_right _ (List.mem_singleton.mpr rfl))
    simp only [decide_eq_true_eq] at this
    exact this
  have hg : zG (fun a => a = m ∨ a = t ∨ ∃ x ∈ ks, a = nd x) 1 6 μ ρ := by
    have g1 := b2.mono (V := fun a => a = m ∨ a = t ∨ ∃ x ∈ ks, a = nd x) (fun a _ q => q.elim Or.inl (fun q => Or.inr (Or.inr q))) (Nat.le_refl _) (Nat.le_refl _)
    rcases hρ with ⟨-, rfl⟩ | ⟨I, z, e, rfl⟩
    · exact g1.tr (zG.ar (Or.inr (Or.inl rfl)))
    · exact g1.tr (zG.fr (Or.inr (Or.inr ⟨z, (hIz I z e).1, rfl⟩)))
  have im : ∀ f, f ≠ 117 → zfi ρ f m = zfi μ f m := fun f hf => (iρ f m).trans (b3 f m (Or.inl hf))
  refine ⟨fun X => ⟨?_, ?_, ?_, ?_, a5, ?_, fun x hx => ?_, fun i hi => ?_⟩, ?_, hg, (im _ (by decide)).trans a2, (im _ (by decide)).trans a3⟩
  · exact (rρ _ _ (by decide)).trans ((b8 _ _ (by decide) (by decide) (by decide) (by decide) (Nat.ne_of_lt hm)).trans a1)
  · rw [zfi_zFi, if_pos ⟨rfl, rfl⟩]; simp
  · rw [zfi_zFi, if_neg (fun e => by cases e.1), zfi_zFi, if_neg (fun e => by cases e.1)]; exact (im _ (by decide)).trans a3
  · rw [zfi_zFi, if_neg (fun e => by cases e.1), zfi_zFi, if_neg (fun e => by cases e.1)]; exact (im _ (by decide)).trans a4
  · rw [List.nodup_append]
    exact ⟨a7, by simp, fun x hx y hy e => by rw [List.mem_singleton.mp hy] at e; exact hne x hx e⟩
  · have pp : ∀ f a, f ≠ 109 → f ≠ 110 → zfi (zFi (zFi ρ 110 m X) 109 m (nI (ks.length + 1))) f a = zfi ν f a := fun f a h1 h2 => by
      rw [zfi_zFi, if_neg (fun e => h1 e.1), zfi_zFi, if_neg (fun e => h2 e.1)]; exact iρ f a
    rcases List.mem_append.mp hx with hx | hx
    · obtain ⟨c1, c2, c3, c4, c5, c6, c7⟩ := a8 x hx
      have hb : nd x ≠ zsz μ := Nat.ne_of_lt c2
      have hxk := hne x hx
      refine ⟨c1, ?_, ?_, ?_, ?_, ?_, ?_⟩
      · rw [upd1_n hxk]; show nd x < zsz ρ; rw [hsz]; omega
      · rw [upd1_n hxk, pp _ _ (by decide) (by decide), b3 _ _ (Or.inr hb)]; exact c3
      · rw [upd1_n hxk, upd1_n hxk]; exact (rρ _ _ (by decide)).trans ((b8 _ _ (by decide) (by decide) (by decide) (by decide) hb).trans c4)
      · rw [upd1_n hxk, pp _ _ (by decide) (by decide), b3 _ _ (Or.inl (by decide))]; exact c5
      · rw [upd1_n hxk, pp _ _ (by decide) (by decide), b3 _ _ (Or.inl (by decide))]; exact c6
      · rw [upd1_n hxk, upd1_n hxk]; exact (rρ _ _ (by decide)).trans ((b8 _ _ (by decide) (by decide) (by decide) (by decide) hb).trans c7)
    · rw [List.mem_singleton.mp hx]
      refine ⟨hk, ?_, ?_, ?_, ?_, ?_, ?_⟩
      · rw [upd1_s]; show zsz μ < zsz ρ; omega
      · rw [upd1_s, pp _ _ (by decide) (by decide)]; exact b4
      · rw [upd1_s, upd1_s]; exact (rρ _ _ (by decide)).trans b5
      · rw [upd1_s, pp _ _ (by decide) (by decide), b3 _ _ (Or.inl (by decide))]; exact hr
      · rw [upd1_s, pp _ _ (by decide) (by decide), b3 _ _ (Or.inl (by decide))]; exact hr2
      · rw [upd1_s, upd1_s]; exact (rρ _ _ (by decide)).trans b6
  · show zCh (zFi (zFi ρ 110 m X) 109 m (nI (ks.length + 1))) T (upd1 nd k (zsz μ)) (zar ρ t i) _
    have hmem : ∀ x ∈ ks.filter (fun x => decide (x % n = i)), x ∈ ks ∧ x % n = i := fun x hx => by
      have := List.mem_filter.mp hx
      simp only [decide_eq_true_eq] at this
      exact this
    have hnd' : ∀ x ∈ ks.filter (fun x => decide (x % n = i)), upd1 nd k (zsz μ) x = nd x := fun x hx => upd1_n (hne x (hmem x hx).1)
    rw [flt_app]
    by_cases e : k % n = i
    · subst e
      rw [if_pos rfl]
      rcases hρ with ⟨e1, rfl⟩ | ⟨I, z, e1, rfl⟩
      · rw [e1]
        refine ⟨?_, ?_, trivial⟩
        · rw [zar_zAr, if_pos ⟨rfl, rfl⟩]; show _ = (T, 0, upd1 nd k (zsz μ) k); rw [upd1_s]
        · show zfr ν 120 (upd1 nd k (zsz μ) k) = zN; rw [upd1_s]; exact b7
      · obtain ⟨hz1, hz2⟩ := hIz I z e1
        obtain ⟨d1, d2⟩ := a9 (k % n) hi
        rw [e1] at d1 d2 hnd' hmem ⊢
        have d3 := d2.le.un
        have hndz : ∀ y ∈ I, nd y ≠ nd z := fun y hy => by
          have hN : (I ++ [z]).Nodup := e1 ▸ a7.filter (fun x => decide (x % n = k % n))
          rw [List.nodup_append] at hN
          exact hap y (hmem y (List.mem_append_left _ hy)).1 z hz1 (hN.2.2 y hy z (List.mem_singleton.mpr rfl))
        have k120 : ∀ y ∈ I, zfr (zFr ν 120 (nd z) (T, 0, zsz μ)) 120 (nd y) = zfr μ 120 (nd y) := fun y hy => by
          rw [zfr_ne (hndz y hy)]
          exact b8 _ _ (by decide) (by decide) (by decide) (by decide) (Nat.ne_of_lt (hlt y (hmem y (List.mem_append_left _ hy)).1))
        have hzk := hnd' z (List.mem_append_right _ (List.mem_singleton.mpr rfl))
        refine ⟨?_, ?_⟩
        · rw [zar_zFr, b9, d1]
          cases I with
          | nil => show (T, 0, nd z) = (T, 0, upd1 nd k (zsz μ) z); rw [hzk]
          | cons y I => show (T, 0, nd y) = (T, 0, upd1 nd k (zsz μ) y); rw [hnd' y List.mem_cons_self]
        · refine (zLe.snoc (e := zN) ?_ (zLe.snoc (e := (T, 0, upd1 nd k (zsz μ) k)) ?_ ?_)).lk
          · show zfr (zFr ν 120 (nd z) (T, 0, zsz μ)) 120 (upd1 nd k (zsz μ) k) = zN
            rw [upd1_s, zfr_ne (fun e => Nat.ne_of_lt (hlt z hz1) e.symm)]; exact b7
          · show zfr (zFr ν 120 (nd z) (T, 0, zsz μ)) 120 (upd1 nd k (zsz μ) z) = _
            rw [hzk, zfr_zFr, if_pos ⟨rfl, rfl⟩, upd1_s]
          · rw [hzk]
            exact d3.1.cg (fun y hy => hnd' y (List.mem_append_left _ hy)) k120
    · rw [if_neg e, List.append_nil]
      refine (a9 i hi).cg ?_ hnd' (fun x hx => ?_)
      · rcases hρ with ⟨e1, rfl⟩ | ⟨I, z, e1, rfl⟩
        · rw [zar_zAr, if_neg (fun q => e q.2.symm)]; exact b9 _ _
        · exact b9 _ _
      · show zfr ρ 120 (nd x) = _
        have hx2 := hmem x hx
        have : zfr ν 120 (nd x) = zfr μ 120 (nd x) := b8 _ _ (by decide) (by decide) (by decide) (by decide) (Nat.ne_of_lt (hlt x hx2.1))
        rcases hρ with ⟨e1, rfl⟩ | ⟨I, z, e1, rfl⟩
        · exact this
        · obtain ⟨hz1, hz2⟩ := hIz I z e1
          rw [zfr_ne (hap x hx2.1 z hz1 (by rintro rfl; exact e (hz2.symm.trans hx2.2)))]; exact this
  · exact b10.kp (iρ _ _) (iρ _ _) (rρ _ _ (by decide)) (rρ _ _ (by decide)) (fun x _ => rρ _ _ (by decide))
/-- a map: without a table, or with one -/
def zMp (μ : ZM) (T m : Nat) (ks : List Nat) (nd kp : Nat → Nat) (vl : Nat → ZP) : Prop := ((ks = [] ∧ ∃ n, zHz μ m n) ∨ ∃ t n, zHm μ T m t n ks nd kp vl) ∧ zLn μ T m ks nd
/-- the length of a map's table -/
def tl (μ : ZM) (m : Nat) : Nat := (zfr μ 107 m).2.1
/-- the addresses that a map's operations write to -/
def zMw (μ : ZM) (m : Nat) (ks : List Nat) (nd : Nat → Nat) (a : Nat) : Prop := a = m ∨ (∃ n, zfr μ 107 m = (205, n, a)) ∨ ∃ x ∈ ks, a = nd x
section ZJ
variable {G : ZG} {μ : ZM} {Q : Option ZV → ZM → Prop} {E : ZP → ZM → Prop}
theorem L_pv259_14 {m t n l : Nat} {z5 : Int32} {ks : List Nat} {nd kp : Nat → Nat} {vl : Nat → ZP} (hm : m < zsz μ) (hlen : ks.length = l + 1) (hl3 : l ≤ 3 * n / 4) (hs : zfi μ 109 m = nI l) (h3 : zfi μ 111 m = nI (3 * n / 4))
    (h : ∀ X, zHc (zFi (zFi μ 110 m X) 109 m (nI (l + 1))) 16 m t n ks nd kp vl) (hl : zLn μ 16 m ks nd)
    (K : ∀ ν t' n', zHm ν 16 m t' n' ks nd kp vl → zLn ν 16 m ks nd → (t' = t ∨ zsz μ ≤ t') → (zfr ν 105 m = zfr μ 105 m ∧ zfr ν 108 m = zfr μ 108 m) → n ≤ n' → zG (fun a => a = m ∨ a = t ∨ ∃ x ∈ ks, a = nd x) 1 (2 * (n' - n)) μ ν → Q (some (vP zN)) ν) : Wp G Y_J22_putVal 259 [(0, vP (14, 0, m)), (5, vI z5)] [] μ Q E := by
  have hn := (h 0).2.2.2.2.1
  have hnd := (h 0).2.2.2.2.2.1
  have h96 := nd_96 hnd (fun x hx => ((h 0).2.2.2.2.2.2.1 x hx).1)
  have hle := zpw_le n hn
  have hl2 : ∀ X, zLn (zFi (zFi μ 110 m X) 109 m (nI (l + 1))) 16 m ks nd := fun X => hl.kp (by rw [zfi_zFi, if_neg (fun e => by cases e.1), zfi_zFi, if_neg (fun e => by cases e.1)]) (by rw [zfi_zFi, if_neg (fun e => by cases e.1), zfi_zFi, if_neg (fun e => by cases e.1)]) rfl rfl (fun _ _ => rfl)
  have g : ∀ X, zG (fun a => a = m ∨ a = t ∨ ∃ x ∈ ks, a = nd x) 0 0 μ (zFi (zFi μ 110 m X) 109 m (nI (l + 1))) := fun X => (zG.fi (Or.inl rfl)).tr (zG.fi (Or.inl rfl))
  refine B_J22_putVal_14_259 ⟨_, rfl, _, hs, _, h3, ?_⟩
  rw [nI_1]
  refine ⟨fun e => ?_, fun e => ?_⟩
  · have hq : l + 1 ≤ 3 * n / 4 := by
      rcases Nat.lt_or_ge (3 * n / 4) (l + 1) with q | q
      · exact absurd (nI_lt q (by omega)) e
      · exact q
    exact C_hmIns_14 (hl2 _) ⟨rfl, K _ t n ((h _).m (by omega)) (hl2 _) (Or.inl rfl) ⟨rfl, rfl⟩ (Nat.le_refl _) ((g _).mono (fun _ _ q => q) (by omega) (by omega))⟩
  · have hq := (nI_ltI (by omega) (by omega)).mp e
    have h128 : n < 128 := by
      rcases Nat.lt_or_ge n 128 with q | q
      · exact q
      · have : n = 128 := by omega
        subst this; omega
    refine Call.zo fun hok _ => C_hmResize_14 hok (by exact hm) (h _) h128 fun ν k1 k2 k3 k4 k5 => ⟨_, rfl, _, _, rfl, C_hmIns_14 (ks := ks) (nd := nd) ((hl2 _).kp (k4 _ _ (by decide)) (k4 _ _ (by decide)) (k5 _ _ (by decide) (by decide)) (k5 _ _ (by decide) (by decide)) (fun _ _ => k5 _ _ (by decide) (by decide))) ⟨rfl, K ν _ _ (k1.m (by omega)) ?_ (Or.inr (Nat.le_refl _)) ⟨k5 _ _ (by decide) (by decide), k5 _ _ (by decide) (by decide)⟩ (by omega) ?_⟩⟩
    · exact (hl2 _).kp (k4 _ _ (by decide)) (k4 _ _ (by decide)) (k5 _ _ (by decide) (by decide)) (k5 _ _ (by decide) (by decide)) (fun _ _ => k5 _ _ (by decide) (by decide))
    · exact ((g _).tr k3).mono (fun _ _ q => q) (by omega) (by omega)
section PV
variable {m t n k r : Nat} {p : ZP} {z5 : Int32} {ks : List Nat} {nd kp : Nat → Nat} {vl : Nat → ZP}
/-- behind the putting of a new node -/
theorem L_pvNew_14 {ν ρ : ZM} (hok : zok μ) (h : zHm μ 16 m t n ks nd kp vl) (hw : zNw μ ν 16 m k r p ks nd) (hk : k < 96) (hkn : k ∉ ks) (hm : m < zsz μ) (hr : zfi μ 92 r = nI (k / 12)) (hr2 : zfi μ 93 r = nI (k % 12))
    (hρ : ((ks.filter fun x => x % n = k % n) = [] ∧ ρ = zAr ν t (k % n) (16, 0, zsz μ)) ∨ ∃ I z, (ks.filter fun x => x % n = k % n) = I ++ [z] ∧ ρ = zFr ν 120 (nd z) (16, 0, zsz μ))
    (K2 : ∀ ν t' n', zHm ν 16 m t' n' (ks ++ [k]) (upd1 nd k (zsz μ)) (upd1 kp k r) (upd1 vl k p) → zLn ν 16 m (ks ++ [k]) (upd1 nd k (zsz μ)) → (t' = t ∨ zsz μ ≤ t') → (zfr ν 105 m = zfr μ 105 m ∧ zfr ν 108 m = zfr μ 108 m) → n ≤ n' → zG (fun a => a = m ∨ a = t ∨ ∃ x ∈ ks, a = nd x) 2 (6 + 2 * (n' - n)) μ ν → Q (some (vP zN)) ν) : Wp G Y_J22_putVal 259 [(0, vP (14, 0, m)), (5, vI z5)] [] ρ Q E := by
  obtain ⟨i1, i2, i3, i4, i5⟩ := zIns hok h hw hk hkn hm hr hr2 hρ
  have qc : ∀ f, f = 105 ∨ f = 108 → zfr ρ f m = zfr μ f m := fun f hf => by
    have q1 : zfr ν f m = zfr μ f m := hw.2.2.2.2.2.2.2.1 f m (by omega) (by omega) (by omega) (by omega) (Nat.ne_of_lt hm)
    rcases hρ with ⟨-, rfl⟩ | ⟨I, z, -, rfl⟩
    · exact q1
    · rw [zfr_zFr, if_neg (fun e => by have := e.1; omega)]; exact q1
  refine L_pv259_14 (l := ks.length) (Nat.lt_of_lt_of_le hm i3.1.1) (by simp) h.2.2.2.2.2.1 i4 i5 i1 i2 fun σ t' n' j1 j2 j4 j6 j5 j3 => K2 σ t' n' j1 j2 (j4.imp id (fun q => Nat.le_trans i3.1.1 q)) ⟨j6.1.trans (qc _ (Or.inl rfl)), j6.2.trans (qc _ (Or.inr rfl))⟩ j5 ?_
  refine (i3.trans (V := fun a => (a = m ∨ a = t ∨ ∃ x ∈ ks, a = nd x) ∨ a = zsz μ) (j3.mono (fun a _ q => ?_) (Nat.le_refl _) (Nat.le_refl _)) (fun a ha q => q.elim id (fun e => absurd e (Nat.ne_of_lt ha)))).mono (fun _ _ q => q) (by omega) (by omega)
  rcases q with q | q | ⟨x, hx, q⟩
  · exact Or.inl (Or.inl q)
  · exact Or.inl (Or.inr (Or.inl q))
  · rcases List.mem_append.mp hx with hx1 | hx1
    · exact Or.inl (Or.inr (Or.inr ⟨x, hx1, q.trans (upd1_n (by rintro rfl; exact hkn hx1))⟩))
    · rw [List.mem_singleton.mp hx1, upd1_s] at q; exact Or.inr q
/-- the old value replaced -/
theorem L_pv222_14 {x : Nat} (hz : zis 24 p) (hz0 : True) (hl : zLn μ 16 m ks nd) (hx : zfr μ 119 (nd x) = vl x) (hv : zis 24 (vl x)) (K1 : Q (some (vP (vl x))) (zFr μ 119 (nd x) p)) : Wp G Y_J22_putVal 222 [(0, vP (14, 0, m)), (3, vP p), (4, vI 0), (5, vI z5), (10, vP (16, 0, nd x))] [] μ Q E := by
  refine B_J22_putVal_14_222 ⟨hz, (Or.inr ⟨_, rfl, _, hx, hv, fun _ => C_hmAcc_14 (ks := ks) (nd := nd) (hl.kp rfl rfl ?_ ?_ (fun _ _ => ?_)) ⟨rfl, K1⟩, fun e => absurd rfl e⟩)⟩
  all_goals rw [zfr_zFr, if_neg (fun e => by cases e.1)]
theorem L_pv134_14 (hz : zis 24 p) (hok : zok μ) (hm : m < zsz μ) (h : zHm μ 16 m t n ks nd kp vl) (hl : zLn μ 16 m ks nd) (hk : k < 96) (hr : zfi μ 92 r = nI (k / 12)) (hr2 : zfi μ 93 r = nI (k % 12)) (hvs : ∀ x ∈ ks, zis 24 (vl x))
    (K1 : k ∈ ks → Q (some (vP (vl k))) (zFr μ 119 (nd k) p))
    (K2 : k ∉ ks → ∀ ν t' n', zHm ν 16 m t' n' (ks ++ [k]) (upd1 nd k (zsz μ)) (upd1 kp k r) (upd1 vl k p) → zLn ν 16 m (ks ++ [k]) (upd1 nd k (zsz μ)) → (t' = t ∨ zsz μ ≤ t') → (zfr ν 105 m = zfr μ 105 m ∧ zfr ν 108 m = zfr μ 108 m) → n ≤ n' → zG (fun a => a = m ∨ a = t ∨ ∃ x ∈ ks, a = nd x) 2 (6 + 2 * (n' - n)) μ ν → Q (some (vP zN)) ν) :
    ∀ (rs : List Nat) (x : Nat) (I : List Nat), (ks.filter fun x => x % n = k % n) = I ++ x :: rs → zLk μ 16 nd (x :: rs) → (∀ y ∈ I ++ [x], y ≠ k) →
    Wp G Y_J22_putVal 134 [(0, vP (14, 0, m)), (1, vI (nI k)), (2, vP (9, 0, r)), (3, vP p), (4, vI 0), (5, vI z5), (6, vP (205, n, t)), (7, vP (16, 0, nd x)), (12, vI (nI I.length))] [] μ Q E := by
  have hle := zpw_le n h.2.2.2.2.1
  have hmem : ∀ y ∈ ks.filter (fun x => decide (x % n = k % n)), y ∈ ks := fun y hy => (List.mem_filter.mp hy).1
  have hkf : k ∈ ks → k ∈ ks.filter (fun x => decide (x % n = k % n)) := fun q => List.mem_filter.mpr ⟨q, by simp⟩
  have hfew := nd_few h.2.2.2.2.1 h.2.2.2.2.2.2.1 (fun x hx => (h.2.2.2.2.2.2.2.1 x hx).1) h.2.2.2.2.2.1 (Nat.mod_lt k (show n > 0 by omega))
  intro rs
  induction rs with
  | nil =>
    intro x I hL hk1 hne
    rw [hL] at hfew hkf hmem
    have hkn : k ∉ ks := fun q => hne k (hkf q) rfl
    refine B_J22_putVal_14_134 ⟨hz, _, hk1.1, Or.inl ⟨rfl, C_hmNew_14 hok hm hz (fun x hx => (h.2.2.2.2.2.2.2.1 x hx).2.1) hl hkn fun ν hw => ⟨_, rfl, _, rfl, fun _ => B_J22_putVal_14_222 ⟨hz, (Or.inl ⟨rfl, L_pvNew_14 hok h hw hk hkn hm hr hr2 (Or.inr ⟨I, x, hL, rfl⟩) (K2 hkn)⟩)⟩, fun e => absurd ?_ e⟩⟩⟩
    rw [List.length_append] at hfew
    exact nI_lt (b := 7) (by simp at hfew; omega) (by omega)
  | cons y rs ih =>
    intro x I hL hk1 hne
    have hy := h.2.2.2.2.2.2.2.1 y (hmem y (by rw [hL]; exact List.mem_append_right _ (List.mem_cons_of_mem _ List.mem_cons_self)))
    have hys := hmem y (by rw [hL]; exact List.mem_append_right _ (List.mem_cons_of_mem _ List.mem_cons_self))
    refine B_J22_putVal_14_134 ⟨hz, _, hk1.1, Or.inr ⟨_, rfl, _, hy.2.2.1, fun e => ?_, fun e => ?_⟩⟩
    · have := ih y (I ++ [x]) (by rw [hL, List.append_assoc]; rfl) hk1.2 (fun w hw => by
        rcases List.mem_append.mp hw with hw | hw
        · exact hne w hw
        · rw [List.mem_singleton.mp hw]; rintro rfl; exact e rfl)
      rw [List.length_append] at this
      rw [nI_1]; exact this
    · have ey := (nI_eq (by have := hy.1; omega) (by omega)).mp e
      subst ey
      have k1 := L_pv222_14 (G := G) (z5 := z5) (E := E) hz trivial hl hy.2.2.2.2.2.2 (hvs _ hys) (K1 hys)
      exact ⟨_, hy.2.2.2.1, fun _ => k1, fun _ => C_pEq hr hr2 hy.2.2.2.2.1 hy.2.2.2.2.2.1 ⟨_, rfl, fun q => absurd q (by decide), fun _ => k1⟩⟩
theorem L_pv29_14 (hz : zis 24 p) (hok : zok μ) (hm : m < zsz μ) (h : zHm μ 16 m t n ks nd kp vl) (hl : zLn μ 16 m ks nd) (hk : k < 96) (hr : zfi μ 92 r = nI (k / 12)) (hr2 : zfi μ 93 r = nI (k % 12)) (hvs : ∀ x ∈ ks, zis 24 (vl x))
    (K1 : k ∈ ks → Q (some (vP (vl k))) (zFr μ 119 (nd k) p))
    (K2 : k ∉ ks → ∀ ν t' n', zHm ν 16 m t' n' (ks ++ [k]) (upd1 nd k (zsz μ)) (upd1 kp k r) (upd1 vl k p) → zLn ν 16 m (ks ++ [k]) (upd1 nd k (zsz μ)) → (t' = t ∨ zsz μ ≤ t') → (zfr ν 105 m = zfr μ 105 m ∧ zfr ν 108 m = zfr μ 108 m) → n ≤ n' → zG (fun a => a = m ∨ a = t ∨ ∃ x ∈ ks, a = nd x) 2 (6 + 2 * (n' - n)) μ ν → Q (some (vP zN)) ν) :
    Wp G Y_J22_putVal 29 [(0, vP (14, 0, m)), (1, vI (nI k)), (2, vP (9, 0, r)), (3, vP p), (4, vI 0), (5, vI z5), (6, vP (205, n, t)), (8, vI (nI n))] [] μ Q E := by
  have hn := h.2.2.2.2.1
  have hle := zpw_le n hn
  have hix : zix ((nI n - 1) &&& nI k) (k % n) n := zix.eq (zpw_and n hn ⟨k, hk⟩) (Nat.mod_lt _ (by omega)) (by have := Nat.mod_lt k (show n > 0 by omega); omega)
  obtain ⟨c1, c2⟩ := h.2.2.2.2.2.2.2.2 (k % n) (Nat.mod_lt _ (by omega))
  have hmem : ∀ y ∈ ks.filter (fun x => decide (x % n = k % n)), y ∈ ks := fun y hy => (List.mem_filter.mp hy).1
  have hkf : k ∈ ks → k ∈ ks.filter (fun x => decide (x % n = k % n)) := fun q => List.mem_filter.mpr ⟨q, by simp⟩
  refine B_J22_putVal_14_29 ⟨hz, _, hix, _, c1, ?_⟩
  cases hL : ks.filter (fun x => decide (x % n = k % n)) with
  | nil =>
    have hkn : k ∉ ks := fun q => by have := hkf q; rw [hL] at this; cases this
    exact Or.inl ⟨rfl, C_hmNew_14 hok hm hz (fun x hx => (h.2.2.2.2.2.2.2.1 x hx).2.1) hl hkn fun ν hw => ⟨_, rfl, _, rfl, _, hix, L_pvNew_14 hok h hw hk hkn hm hr hr2 (Or.inl ⟨hL, rfl⟩) (K2 hkn)⟩⟩
  | cons x rs =>
    have hxs := hmem x (by rw [hL]; exact List.mem_cons_self)
    have hx := h.2.2.2.2.2.2.2.1 x hxs
    rw [hL] at c2
    refine Or.inr ⟨_, rfl, _, hx.2.2.1, fun e => ?_, fun e => ?_⟩
    · exact B_J22_putVal_14_104 ⟨hz, (L_pv134_14 hz hok hm h hl hk hr hr2 hvs K1 K2 rs x [] hL c2 (fun y hy => by rw [List.mem_singleton.mp hy]; rintro rfl; exact e rfl))⟩
    · have ex := (nI_eq (by have := hx.1; omega) (by omega)).mp e
      subst ex
      have k1 := L_pv222_14 (G := G) (z5 := z5) (E := E) hz trivial hl hx.2.2.2.2.2.2 (hvs _ hxs) (K1 hxs)
      exact ⟨_, hx.2.2.2.1, fun _ => k1, fun _ => C_pEq hr hr2 hx.2.2.2.2.1 hx.2.2.2.2.2.1 ⟨_, rfl, fun q => absurd q (by decide), fun _ => k1⟩⟩
theorem C_hmPutVal_14 (hz : zis 24 p) (hm : m < zsz μ) (h : zMp μ 16 m ks nd kp vl) (hk : k < 96) (hr : zfi μ 92 r = nI (k / 12)) (hr2 : zfi μ 93 r = nI (k % 12)) (hvs : ∀ x ∈ ks, zis 24 (vl x))
    (K1 : k ∈ ks → Q (some (vP (vl k))) (zFr μ 119 (nd k) p))
    (K2 : k ∉ ks → ∀ ν b, zsz μ ≤ b → zMp ν 16 m (ks ++ [k]) (upd1 nd k b) (upd1 kp k r) (upd1 vl k p) → (∀ n a, zfr ν 107 m = (205, n, a) → (∃ n', zfr μ 107 m = (205, n', a)) ∨ zsz μ ≤ a) → (zfr ν 105 m = zfr μ 105 m ∧ zfr ν 108 m = zfr μ 108 m) → tl μ m ≤ tl ν m → zG (zMw μ m ks nd) 3 (6 + 2 * (tl ν m - tl μ m)) μ ν → Q (some (vP zN)) ν) : Call G Y_J22_putVal [vP (14, 0, m), vI (nI k), vP (9, 0, r), vP p, vI 0, vI z5] μ Q E := by
  refine Call.zo fun hok _ => ?_
  rcases h with ⟨⟨rfl, n0, h⟩ | ⟨t, n, h⟩, hl⟩
  · refine S_J22_putVal_14 ⟨hz, _, h.1, Or.inl ⟨rfl, C_hmResize0_14 (nd := nd) (kp := kp) (vl := vl) hok hm h fun ν k1 k2 k3 k4 k5 k6 => ⟨_, rfl, _, _, rfl, ?_⟩⟩⟩
    have hl' : zLn ν 16 m [] nd := hl.kp (k5 _ _ (by decide)) (k5 _ _ (by decide)) (k6 _ _ (by decide)) (k6 _ _ (by decide)) (fun _ _ => k6 _ _ (by decide))
    refine Wp.zo fun hokν => L_pv29_14 hz hokν (Nat.lt_of_lt_of_le hm k4.1.1) k1 hl' hk ((k5 _ _ (by decide)).trans hr) ((k5 _ _ (by decide)).trans hr2) (fun x hx => by cases hx) (fun q => by cases q) fun q ρ t' n' j1 j2 j4 j6 j5 j3 => K2 q ρ (zsz ν) (by omega) ⟨Or.inr ⟨t', n', j1⟩, j2⟩ (fun n a e => Or.inr (by rw [j1.1] at e; cases e; omega)) ⟨j6.1.trans (k6 _ _ (by decide)), j6.2.trans (k6 _ _ (by decide))⟩ (by unfold tl; rw [h.1]; exact Nat.zero_le _) ?_
    have := k4.trans (V := fun a => a = m ∨ a = zsz μ) (j3.mono (fun a _ q => ?_) (Nat.le_refl _) (Nat.le_refl _)) (fun a ha q => q.elim id (fun e => absurd e (Nat.ne_of_lt ha)))
    · have e1 : tl μ m = 0 := by unfold tl; rw [h.1]
      have e2 : tl ρ m = n' := by unfold tl; rw [j1.1]
      exact this.mono (fun a _ q => Or.inl q) (by omega) (by omega)
    · rcases q with q | q | ⟨x, hx, -⟩
      · exact Or.inl q
      · exact Or.inr q
      · cases hx
  · have hle := zpw_le n h.2.2.2.2.1
    refine S_J22_putVal_14 ⟨hz, _, h.1, Or.inr ⟨_, _, rfl, fun _ => ?_, fun e => absurd e (nI_ne0 (by omega) (by omega))⟩⟩
    refine L_pv29_14 hz hok hm h hl hk hr hr2 hvs K1 fun q ρ t' n' j1 j2 j4 j6 j5 j3 => K2 q ρ (zsz μ) (Nat.le_refl _) ⟨Or.inr ⟨t', n', j1⟩, j2⟩ (fun n1 a e => j4.imp (fun q => ⟨n, by rw [j1.1] at e; cases e; rw [q]; exact h.1⟩) (fun q => by rw [j1.1] at e; cases e; exact q)) j6 (by unfold tl; rw [h.1, j1.1]; exact j5) (j3.mono (fun a _ q => ?_) (by omega) (by unfold tl; rw [h.1, j1.1]; exact Nat.le_refl _))
    rcases q with q | q | q
    · exact Or.inl q
    · exact Or.inr (Or.inl ⟨n, by rw [q]; exact h.1⟩)
    · exact Or.inr (Or.inr q)
theorem C_hmPut_14 (hz : zis 24 p) (hm : m < zsz μ) (h : zMp μ 16 m ks nd kp vl) (hk : k < 96) (hr : zfi μ 92 r = nI (k / 12)) (hr2 : zfi μ 93 r = nI (k % 12)) (hvs : ∀ x ∈ ks, zis 24 (vl x))
    (K1 : k ∈ ks → Q (some (vP (vl k))) (zFr μ 119 (nd k) p))
    (K2 : k ∉ ks → ∀ ν b, zsz μ ≤ b → zMp ν 16 m (ks ++ [k]) (upd1 nd k b) (upd1 kp k r) (upd1 vl k p) → (∀ n a, zfr ν 107 m = (205, n, a) → (∃ n', zfr μ 107 m = (205, n', a)) ∨ zsz μ ≤ a) → (zfr ν 105 m = zfr μ 105 m ∧ zfr ν 108 m = zfr μ 108 m) → tl μ m ≤ tl ν m → zG (zMw μ m ks nd) 3 (6 + 2 * (tl ν m - tl μ m)) μ ν → Q (some (vP zN)) ν) : Call G Y_J22_put [vP (14, 0, m), vP (9, 0, r), vP p] μ Q E :=
  S_J22_put_14 ⟨hz, (C_pHash hk hr hr2 ⟨_, rfl, C_hmPutVal_14 hz hm h hk hr hr2 hvs (fun q => ⟨_, rfl, K1 q⟩) (fun q ν b hb h1 h2 h3 h4 h5 => ⟨_, rfl, K2 q ν b hb h1 h2 h3 h4 h5⟩)⟩)⟩
end PV
theorem L_pv259_15 {m t n l : Nat} {z5 : Int32} {ks : List Nat} {nd kp : Nat → Nat} {vl : Nat → ZP} (hm : m < zsz μ) (hlen : ks.length = l + 1) (hl3 : l ≤ 3 * n / 4) (hs : zfi μ 109 m = nI l) (h3 : zfi μ 111 m = nI (3 * n / 4))
    (h : ∀ X, zHc (zFi (zFi μ 110 m X) 109 m (nI (l + 1))) 17 m t n ks nd kp vl) (hl : zLn μ 17 m ks nd)
    (K : ∀ ν t' n', zHm ν 17 m t' n' ks nd kp vl → zLn ν 17 m ks nd → (t' = t ∨ zsz μ ≤ t') → (zfr ν 105 m = zfr μ 105 m ∧ zfr ν 108 m = zfr μ 108 m) → n ≤ n' → zG (fun a => a = m ∨ a = t ∨ ∃ x ∈ ks, a = nd x) 1 (2 * (n' - n)) μ ν → Q (some (vP zN)) ν) : Wp G Y_J22_putVal 259 [(0, vP (15, 0, m)), (5, vI z5)] [] μ Q E := by
  have hn := (h 0).2.2.2.2.1
  have hnd := (h 0).2.2.2.2.2.1
  have h96 := nd_96 hnd (fun x hx => ((h 0).2.2.2.2.2.2.1 x hx).1)
  have hle := zpw_le n hn
  have hl2 : ∀ X, zLn (zFi (zFi μ 110 m X) 109 m (nI (l + 1))) 17 m ks nd := fun X => hl.kp (by rw [zfi_zFi, if_neg (fun e => by cases e.1), zfi_zFi, if_neg (fun e => by cases e.1)]) (by rw [zfi_zFi, if_neg (fun e => by cases e.1), zfi_zFi, if_neg (fun e => by cases e.1)]) rfl rfl (fun _ _ => rfl)
  have g : ∀ X, zG (fun a => a = m ∨ a = t ∨ ∃ x ∈ ks, a = nd x) 0 0 μ (zFi (zFi μ 110 m X) 109 m (nI (l + 1))) := fun X => (zG.fi (Or.inl rfl)).tr (zG.fi (Or.inl rfl))
  refine B_J22_putVal_15_259 ⟨_, rfl, _, hs, _, h3, ?_⟩
  rw [nI_1]
  refine ⟨fun e => ?_, fun e => ?_⟩
  · have hq : l + 1 ≤ 3 * n / 4 := by
      rcases Nat.lt_or_ge (3 * n / 4) (l + 1) with q | q
      · exact absurd (nI_lt q (by omega)) e
      · exact q
    exact C_hmIns_15 (hl2 _) ⟨rfl, K _ t n ((h _).m (by omega)) (hl2 _) (Or.inl rfl) ⟨rfl, rfl⟩ (Nat.le_refl _) ((g _).mono (fun _ _ q => q) (by omega) (by omega))⟩
  · have hq := (nI_ltI (by omega) (by omega)).mp e
    have h128 : n < 128 := by
      rcases Nat.lt_or_ge n 128 with q | q
      · exact q
      · have : n = 128 := by omega
        subst this; omega
    refine Call.zo fun hok _ => C_hmResize_15 hok (by exact hm) (h _) h128 fun ν k1 k2 k3 k4 k5 => ⟨_, rfl, _, _, rfl, C_hmIns_15 (ks := ks) (nd := nd) ((hl2 _).kp (k4 _ _ (by decide)) (k4 _ _ (by decide)) (k5 _ _ (by decide) (by decide)) (k5 _ _ (by decide) (by decide)) (fun _ _ => k5 _ _ (by decide) (by decide))) ⟨rfl, K ν _ _ (k1.m (by omega)) ?_ (Or.inr (Nat.le_refl _)) ⟨k5 _ _ (by decide) (by decide), k5 _ _ (by decide) (by decide)⟩ (by omega) ?_⟩⟩
    · exact (hl2 _).kp (k4 _ _ (by decide)) (k4 _ _ (by decide)) (k5 _ _ (by decide) (by decide)) (k5 _ _ (by decide) (by decide)) (fun _ _ => k5 _ _ (by decide) (by decide))
    · exact ((g _).tr k3).mono (fun _ _ q => q) (by omega) (by omega)
section PV
variable {m t n k r : Nat} {p : ZP} {z5 : Int32} {ks : List Nat} {nd kp : Nat → Nat} {vl : Nat → ZP}
/-- behind the putting of a new node -/
theorem L_pvNew_15 {ν ρ : ZM} (hok : zok μ) (h : zHm μ 17 m t n ks nd kp vl) (hw : zNw μ ν 17 m k r p ks nd) (hk : k < 96) (hkn : k ∉ ks) (hm : m < zsz μ) (hr : zfi μ 92 r = nI (k / 12)) (hr2 : zfi μ 93 r = nI (k % 12))
    (hρ : ((ks.filter fun x => x % n = k % n) = [] ∧ ρ = zAr ν t (k % n) (17, 0, zsz μ)) ∨ ∃ I z, (ks.filter fun x => x % n = k % n) = I ++ [z] ∧ ρ = zFr ν 120 (nd z) (17, 0, zsz μ))
    (K2 : ∀ ν t' n', zHm ν 17 m t' n' (ks ++ [k]) (upd1 nd k (zsz μ)) (upd1 kp k r) (upd1 vl k p) → zLn ν 17 m (ks ++ [k]) (upd1 nd k (zsz μ)) → (t' = t ∨ zsz μ ≤ t') → (zfr ν 105 m = zfr μ 105 m ∧ zfr ν 108 m = zfr μ 108 m) → n ≤ n' → zG (fun a => a = m ∨ a = t ∨ ∃ x ∈ ks, a = nd x) 2 (6 + 2 * (n' - n)) μ ν → Q (some (vP zN)) ν) : Wp G Y_J22_putVal 259 [(0, vP (15, 0, m)), (5, vI z5)] [] ρ Q E := by
  obtain ⟨i1, i2, i3, i4, i5⟩ := zIns hok h hw hk hkn hm hr hr2 hρ
  have qc : ∀ f, f = 105 ∨ f = 108 → zfr ρ f m = zfr μ f m := fun f hf => by
    have q1 : zfr ν f m = zfr μ f m := hw.2.2.2.2.2.2.2.1 f m (by omega) (by omega) (by omega) (by omega) (Nat.ne_of_lt hm)
    rcases hρ with ⟨-, rfl⟩ | ⟨I, z, -, rfl⟩
    · exact q1
    · rw [zfr_zFr, if_neg (fun e => by have := e.1; omega)]; exact q1
  refine L_pv259_15 (l := ks.length) (Nat.lt_of_lt_of_le hm i3.1.1) (by simp) h.2.2.2.2.2.1 i4 i5 i1 i2 fun σ t' n' j1 j2 j4 j6 j5 j3 => K2 σ t' n' j1 j2 (j4.imp id (fun q => Nat.le_trans i3.1.1 q)) ⟨j6.1.trans (qc _ (Or.inl rfl)), j6.2.trans (qc _ (Or.inr rfl))⟩ j5 ?_
  refine (i3.trans (V := fun a => (a = m ∨ a = t ∨ ∃ x ∈ ks, a = nd x) ∨ a = zsz μ) (j3.mono (fun a _ q => ?_) (Nat.le_refl _) (Nat.le_refl _)) (fun a ha q => q.elim id (fun e => absurd e (Nat.ne_of_lt ha)))).mono (fun _ _ q => q) (by omega) (by omega)
  rcases q with q | q | ⟨x, hx, q⟩
  · exact Or.inl (Or.inl q)
  · exact Or.inl (Or.inr (Or.inl q))
  · rcases List.mem_append.mp hx with hx1 | hx1
    · exact Or.inl (Or.inr (Or.inr ⟨x, hx1, q.trans (upd1_n (by rintro rfl; exact hkn hx1))⟩))
    · rw [List.mem_singleton.mp hx1, upd1_s] at q; exact Or.inr q
/-- the old value replaced -/
theorem L_pv222_15 {x : Nat} (hz0 : True) (hl : zLn μ 17 m ks nd) (hx : zfr μ 119 (nd x) = vl x) (K1 : Q (some (vP (vl x))) (zFr μ 119 (nd x) p)) : Wp G Y_J22_putVal 222 [(0, vP (15, 0, m)), (3, vP p), (4, vI 0), (5, vI z5), (10, vP (17, 0, nd x))] [] μ Q E := by
  refine B_J22_putVal_15_222 (Or.inr ⟨_, rfl, _, hx, fun _ => C_hmAcc_15 (ks := ks) (nd := nd) (hl.kp rfl rfl ?_ ?_ (fun _ _ => ?_)) ⟨rfl, K1⟩, fun e => absurd rfl e⟩)
  all_goals rw [zfr_zFr, if_neg (fun e => by cases e.1)]
theorem L_pv134_15 (hok : zok μ) (hm : m < zsz μ) (h : zHm μ 17 m t n ks nd kp vl) (hl : zLn μ 17 m ks nd) (hk : k < 96) (hr : zfi μ 92 r = nI (k / 12)) (hr2 : zfi μ 93 r = nI (k % 12)) 
    (K1 : k ∈ ks → Q (some (vP (vl k))) (zFr μ 119 (nd k) p))
    (K2 : k ∉ ks → ∀ ν t' n', zHm ν 17 m t' n' (ks ++ [k]) (upd1 nd k (zsz μ)) (upd1 kp k r) (upd1 vl k p) → zLn ν 17 m (ks ++ [k]) (upd1 nd k (zsz μ)) → (t' = t ∨ zsz μ ≤ t') → (zfr ν 105 m = zfr μ 105 m ∧ zfr ν 108 m = zfr μ 108 m) → n ≤ n' → zG (fun a => a = m ∨ a = t ∨ ∃ x ∈ ks, a = nd x) 2 (6 + 2 * (n' - n)) μ ν → Q (some (vP zN)) ν) :
    ∀ (rs : List Nat) (x : Nat) (I : List Nat), (ks.filter fun x => x % n = k % n) = I ++ x :: rs → zLk μ 17 nd (x :: rs) → (∀ y ∈ I ++ [x], y ≠ k) →
    Wp G Y_J22_putVal 134 [(0, vP (15, 0, m)), (1, vI (nI k)), (2, vP (9, 0, r)), (3, vP p), (4, vI 0), (5, vI z5), (6, vP (205, n, t)), (7, vP (17, 0, nd x)), (12, vI (nI I.length))] [] μ Q E := by
  have hle := zpw_le n h.2.2.2.2.1
  have hmem : ∀ y ∈ ks.filter (fun x => decide (x % n = k % n)), y ∈ ks := fun y hy => (List.mem_filter.mp hy).1
  have hkf : k ∈ ks → k ∈ ks.filter (fun x => decide (x % n = k % n)) := fun q => List.mem_filter.mpr ⟨q, by simp⟩
  have hfew := nd_few h.2.2.2.2.1 h.2.2.2.2.2.2.1 (fun x hx => (h.2.2.2.2.2.2.2.1 x hx).1) h.2.2.2.2.2.1 (Nat.mod_lt k (show n > 0 by omega))
  intro rs
  induction rs with
  | nil =>
    intro x I hL hk1 hne
    rw [hL] at hfew hkf hmem
    have hkn : k ∉ ks := fun q => hne k (hkf q) rfl
    refine B_J22_putVal_15_134 ⟨_, hk1.1, Or.inl ⟨rfl, C_hmNew_15 hok hm (fun x hx => (h.2.2.2.2.2.2.2.1 x hx).2.1) hl hkn (nd_apart (fun y hy => ⟨(h.2.2.2.2.2.2.2.1 y hy).1, (h.2.2.2.2.2.2.2.1 y hy).2.2.1⟩)) h.2.2.2.2.2.2.1 fun ν hw => ⟨_, rfl, _, rfl, fun _ => B_J22_putVal_15_222 (Or.inl ⟨rfl, L_pvNew_15 hok h hw hk hkn hm hr hr2 (Or.inr ⟨I, x, hL, rfl⟩) (K2 hkn)⟩), fun e => absurd ?_ e⟩⟩⟩
    rw [List.length_append] at hfew
    exact nI_lt (b := 7) (by simp at hfew; omega) (by omega)
  | cons y rs ih =>
    intro x I hL hk1 hne
    have hy := h.2.2.2.2.2.2.2.1 y (hmem y (by rw [hL]; exact List.mem_append_right _ (List.mem_cons_of_mem _ List.mem_cons_self)))
    have hys := hmem y (by rw [hL]; exact List.mem_append_right _ (List.mem_cons_of_mem _ List.mem_cons_self))
    refine B_J22_putVal_15_134 ⟨_, hk1.1, Or.inr ⟨_, rfl, _, hy.2.2.1, fun e => ?_, fun e => ?_⟩⟩
    · have := ih y (I ++ [x]) (by rw [hL, List.append_assoc]; rfl) hk1.2 (fun w hw => by
        rcases List.mem_append.mp hw with hw | hw
        · exact hne w hw
        · rw [List.mem_singleton.mp hw]; rintro rfl; exact e rfl)
      rw [List.length_append] at this
      rw [nI_1]; exact this
    · have ey := (nI_eq (by have := hy.1; omega) (by omega)).mp e
      subst ey
      have k1 := L_pv222_15 (G := G) (z5 := z5) (E := E) trivial hl hy.2.2.2.2.2.2 (K1 hys)
      exact ⟨_, hy.2.2.2.1, fun _ => k1, fun _ => C_pEq hr hr2 hy.2.2.2.2.1 hy.2.2.2.2.2.1 ⟨_, rfl, fun q => absurd q (by decide), fun _ => k1⟩⟩
theorem L_pv29_15 (hok : zok μ) (hm : m < zsz μ) (h : zHm μ 17 m t n ks nd kp vl) (hl : zLn μ 17 m ks nd) (hk : k < 96) (hr : zfi μ 92 r = nI (k / 12)) (hr2 : zfi μ 93 r = nI (k % 12)) 
    (K1 : k ∈ ks → Q (some (vP (vl k))) (zFr μ 119 (nd k) p))
    (K2 : k ∉ ks → ∀ ν t' n', zHm ν 17 m t' n' (ks ++ [k]) (upd1 nd k (zsz μ)) (upd1 kp k r) (upd1 vl k p) → zLn ν 17 m (ks ++ [k]) (upd1 nd k (zsz μ)) → (t' = t ∨ zsz μ ≤ t') → (zfr ν 105 m = zfr μ 105 m ∧ zfr ν 108 m = zfr μ 108 m) → n ≤ n' → zG (fun a => a = m ∨ a = t ∨ ∃ x ∈ ks, a = nd x) 2 (6 + 2 * (n' - n)) μ ν → Q (some (vP zN)) ν) :
    Wp G Y_J22_putVal 29 [(0, vP (15, 0, m)), (1, vI (nI k)), (2, vP (9, 0, r)), (3, vP p), (4, vI 0), (5, vI z5), (6, vP (205, n, t)), (8, vI (nI n))] [] μ Q E := by
  have hn := h.2.2.2.2.1
  have hle := zpw_le n hn
  have hix : zix ((nI n - 1) &&& nI k) (k % n) n := zix.eq (zpw_and n hn ⟨k, hk⟩) (Nat.mod_lt _ (by omega)) (by have := Nat.mod_lt k (show n > 0 by omega); omega)
  obtain ⟨c1, c2⟩ := h.2.2.2.2.2.2.2.2 (k % n) (Nat.mod_lt _ (by omega))
  have hmem : ∀ y ∈ ks.filter (fun x => decide (x % n = k % n)), y ∈ ks := fun y hy => (List.mem_filter.mp hy).1
  have hkf : k ∈ ks → k ∈ ks.filter (fun x => decide (x % n = k % n)) := fun q => List.mem_filter.mpr ⟨q, by simp⟩
  refine B_J22_putVal_15_29 ⟨_, hix, _, c1, ?_⟩
  cases hL : ks.filter (fun x => decide (x % n = k % n)) with
  | nil =>
    have hkn : k ∉ ks := fun q => by have := hkf q; rw [hL] at this; cases this
    exact Or.inl ⟨rfl, C_hmNew_15 hok hm (fun x hx => (h.2.2.2.2.2.2.2.1 x hx).2.1) hl hkn (nd_apart (fun y hy => ⟨(h.2.2.2.2.2.2.2.1 y hy).1, (h.2.2.2.2.2.2.2.1 y hy).2.2.1⟩)) h.2.2.2.2.2.2.1 fun ν hw => ⟨_, rfl, _, rfl, _, hix, L_pvNew_15 hok h hw hk hkn hm hr hr2 (Or.inl ⟨hL, rfl⟩) (K2 hkn)⟩⟩
  | cons x rs =>
    have hxs := hmem x (by rw [hL]; exact List.mem_cons_self)
    have hx := h.2.2.2.2.2.2.2.1 x hxs
    rw [hL] at c2
    refine Or.inr ⟨_, rfl, _, hx.2.2.1, fun e => ?_, fun e => ?_⟩
    · exact B_J22_putVal_15_104 (L_pv134_15 hok hm h hl hk hr hr2  K1 K2 rs x [] hL c2 (fun y hy => by rw [List.mem_singleton.mp hy]; rintro rfl; exact e rfl))
    · have ex := (nI_eq (by have := hx.1; omega) (by omega)).mp e
      subst ex
      have k1 := L_pv222_15 (G := G) (z5 := z5) (E := E) trivial hl hx.2.2.2.2.2.2 (K1 hxs)
      exact ⟨_, hx.2.2.2.1, fun _ => k1, fun _ => C_pEq hr hr2 hx.2.2.2.2.1 hx.2.2.2.2.2.1 ⟨_, rfl, fun q => absurd q (by decide), fun _ => k1⟩⟩
theorem C_hmPutVal_15 (hm : m < zsz μ) (h : zMp μ 17 m ks nd kp vl) (hk : k < 96) (hr : zfi μ 92 r = nI (k / 12)) (hr2 : zfi μ 93 r = nI (k % 12)) 
    (K1 : k ∈ ks → Q (some (vP (vl k))) (zFr μ 119 (nd k) p))
    (K2 : k ∉ ks → ∀ ν b, zsz μ ≤ b → zMp ν 17 m (ks ++ [k]) (upd1 nd k b) (upd1 kp k r) (upd1 vl k p) → (∀ n a, zfr ν 107 m = (205, n, a) → (∃ n', zfr μ 107 m = (205, n', a)) ∨ zsz μ ≤ a) → (zfr ν 105 m = zfr μ 105 m ∧ zfr ν 108 m = zfr μ 108 m) → tl μ m ≤ tl ν m → zG (zMw μ m ks nd) 3 (6 + 2 * (tl ν m - tl μ m)) μ ν → Q (some (vP zN)) ν) : Call G Y_J22_putVal [vP (15, 0, m), vI (nI k), vP (9, 0, r), vP p, vI 0, vI z5] μ Q E := by
  refine Call.zo fun hok _ => ?_
  rcases h with ⟨⟨rfl, n0, h⟩ | ⟨t, n, h⟩, hl⟩
  · refine S_J22_putVal_15 ⟨_, h.1, Or.inl ⟨rfl, C_hmResize0_15 (nd := nd) (kp := kp) (vl := vl) hok hm h fun ν k1 k2 k3 k4 k5 k6 => ⟨_, rfl, _, _, rfl, ?_⟩⟩⟩
    have hl' : zLn ν 17 m [] nd := hl.kp (k5 _ _ (by decide)) (k5 _ _ (by decide)) (k6 _ _ (by decide)) (k6 _ _ (by decide)) (fun _ _ => k6 _ _ (by decide))
    refine Wp.zo fun hokν => L_pv29_15 hokν (Nat.lt_of_lt_of_le hm k4.1.1) k1 hl' hk ((k5 _ _ (by decide)).trans hr) ((k5 _ _ (by decide)).trans hr2)  (fun q => by cases q) fun q ρ t' n' j1 j2 j4 j6 j5 j3 => K2 q ρ (zsz ν) (by omega) ⟨Or.inr ⟨t', n', j1⟩, j2⟩ (fun n a e => Or.inr (by rw [j1.1] at e; cases e; omega)) ⟨j6.1.trans (k6 _ _ (by decide)), j6.2.trans (k6 _ _ (by decide))⟩ (by unfold tl; rw [h.1]; exact Nat.zero_le _) ?_
    have := k4.trans (V := fun a => a = m ∨ a = zsz μ) (j3.mono (fun a _ q => ?_) (Nat.le_refl _) (Nat.le_refl _)) (fun a ha q => q.elim id (fun e => absurd e (Nat.ne_of_lt ha)))
    · have e1 : tl μ m = 0 := by unfold tl; rw [h.1]
      have e2 : tl ρ m = n' := by unfold tl; rw [j1.1]
      exact this.mono (fun a _ q => Or.inl q) (by omega) (by omega)
    · rcases q with q | q | ⟨x, hx, -⟩
      · exact Or.inl q
      · exact Or.inr q
      · cases hx
  · have hle := zpw_le n h.2.2.2.2.1
    refine S_J22_putVal_15 ⟨_, h.1, Or.inr ⟨_, _, rfl, fun _ => ?_, fun e => absurd e (nI_ne0 (by omega) (by omega))⟩⟩
    refine L_pv29_15 hok hm h hl hk hr hr2  K1 fun q ρ t' n' j1 j2 j4 j6 j5 j3 => K2 q ρ (zsz μ) (Nat.le_refl _) ⟨Or.inr ⟨t', n', j1⟩, j2⟩ (fun n1 a e => j4.imp (fun q => ⟨n, by rw [j1.1] at e; cases e; rw [q]; exact h.1⟩) (fun q => by rw [j1.1] at e; cases e; exact q)) j6 (by unfold tl; rw [h.1, j1.1]; exact j5) (j3.mono (fun a _ q => ?_) (by omega) (by unfold tl; rw [h.1, j1.1]; exact Nat.le_refl _))
    rcases q with q | q | q
    · exact Or.inl q
    · exact Or.inr (Or.inl ⟨n, by rw [q]; exact h.1⟩)
    · exact Or.inr (Or.inr q)
theorem C_hmPut_15 (hm : m < zsz μ) (h : zMp μ 17 m ks nd kp vl) (hk : k < 96) (hr : zfi μ 92 r = nI (k / 12)) (hr2 : zfi μ 93 r = nI (k % 12)) 
    (K1 : k ∈ ks → Q (some (vP (vl k))) (zFr μ 119 (nd k) p))
    (K2 : k ∉ ks → ∀ ν b, zsz μ ≤ b → zMp ν 17 m (ks ++ [k]) (upd1 nd k b) (upd1 kp k r) (upd1 vl k p) → (∀ n a, zfr ν 107 m = (205, n, a) → (∃ n', zfr μ 107 m = (205, n', a)) ∨ zsz μ ≤ a) → (zfr ν 105 m = zfr μ 105 m ∧ zfr ν 108 m = zfr μ 108 m) → tl μ m ≤ tl ν m → zG (zMw μ m ks nd) 3 (6 + 2 * (tl ν m - tl μ m)) μ ν → Q (some (vP zN)) ν) : Call G Y_J22_put [vP (15, 0, m), vP (9, 0, r), vP p] μ Q E :=
  S_J22_put_15 (C_pHash hk hr hr2 ⟨_, rfl, C_hmPutVal_15 hm h hk hr hr2  (fun q => ⟨_, rfl, K1 q⟩) (fun q ν b hb h1 h2 h3 h4 h5 => ⟨_, rfl, K2 q ν b hb h1 h2 h3 h4 h5⟩)⟩)
end PV
end ZJ
