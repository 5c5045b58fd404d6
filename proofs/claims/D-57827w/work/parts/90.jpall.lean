set_option maxRecDepth 100000
/-! THE COMPONENT, 11: HashMap.putAll -/
section ZJ
variable {G : ZG} {μ : ZM} {Q : Option ZV → ZM → Prop} {E : ZP → ZM → Prop} {m t n : Nat} {ks : List Nat} {nd kp : Nat → Nat} {vl : Nat → ZP}
theorem C_esNew (hm : m < zsz μ) (hc : zEc μ m)
    (k : ∀ ν b, zfr ν 123 b = (14, 0, m) → zEc ν m → (∀ f a, a < zsz μ → f ≠ 108 ∨ a ≠ m → zfr ν f a = zfr μ f a) → zG (fun a => a = m) 1 1 μ ν → (∀ f a, zfi ν f a = zfi μ f a) → (∀ a i, zar ν a i = zar μ a i) → (∀ a i, zai ν a i = zai μ a i) → Q (some (vP (18, 0, b))) ν) : Call G Y_J22_entrySet [vP (14, 0, m)] μ Q E := by
  rcases hc with hc | ⟨b, c1, c2⟩
  · have q' : ((zsz μ = m) ∨ zsz μ ≤ zsz μ) := Or.inr (Nat.le_refl _)
    refine S_J22_entrySet_14 ⟨_, hc, Or.inl ⟨rfl, S_J49_init (S_J18_init_18 (S_J0_init_18 ⟨rfl, rfl, rfl, k _ (zsz μ) ?_ (Or.inr ⟨zsz μ, ?_, ?_⟩) (fun f a ha hf => ?_) ((zG.trN (W := fun a => a = m) (zG.nw (t := 18) (n := 0) (k := 1)) (zG.fr q')).tr (zG.fr rfl)) (fun _ _ => rfl) (fun _ _ => rfl) (fun _ _ => rfl)⟩))⟩⟩
    · rw [zfr_zFr, if_neg (fun e => by cases e.1), zfr_zFr, if_pos ⟨rfl, rfl⟩]
    · rw [zfr_zFr, if_pos ⟨rfl, rfl⟩]
    · rw [zfr_zFr, if_neg (fun e => by cases e.1), zfr_zFr, if_pos ⟨rfl, rfl⟩]
    · rw [zfr_zFr, if_neg (fun e => hf.elim (fun q => q e.1) (fun q => q e.2)), zfr_ne (Nat.ne_of_lt ha)]; rfl
  · exact S_J22_entrySet_14 ⟨_, c1, Or.inr ⟨b, rfl, k μ b c2 (Or.inr ⟨b, c1, c2⟩) (fun _ _ _ _ => rfl) ((zG.rf _ _).mono (fun _ _ h => h) (by omega) (by omega)) (fun _ _ => rfl) (fun _ _ => rfl) (fun _ _ => rfl)⟩⟩
theorem C_eiNew {b : Nat} (h : zHm μ 16 m t n ks nd kp vl) (hks : ks ≠ []) (hb : zfr μ 123 b = (14, 0, m)) (hm : m < zsz μ)
    (k : ∀ ν, zEi ν (zsz μ) m n ks nd (bk ks n n 0) → (ztg ν (zsz μ)).1 = 19 → zsz ν = zsz μ + 1 → zG (fun _ => False) 1 5 μ ν → Q (some (vP (19, 0, zsz μ))) ν) : Call G Y_J49_iterator [vP (18, 0, b)] μ Q E := by
  have hle := zpw_le n h.2.2.2.2.1
  have hz := Nat.le_refl (zsz μ)
  have q : (False ∨ zsz μ ≤ zsz μ) := Or.inr hz
  have hmz := Nat.ne_of_lt hm
  have hl96 := nd_96 h.2.2.2.2.2.2.1 (fun x hx => (h.2.2.2.2.2.2.2.1 x hx).1)
  have hlen : 0 < ks.length := List.length_pos_iff.mpr hks
  refine S_J49_iterator ⟨_, hb, S_J41_init (S_J40_init_19 ⟨_, rfl, _, h.1, Or.inr ⟨_, _, rfl, _, h.2.1, fun e => absurd (nI_lt (a := 0) hlen (by omega)) e, fun _ => L_adv48 (nd := nd) (ks := ks) hle.2 n 0 _ (by omega) ?_ ?_ (fun i hi => ?_) fun ν g k1 k2 k3 k4 => ⟨rfl, rfl, k ν ⟨k1.trans ?_, ?_, k4⟩ ?_ ?_ ?_⟩⟩⟩)⟩
  · rw [zfi_zFi, if_pos ⟨rfl, rfl⟩]; rfl
  · rw [zfr_zFi, zfr_zFr, if_neg (fun e => by cases e.1), zfr_zFr, if_pos ⟨rfl, rfl⟩]
  · have hz := h.2.2.2.2.2.2.2.2 i hi
    refine ⟨hz.1, hz.2.kp fun y _ => ?_⟩
    rw [zfr_zFi, zfr_zFr, if_neg (fun e => by cases e.1), zfr_zFr, if_neg (fun e => by cases e.1), zfr_zFi, zfr_zFr, if_neg (fun e => by cases e.1)]; rfl
  · rw [zfr_zFi, zfr_zFr, if_neg (fun e => by cases e.1), zfr_zFr, if_neg (fun e => by cases e.1), zfr_zFi, zfr_zFr, if_pos ⟨rfl, rfl⟩]
  · rw [k2, k3]; simp [zfi_zFi, zfi_zFr, zfi_zNew]
  · have e1 := g.1.2.2 (zsz μ) (show zsz μ < zsz μ + 1 from Nat.lt_succ_self _)
    rw [e1]
    show (ztg (zNew μ 19 0 5) (zsz μ)).1 = 19
    rw [ztg_zNew, if_pos rfl]
  · exact Nat.le_antisymm g.2.1 g.1.1
  · have g0 := zG.trN (W := fun _ => False) (zG.nw (μ := μ) (t := 19) (n := 0) (k := 5)) (((((zG.fr (f := 128) (v := (14, 0, m)) q).tr (zG.fi (f := 126) (v := zfi μ 110 m) q)).tr (zG.fr (f := 124) (v := zN) q)).tr (zG.fr (f := 125) (v := zN) q)).tr (zG.fi (f := 127) (v := 0) q))
    exact (g0.trans (V := fun a => a = zsz μ) g (fun a ha e => absurd e (Nat.ne_of_lt ha))).mono (fun _ _ h => h) (Nat.le_refl _) (Nat.le_refl _)
theorem L_putAll {m1 it B : Nat} {z2 : Int32} (hm1 : m1 < B) (hitB : it < B) (hitm : it ≠ m1) (hvs : ∀ x ∈ ks, zis 24 (vl x)) :
    ∀ (L P : List Nat) (μ : ZM) (nd1 kp1 : Nat → Nat) (vl1 : Nat → ZP), P ++ L = bk ks n n 0 → ks.Nodup → B ≤ zsz μ → (∀ a, zSr μ m ks nd kp a → a < B ∧ a ≠ m1 ∧ a ≠ it) → (ztg μ it).1 = 19 → zHm μ 16 m t n ks nd kp vl → zEi μ it m n ks nd L → zMp μ 16 m1 P nd1 kp1 vl1 → zBl μ m1 B P nd1 → (∀ x ∈ P, vl1 x = vl x) →
    (∀ ν nd1 kp1 vl1, zMp ν 16 m1 (P ++ L) nd1 kp1 vl1 → zBl ν m1 B (P ++ L) nd1 → (∀ x ∈ P ++ L, vl1 x = vl x) → tl μ m1 ≤ tl ν m1 → zfr ν 108 m1 = zfr μ 108 m1 → zG (fun a => a = it ∨ a = m1 ∨ B ≤ a) (3 * L.length) (6 * L.length + 2 * (tl ν m1 - tl μ m1)) μ ν → Q none ν) →
    Wp G Y_J22_putMapEntries 110 [(0, vP (14, 0, m1)), (2, vI z2), (4, vP (19, 0, it))] [] μ Q E := by
  intro L
  induction L with
  | nil =>
    intro P μ nd1 kp1 vl1 hP hN hB hsep htag h hi h1 hb hv K
    rw [List.append_nil] at K
    exact nB_J22_putMapEntries_14_110 (C_eiHas hi (fun q => absurd rfl q) fun _ => ⟨_, rfl, fun _ => K μ nd1 kp1 vl1 h1 hb hv (Nat.le_refl _) rfl ((zG.rf _ _).mono (fun _ _ q => q) (Nat.zero_le _) (Nat.zero_le _)), fun e => absurd rfl e⟩)
  | cons x L ih =>
    intro P μ nd1 kp1 vl1 hP hN hB hsep htag h hi h1 hb hv K
    have hAN := bk_nd (n := n) hN n 0
    rw [← hP, List.nodup_append] at hAN
    have hxm : x ∈ ks := ((bk_mem n 0).mp (show x ∈ bk ks n n 0 by rw [← hP]; exact List.mem_append_right _ List.mem_cons_self)).1
    have hnew : x ∉ P := fun q => hAN.2.2 x q x List.mem_cons_self rfl
    have hPk : ∀ y ∈ P, y ∈ ks := fun y hy => ((bk_mem n 0).mp (show y ∈ bk ks n n 0 by rw [← hP]; exact List.mem_append_left _ hy)).1
    have hmp : zMp μ 16 m ks nd kp vl := ⟨Or.inr ⟨t, n, h⟩, zLn.no⟩
    have hnx := h.2.2.2.2.2.2.2.1 x hxm
    refine Wp.zo fun hok => ?_
    obtain ⟨o1, o2, o3⟩ := h1.kn hok (Nat.lt_of_lt_of_le hm1 hB) (Or.inl rfl)
    have ho : ∀ a, zSr μ m1 P nd1 kp1 a → a < zsz μ ∧ ¬ a = it := fun a ha => ⟨o1 a ha, by
      rcases ha with q | ⟨n, q⟩ | ⟨y, hy, q | q⟩
      · rw [q]; exact fun e => hitm e.symm
      · rintro rfl; have := o2 n a q; omega
      · rintro rfl; have := (o3 y hy).1; rw [← q] at this; omega
      · rintro rfl; have := (o3 y hy).2; rw [← q] at this; omega⟩
    have hsrc : ∀ a, zSr μ m ks nd kp a → a < zsz μ ∧ ¬ a = it := fun a ha => ⟨Nat.lt_of_lt_of_le (hsep a ha).1 hB, (hsep a ha).2.2⟩
    refine nB_J22_putMapEntries_14_110 (C_eiHas hi (fun _ => ⟨_, rfl, fun e => absurd e (by decide), fun _ => C_eiNext h hi fun ν li g g110 => ⟨_, rfl, _, rfl, ?_⟩⟩) (fun q => absurd q (List.cons_ne_nil _ _)))
    have hBν : B ≤ zsz ν := Nat.le_trans hB g.1.1
    obtain ⟨h', ht'⟩ := hmp.far hsrc g
    obtain ⟨h1', -⟩ := h1.far ho g
    have hsm := g.same (hsrc m (Or.inl rfl)).1 (hsrc m (Or.inl rfl)).2
    have hν : zHm ν 16 m t n ks nd kp vl := by
      refine h.kp g.1.1 hsm (g.same (hsrc t (Or.inr (Or.inl ⟨n, h.1⟩))).1 (hsrc t (Or.inr (Or.inl ⟨n, h.1⟩))).2) fun y hy => ⟨?_, ?_⟩
      · exact g.same (hsrc _ (Or.inr (Or.inr ⟨y, hy, Or.inl rfl⟩))).1 (hsrc _ (Or.inr (Or.inr ⟨y, hy, Or.inl rfl⟩))).2
      · exact g.same (hsrc _ (Or.inr (Or.inr ⟨y, hy, Or.inr rfl⟩))).1 (hsrc _ (Or.inr (Or.inr ⟨y, hy, Or.inr rfl⟩))).2
    have hsm1 := g.same (Nat.lt_of_lt_of_le hm1 hB) (fun e => hitm e.symm)
    have itν : (ztg ν it).1 = 19 := by rw [g.1.2.2 it (Nat.lt_of_lt_of_le hitB hB)]; exact htag
    have hn' := h'.nd.2 x hxm
    refine S_J36_getKey ⟨_, hn'.2.2.2.1, _, rfl, _, rfl, S_J36_getValue ⟨_, hn'.2.2.2.2.2.2, hvs x hxm, _, rfl, hvs x hxm, C_pHash hnx.1 hn'.2.2.2.2.1 hn'.2.2.2.2.2.1 ⟨_, rfl, C_hmPutVal_14 (hvs x hxm) (Nat.lt_of_lt_of_le hm1 hBν) h1' hnx.1 hn'.2.2.2.2.1 hn'.2.2.2.2.2.1 (fun y hy => by rw [hv y hy]; exact hvs y (hPk y hy)) (fun q => absurd q hnew) fun _ ρ b hbb j1 j2 jc j3 j4 => ⟨_, rfl, ?_⟩⟩⟩⟩
    have own : ∀ a, zMw ν m1 P nd1 a → a = m1 ∨ B ≤ a := fun a ha => by
      rcases ha with q | ⟨n, q⟩ | ⟨y, hy, q⟩
      · exact Or.inl q
      · rw [hsm1.2.1] at q
        exact Or.inr (hb.1 n a q)
      · rw [q]; exact Or.inr (hb.2 y hy)
    have hsepν : ∀ a, zSr ν m ks nd kp a → a < B ∧ a ≠ m1 ∧ a ≠ it := fun a ha => by
      rcases ha with q | ⟨n, q⟩ | q
      · exact hsep a (Or.inl q)
      · exact hsep a (Or.inr (Or.inl ⟨n, ht'.1 n a q⟩))
      · exact hsep a (Or.inr (Or.inr q))
    have nown : ∀ a, a < B → a ≠ m1 → ¬ zMw ν m1 P nd1 a := fun a h1 h2 q => (own a q).elim h2 (fun q => absurd h1 (Nat.not_lt.mpr q))
    have nsr : ∀ a, zSr ν m ks nd kp a → zsame ν ρ a := fun a ha => j4.same (Nat.lt_of_lt_of_le (hsepν a ha).1 hBν) (nown a (hsepν a ha).1 (hsepν a ha).2.1)
    have sit := j4.same (Nat.lt_of_lt_of_le hitB hBν) (nown it hitB hitm)
    have sm := nsr m (Or.inl rfl)
    have htl : tl ν m1 = tl μ m1 := by unfold tl; rw [hsm1.2.1]
    have hρ : zHm ρ 16 m t n ks nd kp vl := hν.kp j4.1.1 sm (nsr t (Or.inr (Or.inl ⟨n, hν.1⟩))) fun y hy => ⟨nsr _ (Or.inr (Or.inr ⟨y, hy, Or.inl rfl⟩)), nsr _ (Or.inr (Or.inr ⟨y, hy, Or.inr rfl⟩))⟩
    have eA : (P ++ [x]) ++ L = P ++ x :: L := by rw [List.append_assoc]; rfl
    refine ih (P ++ [x]) ρ (upd1 nd1 x b) (upd1 kp1 x (kp x)) (upd1 vl1 x (vl x)) (eA.trans hP) hN (Nat.le_trans hBν j4.1.1) (fun a ha => ?_) (by rw [j4.1.2.2 it (Nat.lt_of_lt_of_le hitB hBν)]; exact itν) hρ ⟨(sit.2.1 _).trans li.1, by rw [sit.1, sm.1]; exact li.2.1, ?_⟩ j1 ⟨fun n a e => ?_, fun y hy => ?_⟩ (fun y hy => ?_) fun σ nd2 kp2 vl2 q2 q3 q4 q5 qc q6 => K σ nd2 kp2 vl2 (eA ▸ q2) (eA ▸ q3) (eA ▸ q4) (by omega) (qc.trans (jc.2.trans (hsm1.2.1 _))) ?_
    · refine hsepν a ?_
      rcases ha with q | ⟨n, q⟩ | q
      · exact Or.inl q
      · exact Or.inr (Or.inl ⟨n, by rw [← sm.2.1]; exact q⟩)
      · exact Or.inr (Or.inr q)
    · rcases li.2.2 with ⟨e, c1⟩ | ⟨y, rs, d, j, e, c1, c2, c3, c4⟩
      · exact Or.inl ⟨e, (sit.2.1 _).trans c1⟩
      · refine Or.inr ⟨y, rs, d, j, e, (sit.2.1 _).trans c1, c2.kp fun w hw => ?_, (sit.1 _).trans c3, c4⟩
        have hwk : w ∈ ks := ((bk_mem n 0).mp (show w ∈ bk ks n n 0 by
          rw [← hP, e]
          refine List.mem_append_right _ (List.mem_cons_of_mem _ ?_)
          rw [← List.cons_append]
          exact List.mem_append_left _ hw)).1
        exact (nsr _ (Or.inr (Or.inr ⟨w, hwk, Or.inl rfl⟩))).2.1 _
    · rcases j2 n a e with ⟨n', q⟩ | q
      · rw [hsm1.2.1] at q; exact hb.1 n' a q
      · exact Nat.le_trans hBν q
    · rcases List.mem_append.mp hy with hy1 | hy1
      · rw [upd1_n (by rintro rfl; exact hnew hy1)]; exact hb.2 y hy1
      · rw [List.mem_singleton.mp hy1, upd1_s]; exact Nat.le_trans hBν hbb
    · rcases List.mem_append.mp hy with hy1 | hy1
      · rw [upd1_n (by rintro rfl; exact hnew hy1)]; exact hv y hy1
      · rw [List.mem_singleton.mp hy1, upd1_s]
    · have g1 := g.mono (V := fun a => a = it ∨ a = m1 ∨ B ≤ a) (fun a _ q => Or.inl q) (Nat.le_refl _) (Nat.le_refl _)
      have g2 := j4.mono (V := fun a => a = it ∨ a = m1 ∨ B ≤ a) (fun a _ q => Or.inr (own a q)) (Nat.le_refl _) (Nat.le_refl _)
      have hl : (x :: L).length = L.length + 1 := rfl
      exact ((g1.tr g2).tr q6).mono (fun _ _ q => q) (by omega) (by omega)
/-- served.putAll(old): into a new map -/
theorem C_putAll {m1 : Nat} (hm : m < zsz μ) (h : zMp μ 16 m ks nd kp vl) (hc : zEc μ m) (hvs : ∀ x ∈ ks, zis 24 (vl x)) (hm1 : m1 < zsz μ) (m1t : (ztg μ m1).1 = 14) (h1 : ∀ nd kp vl, zMp μ 16 m1 [] nd kp vl) (ht1 : zfr μ 107 m1 = zN) (h0 : zfi μ 111 m1 = 0) (hlf : zfi μ 112 m1 = (1061158912 : UInt32).toInt32) (hm01 : m ≠ m1)
    (K : ∀ ν ks1 nd1 kp1 vl1, (∀ x, x ∈ ks1 ↔ x ∈ ks) → zMp ν 16 m1 ks1 nd1 kp1 vl1 → zBl ν m1 (zsz μ) ks1 nd1 → (∀ x ∈ ks1, vl1 x = vl x) → zEc ν m → zsmC μ ν m → zfr ν 108 m1 = zfr μ 108 m1 → zG (fun a => a = m ∨ a = m1) 290 (582 + 2 * tl ν m1) μ ν → Q none ν) : Call G Y_J22_putAll [vP (14, 0, m1), vP (14, 0, m)] μ Q E := by
  refine Call.zo fun hok _ => ?_
  have hlen := h.len
  obtain ⟨o1, o2, o3⟩ := h.kn hok hm (Or.inl rfl)
  refine S_J22_putAll_14 (nS_J22_putMapEntries_14 (S_J22_size_14 ⟨_, h.sz, _, rfl, fun e => ?_, fun e => ⟨_, ht1, Or.inl ⟨rfl, _, hlf, ?_⟩⟩⟩))
  · have hks : ks = [] := by
      rcases Nat.eq_zero_or_pos ks.length with q | q
      · exact List.length_eq_zero_iff.mp q
      · exact absurd (nI_lt (a := 0) q (by omega)) e
    subst hks
    exact ⟨rfl, K μ [] nd kp vl (fun _ => Iff.rfl) (h1 _ _ _) ⟨fun n t e => (by rw [ht1] at e; cases e), fun x hx => (by cases hx)⟩ (fun x hx => by cases hx) hc (zsame.rf μ m).c rfl ((zG.rf _ _).mono (fun _ _ h => h) (Nat.zero_le _) (Nat.zero_le _))⟩
  · have h0l : 0 < ks.length := (nI_ltI (a := 0) (by omega) (by omega)).mp e
    have hks : ks ≠ [] := List.length_pos_iff.mp h0l
    obtain ⟨f1, f2, f2', f3, f4⟩ := cl_fp ⟨ks.length, by omega⟩ h0l
    dsimp only at f2 f2' f3 f4
    refine ⟨f1, f2, f2', fun e => absurd f3 e, fun _ => ?_⟩
    rw [f4]
    obtain ⟨⟨e, -⟩ | ⟨t, n, hh⟩, -⟩ := h
    · exact absurd e hks
    have hle := zpw_le n hh.2.2.2.2.1
    refine nB_J22_putMapEntries_14_48 ⟨_, h0, fun e => absurd (nI_lt (a := 0) (by omega) (by omega)) e, fun _ => C_tsf (by omega) (by omega) fun hz1 hz2 => ⟨_, rfl, ?_⟩⟩
    have hz0 : zHz (zFi μ 111 m1 (nI (tsf ((4 * ks.length + 2) / 3)))) m1 (tsf ((4 * ks.length + 2) / 3)) := by
      have h9 : zfi μ 109 m1 = 0 := by have := (h1 nd kp vl).sz; exact this
      refine ⟨ht1, ?_, ?_, Or.inr ⟨?_, hz1⟩⟩
      · rw [zfi_zFi, if_neg (fun e => by cases e.1)]; exact h9
      · rw [zfi_zFi, if_neg (fun e => by cases e.1)]; exact hlf
      · rw [zfi_zFi, if_pos ⟨rfl, rfl⟩]
    have gA : zG (fun a => a = m ∨ a = m1) 0 0 μ (zFi μ 111 m1 (nI (tsf ((4 * ks.length + 2) / 3)))) := zG.fi (Or.inr rfl)
    refine C_esNew (m := m) hm (hc.kp rfl (fun _ _ => rfl)) fun ν b e1 e2 e3 e4 e5 e6 e7 => ⟨_, rfl, _, rfl, ?_⟩
    have hmν : m < zsz ν := Nat.lt_of_lt_of_le hm e4.1.1
    have hν0 : zHm ν 16 m t n ks nd kp vl := by
      obtain ⟨c1, c2, c3, c4, c5, c6, c7, c8, c9⟩ := hh
      have i0 : ∀ f a, a ≠ m1 → zfi ν f a = zfi μ f a := fun f a ha => (e5 f a).trans (by rw [zfi_zFi, if_neg (fun q => ha q.2)])
      have r0 : ∀ f a, a < zsz μ → f ≠ 108 → zfr ν f a = zfr μ f a := fun f a ha hf => e3 f a ha (Or.inl hf)
      have hpk : ∀ x ∈ ks, (nd x ≠ m1 ∧ kp x ≠ m1) ∧ nd x < zsz μ := fun x hx => by
        refine ⟨⟨?_, ?_⟩, (c8 x hx).2.1⟩
        · intro q; have := (o3 x hx).1; rw [q, m1t] at this; omega
        · intro q; have := (o3 x hx).2; rw [q, m1t] at this; omega
      refine ⟨(r0 _ _ hm (by decide)).trans c1, (i0 _ _ hm01).trans c2, (i0 _ _ hm01).trans c3, (i0 _ _ hm01).trans c4, c5, c6, c7, fun x hx => ?_, fun i hi => ⟨(e6 _ _).trans (c9 i hi).1, (c9 i hi).2.kp fun x hx => r0 _ _ (hpk x (List.mem_filter.mp hx).1).2 (by decide)⟩⟩
      obtain ⟨d1, d2, d3, d4, d5, d6, d7⟩ := c8 x hx
      have hp := hpk x hx
      exact ⟨d1, Nat.lt_of_lt_of_le d2 e4.1.1, (i0 _ _ hp.1.1).trans d3, (r0 _ _ d2 (by decide)).trans d4, (i0 _ _ hp.1.2).trans d5, (i0 _ _ hp.1.2).trans d6, (r0 _ _ d2 (by decide)).trans d7⟩
    have hz0ν : zHz ν m1 (tsf ((4 * ks.length + 2) / 3)) := ⟨(e3 _ _ hm1 (Or.inl (by decide))).trans hz0.1, (e5 _ _).trans hz0.2.1, (e5 _ _).trans hz0.2.2.1, by rw [e5]; exact hz0.2.2.2⟩
    have m1tν : (ztg ν m1).1 = 14 := by rw [e4.1.2.2 m1 hm1]; exact m1t
    refine Call.zq (C_eiNew hν0 hks e1 hmν fun ρ i1 i2 i3 i4 hokρ hext => ⟨_, rfl, _, rfl, ?_⟩)
    have sν : ∀ a, a < zsz ν → zsame ν ρ a := fun a ha => i4.same ha id
    obtain ⟨h', ht'⟩ := (show zMp ν 16 m ks nd kp vl from ⟨Or.inr ⟨t, n, hν0⟩, zLn.no⟩).far (fun a ha => ⟨by
      have hμ : zSr μ m ks nd kp a := by
        rcases ha with q | ⟨n', q⟩ | q
        · exact Or.inl q
        · exact Or.inr (Or.inl ⟨n', (e3 107 m hm (Or.inl (by decide))).symm.trans q⟩)
        · exact Or.inr (Or.inr q)
      exact Nat.lt_of_lt_of_le (o1 a hμ) e4.1.1, id⟩) i4
    have hμs : ∀ a, zSr ρ m ks nd kp a → zSr μ m ks nd kp a := fun a ha => by
      rcases ha with q | ⟨n', q⟩ | q
      · exact Or.inl q
      · exact Or.inr (Or.inl ⟨n', (e3 107 m hm (Or.inl (by decide))).symm.trans (ht'.1 n' a q)⟩)
      · exact Or.inr (Or.inr q)
    have hνs : ∀ a, zSr μ m ks nd kp a → a < zsz ν := fun a ha => Nat.lt_of_lt_of_le (o1 a ha) e4.1.1
    have hρ0 : zHm ρ 16 m t n ks nd kp vl := hν0.kp i4.1.1 (sν m hmν) (sν t (hνs t (Or.inr (Or.inl ⟨n, hh.1⟩)))) fun y hy => ⟨sν _ (hνs _ (Or.inr (Or.inr ⟨y, hy, Or.inl rfl⟩))), sν _ (hνs _ (Or.inr (Or.inr ⟨y, hy, Or.inr rfl⟩)))⟩
    have sm1 := sν m1 (Nat.lt_of_lt_of_le hm1 e4.1.1)
    have ht1ρ : zfr ρ 107 m1 = zN := (sm1.2.1 _).trans hz0ν.1
    have h1ρ : ∀ nd kp vl, zMp ρ 16 m1 [] nd kp vl := fun nd kp vl => ⟨Or.inl ⟨rfl, _, ht1ρ, (sm1.1 _).trans hz0ν.2.1, (sm1.1 _).trans hz0ν.2.2.1, by rw [sm1.1]; exact hz0ν.2.2.2⟩, zLn.no⟩
    have htl0 : tl ρ m1 = 0 := by unfold tl; rw [ht1ρ]
    have hbl : (bk ks n n 0).length ≤ 96 := nd_96 (bk_nd hh.2.2.2.2.2.2.1 n 0) (fun x hx => (hh.2.2.2.2.2.2.2.1 x ((bk_mem n 0).mp hx).1).1)
    have hbm : ∀ x, x ∈ bk ks n n 0 ↔ x ∈ ks := fun x => by
      rw [bk_mem]
      exact ⟨fun q => q.1, fun q => ⟨q, Nat.zero_le _, by rw [Nat.zero_add]; exact Nat.mod_lt _ (by omega)⟩⟩
    have hBz : zsz ν < zsz ρ := by omega
    refine L_putAll (B := zsz ρ) (it := zsz ν) (Nat.lt_of_lt_of_le hm1 (Nat.le_trans e4.1.1 i4.1.1)) hBz (by have := e4.1.1; have e9 : zsz (zFi μ 111 m1 (nI (tsf ((4 * ks.length + 2) / 3)))) = zsz μ := rfl; omega) hvs (bk ks n n 0) [] ρ nd kp vl rfl hh.2.2.2.2.2.2.1 (Nat.le_refl _) (fun a ha => ?_) i2 hρ0 i1 (h1ρ _ _ _) ⟨fun n t e => (by rw [ht1ρ] at e; cases e), fun x hx => (by cases hx)⟩ (fun x hx => by cases hx) fun σ nd1 kp1 vl1 q1 q2 q3 q4 qc q5 => ⟨rfl, K σ (bk ks n n 0) nd1 kp1 vl1 hbm q1 ⟨fun n t e => ?_, fun x hx => ?_⟩ q3 ?_ ?_ (qc.trans ((sm1.2.1 _).trans (e3 _ _ hm1 (Or.inr (fun e => hm01 e.symm))))) ?_⟩
    · have hμ := hμs a ha
      have ha' := o1 a hμ
      have hz9 : zsz μ ≤ zsz ν := e4.1.1
      refine ⟨by omega, ?_, by omega⟩
      rintro rfl
      rcases hμ with q | ⟨n, q⟩ | ⟨x, hx, q | q⟩
      · exact hm01 q.symm
      · have := o2 n a q; rw [m1t] at this; omega
      · have := (o3 x hx).1; rw [← q, m1t] at this; omega
      · have := (o3 x hx).2; rw [← q, m1t] at this; omega
    · exact Nat.le_trans (Nat.le_trans e4.1.1 i4.1.1) (q2.1 n t e)
    · exact Nat.le_trans (Nat.le_trans e4.1.1 i4.1.1) (q2.2 x hx)
    · have smρ := q5.same (a := m) (Nat.lt_of_lt_of_le hmν i4.1.1) (by omega)
      have m1tρ : (ztg ρ m1).1 = 14 := by rw [i4.1.2.2 m1 (Nat.lt_of_lt_of_le hm1 e4.1.1)]; exact m1tν
      have hcρ : ∀ c, zfr ρ 108 m = (18, 0, c) → c < zsz ν ∧ c ≠ m1 := fun c e => by
        have hc := hokρ.ref e (by decide) (by decide)
        have h2 : c ≠ zsz ν := by rintro rfl; rw [hc.2] at i2; omega
        refine ⟨by omega, ?_⟩
        rintro rfl; rw [hc.2] at m1tρ; omega
      refine (e2.kp ((sν m hmν).2.1 _) fun c hc => ?_).kp (smρ.2.1 _) fun c hc => ?_
      · exact (sν c (hcρ c (((sν m hmν).2.1 _).trans hc)).1).2.1 _
      · have := hcρ c hc
        exact (q5.same (a := c) (by omega) (by omega)).2.1 _
    · have smρ := q5.same (a := m) (Nat.lt_of_lt_of_le hmν i4.1.1) (by omega)
      have s0 : zsmC μ ν m := ⟨fun f => (e5 f m).trans (by rw [zfi_zFi, if_neg (fun q => hm01 q.2)]), fun f _ hf => e3 f m hm (Or.inl hf), fun j => e7 m j, fun j => e6 m j⟩
      exact (s0.trans (sν m hmν).c).trans smρ.c
    · have g1 := e4.mono (V := fun a => a = m ∨ a = m1) (fun a _ q => Or.inl q) (Nat.le_refl _) (Nat.le_refl _)
      have g2 := i4.mono (V := fun a => a = m ∨ a = m1) (fun a _ q => absurd q id) (Nat.le_refl _) (Nat.le_refl _)
      refine (((gA.tr g1).tr g2).trans (V := fun a => a = zsz ν ∨ a = m1 ∨ zsz ρ ≤ a) q5 (fun a ha q => ?_)).mono (fun _ _ q => q) (by omega) (by omega)
      have hz9 : zsz μ ≤ zsz ν := e4.1.1
      rcases q with q | q | q
      · omega
      · exact Or.inr q
      · omega
end ZJ
