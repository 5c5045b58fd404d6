set_option maxRecDepth 100000
/-! THE COMPONENT, 19: a valley's shout, the whole; an echo may desert -/
theorem pays_at (r : Nat → Int32) (v e : Nat) (j : Nat) (h1 : j ≠ 203 + 17 * v + 10) (h2 : j ≠ 203 + 17 * v + 12) (h3 : j ≠ 23 + 15 * e + 11 ∧ j ≠ 23 + 15 * e + 12) : sPays r v e j = r j := by
  unfold sPays
  split
  · exact wU_n h3.2
  · rw [wU_n h3.2, wU_n h3.1, wU_n h2, wU_n h1]
theorem payN_at (v : Nat) (mem : Nat → Nat) (r : Nat → Int32) (j : Nat) (h1 : j ≠ 203 + 17 * v + 10) (h2 : j ≠ 203 + 17 * v + 12) : ∀ n, (∀ i, i < n → j ≠ 23 + 15 * mem i + 11 ∧ j ≠ 23 + 15 * mem i + 12) → sPayN v mem r n j = r j := by
  intro n
  induction n with
  | zero => intro _; rfl
  | succ n ih => intro h3; show sPays (sPayN v mem r n) v (mem n) j = r j; rw [pays_at _ _ _ _ h1 h2 (h3 n (by omega)), ih (fun i hi => h3 i (by omega))]
theorem sEnds_wU {r : Nat → Int32} {v e n j : Nat} {x : Int32} (hn : n ≤ 3) (hp : sPlace r v e n 0 < n) (hv : v < 8) (he : e < 12) (hj : 339 ≤ j ∨ j = 23 + 15 * e + 14) : sEnds (wU r j x) v e n = wU (sEnds r v e n) j x := by
  have h1 : ∀ i, i ≤ 2 → j ≠ 203 + 17 * v + (14 + i) := fun i hi => by omega
  unfold sEnds
  dsimp only
  rw [sPlace_wU h1 _ _ (by omega), sShift_wU h1 _ _ _ (by omega)]
  have e6 : wU (sShift r v (n - 1 - sPlace r v e n 0) (sPlace r v e n 0)) j x 6 = sShift r v (n - 1 - sPlace r v e n 0) (sPlace r v e n 0) 6 := wU_n (by omega)
  rw [e6]
  rw [wU_comm (i := j) (j := 203 + 17 * v + 13) (by omega), wU_comm (i := j) (j := 23 + 15 * e + 13) (by omega), wU_comm (i := j) (j := 23 + 15 * e + 12) (by omega), wU_comm (i := j) (j := 6) (by omega)]
/-- of a member's contract -/
def zMem (r : Nat → Int32) (V e : Nat) : Prop := wE r e 13 = 0 ∨ ∃ v n, v < V ∧ wE r e 13 = nI (v + 1) ∧ wV r v 13 = nI n ∧ n ≤ 3 ∧ ∃ i, i < n ∧ wV r v (14 + i) = nI e
theorem place_lt {r : Nat → Int32} {v e n : Nat} : ∀ d k, k + d = n → (∃ i, k ≤ i ∧ i < n ∧ wV r v (14 + i) = nI e) → sPlace r v e d k < n := by
  intro d
  induction d with
  | zero => intro k hk ⟨i, h1, h2, _⟩; omega
  | succ d ih =>
    intro k hk ⟨i, h1, h2, h3⟩
    simp only [sPlace]
    by_cases q : wV r v (14 + k) = nI e
    · rw [if_pos q]; omega
    · rw [if_neg q]
      refine ih (k + 1) (by omega) ⟨i, ?_, h2, h3⟩
      rcases Nat.eq_or_lt_of_le h1 with q2 | q2
      · subst q2; exact absurd h3 q
      · exact q2
section ZJ
variable {G : ZG} {μ : ZM} {Q : Option ZV → ZM → Prop} {E : ZP → ZM → Prop} {lo hi s K V F fg el ear vl var ds dm sm : Nat} {ea va ta sa : Nat → Nat} {r : Nat → Int32} {z1 z2 z3 : Int32}
theorem L_sh150 {v n : Nat} {mem : Nat → Nat} (hv : v < V) (hn3 : n ≤ 3) (hcnt : wV r v 13 = nI n) (hmem : ∀ i, i < n → wV r v (14 + i) = nI (mem i) ∧ mem i < K) (hh : hi ≤ zsz μ)
    (Kc : ∀ ρ, zSta ρ lo hi s (sPayN v mem r n) K V F fg el ear vl var ds dm sm ea va ta sa → zG (zWl lo μ) 0 0 μ ρ → zsz ρ = zsz μ → zfr ρ = zfr μ → Q none ρ) :
    ∀ (d k : Nat) (ν : ZM), k + d = n → zSta ν lo hi s (sPayN v mem r k) K V F fg el ear vl var ds dm sm ea va ta sa → zG (zWl lo μ) 0 0 μ ν → zsz ν = zsz μ → zfr ν = zfr μ →
    Wp G Y_X2_shout 150 [(0, vP (2, 0, s)), (2, vP (4, 0, va v)), (4, vI (nI k))] [] ν Q E := by
  intro d
  induction d with
  | zero =>
    intro k ν hk h hg hz hf
    have : k = n := by omega
    subst this
    have hV := h.1.2.1.2.2.2.2.1
    have hK := h.1.2.1.2.2.2.1
    have c13 : wV (sPayN v mem r k) v 13 = nI k := (payN_at v mem r _ (by omega) (by omega) k (fun i hi => by have := (hmem i hi).2; omega)).trans hcnt
    exact B_X2_shout_150 ⟨_, (h.eV hv 13 (by decide)).trans c13, fun _ => Kc ν h hg hz hf, fun e => absurd e (nI_nlt (Nat.le_refl _) (by omega))⟩
  | succ d ih =>
    intro k ν hk h hg hz hf
    have hK := h.1.2.1.2.2.2.1
    have hV := h.1.2.1.2.2.2.2.1
    obtain ⟨hm1, hm2⟩ := hmem k (by omega)
    have pw : ∀ w, w < 17 → w ≠ 10 → w ≠ 12 → wV (sPayN v mem r k) v w = wV r v w := fun w h1 h2 h3 => payN_at v mem r _ (by omega) (by omega) k (fun i hi => by have := (hmem i (by omega)).2; omega)
    have c13 := (pw 13 (by decide) (by decide) (by decide)).trans hcnt
    have hst : zai ν (sa v) k = nI (mem k) := (h.2.2.1.2.2.2.2.2.2.2 v k hv (by omega) (by rw [c13]; exact nI_lt (by omega) (by omega))).trans ((pw _ (by omega) (by omega) (by omega)).trans hm1)
    refine Wp.zo fun hok => B_X2_shout_150 ⟨_, (h.eV hv 13 (by decide)).trans c13, fun e => absurd (nI_lt (by omega) (by omega)) e, fun _ => ⟨_, _, (h.2.2.1.2.2.2.2.2.1 v hv).2, k, zix.eq rfl (by omega) (by omega), _, hst, C_sEcho (mem k) rfl hm2 h ⟨_, rfl, _, rfl, C_sPay v (mem k) hv hm2 hok (by omega) h fun ρ k1 k2 k3 k4 => ⟨rfl, ?_⟩⟩⟩⟩
    rw [nI_1]
    exact ih (k + 1) ρ (by omega) k1 (zG.wl hg k2) (k3.trans hz) (k4.trans hf)
theorem C_sShout (v n : Nat) (h1 : z1 = nI v) (hv : v < V) (hn3 : n ≤ 3) (hcnt : wV r v 13 = nI n) (hmem : ∀ i, i < n → ∃ e, e < K ∧ wV r v (14 + i) = nI e) (hh : hi ≤ zsz μ) (hI : zIc G μ) (h : zSta μ lo hi s r K V F fg el ear vl var ds dm sm ea va ta sa)
    (k : ∀ ρ, zSta ρ lo (zsz ρ) s (sShout r v) K V F fg el ear vl var ds dm sm ea va ta sa → zGt lo (5 * n) (9 * n) sm dm μ ρ → zIc G ρ → Q none ρ) : Call G Y_X2_shout [vP (2, 0, s), vI z1] μ Q E := by
  subst h1
  have hK := h.1.2.1.2.2.2.1
  have hV := h.1.2.1.2.2.2.2.1
  have hst : sSt r v = n := by unfold sSt; rw [hcnt, nI_clamp (by omega)]
  have hmem' : ∀ i, i < n → wV r v (14 + i) = nI (sMem r v i) ∧ sMem r v i < K := fun i hi => by
    obtain ⟨e, he, h2⟩ := hmem i hi
    unfold sMem
    rw [h2, nI_clamp (by omega)]
    exact ⟨rfl, he⟩
  refine Call.zo fun hok hargs => ?_
  obtain ⟨hs2, hsz⟩ := tg_arg hargs (by decide) (by decide)
  have h0 : zSta μ lo (zsz μ) s r K V F fg el ear vl var ds dm sm ea va ta sa := h.up hh
  refine S_X2_shout (C_sValley v rfl hv h ⟨_, rfl, _, rfl, L_sh11 (r := r) (mem := sMem r v) hv hn3 h.1.1.1 hcnt hmem' (fun ρ j1 j2 j3 => ?_) n 0 μ (by omega) hs2 hI h0 ((zGt.rf lo sm dm μ).mo (Nat.le_refl _) (Nat.le_refl _))⟩)
  have at' : ∀ w, w < 17 → wV (sEarnS (sMem r v) v r n).1 v w = wV r v w := fun w hw => earn_at _ _ _ n _ (Or.inl (by omega))
  have at8 : (sEarnS (sMem r v) v r n).1 8 = r 8 := earn_at _ _ _ n _ (Or.inl (by omega))
  have e11 := (j1.eV hv 11 (by decide)).trans (at' 11 (by decide))
  have e10 := (j1.eV hv 10 (by decide)).trans (at' 10 (by decide))
  have e7 := (j1.eV hv 7 (by decide)).trans (at' 7 (by decide))
  have e13 := (j1.eV hv 13 (by decide)).trans ((at' 13 (by decide)).trans hcnt)
  have es := (j1.1.2.2.1 8 (by decide)).trans at8
  refine Wp.zo fun hokρ => B_X2_shout_11 ⟨_, e13, fun _ => ⟨_, e11, _, e10, _, e7, _, es, ?_⟩, fun e => absurd e (nI_nlt (Nat.le_refl _) (by omega))⟩
  have hsρ : (ztg ρ s).1 = 2 := by rw [j2.1.1.2.2 s hsz]; exact hs2
  have hva : va v < zsz ρ := (j1.2.2.1.2.2.1 v hv).1.2
  have a1 := j1.stV hokρ (Nat.le_refl _) hv 11 (by decide) (x := wV r v 11 + (sEarnS (sMem r v) v r n).2) (fun e => by cases e)
  have k1 := hokρ.zFi (fV 11) hva (wV r v 11 + (sEarnS (sMem r v) v r n).2)
  have a2 := a1.stV k1 (Nat.le_refl _) hv 10 (by decide) (x := wV r v 10 + wV r v 7 * (sEarnS (sMem r v) v r n).2) (fun e => by cases e)
  have k2 := k1.zFi (fV 10) hva (wV r v 10 + wV r v 7 * (sEarnS (sMem r v) v r n).2)
  have a3 := a2.stS k2 (Nat.le_refl _) hsρ 8 (by decide) (x := r 8 + wV r v 7 * (sEarnS (sMem r v) v r n).2)
  obtain ⟨w1, w2⟩ := j1.ow hokρ
  have hwS : zWl lo ρ s := ⟨h.1.1.1, by rw [hsρ]; unfold zim; omega⟩
  have g3 : zG (zWl lo ρ) 0 0 ρ _ := ((zG.fi (μ := ρ) (f := fV 11) (v := wV r v 11 + (sEarnS (sMem r v) v r n).2) (w2 v hv).1).tr (zG.fi (f := fV 10) (v := wV r v 10 + wV r v 7 * (sEarnS (sMem r v) v r n).2) (w2 v hv).1)).tr (zG.fi (f := fS 8) (v := r 8 + wV r v 7 * (sEarnS (sMem r v) v r n).2) hwS)
  have rE : ∀ w, w < 17 → w ≠ 10 → w ≠ 11 → wV (sEarns (sMem r v) v r n) v w = wV r v w := fun w q1 q2 q3 => by
    show wU (wU (wU (sEarnS (sMem r v) v r n).1 _ _) _ _) _ _ (203 + 17 * v + w) = _
    rw [wU_n (by omega), wU_n (by omega), wU_n (by omega)]
    exact at' w q1
  refine L_sh150 (μ := zFi (zFi (zFi ρ 38 (va v) (wV r v 11 + (sEarnS (sMem r v) v r n).2)) 36 (va v) (wV r v 10 + wV r v 7 * (sEarnS (sMem r v) v r n).2)) 16 s (r 8 + wV r v 7 * (sEarnS (sMem r v) v r n).2)) (r := sEarns (sMem r v) v r n) (mem := sMem r v) (hi := zsz ρ) hv hn3 ((rE 13 (by decide) (by decide) (by decide)).trans hcnt) (fun i hi => ⟨(rE _ (by omega) (by omega) (by omega)).trans (hmem' i hi).1, (hmem' i hi).2⟩) (Nat.le_refl _) (fun σ q1 q2 q3 q4 => ?_) n 0 _ (by omega) a3 (zG.rf _ _) rfl rfl
  have gt := j2.tr (zGt.of (sm := sm) (dm := dm) (zG.wl g3 q2) (q4.trans rfl))
  have hfin : sPayN v (sMem r v) (sEarns (sMem r v) v r n) n = sShout r v := by unfold sShout; rw [hst]
  rw [hfin] at q1
  have ez : zsz σ = zsz ρ := q3
  refine k σ (by rw [ez]; exact q1) (gt.mo (by omega) (by omega)) (j3.wl hokρ (zG.wl g3 q2))
theorem C_sDesert (e D u : Nat) (h1 : z1 = nI e) (he : e < K) (hD : r 2 = nI D) (hD2 : D < 2 ^ 31) (hu : wE r e 12 = nI u) (hu2 : u < 2 ^ 30) (hm : zMem r V e) (hg : (zgS G 7).1 ≠ 0) (hh : hi ≤ zsz μ) (hI : zIc G μ) (h : zSta μ lo hi s r K V F fg el ear vl var ds dm sm ea va ta sa)
    (k : ∀ ρ, zSta ρ lo (zsz ρ) s (sMay r e) K V F fg el ear vl var ds dm sm ea va ta sa → zGt lo 4 8 sm dm μ ρ → zIc G ρ → Q none ρ) : Call G Y_X2_desert [vP (2, 0, s), vI z1] μ Q E := by
  subst h1
  have hK := h.1.2.1.2.2.2.1
  have hV := h.1.2.1.2.2.2.2.1
  refine Call.zo fun hok hargs => ?_
  obtain ⟨hs2, hsz⟩ := tg_arg hargs (by decide) (by decide)
  have h0 : zSta μ lo (zsz μ) s r K V F fg el ear vl var ds dm sm ea va ta sa := h.up hh
  have x13 : zfi μ 28 (ea e) = wE r e 13 - 1 := h.eE he 13 (by decide)
  have x12 := h.eE he 12 (by decide)
  rw [show oE 12 = 0 from rfl, i32_s0, hu] at x12
  have x10 := h.eE he 10 (by decide)
  rw [show oE 10 = 0 from rfl, i32_s0] at x10
  have stay : sMay r e = r → Q none μ := fun q => k μ (by rw [q]; exact h0) ((zGt.rf lo sm dm μ).mo (by omega) (by omega)) hI
  have hday : (r 2).toNatClampNeg = D := by rw [hD, nI_clamp hD2]
  refine S_X2_desert (C_sEcho e rfl he h ⟨_, rfl, _, rfl, _, x13, fun q => ?_, fun q => ⟨_, x12, fun q2 => ?_, fun q2 => ?_⟩⟩)
  · refine stay ?_
    unfold sMay
    rcases hm with hm | ⟨v, n, hv, hm, -⟩
    · rw [hm, if_neg (by decide)]
    · rw [hm, nI_pred] at q
      exact absurd q (fun q => nI_pos (n := v) (by omega) (by rw [q]; decide))
  · have hu0 : u = 0 := by
      rcases Nat.eq_zero_or_pos u with q3 | q3
      · exact q3
      · exact absurd q2 (nI_nlt (a := u) (b := 1) (by omega) (by omega))
    refine stay ?_
    unfold sMay
    split
    · rw [hu, hu0, if_pos ⟨by decide, Or.inl rfl⟩]
    · rfl
  · rcases hm with hm | ⟨v, n, hv, hm, hcnt, hn3, hex⟩
    · exact absurd (show wE r e 13 - 1 = -1 by rw [hm]; decide) q
    have hu1 : 1 ≤ u := by
      rcases Nat.eq_zero_or_pos u with q3 | q3
      · subst q3; exact absurd (show nI 0 < 1 by decide) q2
      · exact q3
    have hpos : 0 < wE r e 13 := by rw [hm]; exact nI_lt (a := 0) (by omega) (by omega)
    have hmn : wE r e 13 - 1 = nI v := by rw [hm, nI_pred]
    have hpl : sPlace r v e n 0 < n := place_lt n 0 (by omega) (by obtain ⟨i, q3, q4⟩ := hex; exact ⟨i, Nat.zero_le _, q3, q4⟩)
    -- it leaves
    have leave : ¬ (wE r e 12 < 2 ∧ (wE r e 12 = 0 ∨ ¬ wE r e 10 < sFogNow r (r 2).toNatClampNeg)) → Wp G Y_X2_desert 46 [(0, vP (2, 0, s)), (1, vI (nI e)), (2, vP (3, 0, ea e))] [] μ Q E := by
      intro hno
      have hrow : sMay r e = wU (wU (sEnds r v e n) (iP v e 1) 1) (23 + 15 * e + 14) (wE r e 14 + 1) := by
        unfold sMay
        rw [if_pos hpos, if_neg hno]
        unfold sLeaves
        have ev : (wE r e 13 - 1).toNatClampNeg = v := by rw [hmn, nI_clamp (by omega)]
        rw [ev]
        have w13 : wE (wU (wU r (iP v e 1) 1) (23 + 15 * e + 14) (wE r e 14 + 1)) e 13 = wE r e 13 := by
          show wU (wU r _ _) _ _ (23 + 15 * e + 13) = _
          rw [wU_n (by omega), wU_n (by unfold iP; omega)]; rfl
        have wc : wV (wU (wU r (iP v e 1) 1) (23 + 15 * e + 14) (wE r e 14 + 1)) v 13 = wV r v 13 := by
          show wU (wU r _ _) _ _ (203 + 17 * v + 13) = _
          rw [wU_n (by omega), wU_n (by unfold iP; omega)]; rfl
        unfold sEnd
        rw [w13, ev, wc, hcnt, nI_clamp (by omega)]
        have hj1 : ∀ i, i ≤ 2 → iP v e 1 ≠ 203 + 17 * v + (14 + i) := fun i hi => by unfold iP; omega
        rw [sEnds_wU hn3 (by rw [sPlace_wU hj1 _ _ (by omega)]; exact hpl) (by omega) (by omega) (Or.inr rfl), sEnds_wU hn3 hpl (by omega) (by omega) (Or.inl (by unfold iP; omega))]
      refine B_X2_desert_46 (Call.zq (C_sEnd v e n rfl hv he hmn hcnt hn3 hex hh h fun ν k1 k2 k3 k4 hokν _ => ⟨_, rfl, ds, k1.1.2.2.2.1.2.2.2.1, ?_⟩))
      have hI1 := hI.wl hok k2
      have g1 := zG_pair (μ := ν) v e
      refine Call.zo fun hok9 _ => S_X9_init ⟨rfl, ?_⟩
      have hs1 : (ztg ν s).1 = 2 := by rw [k2.1.2.2 s hsz]; exact hs2
      generalize hν1 : zFi (zFi (zNew ν 9 0 2) 92 (zsz ν) (nI v)) 93 (zsz ν) (nI e) = ν1 at g1 ⊢
      have p92 : zfi ν1 92 (zsz ν) = nI v := by rw [← hν1, zfi_zFi, if_neg (fun e => by cases e.1), zfi_zFi, if_pos ⟨rfl, rfl⟩]
      have p93 : zfi ν1 93 (zsz ν) = nI e := by rw [← hν1, zfi_zFi, if_pos ⟨rfl, rfl⟩]
      have hhν : hi ≤ zsz ν := by omega
      have h2 := k1.nw hokν hhν g1
      have hI2 := hI1.nw hokν g1
      have t1 := zGt.of (sm := sm) (dm := dm) k2 k4
      have t2 := zGt.no (lo := lo) g1 (k1.dsm hhν).1 (k1.dsm hhν).2
      have hs3 : (ztg ν1 s).1 = 2 := by rw [g1.1.2.2 s (by omega)]; exact hs1
      have hz1 := g1.1.1
      have hls : lo ≤ zsz ν1 := by have := h.1.1; omega
      refine Call.zo fun hokν1 _ => Call.zq (C_sDesAdd v e (zsz ν) hv he p92 p93 hg hokν1 (by omega) hs3 hls h2 fun ρ x j1 j2 hokρ _ => ?_)
      have e14 : wE (wU (sEnds r v e n) (iP v e 1) 1) e 14 = wE r e 14 := by
        show wU (sEnds r v e n) _ _ (23 + 15 * e + 14) = _
        rw [wU_n (by unfold iP; omega)]
        unfold sEnds
        rw [wU_n (by omega), wU_n (by omega), wU_n (by omega), wU_n (by omega), sShift_at (fun i hi => by omega) _ _ _ (by omega)]
        rfl
      have x14 := j1.eE he 14 (by decide)
      rw [show oE 14 = 0 from rfl, i32_s0, e14] at x14
      have j3 := j1.stE hokρ (Nat.le_refl _) he 14 (by decide) (x := wE r e 14 + 1) (y := wE r e 14 + 1) (by rw [show oE 14 = 0 from rfl, i32_s0])
      rw [← hrow] at j3
      have g4 : zG (zWl lo ρ) 0 0 ρ (zFi ρ (fE 14) (ea e) (wE r e 14 + 1)) := zG.fi ((j1.ow hokρ).1 e he)
      refine ⟨_, rfl, _, x14, k _ j3 ((((t1.tr t2).tr j2).tr (zGt.of g4 rfl)).mo (by omega) (by omega)) ((hI2.wl hokν1 j2.1).wl hokρ g4)⟩
    refine ⟨fun q3 => leave ?_, fun q3 => ⟨_, (h.1.2.2.1 2 (by decide)).trans hD, C_sFog D rfl hD2 h ⟨_, rfl, _, x10, fun q4 => leave ?_, fun q4 => stay ?_⟩⟩⟩
    · rintro ⟨q4, -⟩
      rw [hu] at q4
      exact q3 q4
    · rintro ⟨-, q5 | q5⟩
      · rw [hu] at q5
        have := (nI_eq (a := u) (b := 0) (by omega) (by omega)).mp q5
        omega
      · rw [hday] at q5; exact q5 q4
    · unfold sMay
      rw [if_pos hpos, if_pos ⟨by rw [hu]; exact q3, Or.inr (by rw [hday]; exact q4)⟩]
end ZJ
