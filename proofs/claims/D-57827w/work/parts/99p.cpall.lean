set_option maxRecDepth 100000
/-! THE COMPONENT, 35: a State's copy, the whole -/
/-- of the old memory only caches of two maps have changed -/
def zCk (dm sm : Nat) (μ σ : ZM) : Prop := (∀ a, a < zsz μ → zsmC μ σ a) ∧ zKc σ dm ∧ zEc σ sm
section ZJ
variable {G : ZG} {μ : ZM} {Q : Option ZV → ZM → Prop} {E : ZP → ZM → Prop} {lo hi s K V F fg el ear vl var ds dm sm : Nat} {ea va ta sa : Nat → Nat} {r : Nat → Int32} {z1 z2 z3 : Int32}
/-- a state behind writes to a set's caches -/
theorem zSta.ca {ν : ZM} {m1 c d : Nat} (h : zSta μ lo hi s r K V F fg el ear vl var ds dm sm ea va ta sa) (hok : zok μ) (hh : hi ≤ zsz μ) (hm1 : hi ≤ m1) (h1 : (ztg μ m1).1 = 15) (g : zG (fun a => a = dm ∨ a = m1) c d μ ν) (hk : zKc ν dm) (hs : zsmC μ ν dm) : zSta ν lo hi s r K V F fg el ear vl var ds dm sm ea va ta sa := by
  obtain ⟨t1, t2, t3, t4, t5, -⟩ := h.tg hok
  have d1 := h.2.2.2.1.1
  have s1 := h.2.2.2.2.1.1
  have f1 := h.1.1
  have hdt : (ztg μ dm).1 = 15 := by rw [(hok.ref h.2.2.2.1.2.1 (by decide) (by decide)).2]
  have same : ∀ a, a < zsz μ → (ztg μ a).1 ≠ 15 → zsame μ ν a := fun a ha ht => g.same ha (fun q => by rcases q with q | q <;> rw [q] at ht <;> omega)
  refine h.kq hok g.1 (fun a h2 h3 => ?_) (same fg (by omega) (by omega)).c (fun a ha hz => (same a ha (by unfold zim at hz; omega)).c) (fun _ => hk) (fun q => q.kp ((same sm (by omega) (by omega)).2.1 _) fun b hb => ?_)
  · by_cases q : a = dm
    · rw [q]; exact hs
    · exact (g.same (by omega) (fun w => by omega)).c
  · have := hok.ref hb (by decide) (by decide)
    exact (same b this.1 (by rw [this.2]; show (18 : Nat) ≠ 15; decide)).2.1 _
theorem zLs.z0 {ν : ZM} {l a c : Nat} {f g : Nat → ZP} (h : zLs ν l a c 0 f) : zLs ν l a c 0 g := ⟨h.1, h.2.1, h.2.2.1, h.2.2.2.1, fun i hi => absurd hi (Nat.not_lt_zero _)⟩
theorem zIt.lt {ν : ZM} {it l j : Nat} (h : zIt ν it l j) (hok : zok ν) : it < zsz ν := by
  apply Decidable.byContradiction
  intro q
  have := hok.2.1 100 it (by omega)
  rw [h.2.1] at this
  cases this
theorem C_sCopy (hh : hi ≤ zsz μ) (hg : (zgS G 7).1 ≠ 0) (h : zSta μ lo hi s r K V F fg el ear vl var ds dm sm ea va ta sa) (hn : ∀ e, e < K → zis 23 (zfr μ 21 (ea e))) (hn2 : ∀ v, v < V → zis 23 (zfr μ 30 (va v)))
    (k : ∀ σ el' ear' vl' var' ds' dm' sm' eb vb tb sb, zSta σ (zsz μ) (zsz σ) (zsz μ) r K V F fg el' ear' vl' var' ds' dm' sm' eb vb tb sb → (∀ e, e < K → zfr σ 21 (eb e) = zfr μ 21 (ea e)) → (∀ v, v < V → zfr σ 30 (vb v) = zfr μ 30 (va v)) → zCk dm sm μ σ → zG (fun a => a = dm ∨ a = sm) 630 (1541 + 2 * (tl σ sm' + tl σ dm')) μ σ → Q (some (vP (2, 0, zsz μ))) σ) : Call G Y_X2_copy [vP (2, 0, s)] μ Q E := by
  have hK := h.1.2.1.2.2.2.1
  have hV := h.1.2.1.2.2.2.2.1
  refine Call.zo fun hok hargs => ?_
  obtain ⟨t1, t2, t3, t4, t5, t6, t7, t8, t9⟩ := h.tg hok
  have hfg := h.1.1.2.2
  have hel := h.2.1.1
  have hvl := h.2.2.1.1
  have hds := h.2.2.2.1.1
  have hsm := h.2.2.2.2.1.1
  have hs0 := h.1.1
  have hdt : (ztg μ dm).1 = 15 := by rw [(hok.ref h.2.2.2.1.2.1 (by decide) (by decide)).2]
  refine S_X2_copy ⟨_, h.1.2.2.1 3 (by decide), _, _, h.1.2.2.2.1.1, ?_⟩
  have gN : zG (fun _ => False) 1 13 μ (zNew μ 2 0 13) := zG.nw
  refine Call.zq (C_sInit (Nat.lt_succ_self _) fun ν0 z0 g0 f0 hi0 okν0 _ => ⟨rfl, ?_⟩)
  have z0' : zsz ν0 = zsz μ + 8 := by have : zsz ν0 = zsz μ + 1 + 7 := z0; omega
  have g0' : zG (fun _ => False) (1 + 7) (13 + 47) μ ν0 := zG.trN (W := fun _ => False) gN (g0.mono (fun a _ q => Or.inr (by rw [q]; exact Nat.le_refl _)) (Nat.le_refl _) (Nat.le_refl _))
  obtain ⟨⟨i1, i2, i3, i4⟩, ⟨i5, i6⟩, i7, i8, i9, i10⟩ := hi0
  have zz : zsz (zNew μ 2 0 13) = zsz μ + 1 := rfl
  have h0 := h.nw hok hh g0'
  -- the echoes
  refine ⟨_, h0.1.2.2.2.1.2.1, Call.zq (C_alIter okν0 (by omega) fun ν1 g1 it1 okν1 _ => ⟨_, rfl, _, rfl, ?_⟩)⟩
  have hz1 := g1.1.1
  have hz1' : zsz ν0 < zsz ν1 := it1.lt okν1
  have g1' := g0'.tr g1
  have k01 : ∀ a, a < zsz ν0 → zsame ν0 ν1 a := fun a ha => g1.same ha id
  refine L_cpE (ν1 := ν1) (s1 := zsz μ) (l1 := zsz μ + 1) (a1 := zsz μ + 1 + 1) (it := zsz ν0) (c0 := 1 + 7 + 1) (d0 := 13 + 47 + 4) hok hh h hn (by omega) (by omega) (by omega) (((k01 _ (by omega)).2.1 _).trans i1) (fun ρE eb gE gE1 hcE okE => ?_) K 0 ν1 (fun _ => 0) (by omega) (g1'.mono (fun _ _ q => q) (by omega) (by omega)) ((zG.rf _ _).mono (fun _ _ q => q) (by omega) (by omega)) it1 ⟨(i7.kp (k01 _ (by omega)) (k01 _ (by omega))).z0, fun i hi => absurd hi (Nat.not_lt_zero _), fun i j hi => absurd hi (Nat.not_lt_zero _), fun i hi => absurd hi (Nat.not_lt_zero _)⟩
  have hzE := gE1.1.1
  have k1E : ∀ a, a < zsz ν1 → a ≠ zsz ν0 → a ≠ zsz μ + 1 → a ≠ zsz μ + 1 + 1 → zsame ν1 ρE a := fun a ha q1 q2 q3 => gE1.same ha (by omega)
  have hE := h.nw hok hh gE
  -- the valleys
  refine ⟨_, hE.1.2.2.2.1.2.2.1, Call.zq (C_alIter okE (by omega) fun ν2 g2 it2 okν2 _ => ⟨_, rfl, _, rfl, ?_⟩)⟩
  have hz2' : zsz ρE < zsz ν2 := it2.lt okν2
  have gE2 := gE.tr g2
  have k02 : ∀ a, a < zsz ν0 → a ≠ zsz μ + 1 → a ≠ zsz μ + 1 + 1 → zsame ν0 ν2 a := fun a ha q1 q2 => ((k01 a ha).trans (k1E a (by omega) (by omega) q1 q2)).trans (g2.same (by omega) id)
  have e3 : zsz (zNew μ 2 0 13) + 2 = zsz μ + 3 := by omega
  have e4 : zsz (zNew μ 2 0 13) + 3 = zsz μ + 4 := by omega
  have e5 : zsz (zNew μ 2 0 13) + 4 = zsz μ + 5 := by omega
  have e6 : zsz (zNew μ 2 0 13) + 5 = zsz μ + 6 := by omega
  have e7 : zsz (zNew μ 2 0 13) + 6 = zsz μ + 7 := by omega
  rw [e3] at i2; rw [e5] at i3; rw [e7] at i4; rw [e3, e4] at i8; rw [e5, e6] at i9; rw [e6, e7] at i10
  refine L_cpV (ν1 := ν2) (s1 := zsz μ) (l1 := zsz μ + 3) (a1 := zsz μ + 4) (it := zsz ρE) (c0 := 1 + 7 + 1 + K + 1) (d0 := 13 + 47 + 4 + 9 * K + 4) hok hh h hn2 (by omega) (by omega) (by omega) (((k02 _ (by omega) (by omega) (by omega)).2.1 _).trans i2) (fun ρ vb tb sb gV gV2 hcV okV => ?_) V 0 ν2 (fun _ => 0) (fun _ => 0) (fun _ => 0) (by omega) (gE2.mono (fun _ _ q => q) (by omega) (by omega)) ((zG.rf _ _).mono (fun _ _ q => q) (by omega) (by omega)) it2 ⟨(i8.kp (k02 _ (by omega) (by omega) (by omega)) (k02 _ (by omega) (by omega) (by omega))).z0, fun i hi => absurd hi (Nat.not_lt_zero _), fun i j hi => absurd hi (Nat.not_lt_zero _), fun i hi => absurd hi (Nat.not_lt_zero _)⟩
  have hzV := gV2.1.1
  have k0V : ∀ a, a < zsz ν0 → a ≠ zsz μ + 1 → a ≠ zsz μ + 1 + 1 → a ≠ zsz μ + 3 → a ≠ zsz μ + 4 → zsame ν0 ρ a := fun a ha q1 q2 q3 q4 => (k02 a ha q1 q2).trans (gV2.same (by omega) (by omega))
  have kEV : ∀ a, a < zsz ρE → a ≠ zsz μ + 3 → a ≠ zsz μ + 4 → zsame ρE ρ a := fun a ha q1 q2 => (g2.same ha id).trans (gV2.same (by omega) (by omega))
  have hρ := h.nw hok hh gV
  have hhρ : hi ≤ zsz ρ := by have := gV.1.1; omega
  have dsρ := k0V (zsz μ + 5) (by omega) (by omega) (by omega) (by omega) (by omega)
  have dmρ := k0V (zsz μ + 6) (by omega) (by omega) (by omega) (by omega) (by omega)
  have smρ := k0V (zsz μ + 7) (by omega) (by omega) (by omega) (by omega) (by omega)
  have sρ := k0V (zsz μ) (by omega) (by omega) (by omega) (by omega) (by omega)
  have emρ := i10.kp (ν := ρ) (by omega) dmρ smρ
  -- the pairs deserted
  obtain ⟨D1, D2, D3, ks, nd, kp, vl', D4, D5, D6, D7⟩ := hρ.2.2.2.1
  have z8 : zsz μ + 7 < zsz ρ := by omega
  refine ⟨_, (sρ.2.1 _).trans i3, _, hρ.1.2.2.2.1.2.2.2.1, Call.zq (C_lsAddAll D2 (by omega) D4 D3 ((dsρ.2.1 _).trans i9) (by omega) (by omega) emρ.1.1 emρ.1.2.1 (by omega) (by omega) hg fun ν zz' nd1 kp1 vl1 A1 A2 A3 A4 A5 A6 A7 okν _ => ⟨_, rfl, ?_⟩)⟩
  have hzν := A7.1.1
  have m1t : (ztg ρ (zsz μ + 6)).1 = 15 := by rw [(okV.ref ((dsρ.2.1 _).trans i9) (by decide) (by decide)).2]
  have hν := hρ.ca okV hhρ (m1 := zsz μ + 6) (by omega) m1t A7 A4 A5
  have kρν : ∀ a, a < zsz ρ → a ≠ dm → a ≠ zsz μ + 6 → zsame ρ ν a := fun a ha q1 q2 => A7.same ha (by omega)
  have sν := kρν (zsz μ) (by omega) (by omega) (by omega)
  have smν := kρν (zsz μ + 7) (by omega) (by omega) (by omega)
  have r13 : zfr ν 13 (zsz μ) = (14, 0, zsz μ + 7) := (sν.2.1 _).trans ((sρ.2.1 _).trans i4)
  have smt : (ztg ν (zsz μ + 7)).1 = 14 := by rw [(okν.ref r13 (by decide) (by decide)).2]
  -- the days served
  obtain ⟨S1, S3, ks', nd', kp', vs', S4, S5, S6, S7⟩ := hν.2.2.2.2.1
  obtain ⟨em1, em2, em3, em4, em5, em6⟩ := emρ
  have em2' : ∀ nd kp vl, zMp ν 16 (zsz μ + 7) [] nd kp vl := fun nd kp vl => (em2 nd kp vl).kp hzν smν.1 (fun f _ _ => smν.2.1 f) (fun n t e => by rw [em3] at e; cases e) (fun x hx => by cases hx)
  refine ⟨_, r13, _, hν.1.2.2.2.1.2.2.2.2, Call.zq (C_putAll (m := sm) (by omega) S4 S3 (fun x hx => (S5 x hx).1.1) (by omega) smt em2' ((smν.2.1 _).trans em3) ((smν.1 _).trans em5) ((smν.1 _).trans em6) (by omega) fun ρ2 ks1 nd2 kp2 vl2 B1 B2 B3 B4 B5 B6 B7 B8 okρ2 _ => ⟨rfl, ?_⟩)⟩
  obtain ⟨hs2, hsz⟩ := tg_arg hargs (by decide) (by decide)
  have hzρ2 := B8.1.1
  have hzρ := gV.1.1
  have kν2 : ∀ a, a < zsz ν → a ≠ sm → a ≠ zsz μ + 7 → zsame ν ρ2 a := fun a ha q1 q2 => B8.same ha (by omega)
  have ssm : s ≠ sm := fun q => by rw [q, t3] at hs2; cases hs2
  have sdm : s ≠ dm := fun q => by rw [q, hdt] at hs2; cases hs2
  have s2 := kν2 s (by omega) ssm (by omega)
  have fw : ∀ w, w ∈ [2, 3, 5, 6, 7, 8, 9, 10] → zfi ρ2 (fS w) s = r w := fun w hw => (s2.1 _).trans (hν.1.2.2.1 w hw)
  refine ⟨_, fw 2 (by decide), _, fw 7 (by decide), _, fw 8 (by decide), _, fw 9 (by decide), _, fw 10 (by decide), _, fw 5 (by decide), _, fw 6 (by decide), ?_⟩
  have hσ1 : ∀ a, a ≠ zsz μ → zsame ρ2 (zFi (zFi (zFi (zFi (zFi (zFi (zFi ρ2 14 (zsz μ) (r 2)) 15 (zsz μ) (r 7)) 16 (zsz μ) (r 8)) 17 (zsz μ) (r 9)) 18 (zsz μ) (r 10)) 19 (zsz μ) (r 5)) 20 (zsz μ) (r 6)) a := fun a ha => ((((((zsame_zFi ha _).trans (zsame_zFi ha _)).trans (zsame_zFi ha _)).trans (zsame_zFi ha _)).trans (zsame_zFi ha _)).trans (zsame_zFi ha _)).trans (zsame_zFi ha _)
  have sV2 : zsame ρ ρ2 (zsz μ) := sν.trans (kν2 _ (by omega) (by omega) (by omega))
  have hσ4 : ∀ w, w ∈ [2, 3, 5, 6, 7, 8, 9, 10] → zfi (zFi (zFi (zFi (zFi (zFi (zFi (zFi ρ2 14 (zsz μ) (r 2)) 15 (zsz μ) (r 7)) 16 (zsz μ) (r 8)) 17 (zsz μ) (r 9)) 18 (zsz μ) (r 10)) 19 (zsz μ) (r 5)) 20 (zsz μ) (r 6)) (fS w) (zsz μ) = r w := by
    intro w hw
    have e8 : zfi ρ2 8 (zsz μ) = r 3 := (sV2.1 _).trans ((sρ.1 _).trans i5)
    have : w = 2 ∨ w = 3 ∨ w = 5 ∨ w = 6 ∨ w = 7 ∨ w = 8 ∨ w = 9 ∨ w = 10 := by simpa using hw
    rcases this with rfl | rfl | rfl | rfl | rfl | rfl | rfl | rfl <;> simp [fS, zfi_zFi, e8]
  have gσ : zG (fun a => a = zsz μ) 0 0 ρ2 (zFi (zFi (zFi (zFi (zFi (zFi (zFi ρ2 14 (zsz μ) (r 2)) 15 (zsz μ) (r 7)) 16 (zsz μ) (r 8)) 17 (zsz μ) (r 9)) 18 (zsz μ) (r 10)) 19 (zsz μ) (r 5)) 20 (zsz μ) (r 6)) := ((((((zG.fi (W := fun a => a = zsz μ) rfl).tr (zG.fi rfl)).tr (zG.fi rfl)).tr (zG.fi rfl)).tr (zG.fi rfl)).tr (zG.fi rfl)).tr (zG.fi rfl)
  have hσr : zfr (zFi (zFi (zFi (zFi (zFi (zFi (zFi ρ2 14 (zsz μ) (r 2)) 15 (zsz μ) (r 7)) 16 (zsz μ) (r 8)) 17 (zsz μ) (r 9)) 18 (zsz μ) (r 10)) 19 (zsz μ) (r 5)) 20 (zsz μ) (r 6)) = zfr ρ2 := rfl
  have hσz : zsz (zFi (zFi (zFi (zFi (zFi (zFi (zFi ρ2 14 (zsz μ) (r 2)) 15 (zsz μ) (r 7)) 16 (zsz μ) (r 8)) 17 (zsz μ) (r 9)) 18 (zsz μ) (r 10)) 19 (zsz μ) (r 5)) 20 (zsz μ) (r 6)) = zsz ρ2 := rfl
  generalize zFi (zFi (zFi (zFi (zFi (zFi (zFi ρ2 14 (zsz μ) (r 2)) 15 (zsz μ) (r 7)) 16 (zsz μ) (r 8)) 17 (zsz μ) (r 9)) 18 (zsz μ) (r 10)) 19 (zsz μ) (r 5)) 20 (zsz μ) (r 6) = σ at hσ1 hσ4 gσ hσr hσz ⊢
  have k2σ := hσ1
  have kνσ : ∀ a, a < zsz ν → a ≠ sm → a ≠ zsz μ + 7 → a ≠ zsz μ → zsame ν σ a := fun a ha q1 q2 q3 => (kν2 a ha q1 q2).trans (hσ1 a q3)
  have kVσ : ∀ a, a < zsz ρ → a ≠ dm → a ≠ zsz μ + 6 → a ≠ sm → a ≠ zsz μ + 7 → a ≠ zsz μ → zsame ρ σ a := fun a ha q1 q2 q3 q4 q5 => (kρν a ha q1 q2).trans (kνσ a (by omega) q3 q4 q5)
  have kEσ : ∀ a, a < zsz ρE → zsz μ + 8 ≤ a ∨ a = zsz μ + 1 ∨ a = zsz μ + 1 + 1 → zsame ρE σ a := fun a ha q => (kEV a ha (by omega) (by omega)).trans (kVσ a (by omega) (by omega) (by omega) (by omega) (by omega) (by omega))
  have kVσ' : ∀ a, a < zsz ρ → zsz μ + 8 ≤ a ∨ a = zsz μ + 3 ∨ a = zsz μ + 4 → zsame ρ σ a := fun a ha q => kVσ a ha (by omega) (by omega) (by omega) (by omega) (by omega)
  have ceσ := hcE.kp (ν := σ) (by omega) (kEσ _ (by omega) (by omega)) (kEσ _ (by omega) (by omega)) (fun i hi => by have := hcE.2.1 i hi; exact kEσ _ (by omega) (by omega))
  have cvσ := hcV.kp (ν := σ) (by omega) (kVσ' _ (by omega) (by omega)) (kVσ' _ (by omega) (by omega)) (fun i hi => by have := hcV.2.1 i hi; exact ⟨kVσ' _ (by omega) (by omega), kVσ' _ (by omega) (by omega), kVσ' _ (by omega) (by omega)⟩)
  have gT : zG (fun a => a = dm ∨ a = sm) 630 (1541 + 2 * (tl σ (zsz μ + 7) + tl σ (zsz μ + 6))) μ σ := by
    have tl1 : tl σ (zsz μ + 6) = tl ν (zsz μ + 6) := by unfold tl; rw [(kνσ (zsz μ + 6) (by omega) (by omega) (by omega) (by omega)).2.1]
    have tl2 : tl σ (zsz μ + 7) = tl ρ2 (zsz μ + 7) := by unfold tl; rw [hσr]
    have a1 := gV.no (W := fun a => a = dm ∨ a = sm)
    have a2 := a1.trans (V := fun a => a = dm ∨ a = zsz μ + 6) A7 (fun a ha q => by omega)
    have a3 := a2.trans (V := fun a => a = sm ∨ a = zsz μ + 7) B8 (fun a ha q => by omega)
    have a4 := a3.trans (V := fun a => a = zsz μ) gσ (fun a ha q => by omega)
    exact a4.mono (fun _ _ q => q) (by omega) (by omega)
  have sVσ : ∀ f, zfr σ f (zsz μ) = zfr ρ f (zsz μ) := fun f => by rw [hσr]; exact sV2.2.1 f
  have dsσ := (kVσ (zsz μ + 5) (by omega) (by omega) (by omega) (by omega) (by omega) (by omega))
  have fgσ : ∀ i, zai σ fg i = zai ρ fg i := fun i => (kVσ fg (by omega) (fun q => by rw [q, hdt] at t1; cases t1) (by omega) (fun q => by rw [q, t3] at t1; cases t1) (by omega) (by omega)).2.2.1 i
  have dmσ := kνσ (zsz μ + 6) (by omega) (by omega) (by omega) (by omega)
  have smσ := hσ1 (zsz μ + 7) (by omega)
  -- caches
  have nbD : ∀ x ∈ ks, x < 96 := fun x hx => (A1.nd.2 x hx).1
  obtain ⟨o1, o2, o3⟩ := A1.kn okν (by omega) (Or.inr rfl)
  obtain ⟨p1, p2, p3⟩ := B2.kn okρ2 (by omega) (Or.inl rfl)
  have ztV : (ztg ρ (zsz μ)).1 = 2 := by rw [gV2.1.2.2 _ (by omega), g2.1.2.2 _ (by omega), gE1.1.2.2 _ (by omega), g1.1.2.2 _ (by omega), g0.1.2.2 _ (by omega), ztg_zNew, if_pos rfl]
  have ztν : (ztg ν (zsz μ)).1 = 2 := by rw [A7.1.2.2 _ (by omega)]; exact ztV
  have zt2 : (ztg ρ2 (zsz μ)).1 = 2 := by rw [B8.1.2.2 _ (by omega)]; exact ztν
  have smtρ : (ztg ρ sm).1 = 14 := by rw [gV.1.2.2 sm (by omega)]; exact t3
  have smtν : (ztg ν sm).1 = 14 := by rw [A7.1.2.2 sm (by omega)]; exact smtρ
  have r104 : zfr σ 104 (zsz μ + 5) = (15, 0, zsz μ + 6) := by rw [dsσ.2.1, dsρ.2.1]; exact i9
  have gνσ : zG (fun a => (a = sm ∨ a = zsz μ + 7) ∨ a = zsz μ) (290 + 0) (582 + 2 * tl ρ2 (zsz μ + 7) + 0) ν σ := (B8.mono (fun _ _ q => Or.inl q) (Nat.le_refl _) (Nat.le_refl _)).trans (V := fun a => a = zsz μ) gσ (fun _ _ q => Or.inr q)
  have tagν : ∀ a, a < zsz ν → (ztg ν a).1 ≠ 14 → (ztg ν a).1 ≠ 2 → ¬ ((a = sm ∨ a = zsz μ + 7) ∨ a = zsz μ) := fun a _ h1 h2 q => by
    rcases q with (q | q) | q <;> rw [q] at h1 h2
    · exact h1 smtν
    · exact h1 smt
    · exact h2 ztν
  have Dσ := (A1.far (W := fun a => (a = sm ∨ a = zsz μ + 7) ∨ a = zsz μ) (fun a ha => ⟨o1 a ha, tagν a (o1 a ha) (by
    rcases ha with q | ⟨n, q⟩ | ⟨x, hx, q | q⟩
    · rw [q, A7.1.2.2 _ (by omega), m1t]; decide
    · rw [o2 n a q]; decide
    · rw [q, (o3 x hx).1]; decide
    · rw [q, (o3 x hx).2]; decide) (by
    rcases ha with q | ⟨n, q⟩ | ⟨x, hx, q | q⟩
    · rw [q, A7.1.2.2 _ (by omega), m1t]; decide
    · rw [o2 n a q]; decide
    · rw [q, (o3 x hx).1]; decide
    · rw [q, (o3 x hx).2]; decide)⟩) gνσ)
  have Sσ := (B2.far (W := fun a => a = zsz μ) (fun a ha => ⟨p1 a ha, fun q0 => by
    rw [q0] at ha
    rcases ha with q | ⟨n, q⟩ | ⟨x, hx, q | q⟩
    · omega
    · have := p2 n _ q; rw [zt2] at this; cases this
    · have := (p3 x hx).1; rw [← q, zt2] at this; cases this
    · have := (p3 x hx).2; rw [← q, zt2] at this; cases this⟩) gσ)
  have valσ : ∀ x ∈ ks', zIn σ (vs' x) (r (339 + 3 * x + 2)) ∧ (vs' x).2.2 < zsz σ := fun x hx => by
    have hp := okν.2.2.2.2.2.1 119 (nd' x)
    rw [(S4.nd.2 x hx).2.2.2.2.2.2] at hp
    obtain ⟨q1, q2⟩ := (S5 x hx).1.tg hp
    have ht24 : (vs' x).1 = 24 ∨ (vs' x).1 = 124 := (S5 x hx).1.1
    have hlt := hp.lt (by omega) (by omega)
    have e9 : (ztg ν (vs' x).2.2).1 = (vs' x).1 := congrArg Prod.fst hlt.2
    have sx := gνσ.same q1 (tagν _ q1 (by omega) (by omega))
    exact ⟨⟨(S5 x hx).1.1, (sx.1 _).trans (S5 x hx).1.2⟩, by omega⟩
  refine k σ (zsz μ + 1) (zsz μ + 1 + 1) (zsz μ + 3) (zsz μ + 4) (zsz μ + 5) (zsz μ + 6) (zsz μ + 7) eb vb tb sb ⟨⟨⟨Nat.le_refl _, by omega, by omega⟩, h.1.2.1, hσ4, ⟨?_, ?_, ?_, ?_, ?_⟩, fun i hi => (fgσ i).trans (hρ.1.2.2.2.2 i hi)⟩, ⟨by omega, ceσ.1, fun e he => ?_, ceσ.2.2.1, fun e w he h1 h2 => (ceσ.2.2.2 e he).1 w h1 h2⟩, ⟨by omega, cvσ.1, fun v hv => ?_, cvσ.2.2.1, fun v w hv h1 h2 => (cvσ.2.2.2 v hv).1 w h1 h2, fun v hv => (cvσ.2.2.2 v hv).2.2.1, fun v e hv he => ⟨(cvσ.2.2.2 v hv).2.2.2.1 e he, (h.2.2.1.2.2.2.2.2.2.1 v e hv he).2⟩, fun v j hv hj hn => (cvσ.2.2.2 v hv).2.2.2.2 j hj hn⟩, ⟨by omega, r104, Or.inl ?_, ks, nd1, kp1, vl1, Dσ.1, fun x hx => ⟨A3 x hx, (D5 x hx).2⟩, ⟨fun n t e => ?_, fun x hx => ?_⟩, D7⟩, ⟨by omega, Or.inl ?_, ks1, nd2, kp2, vl2, Sσ.1, fun x hx => ?_, ⟨fun n t e => ?_, fun x hx => ?_⟩, fun x h1 h2 h3 => S7 x h1 h2 (fun q => h3 ((B1 x).mpr q))⟩, fun n n' t e1 e2 => ?_⟩ (fun e he => (ceσ.2.2.2 e he).2) (fun v hv => (cvσ.2.2.2 v hv).2.1) ⟨fun a ha => ?_, ?_, ?_⟩ gT
  · rw [sVσ, sρ.2.1]; exact i6
  · rw [sVσ, sρ.2.1]; exact i1
  · rw [sVσ, sρ.2.1]; exact i2
  · rw [sVσ, sρ.2.1]; exact i3
  · rw [sVσ, sρ.2.1]; exact i4
  · have := ceσ.2.1 e he; exact ⟨by omega, this.2⟩
  · have := cvσ.2.1 v hv
    exact ⟨⟨by omega, by omega⟩, ⟨by omega, by omega⟩, ⟨by omega, by omega⟩, by omega⟩
  · rw [dmσ.2.1, A6]; exact em1.2.2
  · have e' := Dσ.2.1 n t e
    have := A2.1 n t e'
    have := (okν.ref e' (by decide) (by decide)).1
    omega
  · have := A2.2 x hx
    have := o1 (nd1 x) (Or.inr (Or.inr ⟨x, hx, Or.inl rfl⟩))
    omega
  · rw [hσr, B7, smν.2.1]; exact em4
  · rw [B4 x hx]; exact valσ x ((B1 x).mp hx)
  · have e' := Sσ.2.1 n t e
    have := B3.1 n t e'
    have := (okρ2.ref e' (by decide) (by decide)).1
    omega
  · have := B3.2 x hx
    have := p1 (nd2 x) (Or.inr (Or.inr ⟨x, hx, Or.inl rfl⟩))
    omega
  · have q1 := (okν.ref (Dσ.2.1 n t e1) (by decide) (by decide)).1
    have q2 := B3.1 n' t (Sσ.2.1 n' t e2)
    omega
  · have k0 : zsame μ ρ a := gV.same ha id
    by_cases q : a = dm
    · rw [q] at k0 ⊢
      exact (k0.c.trans A5).trans (kνσ dm (by omega) (fun q2 => by rw [q2, t3] at hdt; cases hdt) (by omega) (by omega)).c
    · by_cases q2 : a = sm
      · rw [q2] at k0 ⊢
        exact ((k0.c.trans (kρν sm (by omega) (fun q3 => by rw [← q3, t3] at hdt; cases hdt) (by omega)).c).trans B6).trans (hσ1 sm (by omega)).c
      · exact (k0.trans (kVσ a (by omega) q (by omega) q2 (by omega) (by omega))).c
  · refine A4.kp ((kνσ dm (by omega) (fun q2 => by rw [q2, t3] at hdt; cases hdt) (by omega) (by omega)).2.1 _) fun b hb => ?_
    have := okν.ref hb (by decide) (by decide)
    have sb := gνσ.same this.1 (tagν b this.1 (by rw [this.2]; decide) (by rw [this.2]; decide))
    exact ⟨sb.2.1 _, sb.1 _⟩
  · refine B5.kp ((hσ1 sm (by omega)).2.1 _) fun b hb => ?_
    have := okρ2.ref hb (by decide) (by decide)
    exact (hσ1 b (fun q => by rw [q] at this; rw [this.2] at zt2; cases zt2)).2.1 _
end ZJ
