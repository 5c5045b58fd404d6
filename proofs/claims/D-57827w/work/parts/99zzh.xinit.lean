set_option maxRecDepth 100000
/-! THE START, 5: the component made -/
def kTn : List (Nat × List Nat) := [(100, tI0), (101, tI1), (102, tI2), (103, tI3), (104, tI4), (105, tI5), (106, tI6)]
def zKn (G : ZG) (μ : ZM) (B : Nat) : Prop := ∀ y ∈ kTn, zStr μ B (zgS G y.1) y.2
def sI0 : ZS := (rIn, none, [], [], 0, -1, [])
/-- the component as it was made -/
def zRw (G : ZG) (ν : ZM) (C x d da bf sb sba : Nat) : Prop := ∃ (s lo hi F fg el ear vl var ds dm sm : Nat) (ea va ta sa : Nat → Nat), zSta ν lo hi s rIn 4 3 F fg el ear vl var ds dm sm ea va ta sa ∧ (hi ≤ C ∧ C ≤ zsz ν ∧ x < lo ∧ x ≠ fg) ∧ ((∀ i, i < 4 → zfr ν 21 (ea i) = nIE G i) ∧ ∀ v, v < 3 → zfr ν 30 (va v) = nIV G v) ∧ ((hi ≤ d ∧ d < C) ∧ (hi ≤ da ∧ da < C) ∧ (hi ≤ bf ∧ bf < C) ∧ (hi ≤ sb ∧ sb < C) ∧ (hi ≤ sba ∧ sba < C)) ∧ ((ztg ν x).1 = 1 ∧ x < C) ∧ (zfr ν 0 x = (2, 0, s) ∧ zfr ν 1 x = zN ∧ zfr ν 2 x = (12, 0, d) ∧ zfr ν 3 x = (202, 900, bf) ∧ zfr ν 7 x = (22, 0, sb)) ∧ (zfi ν 4 x = 0 ∧ zfi ν 5 x = 0 ∧ zfi ν 6 x = -1) ∧ bf ≠ sba ∧ zDq ν d da 10 0 [] ∧ zSb ν sb sba 16 []
section ZJ
variable {G : ZG} {μ ν τ μ0 : ZM} {Q : Option ZV → ZM → Prop} {E : ZP → ZM → Prop} {C B x d da bf sb sba c e : Nat} {Z : Nat → Prop}
theorem zRw.kp (h : zRw G ν C x d da bf sb sba) (hok : zok ν) (g : zG (fun _ => False) c e ν τ) : zRw G τ C x d da bf sb sba := by
  obtain ⟨s, lo, hi, F, fg, el, ear, vl, var, ds, dm, sm, ea, va, ta, sa, S, ⟨h1, h2, h3, h4⟩, ⟨n1, n2⟩, h5, ⟨h6, h7⟩, ⟨r0, r1, r2, r3, r7⟩, ⟨i4, i5, i6⟩, hb, hq, hs⟩ := h
  have sm' : ∀ a, a < C → zsame ν τ a := fun a ha => g.same (by omega) id
  have sx := sm' x h7
  refine ⟨s, lo, hi, F, fg, el, ear, vl, var, ds, dm, sm, ea, va, ta, sa, S.nw hok (by omega) g, ⟨h1, Nat.le_trans h2 g.1.1, h3, h4⟩, ⟨fun i hi' => ?_, fun v hv => ?_⟩, h5, ⟨by rw [g.1.2.2 x (by omega)]; exact h6, h7⟩, ⟨(sx.2.1 _).trans r0, (sx.2.1 _).trans r1, (sx.2.1 _).trans r2, (sx.2.1 _).trans r3, (sx.2.1 _).trans r7⟩, ⟨(sx.1 _).trans i4, (sx.1 _).trans i5, (sx.1 _).trans i6⟩, hb, hq.kp (sm' d h5.1.2) (sm' da h5.2.1.2), hs.kp (sm' sb h5.2.2.2.1.2).c (sm' sba h5.2.2.2.2.2).c⟩
  · have := S.2.1.2.2.1 i hi'
    rw [(sm' (ea i) (by omega)).2.1]; exact n1 i hi'
  · have := (S.2.2.1.2.2.1 v hv).1
    rw [(sm' (va v) (by omega)).2.1]; exact n2 v hv
theorem zRw.xs (h : zRw G ν C x d da bf sb sba) (hK : zKn G ν B) (hok : zok ν) (hB : B ≤ x) (hI : zIc G ν) (hZ : ∀ a, Z a → a < zsz ν ∧ C ≤ a ∧ ((ztg ν a).1 = 5 ∨ (ztg ν a).1 = 200 ∨ (ztg ν a).1 = 201)) : zXs G ν x d da bf sb sba 16 Z sI0 := by
  obtain ⟨s, lo, hi, F, fg, el, ear, vl, var, ds, dm, sm, ea, va, ta, sa, S, ⟨h1, h2, h3, h4⟩, ⟨n1, n2⟩, ⟨h5, h6, h7, h8, h9⟩, ⟨h10, h11⟩, ⟨r0, r1, r2, r3, r7⟩, ⟨i4, i5, i6⟩, hb, hq, hs⟩ := h
  have hfg := S.1.1
  have hX : ∀ a, zXo x d da bf sb sba Z a → (a < lo ∨ hi ≤ a) ∧ a ≠ fg ∧ B ≤ a := fun a ha => by
    rcases ha with q | q | q | q | q | q | q
    · omega
    · omega
    · omega
    · omega
    · omega
    · omega
    · have := (hZ a q).2.1; omega
  have hlo : B ≤ hi := by omega
  have nm : ∀ q w, zStr ν B q w → zNa ν (zXo x d da bf sb sba Z) hi q w := fun q w hw => by
    refine (zNa.up (B := B) ⟨hw, fun t => ?_, fun t => ?_⟩ hlo)
    · have := (hX _ t).2.2; have := hw.2.1; omega
    · have := (hX _ t).2.2
      obtain ⟨a1, a2, a3, a4, q', a5, a6, a7, a8, a9⟩ := hw
      rw [a5] at this; omega
  refine ⟨⟨h10, by omega, r2, r3, r7, ⟨hb, by decide⟩, fun a ha => ⟨(hZ a ha).1, (hZ a ha).2.2⟩⟩, hI, ⟨s, r0, lo, hi, 4, 3, F, fg, el, ear, vl, var, ds, dm, sm, ea, va, ta, sa, S, by omega, ⟨fun i hi' => ?_, fun v hv => ?_⟩, fun a ha => ⟨(hX a ha).1, (hX a ha).2.1⟩⟩, r1, ⟨⟨0, [], hq, trivial⟩, Nat.zero_le _⟩, ⟨Nat.zero_le _, i4, fun k hk => absurd hk (Nat.not_lt_zero _)⟩, ⟨i5, i6⟩, hs⟩
  · rw [n1 i hi']
    have : i = 0 ∨ i = 1 ∨ i = 2 ∨ i = 3 := by omega
    rcases this with rfl | rfl | rfl | rfl
    · exact nm _ _ (hK (100, tI0) (by unfold kTn; simp))
    · exact nm _ _ (hK (101, tI1) (by unfold kTn; simp))
    · exact nm _ _ (hK (102, tI2) (by unfold kTn; simp))
    · exact nm _ _ (hK (103, tI3) (by unfold kTn; simp))
  · rw [n2 v hv]
    have : v = 0 ∨ v = 1 ∨ v = 2 := by omega
    rcases this with rfl | rfl | rfl
    · exact nm _ _ (hK (104, tI4) (by unfold kTn; simp))
    · exact nm _ _ (hK (105, tI5) (by unfold kTn; simp))
    · exact nm _ _ (hK (106, tI6) (by unfold kTn; simp))
theorem C_xInit (hK : zKn G μ B) (hx : x < zsz μ) (htx : (ztg μ x).1 = 1) (hf : ∀ f, zfi μ f x = 0) (hr : zfr μ 1 x = zN)
    (k : ∀ ν d da bf sb sba, zRw G ν (zsz ν) x d da bf sb sba → zG (fun a => a = x) 40 1300 μ ν → Q none ν) : Call G Y_X1_init [vP (1, 0, x)] μ Q E := by
  refine S_X1_init (C_iState (fun j h1 h2 => ?_) fun τ lo hi F fg el ear vl var ds dm sm ea va ta sa S okτ y1 y2 y3 y4 y5 g1 => ⟨_, rfl, _, rfl, ?_⟩)
  · have : j = 100 ∨ j = 101 ∨ j = 102 ∨ j = 103 ∨ j = 104 ∨ j = 105 ∨ j = 106 := by omega
    rcases this with rfl | rfl | rfl | rfl | rfl | rfl | rfl
    · exact (hK (100, tI0) (by unfold kTn; simp)).1
    · exact (hK (101, tI1) (by unfold kTn; simp)).1
    · exact (hK (102, tI2) (by unfold kTn; simp)).1
    · exact (hK (103, tI3) (by unfold kTn; simp)).1
    · exact (hK (104, tI4) (by unfold kTn; simp)).1
    · exact (hK (105, tI5) (by unfold kTn; simp)).1
    · exact (hK (106, tI6) (by unfold kTn; simp)).1
  have zτ := g1.1.1
  have sx1 := g1.same hx id
  obtain ⟨m2, hm2⟩ : ∃ m, m = zNew (zFr τ 0 x (2, 0, zsz μ)) 12 0 3 := ⟨_, rfl⟩
  have e2 : zsz m2 = zsz τ + 1 := by rw [hm2]; rfl
  have g2 : zG (fun a => a = x) 1 3 τ m2 := by rw [hm2]; exact (zG.fr (W := fun a => a = x) (f := 0) rfl).tr (zG.nw (k := 3))
  have d2 : ∀ f, zfi m2 f (zsz τ) = 0 := fun f => by rw [hm2]; exact okτ.1 f _ (Nat.le_refl _)
  have x2 : zfr m2 0 x = (2, 0, zsz μ) ∧ (∀ f, f ≠ 0 → zfr m2 f x = zfr τ f x) ∧ ∀ f, zfi m2 f x = zfi τ f x := by
    rw [hm2]
    exact ⟨by rw [zfr_zNew, zfr_zFr, if_pos ⟨rfl, rfl⟩], fun f hf => by rw [zfr_zNew, zfr_zFr, if_neg (fun q => hf q.1)], fun f => rfl⟩
  rw [← hm2]
  refine Call.zo fun ok2 _ => Call.zq (C_dqInit (c := 9) rfl (by decide) (by decide) ok2 (by omega) (d2 _) (d2 _) fun ν2 g3 q3 e3 ok3 _ => ⟨rfl, ?_⟩)
  have sx3 : zsame m2 ν2 x := g3.same (by omega) (by omega)
  obtain ⟨m4, hm4⟩ : ∃ m, m = zNew (zFi (zFr (zNew (zFr ν2 2 x (12, 0, zsz τ)) 202 900 900) 3 x (202, 900, zsz ν2)) 6 x (-1)) 22 0 4 := ⟨_, rfl⟩
  have e4 : zsz m4 = zsz ν2 + 2 := by rw [hm4]; rfl
  have g4 : zG (fun a => a = x) 2 904 ν2 m4 := by
    rw [hm4]
    exact (((((zG.fr (W := fun a => a = x) (f := 2) rfl).tr (zG.nw (k := 900))).tr (zG.fr (f := 3) rfl)).tr (zG.fi (f := 6) rfl)).tr (zG.nw (k := 4)))
  have s4 : ∀ f, zfi m4 f (zsz ν2 + 1) = 0 := fun f => by
    rw [hm4]
    show zfi (zFi ν2 6 x (-1)) f (zsz ν2 + 1) = 0
    rw [zfi_zFi, if_neg (fun q => by have := q.2; omega)]
    exact ok3.1 f _ (by omega)
  have x4 : zfr m4 2 x = (12, 0, zsz τ) ∧ zfr m4 3 x = (202, 900, zsz ν2) ∧ zfi m4 6 x = -1 ∧ (∀ f, f ≠ 2 → f ≠ 3 → zfr m4 f x = zfr ν2 f x) ∧ ∀ f, f ≠ 6 → zfi m4 f x = zfi ν2 f x := by
    rw [hm4]
    refine ⟨?_, ?_, ?_, fun f h1 h2 => ?_, fun f h1 => ?_⟩
    · rw [zfr_zNew, zfr_zFi, zfr_zFr, if_neg (fun q => by cases q.1), zfr_zNew, zfr_zFr, if_pos ⟨rfl, rfl⟩]
    · rw [zfr_zNew, zfr_zFi, zfr_zFr, if_pos ⟨rfl, rfl⟩]
    · rw [zfi_zNew, zfi_zFi, if_pos ⟨rfl, rfl⟩]
    · rw [zfr_zNew, zfr_zFi, zfr_zFr, if_neg (fun q => h2 q.1), zfr_zNew, zfr_zFr, if_neg (fun q => h1 q.1)]
    · rw [zfi_zNew, zfi_zFi, if_neg (fun q => h1 q.1)]; rfl
  dsimp only
  rw [← hm4]
  refine Call.zo fun ok4 _ => Call.zq (C_sbInit ok4 (by omega) (s4 _) fun ν3 e5 g5 hb ok5 _ => ⟨rfl, ?_⟩)
  have sx5 : zsame m4 ν3 x := g5.same (by omega) (by omega)
  have gA : zG (fun a => a = x) 40 1300 μ (zFr ν3 7 x (22, 0, zsz ν2 + 1)) := by
    have a1 : zG (fun a => a = x) (30 + 1) (300 + 3) μ m2 := (g1.mono (fun _ _ q => q.elim) (Nat.le_refl _) (Nat.le_refl _)).tr g2
    have a2 : zG (fun a => a = x) (30 + 1 + 1) (300 + 3 + 10) μ ν2 := a1.trans g3 (fun a ha q => by omega)
    have a3 : zG (fun a => a = x) (30 + 1 + 1 + 2) (300 + 3 + 10 + 904) μ m4 := a2.tr g4
    have a4 : zG (fun a => a = x) (30 + 1 + 1 + 2 + 1) (300 + 3 + 10 + 904 + 16) μ ν3 := a3.trans g5 (fun a ha q => by omega)
    exact (a4.tr (zG.fr (W := fun a => a = x) (f := 7) rfl)).mono (fun _ _ q => q) (by decide) (by decide)
  have W7 : zG (fun a => a = x ∨ zsz τ ≤ a) (1 + 1 + 2 + 1 + 0) (3 + 10 + 904 + 16 + 0) τ (zFr ν3 7 x (22, 0, zsz ν2 + 1)) :=
    ((((g2.mono (fun _ _ q => Or.inl q) (Nat.le_refl _) (Nat.le_refl _)).trans g3 (fun a ha q => by omega)).trans g4 (fun a ha q => Or.inl q)).trans g5 (fun a ha q => by omega)).trans (zG.fr (W := fun a => a = x) (f := 7) rfl) (fun a ha q => Or.inl q)
  have hfg := S.1.1
  have S' := S.fa2 okτ y1 W7 (fun a ha q => by
    rcases q with q | q
    · rw [q, g1.1.2.2 x hx, htx]; exact ⟨Or.inl (by omega), by omega, by unfold zim; omega⟩
    · omega)
  have z5 : zsz (zFr ν3 7 x (22, 0, zsz ν2 + 1)) = zsz ν3 := rfl
  have ssm : ∀ a, a ≠ x → zsame ν3 (zFr ν3 7 x (22, 0, zsz ν2 + 1)) a := fun a ha => zsame_zFr ha _
  have i7 : ∀ f, f ≠ 6 → zfi (zFr ν3 7 x (22, 0, zsz ν2 + 1)) f x = 0 := fun f h6 => by
    show zfi ν3 f x = 0
    rw [sx5.1, x4.2.2.2.2 f h6, sx3.1, x2.2.2, sx1.1]; exact hf f
  refine k _ (zsz τ) (zsz m2) (zsz ν2) (zsz ν2 + 1) (zsz m4) ⟨zsz μ, lo, hi, F, fg, el, ear, vl, var, ds, dm, sm, ea, va, ta, sa, S', ⟨by omega, Nat.le_refl _, by omega, by omega⟩, ⟨fun i hi' => ?_, fun v hv => ?_⟩, ⟨⟨by omega, by omega⟩, ⟨by omega, by omega⟩, ⟨by omega, by omega⟩, ⟨by omega, by omega⟩, ⟨by omega, by omega⟩⟩, ⟨by rw [gA.1.2.2 x hx]; exact htx, by omega⟩, ⟨?_, ?_, ?_, ?_, ?_⟩, ⟨i7 4 (by decide), i7 5 (by decide), ?_⟩, by omega, ?_, ?_⟩ gA
  · have := S.2.1.2.2.1 i hi'
    rw [(W7.same (a := ea i) (by omega) (by omega)).2.1]; exact y4 i hi'
  · have := (S.2.2.1.2.2.1 v hv).1
    rw [(W7.same (a := va v) (by omega) (by omega)).2.1]; exact y5 v hv
  · rw [zfr_zFr, if_neg (fun q => by cases q.1), sx5.2.1, x4.2.2.2.1 0 (by decide) (by decide), sx3.2.1]; exact x2.1
  · rw [zfr_zFr, if_neg (fun q => by cases q.1), sx5.2.1, x4.2.2.2.1 1 (by decide) (by decide), sx3.2.1, x2.2.1 1 (by decide), sx1.2.1]; exact hr
  · rw [zfr_zFr, if_neg (fun q => by cases q.1), sx5.2.1]; exact x4.1
  · rw [zfr_zFr, if_neg (fun q => by cases q.1), sx5.2.1]; exact x4.2.1
  · rw [zfr_zFr, if_pos ⟨rfl, rfl⟩]
  · show zfi ν3 6 x = -1
    rw [sx5.1]; exact x4.2.2.1
  · exact (((q3.kp (g4.same (by omega) (by omega)) (g4.same (by omega) (by omega))).kp (g5.same (by omega) (by omega)) (g5.same (by omega) (by omega))).kp (ssm _ (by omega)) (ssm _ (by omega)))
  · exact hb.kp (ssm _ (by omega)).c (ssm _ (by omega)).c
end ZJ
