set_option maxRecDepth 100000
/-! THE START, 4: the first State -/
def nIE (G : ZG) : Nat → ZP := fun i => if i = 3 then zgS G 103 else if i = 2 then zgS G 102 else if i = 1 then zgS G 101 else zgS G 100
def nIV (G : ZG) : Nat → ZP := fun i => if i = 2 then zgS G 106 else if i = 1 then zgS G 105 else zgS G 104
theorem rI0_z : zPz rI0 0 := by
  have h0 : ∀ j, j ≠ 3 → j ≠ 4 → j ≠ 11 → j ≠ 12 → j ≠ 13 → rI0 j = 0 := fun j a b c d e => by
    unfold rI0 wU
    rw [if_neg b, if_neg e, if_neg b, if_neg d, if_neg b, if_neg c, if_neg a]
  exact ⟨fun j hj => h0 j (by omega) (by omega) (by omega) (by omega) (by omega), fun v e hv hv8 he => h0 _ (by omega) (by omega) (by omega) (by omega) (by omega), h0 7 (by decide) (by decide) (by decide) (by decide) (by decide)⟩
theorem rI_last : wU (wU (wU (wU (wU rI7 7 0) (iP 0 0 0) 1) (iP 1 1 0) 1) (iP 2 3 0) 1) 7 95 = rIn := by
  funext j
  by_cases h : j = 7
  · subst h; rfl
  · rw [wU_n h]
    unfold rIn rI9 rI8 wU
    by_cases h1 : j = iP 2 3 0
    · rw [if_pos h1, if_pos h1]
    · rw [if_neg h1, if_neg h1]
      by_cases h2 : j = iP 1 1 0
      · rw [if_pos h2, if_pos h2]
      · rw [if_neg h2, if_neg h2]
        by_cases h3 : j = iP 0 0 0
        · rw [if_pos h3, if_pos h3]
        · rw [if_neg h3, if_neg h3, if_neg h]
section ZJ
variable {G : ZG} {μ ν τ μ0 : ZM} {Q : Option ZV → ZM → Prop} {E : ZP → ZM → Prop}
theorem C_iState (hn : ∀ j, 100 ≤ j → j < 107 → zis 23 (zgS G j))
    (k : ∀ (τ : ZM) (lo hi F fg el ear vl var ds dm sm : Nat) (ea va ta sa : Nat → Nat), zSta τ lo hi (zsz μ) rIn 4 3 F fg el ear vl var ds dm sm ea va ta sa → zok τ → hi ≤ zsz τ → zsz μ ≤ lo → zsz μ ≤ fg → (∀ i, i < 4 → zfr τ 21 (ea i) = nIE G i) → (∀ v, v < 3 → zfr τ 30 (va v) = nIV G v) → zG (fun _ => False) 30 300 μ τ → Q (some (vP (2, 0, zsz μ))) τ) : Call G Y_X1_initialState [] μ Q E := by
  refine Call.zo fun hok _ => S_X1_initialState ⟨by decide, by decide, by decide, ?_⟩
  obtain ⟨m1, hm1⟩ : ∃ m, m = zAi (zAi (zAi (zNew (zNew μ 2 0 13) 200 3 3) (zsz μ + 1) 0 2) (zsz μ + 1) 1 7) (zsz μ + 1) 2 4 := ⟨_, rfl⟩
  have g1 : zG (fun _ => False) 2 16 μ m1 := by
    rw [hm1]
    have a1 : zG (fun _ => False) (1 + 1) (13 + 3) μ (zNew (zNew μ 2 0 13) 200 3 3) := zG.tr (zG.nw (k := 13)) (zG.nw (k := 3))
    have ai : ∀ {c e : Nat} {ρ : ZM} {i : Nat} {v : Int32}, zG (fun _ => False) c e μ ρ → zG (fun _ => False) c e μ (zAi ρ (zsz μ + 1) i v) := fun g => zG.trN (W := fun _ => False) (c' := 0) (d' := 0) g (zG.ai (Or.inr (by omega)))
    exact ai (ai (ai a1))
  have e1 : zsz m1 = zsz μ + 2 := by rw [hm1]; rfl
  have f1 : zai m1 (zsz μ + 1) 0 = 2 ∧ zai m1 (zsz μ + 1) 1 = 7 ∧ zai m1 (zsz μ + 1) 2 = 4 := by
    rw [hm1]
    refine ⟨?_, ?_, ?_⟩
    · rw [zai_zAi, if_neg (by omega), zai_zAi, if_neg (by omega), zai_zAi, if_pos ⟨rfl, rfl⟩]
    · rw [zai_zAi, if_neg (by omega), zai_zAi, if_pos ⟨rfl, rfl⟩]
    · rw [zai_zAi, if_pos ⟨rfl, rfl⟩]
  have z1 : ∀ f, zfi m1 f (zsz μ) = 0 := fun f => by
    rw [hm1]
    show zfi μ f (zsz μ) = 0
    exact hok.1 f _ (Nat.le_refl _)
  have tS : (ztg m1 (zsz μ)).1 = 2 := by
    rw [hm1]
    show (ztg (zNew (zNew μ 2 0 13) 200 3 3) (zsz μ)).1 = 2
    rw [ztg_zNew, if_neg (by show ¬ zsz μ = zsz μ + 1; omega), ztg_zNew, if_pos rfl]
  rw [← hm1]
  refine Call.zo fun ok1 _ => Call.zq (C_sInit (by omega) fun ν5 z5 g5 f5' hi5 ok5 _ => ⟨rfl, ?_⟩)
  have sfg : zsame m1 ν5 (zsz μ + 1) := g5.same (by omega) (by omega)
  have S5 : zSta ν5 (zsz μ) (zsz ν5) (zsz μ) (wU rI0 7 0) 0 0 3 (zsz μ + 1) (zsz m1) (zsz m1 + 1) (zsz m1 + 2) (zsz m1 + 3) (zsz m1 + 4) (zsz m1 + 5) (zsz m1 + 6) (fun _ => 0) (fun _ => 0) (fun _ => 0) (fun _ => 0) := zSta.ini (r := wU rI0 7 0) (F := 3) hi5 ⟨by omega, by omega, by omega⟩ ⟨rfl, by decide, by decide⟩ ⟨rfl, rfl⟩ rfl (fun j hj => by
      have hj' : j = 2 ∨ j = 5 ∨ j = 6 ∨ j = 7 ∨ j = 8 ∨ j = 9 ∨ j = 10 := by simpa using hj
      refine ⟨?_, ?_⟩
      · rcases hj' with rfl | rfl | rfl | rfl | rfl | rfl | rfl <;> rfl
      · rw [f5' (fS j) (by rcases hj' with rfl | rfl | rfl | rfl | rfl | rfl | rfl <;> decide)]; exact z1 _) (fun i hi => by
        rw [sfg.2.2.1]
        have : i = 0 ∨ i = 1 ∨ i = 2 := by omega
        rcases this with rfl | rfl | rfl
        · exact f1.1
        · exact f1.2.1
        · exact f1.2.2) (fun _ => 0) (fun _ => 0) (fun _ => 0) (fun _ => 0)
  have g5' : zG (fun _ => False) (2 + 7) (16 + 47) μ ν5 := zG.trN (W := fun _ => False) g1 (g5.mono (fun a _ q => Or.inr (by omega)) (Nat.le_refl _) (Nat.le_refl _))
  have B5 : zBi ν5 rI0 0 0 (zsz μ) (zsz μ) (zsz ν5) 3 (zsz μ + 1) (zsz m1) (zsz m1 + 1) (zsz m1 + 2) (zsz m1 + 3) (zsz m1 + 4) (zsz m1 + 5) (zsz m1 + 6) (fun _ => 0) (fun _ => 0) (fun _ => 0) (fun _ => 0) (fun _ => zN) (fun _ => zN) := ⟨S5, ⟨Nat.le_refl _, by rw [g5.1.2.2 _ (by omega)]; exact tS, by omega, by omega⟩, fun i hi => absurd hi (Nat.not_lt_zero _), fun i hi => absurd hi (Nat.not_lt_zero _)⟩
  generalize zsz m1 = z0 at B5
  have lo0 := Nat.le_refl (zsz μ)
  refine ⟨_, B5.1.1.2.2.2.1.2.1, C_iEcho (x7 := 3) (x8 := 6) (x9 := 9) (x10 := 5) (w := tI0) ok5 B5 rI0_z (by decide) (by decide) (hn 100 (by decide) (by decide)) (by decide) rfl rfl rfl rfl lo0 g5' fun τ1 hi1 ea1 ok1 B1 p1 g1' => ?_⟩
  refine ⟨_, B1.1.1.2.2.2.1.2.1, C_iEcho (x7 := 8) (x8 := 2) (x9 := 4) (x10 := 1) (w := tI1) ok1 B1 p1 (by decide) (by decide) (hn 101 (by decide) (by decide)) (by decide) rfl rfl rfl rfl lo0 g1' fun τ2 hi2 ea2 ok2 B2 p2 g2 => ?_⟩
  refine ⟨_, B2.1.1.2.2.2.1.2.1, C_iEcho (x7 := 5) (x8 := 9) (x9 := 14) (x10 := 8) (w := tI2) ok2 B2 p2 (by decide) (by decide) (hn 102 (by decide) (by decide)) (by decide) rfl rfl rfl rfl lo0 g2 fun τ3 hi3 ea3 ok3 B3 p3 g3 => ?_⟩
  refine ⟨_, B3.1.1.2.2.2.1.2.1, C_iEcho (x7 := 4) (x8 := 5) (x9 := 6) (x10 := 3) (w := tI3) ok3 B3 p3 (by decide) (by decide) (hn 103 (by decide) (by decide)) (by decide) rfl rfl rfl rfl lo0 g3 fun τ4 hi4 ea4 ok4 B4 p4 g4 => ?_⟩
  refine ⟨_, B4.1.1.2.2.2.1.2.2.1, C_iValley (x7 := 4) (x8 := 1) (x9 := 10) (x10 := 60) (w := tI4) ok4 B4 p4 (by decide) (hn 104 (by decide) (by decide)) (by decide) rfl rfl rfl rfl lo0 g4 fun τ5 hi5 va5 ta5 sa5 ok5 B5 p5 g5 => ?_⟩
  refine ⟨_, B5.1.1.2.2.2.1.2.2.1, C_iValley (x7 := 8) (x8 := 2) (x9 := 8) (x10 := 5) (w := tI5) ok5 B5 p5 (by decide) (hn 105 (by decide) (by decide)) (by decide) rfl rfl rfl rfl lo0 g5 fun τ6 hi6 va6 ta6 sa6 ok6 B6 p6 g6 => ?_⟩
  refine ⟨_, B6.1.1.2.2.2.1.2.2.1, C_iValley (x7 := 2) (x8 := 1) (x9 := 15) (x10 := 30) (w := tI6) ok6 B6 p6 (by decide) (hn 106 (by decide) (by decide)) (by decide) rfl rfl rfl rfl lo0 g6 fun τ7 hi7 va7 ta7 sa7 ok7 B7 p7 g7 => ?_⟩
  obtain ⟨S7, ⟨h1, h3, h4, h5⟩, NE, NV⟩ := B7
  obtain ⟨t1, t2, t3, t4, t5, t6, t7, t8, t9⟩ := S7.tg ok7
  have tl : ∀ v, v < 3 → ta7 v < zsz τ7 ∧ zsz μ ≤ ta7 v := fun v hv => by have := (S7.2.2.1.2.2.1 v hv).2.1; omega
  have hS := S7.1.1
  have ail : ∀ {ρ : ZM} {v i : Nat} {y : Int32}, v < 3 → zsz ρ = zsz τ7 → zG (fun _ => False) 30 300 μ ρ → zG (fun _ => False) 30 300 μ (zAi ρ (ta7 v) i y) := fun {ρ v i y} hv _ g => zG.trN (W := fun _ => False) (c' := 0) (d' := 0) g (zG.ai (Or.inr (tl v hv).2))
  have G7 : zG (fun _ => False) 30 300 μ τ7 := g7.mono (fun _ _ q => q) (by decide) (by decide)
  refine C_sValley 0 rfl (by decide) S7 ⟨_, rfl, _, rfl, 12, ta7 0, (S7.2.2.1.2.2.2.2.2.1 0 (by decide)).1, by decide, ?_⟩
  have S8 := S7.stT ok7 h1 (v := 0) (e := 0) (x := 1) (by decide) (by decide) (Or.inr rfl)
  have ok8 := ok7.zAi (tl 0 (by decide)).1 0 1
  refine C_sValley 1 rfl (by decide) S8 ⟨_, rfl, _, rfl, 12, ta7 1, (S8.2.2.1.2.2.2.2.2.1 1 (by decide)).1, by decide, ?_⟩
  have S9 := S8.stT ok8 h1 (v := 1) (e := 1) (x := 1) (by decide) (by decide) (Or.inr rfl)
  have ok9 := ok8.zAi (tl 1 (by decide)).1 1 1
  refine C_sValley 2 rfl (by decide) S9 ⟨_, rfl, _, rfl, 12, ta7 2, (S9.2.2.1.2.2.2.2.2.1 2 (by decide)).1, by decide, ?_⟩
  have S10 := S9.stT ok9 h1 (v := 2) (e := 3) (x := 1) (by decide) (by decide) (Or.inr rfl)
  have ok10 := ok9.zAi (tl 2 (by decide)).1 3 1
  have S11 := S10.stS ok10 h1 h3 7 (by decide) (x := 95)
  rw [show wU (wU (wU (wU (wU (rVa (rVa (rVa (rEc (rEc (rEc (rEc rI0 0 tI0 3 6 9 5) (0 + 1) tI1 8 2 4 1) (0 + 1 + 1) tI2 5 9 14 8) (0 + 1 + 1 + 1) tI3 4 5 6 3) 0 tI4 4 1 10 60) (0 + 1) tI5 8 2 8 5) (0 + 1 + 1) tI6 2 1 15 30) 7 0) (iP 0 0 0) 1) (iP 1 1 0) 1) (iP 2 3 0) 1) 7 95 = rIn from rI_last] at S11
  refine k _ _ _ _ _ _ _ _ _ _ _ _ _ _ _ _ S11 (ok10.zFi _ (by show zsz μ < zsz τ7; omega) _) h1 (Nat.le_refl _) (Nat.le_succ _) (fun i hi => ?_) (fun v hv => ?_) ?_
  · show zfr τ7 21 (ea4 i) = _
    rw [NE i (by omega)]
    unfold nIE
    have : i = 0 ∨ i = 1 ∨ i = 2 ∨ i = 3 := by omega
    rcases this with rfl | rfl | rfl | rfl <;> rfl
  · show zfr τ7 30 (va7 v) = _
    rw [NV v (by omega)]
    unfold nIV
    have : v = 0 ∨ v = 1 ∨ v = 2 := by omega
    rcases this with rfl | rfl | rfl <;> rfl
  · exact zG.nfi (ail (by decide) rfl (ail (by decide) rfl (ail (by decide) rfl G7))) (Nat.le_refl _)
end ZJ
