set_option maxRecDepth 100000
/-! THE COMPONENT, 56: a valley's line -/
section ZJ
variable {G : ZG} {μ ν τ μ0 : ZM} {Q : Option ZV → ZM → Prop} {E : ZP → ZM → Prop} {P x bf B c e a M K V s lo hi F fg el ear vl var ds dm sm c' e' : Nat} {ea va ta sa : Nat → Nat} {r : Nat → Int32} {po : Nat → Nat} {b w : List Nat} {z z1 z2 : Int32} {q : ZP}
theorem C_pNewValley (hc : zPc G μ0 x bf B b) (h : zPq G μ0 ν P x b c e a M) (hB : zBd ν P r K V s lo hi F fg el ear vl var ds dm sm ea va ta sa) (hld : sLd r K V po) (hz : zPz r V) (hw : pWd b (pSk b a) = tValley)
    (kok : ∀ r' a', pValley b r (pSk b a) = .ok (r', a') → ∀ τ hi' va' ta' sa', zPq G μ0 τ P x b (c + 3) (e + 25) a' (P + 1) → zBd τ P r' K (V + 1) s lo hi' F fg el ear vl var ds dm sm ea va' ta' sa' → zPz r' (V + 1) → Q none τ) (ker : ∀ er, pValley b r (pSk b a) = .error er → zPx E μ0 b (c + 3) (e + 25) er) : Call G Y_X6_newValley [vP (6, 0, P), vP (2, 0, s)] ν Q E := by
  have hKV := hld.1
  obtain ⟨a1, a2, a3, a4⟩ := hKV
  have hV : (r 1).toNatClampNeg = V := by rw [a2]; exact nI_clamp (by omega)
  refine Call.zo fun hok hargs => ?_
  obtain ⟨hPt, hPz⟩ := tg_arg hargs (by decide) (by decide)
  refine S_X6_newValley ⟨vl, hB.1.1.2.2.2.1.2.2.1, C_alSize hB.1.2.2.1.2.1 ⟨_, rfl, fun hge => ?_, fun hlt => ?_⟩⟩
  · have h8 : 8 ≤ V := by
      apply Decidable.byContradiction
      intro t
      exact hge (nI_lt (b := 8) (by omega) (by omega))
    refine B_X6_newValley_20 (h.req rfl ((ker (4, pSk b a) ?_).le (Nat.le_add_right _ _) (Nat.le_add_right _ _)).zk)
    unfold pValley; rw [hV, if_pos h8]
  · have h8' : V < 8 := (nI_ltI (b := 8) (by omega) (by omega)).mp hlt
    have le : ∀ {er}, zPx E μ0 b (c + 3) (e + 25) er → zPx (fun q ν => zkc q.1 = true ∧ E q ν) μ0 b c e er := fun k => (k.le (Nat.le_add_right _ _) (Nat.le_add_right _ _)).zk
    have ep : pEd b (pSk b a) = pSk b a + 6 := by rw [pEd_3 (by rw [hw]; decide), hw]; rfl
    refine B_X6_newValley_20 (C_pReq1 (by decide) ⟨rfl, C_pNext hc h fun ν1 c1 e1 q1 f1 g1 => ⟨rfl, ?_⟩⟩)
    rw [ep] at q1
    have B1 := hB.kp hok hPt g1 (fun a _ t => Or.inl t)
    have P1z : P < zsz ν1 := q1.2.1.2.1
    refine C_pPeekN hc q1 (fun w p1 q hn hp1 hw1 hw0 h72 hwd => ?_) (fun er he => le (ker er (pVa_n hV h8' (by unfold pNew; rw [he]))))
    obtain ⟨C, hstr⟩ := zWd.str hc q1.2.2.2 hwd
    obtain ⟨-, -, w1, w6, wl⟩ := pName_ok hn
    have hna : ∃ C, zNa ν1 (fun a => a < zsz ν) C q w ∧ C ≤ zsz ν1 := by
      rcases hwd with ⟨-, t⟩ | ⟨h0, t1, t2, t3, t4⟩
      · exact absurd t hw0
      · refine ⟨zsz ν1, ⟨t4, ?_, ?_⟩, Nat.le_refl _⟩ <;> rw [t1] <;> dsimp only <;> omega
    obtain ⟨C1, hna, hC1⟩ := hna
    refine ⟨_, rfl, hstr.1, ?_⟩
    have rest : ∀ zs, ((sThing r true w = none ∧ zs = 0) ∨ ((∃ k, sThing r true w = some k) ∧ zs = 1)) → Wp G Y_X6_newValley 48 [(0, vP (6, 0, P)), (1, vP (2, 0, s)), (2, vP q)] [vI zs, vP (6, 0, P)] ν1 Q E := by
      intro zs hzs
      refine B_X6_newValley_48 ⟨hstr.1, C_pNewName (q0 := 203 + 17 * V) hc q1 hn hp1 hw1 hw0 hstr.1 hzs (fun b1 en ν2 c2 e2 q2 g2 => ⟨_, rfl, hstr.1, ?_⟩) (fun er he => le (ker er (pVa_n hV h8' he)))⟩
      refine C_pNum hc (lo := 1) (hi := 9) rfl rfl (by decide) (by decide) q2 (fun x7 b2 n7 ν3 c3 e3 q3 _ g3 => ⟨_, rfl, C_pNum hc (lo := 1) (hi := 3) rfl rfl (by decide) (by decide) q3 (fun x8 b3 n8 ν4 c4 e4 q4 _ g4 => ⟨_, rfl, Call.zq <| C_pNum hc (lo := 1) (hi := 99) rfl rfl (by decide) (by decide) q4 (fun x9 b4 n9 ν5 c5 e5 q5 _ g5 ok5 _ => ⟨_, rfl, vl, ?_, ?_⟩) (fun er he => le (ker er (pVa_9 hV h8' en n7 n8 he)))⟩) (fun er he => le (ker er (pVa_8 hV h8' en n7 he)))⟩) (fun er he => le (ker er (pVa_7 hV h8' en he)))
      · have gA := (((g1.tr g2).tr g3).tr g4).tr g5
        exact (hB.kp hok hPt gA (fun a _ t => Or.inl t)).1.1.2.2.2.1.2.2.1
      · have gA := (((g1.tr g2).tr g3).tr g4).tr g5
        have gA1 := ((g2.tr g3).tr g4).tr g5
        have gN : zG (fun h => h = P) 1 10 ν5 (zNew ν5 4 0 10) := zG.nw
        have P5z : P < zsz ν5 := q5.2.1.2.1
        have q5' : zPq G μ0 (zNew ν5 4 0 10) P x b (c + 1) (e + 10) b4 (zsz ν4) := q5.kp (W := fun _ => False) (zext_zNew _ _ _ _) (fun _ _ _ => zsame_zNew) (fun _ t => t.elim) ((zG.tr q5.2.2.2 (zG.nw (t := 4) (n := 0) (k := 10))).mono (fun _ _ q => q) (by omega) (by omega))
        refine Call.zq <| C_pNum hc (lo := 0) (hi := 9999) rfl rfl (by decide) (by decide) q5' (fun x10 b5 n10 ν6 c6 e6 q6 _ g6 ok6 _ => ⟨_, rfl, ?_⟩) (fun er he => ((ker er (pVa_10 hV h8' en n7 n8 n9 he)).le (by omega) (by omega)).zk)
        have hEc := pVa_ok hV h8' en n7 n8 n9 n10
        have gB := (gA.tr gN).tr g6
        have gB1 := (gA1.tr gN).tr g6
        have b0n : zsz ν ≤ zsz ν5 := gA.1.1
        have B6 := hB.kp hok hPt gB (fun a _ t => Or.inl t)
        obtain ⟨S6, ⟨h1, h2, h3, h4, h5, h6⟩, N6⟩ := id B6
        have hhi : hi ≤ zsz ν := hB.2.1.1
        have s6 : zsame (zNew ν5 4 0 10) ν6 (zsz ν5) := g6.same (Nat.lt_succ_self _) (by omega)
        have fresh : ∀ f, zfi ν6 f (zsz ν5) = 0 := fun f => by rw [s6.1, zfi_zNew]; exact ok5.1 f (zsz ν5) (Nat.le_refl _)
        have z6 : zsz ν5 < zsz ν6 := Nat.lt_of_lt_of_le (Nat.lt_succ_self _) g6.1.1
        have tb : (ztg ν6 (zsz ν5)).1 = 4 := by rw [g6.1.2.2 (zsz ν5) (Nat.lt_succ_self _), ztg_zNew, if_pos rfl]
        have hE1 := S6.2.1.1
        have hfg := S6.1.1.2.2
        refine S_X4_init ⟨hstr.1, S_X4_init_2 ⟨hstr.1, rfl, rfl, ?_⟩⟩
        have hx7 : zext ν6 (zFi (zFi (zFr (zFr (zFi (zFi (zFr (zNew (zNew ν6 201 12 12) 200 3 3) 30 (zsz ν5) q) 31 (zsz ν5) (nI x7)) 32 (zsz ν5) (nI x8)) 33 (zsz ν5) (201, 12, zsz ν6)) 34 (zsz ν5) (200, 3, zsz ν6 + 1)) 35 (zsz ν5) (nI x9)) 36 (zsz ν5) (nI x10)) := ((((((((zext_zNew _ _ _ _).trans (zext_zNew _ _ _ _)).trans (zext_zFr _ _ _ _)).trans (zext_zFi _ _ _ _)).trans (zext_zFi _ _ _ _)).trans (zext_zFr _ _ _ _)).trans (zext_zFr _ _ _ _)).trans (zext_zFi _ _ _ _)).trans (zext_zFi _ _ _ _)
        have s7 : ∀ a, a ≠ zsz ν5 → zsame ν6 (zFi (zFi (zFr (zFr (zFi (zFi (zFr (zNew (zNew ν6 201 12 12) 200 3 3) 30 (zsz ν5) q) 31 (zsz ν5) (nI x7)) 32 (zsz ν5) (nI x8)) 33 (zsz ν5) (201, 12, zsz ν6)) 34 (zsz ν5) (200, 3, zsz ν6 + 1)) 35 (zsz ν5) (nI x9)) 36 (zsz ν5) (nI x10)) a := fun a hn => ((((((((zsame_zNew.trans zsame_zNew).trans (zsame_zFr hn _)).trans (zsame_zFi hn _)).trans (zsame_zFi hn _)).trans (zsame_zFr hn _)).trans (zsame_zFr hn _)).trans (zsame_zFi hn _)).trans (zsame_zFi hn _))
        have m0 : zsz μ0 ≤ zsz ν5 := by have := q5.2.1.1; omega
        have g7 : zG (fun _ => False) _ _ μ0 (zFi (zFi (zFr (zFr (zFi (zFi (zFr (zNew (zNew ν6 201 12 12) 200 3 3) 30 (zsz ν5) q) 31 (zsz ν5) (nI x7)) 32 (zsz ν5) (nI x8)) 33 (zsz ν5) (201, 12, zsz ν6)) 34 (zsz ν5) (200, 3, zsz ν6 + 1)) 35 (zsz ν5) (nI x9)) 36 (zsz ν5) (nI x10)) := zG.Nfi (zG.Nfi (zG.Nfr (zG.Nfr (zG.Nfi (zG.Nfi (zG.Nfr ((zG.tr q6.2.2.2 (zG.nw (t := 201) (n := 12) (k := 12))).tr (zG.nw (t := 200) (n := 3) (k := 3))) m0) m0) m0) m0) m0) m0) m0
        have hz' := rVa_z (x7 := x7) (x8 := x8) (x9 := x9) (x10 := x10) w6 h8' hz
        have z0 : ∀ y, 11 ≤ y → y < 17 → wV (rVa r V w x7 x8 x9 x10) V y = 0 := fun y y1 y2 => hz'.1 (203 + 17 * V + y) (by omega)
        have f7 : ∀ u, 7 ≤ u → u < 14 → zfi (zFi (zFi (zFr (zFr (zFi (zFi (zFr (zNew (zNew ν6 201 12 12) 200 3 3) 30 (zsz ν5) q) 31 (zsz ν5) (nI x7)) 32 (zsz ν5) (nI x8)) 33 (zsz ν5) (201, 12, zsz ν6)) 34 (zsz ν5) (200, 3, zsz ν6 + 1)) 35 (zsz ν5) (nI x9)) 36 (zsz ν5) (nI x10)) (fV u) (zsz ν5) = wV (wU (rVa r V w x7 x8 x9 x10) 7 0) V u := by
          intro u u1 u2
          rw [wV_w7]
          have hu : u = 7 ∨ u = 8 ∨ u = 9 ∨ u = 10 ∨ u = 11 ∨ u = 12 ∨ u = 13 := by omega
          rcases hu with rfl | rfl | rfl | rfl | rfl | rfl | rfl
          · rw [rVa_7]; simp [fV, zfi_zFi, zfi_zFr]
          · rw [rVa_8]; simp [fV, zfi_zFi, zfi_zFr]
          · rw [rVa_9]; simp [fV, zfi_zFi, zfi_zFr]
          · rw [rVa_10]; simp [fV, zfi_zFi, zfi_zFr]
          · rw [z0 11 (by decide) (by decide)]; simp [fV, zfi_zFi, zfi_zFr, zfi_zNew, fresh]
          · rw [z0 12 (by decide) (by decide)]; simp [fV, zfi_zFi, zfi_zFr, zfi_zNew, fresh]
          · rw [z0 13 (by decide) (by decide)]; simp [fV, zfi_zFi, zfi_zFr, zfi_zNew, fresh]
        have f30 : zfr (zFi (zFi (zFr (zFr (zFi (zFi (zFr (zNew (zNew ν6 201 12 12) 200 3 3) 30 (zsz ν5) q) 31 (zsz ν5) (nI x7)) 32 (zsz ν5) (nI x8)) 33 (zsz ν5) (201, 12, zsz ν6)) 34 (zsz ν5) (200, 3, zsz ν6 + 1)) 35 (zsz ν5) (nI x9)) 36 (zsz ν5) (nI x10)) 30 (zsz ν5) = q := by simp [zfr_zFi, zfr_zFr]
        have f33 : zfr (zFi (zFi (zFr (zFr (zFi (zFi (zFr (zNew (zNew ν6 201 12 12) 200 3 3) 30 (zsz ν5) q) 31 (zsz ν5) (nI x7)) 32 (zsz ν5) (nI x8)) 33 (zsz ν5) (201, 12, zsz ν6)) 34 (zsz ν5) (200, 3, zsz ν6 + 1)) 35 (zsz ν5) (nI x9)) 36 (zsz ν5) (nI x10)) 33 (zsz ν5) = (201, 12, zsz ν6) ∧ zfr (zFi (zFi (zFr (zFr (zFi (zFi (zFr (zNew (zNew ν6 201 12 12) 200 3 3) 30 (zsz ν5) q) 31 (zsz ν5) (nI x7)) 32 (zsz ν5) (nI x8)) 33 (zsz ν5) (201, 12, zsz ν6)) 34 (zsz ν5) (200, 3, zsz ν6 + 1)) 35 (zsz ν5) (nI x9)) 36 (zsz ν5) (nI x10)) 34 (zsz ν5) = (200, 3, zsz ν6 + 1) := by constructor <;> simp [zfr_zFi, zfr_zFr]
        have fT : ∀ i, zai (zFi (zFi (zFr (zFr (zFi (zFi (zFr (zNew (zNew ν6 201 12 12) 200 3 3) 30 (zsz ν5) q) 31 (zsz ν5) (nI x7)) 32 (zsz ν5) (nI x8)) 33 (zsz ν5) (201, 12, zsz ν6)) 34 (zsz ν5) (200, 3, zsz ν6 + 1)) 35 (zsz ν5) (nI x9)) 36 (zsz ν5) (nI x10)) (zsz ν6) i = 0 := fun i => ok6.2.2.1 (zsz ν6) i (Nat.le_refl _)
        have z7 : zsz (zFi (zFi (zFr (zFr (zFi (zFi (zFr (zNew (zNew ν6 201 12 12) 200 3 3) 30 (zsz ν5) q) 31 (zsz ν5) (nI x7)) 32 (zsz ν5) (nI x8)) 33 (zsz ν5) (201, 12, zsz ν6)) 34 (zsz ν5) (200, 3, zsz ν6 + 1)) 35 (zsz ν5) (nI x9)) 36 (zsz ν5) (nI x10)) = zsz ν6 + 2 := rfl
        generalize (zFi (zFi (zFr (zFr (zFi (zFi (zFr (zNew (zNew ν6 201 12 12) 200 3 3) 30 (zsz ν5) q) 31 (zsz ν5) (nI x7)) 32 (zsz ν5) (nI x8)) 33 (zsz ν5) (201, 12, zsz ν6)) 34 (zsz ν5) (200, 3, zsz ν6 + 1)) 35 (zsz ν5) (nI x9)) 36 (zsz ν5) (nI x10)) = m7 at hx7 s7 g7 f7 f30 f33 fT z7 ⊢
        obtain ⟨y1, y2, y3, y4, y5, y6, y7, y8, y9⟩ := S6.tg ok6
        have hV1 := S6.2.2.1.1
        have hS1 := S6.1.1
        have hlo : P < lo := h2
        have hhi5 : hi ≤ zsz ν5 := Nat.le_trans hhi b0n
        have l7 := S6.2.2.1.2.1.kp (s7 vl (by omega)) (s7 var (by omega))
        refine C_alAdd l7 h8' rfl (fun t => by rw [t, y9] at y7; cases y7) fun m8 g8 l8 => ⟨_, rfl, ?_⟩
        have s8 : ∀ a, a < zsz ν6 → a ≠ zsz ν5 → a ≠ vl → a ≠ var → zsame ν6 m8 a := fun a ha n1 n2 n3 => (s7 a n1).trans (g8.same (by omega) (by omega))
        have hx8 : zext ν6 m8 := hx7.trans g8.1
        have sb0 : ∀ a, a = zsz ν5 ∨ a = zsz ν6 → zsame m7 m8 a := fun a ha => g8.same (by omega) (by omega)
        have fb : fg ≠ zsz ν5 ∧ fg ≠ vl ∧ fg ≠ var := ⟨by omega, fun t => (by rw [← t, y1] at y7; cases y7), fun t => (by rw [← t, y1] at y9; cases y9)⟩
        have ko : ∀ j, j ≠ 1 → (j < 203 + 17 * V ∨ 203 + 17 * V + 17 ≤ j) → wU (rVa r V w x7 x8 x9 x10) 7 0 j = wU r 7 0 j := fun j j0 j1 => by
          unfold wU
          by_cases t : j = 7
          · rw [if_pos t, if_pos t]
          · rw [if_neg t, if_neg t, rVa_out w6 j0 t (by omega)]
        have pz : ∀ y, y < 12 → wP (wU (rVa r V w x7 x8 x9 x10) 7 0) V y 0 = 0 := fun y hy => by
          have : wP (wU (rVa r V w x7 x8 x9 x10) 7 0) V y 0 = wP r V y 0 := (wU_n (by omega)).trans (rVa_out w6 (by omega) (by omega) (by omega))
          rw [this]; exact hz.2.1 V y (Nat.le_refl _) h8' hy
        have S8 := S6.addV (b := zsz ν5) (tb := zsz ν6) (sb := zsz ν6 + 1) (hi' := zsz m8) (r' := wU (rVa r V w x7 x8 x9 x10) 7 0) ok6 h1 h3 ⟨h4, h5⟩ hx8 h8' (fun a ha q1 q2 q3 q4 => s8 a ha (by omega) q3 q4) (s8 fg (by omega) fb.1 fb.2.1 fb.2.2) (fun a ha hz => s8 a ha (fun t => by rw [t, tb] at hz; unfold zmp at hz; omega) (fun t => by rw [t, y7] at hz; unfold zmp at hz; omega) (fun t => by rw [t, y9] at hz; unfold zmp at hz; omega)) l8 ⟨hhi5, by have := g8.1.1; omega⟩ ⟨by omega, by have := g8.1.1; omega⟩ ⟨by omega, by have := g8.1.1; omega⟩ (fun u u1 u2 => by rw [(sb0 _ (Or.inl rfl)).1]; exact f7 u u1 u2) (by rw [(sb0 _ (Or.inl rfl)).2.1, (sb0 _ (Or.inl rfl)).2.1]; exact f33) (fun y hy => by rw [(sb0 _ (Or.inr rfl)).2.2.1, fT, pz y hy]; exact ⟨rfl, Or.inl rfl⟩) (by rw [wV_w7]; exact z0 13 (by decide) (by decide)) (by rw [wU_n (by decide)]; exact rVa_1) ko (fun y q1 => ⟨by rw [wU_n (by omega)]; exact hz.1 _ (by omega), by rw [wU_n (by omega)]; exact hz.1 _ (by omega)⟩)
        have g8' : zG (fun _ => False) _ _ μ0 m8 := zG.trN (W := fun _ => False) g7 (g8.mono (fun a _ q => Or.inr (by have := q5.2.1.1; omega)) (Nat.le_refl _) (Nat.le_refl _))
        refine kok _ _ hEc m8 (zsz m8) _ _ _ ?_ ⟨S8, ⟨Nat.le_refl _, h2, by rw [hx8.2.2 s (by omega)]; exact h3, h4, h5, h6⟩, fun i hi' => ?_, fun v hv => ?_⟩ hz'
        · exact (q6.kp (W := fun h => h = zsz ν5 ∨ h = vl ∨ h = var) hx8 (fun a ha hn => s8 a ha (fun t => hn (Or.inl t)) (fun t => hn (Or.inr (Or.inl t))) (fun t => hn (Or.inr (Or.inr t)))) (fun h t => by show h < zsz ν5 + 1 ∧ _; omega) (g8'.mono (fun _ _ q => q) (by omega) (by omega))).le (by show P + 1 ≤ zsz ν5 + 1; omega)
        · have he := S6.2.1.2.2.1 i hi'
          have ti := y4 i hi'
          rw [(s8 (ea i) (by omega) (by omega) (fun u => by rw [u, y7] at ti; cases ti) (fun u => by rw [u, y9] at ti; cases ti)).2.1 21, sName_cg (r := r) (fun u hu => rVa_out w6 (by omega) (by omega) (by omega)) (hld.2.2.2.2.1 i hi').2.2]
          refine ((N6.1 i hi').kpT ok6 (ok6.2.2.2.2.2.1 21 (ea i)) fun a ha _ ht => (s8 a (by omega) (by omega) (fun u => ?_) (fun u => ?_)).c).up (by have := g8.1.1; omega)
          · rw [u, y7] at ht; omega
          · rw [u, y9] at ht; omega
        · dsimp only
          by_cases t : v = V
          · rw [if_pos t, (sb0 _ (Or.inl rfl)).2.1, f30, t, rVa_nm w1 w6 wl]
            have k1 : ∀ a, a < C1 → ¬ a < zsz ν → zsmC ν1 m8 a := fun a ha hp => ((gB1.same (by omega) (by omega)).trans (s8 a (by have := gB1.1.1; omega) (by have := gA1.1.1; omega) (by omega) (by omega))).c
            obtain ⟨n1, n2, n3⟩ := (hna.kp k1).up (C := zsz m8) (by have := gB1.1.1; have := g8.1.1; omega)
            exact ⟨n1, by omega, by omega⟩
          · rw [if_neg t]
            have he := (S6.2.2.1.2.2.1 v (by omega)).1
            have ti := (y5 v (by omega)).1
            rw [(s8 (va v) (by omega) (by omega) (fun u => by rw [u, y7] at ti; cases ti) (fun u => by rw [u, y9] at ti; cases ti)).2.1 30, sName_cg (r := r) (fun u hu => rVa_out w6 (by omega) (by omega) (by omega)) (hld.2.2.2.2.2.1 v (by omega)).2.2]
            refine ((N6.2 v (by omega)).kpT ok6 (ok6.2.2.2.2.2.1 30 (va v)) fun a ha _ ht => (s8 a (by omega) (by omega) (fun u => ?_) (fun u => ?_)).c).up (by have := g8.1.1; omega)
            · rw [u, y7] at ht; omega
            · rw [u, y9] at ht; omega
    refine C_pValleyN hstr B1 hld (fun k hk1 hk2 => ⟨_, rfl, fun t => absurd t (nI_nm1 (by omega)), fun _ => rest 1 (Or.inr ⟨⟨k, hk1⟩, rfl⟩)⟩) (fun hk => ⟨_, rfl, fun _ => rest 0 (Or.inl ⟨hk, rfl⟩), fun t => absurd rfl t⟩)
end ZJ
