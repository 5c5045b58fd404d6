set_option maxRecDepth 100000
/-! THE START, 2: the first State's valleys -/
section ZJ
variable {G : ZG} {μ ν τ μ0 : ZM} {Q : ZM → Prop} {E E1 E2 : ZP → ZM → Prop} {K V s lo hi F fg el ear vl var ds dm sm c e x7 x8 x9 x10 : Nat} {ea va ta sa : Nat → Nat} {r : Nat → Int32} {w : List Nat} {z1 z2 z3 z4 : Int32} {q : ZP} {nE nV : Nat → ZP}
theorem C_iValley (okν : zok ν) (hB : zBi ν r K V s lo hi F fg el ear vl var ds dm sm ea va ta sa nE nV) (hz : zPz r V) (h8' : V < 8) (hq : zis 23 q) (w6 : w.length ≤ 6) (h7 : z1 = nI x7) (h8 : z2 = nI x8) (h9 : z3 = nI x9) (h10 : z4 = nI x10) (hl0 : zsz μ0 ≤ lo) (g : zG (fun _ => False) c e μ0 ν)
    (k : ∀ τ hi' va' ta' sa', zok τ → zBi τ (rVa r V w x7 x8 x9 x10) K (V + 1) s lo hi' F fg el ear vl var ds dm sm ea va' ta' sa' nE (fun i => if i = V then q else nV i) → zPz (rVa r V w x7 x8 x9 x10) (V + 1) → zG (fun _ => False) (c + 3) (e + 25) μ0 τ → Q τ) : Call G Y_X4_init [vP (4, 0, zsz ν), vP q, vI z1, vI z2, vI z3, vI z4] (zNew ν 4 0 10) (rV fun ν2 => Call G Y_J2_add [vP (10, 0, vl), vP (4, 0, zsz ν)] ν2 (rI fun _ ν3 => Q ν3) E1) E2 := by
  subst h7; subst h8; subst h9; subst h10
  refine Call.zo fun ok6 _ => ?_
  obtain ⟨S, ⟨h1, h3, h4, h5⟩, NE, NV⟩ := hB
  have gN : zG (fun _ => False) 1 10 ν (zNew ν 4 0 10) := zG.nw
  have S6 : zSta (zNew ν 4 0 10) lo hi s (wU r 7 0) K V F fg el ear vl var ds dm sm ea va ta sa := S.nw okν h1 gN
  have fresh : ∀ f, zfi (zNew ν 4 0 10) f (zsz ν) = 0 := fun f => by rw [zfi_zNew]; exact okν.1 f (zsz ν) (Nat.le_refl _)
  obtain ⟨ν6, hν6⟩ : ∃ x, x = zNew ν 4 0 10 := ⟨_, rfl⟩
  have e6 : zsz ν6 = zsz ν + 1 := by rw [hν6]; rfl
  have tb : (ztg ν6 (zsz ν)).1 = 4 := by rw [hν6, ztg_zNew, if_pos rfl]
  rw [← hν6] at S6 gN fresh ok6 ⊢
  have hE1 := S6.2.1.1
  have hV1 := S6.2.2.1.1
  have hS1 := S6.1.1
  have hfg := S6.1.1.2.2
  have s3 : (ztg ν6 s).1 = 2 := by rw [gN.1.2.2 s (by omega)]; exact h3
  have g6 : zG (fun _ => False) (c + 1) (e + 10) μ0 ν6 := g.tr gN
  have zlo : lo ≤ zsz ν := by omega
  have m0 : zsz μ0 ≤ zsz ν := g.1.1
  refine S_X4_init ⟨hq, S_X4_init_2 ⟨hq, rfl, rfl, ?_⟩⟩
  have hx7 : zext ν6 (zFi (zFi (zFr (zFr (zFi (zFi (zFr (zNew (zNew ν6 201 12 12) 200 3 3) 30 (zsz ν) q) 31 (zsz ν) (nI x7)) 32 (zsz ν) (nI x8)) 33 (zsz ν) (201, 12, zsz ν6)) 34 (zsz ν) (200, 3, zsz ν6 + 1)) 35 (zsz ν) (nI x9)) 36 (zsz ν) (nI x10)) := ((((((((zext_zNew _ _ _ _).trans (zext_zNew _ _ _ _)).trans (zext_zFr _ _ _ _)).trans (zext_zFi _ _ _ _)).trans (zext_zFi _ _ _ _)).trans (zext_zFr _ _ _ _)).trans (zext_zFr _ _ _ _)).trans (zext_zFi _ _ _ _)).trans (zext_zFi _ _ _ _)
  have s7 : ∀ a, a ≠ zsz ν → zsame ν6 (zFi (zFi (zFr (zFr (zFi (zFi (zFr (zNew (zNew ν6 201 12 12) 200 3 3) 30 (zsz ν) q) 31 (zsz ν) (nI x7)) 32 (zsz ν) (nI x8)) 33 (zsz ν) (201, 12, zsz ν6)) 34 (zsz ν) (200, 3, zsz ν6 + 1)) 35 (zsz ν) (nI x9)) 36 (zsz ν) (nI x10)) a := fun a hn => ((((((((zsame_zNew.trans zsame_zNew).trans (zsame_zFr hn _)).trans (zsame_zFi hn _)).trans (zsame_zFi hn _)).trans (zsame_zFr hn _)).trans (zsame_zFr hn _)).trans (zsame_zFi hn _)).trans (zsame_zFi hn _))
  have g7 : zG (fun _ => False) (c + 1 + 1 + 1) (e + 10 + 12 + 3) μ0 (zFi (zFi (zFr (zFr (zFi (zFi (zFr (zNew (zNew ν6 201 12 12) 200 3 3) 30 (zsz ν) q) 31 (zsz ν) (nI x7)) 32 (zsz ν) (nI x8)) 33 (zsz ν) (201, 12, zsz ν6)) 34 (zsz ν) (200, 3, zsz ν6 + 1)) 35 (zsz ν) (nI x9)) 36 (zsz ν) (nI x10)) := zG.Nfi (zG.Nfi (zG.Nfr (zG.Nfr (zG.Nfi (zG.Nfi (zG.Nfr ((g6.tr (zG.nw (t := 201) (n := 12) (k := 12))).tr (zG.nw (t := 200) (n := 3) (k := 3))) m0) m0) m0) m0) m0) m0) m0
  have hz' := rVa_z (x7 := x7) (x8 := x8) (x9 := x9) (x10 := x10) w6 h8' hz
  have z0 : ∀ y, 11 ≤ y → y < 17 → wV (rVa r V w x7 x8 x9 x10) V y = 0 := fun y y1 y2 => hz'.1 (203 + 17 * V + y) (by omega)
  have f7 : ∀ u, 7 ≤ u → u < 14 → zfi (zFi (zFi (zFr (zFr (zFi (zFi (zFr (zNew (zNew ν6 201 12 12) 200 3 3) 30 (zsz ν) q) 31 (zsz ν) (nI x7)) 32 (zsz ν) (nI x8)) 33 (zsz ν) (201, 12, zsz ν6)) 34 (zsz ν) (200, 3, zsz ν6 + 1)) 35 (zsz ν) (nI x9)) 36 (zsz ν) (nI x10)) (fV u) (zsz ν) = wV (wU (rVa r V w x7 x8 x9 x10) 7 0) V u := by
    intro u u1 u2
    rw [wV_w7]
    have hu : u = 7 ∨ u = 8 ∨ u = 9 ∨ u = 10 ∨ u = 11 ∨ u = 12 ∨ u = 13 := by omega
    rcases hu with rfl | rfl | rfl | rfl | rfl | rfl | rfl
    · rw [rVa_7]; simp [fV, zfi_zFi, zfi_zFr]
    · rw [rVa_8]; simp [fV, zfi_zFi, zfi_zFr]
    · rw [rVa_9]; simp [fV, zfi_zFi, zfi_zFr]
    · rw [rVa_10]; simp [fV, zfi_zFi, zfi_zFr]
    · rw [z0 11 (by decide) (by decide)]; simp [fV, zfi_zFi, zfi_zFr, zfi_zNew, fresh]
    · rw [z0 12 (by decide) (by decide)]; simp [fV, zfi_zFi, zfi_zFr, zfi_zNew, fresh]
    · rw [z0 13 (by decide) (by decide)]; simp [fV, zfi_zFi, zfi_zFr, zfi_zNew, fresh]
  have f30 : zfr (zFi (zFi (zFr (zFr (zFi (zFi (zFr (zNew (zNew ν6 201 12 12) 200 3 3) 30 (zsz ν) q) 31 (zsz ν) (nI x7)) 32 (zsz ν) (nI x8)) 33 (zsz ν) (201, 12, zsz ν6)) 34 (zsz ν) (200, 3, zsz ν6 + 1)) 35 (zsz ν) (nI x9)) 36 (zsz ν) (nI x10)) 30 (zsz ν) = q := by simp [zfr_zFi, zfr_zFr]
  have f33 : zfr (zFi (zFi (zFr (zFr (zFi (zFi (zFr (zNew (zNew ν6 201 12 12) 200 3 3) 30 (zsz ν) q) 31 (zsz ν) (nI x7)) 32 (zsz ν) (nI x8)) 33 (zsz ν) (201, 12, zsz ν6)) 34 (zsz ν) (200, 3, zsz ν6 + 1)) 35 (zsz ν) (nI x9)) 36 (zsz ν) (nI x10)) 33 (zsz ν) = (201, 12, zsz ν6) ∧ zfr (zFi (zFi (zFr (zFr (zFi (zFi (zFr (zNew (zNew ν6 201 12 12) 200 3 3) 30 (zsz ν) q) 31 (zsz ν) (nI x7)) 32 (zsz ν) (nI x8)) 33 (zsz ν) (201, 12, zsz ν6)) 34 (zsz ν) (200, 3, zsz ν6 + 1)) 35 (zsz ν) (nI x9)) 36 (zsz ν) (nI x10)) 34 (zsz ν) = (200, 3, zsz ν6 + 1) := by constructor <;> simp [zfr_zFi, zfr_zFr]
  have fT : ∀ i, zai (zFi (zFi (zFr (zFr (zFi (zFi (zFr (zNew (zNew ν6 201 12 12) 200 3 3) 30 (zsz ν) q) 31 (zsz ν) (nI x7)) 32 (zsz ν) (nI x8)) 33 (zsz ν) (201, 12, zsz ν6)) 34 (zsz ν) (200, 3, zsz ν6 + 1)) 35 (zsz ν) (nI x9)) 36 (zsz ν) (nI x10)) (zsz ν6) i = 0 := fun i => ok6.2.2.1 (zsz ν6) i (Nat.le_refl _)
  have z7 : zsz (zFi (zFi (zFr (zFr (zFi (zFi (zFr (zNew (zNew ν6 201 12 12) 200 3 3) 30 (zsz ν) q) 31 (zsz ν) (nI x7)) 32 (zsz ν) (nI x8)) 33 (zsz ν) (201, 12, zsz ν6)) 34 (zsz ν) (200, 3, zsz ν6 + 1)) 35 (zsz ν) (nI x9)) 36 (zsz ν) (nI x10)) = zsz ν6 + 2 := rfl
  generalize (zFi (zFi (zFr (zFr (zFi (zFi (zFr (zNew (zNew ν6 201 12 12) 200 3 3) 30 (zsz ν) q) 31 (zsz ν) (nI x7)) 32 (zsz ν) (nI x8)) 33 (zsz ν) (201, 12, zsz ν6)) 34 (zsz ν) (200, 3, zsz ν6 + 1)) 35 (zsz ν) (nI x9)) 36 (zsz ν) (nI x10)) = m7 at hx7 s7 g7 f7 f30 f33 fT z7 ⊢
  obtain ⟨y1, y2, y3, y4, y5, y6, y7, y8, y9⟩ := S6.tg ok6
  have l7 := S6.2.2.1.2.1.kp (s7 vl (by omega)) (s7 var (by omega))
  refine Call.zq (C_alAdd l7 h8' rfl (fun t => by rw [t, y9] at y7; cases y7) fun m8 g8 l8 ok8 _ => ⟨_, rfl, ?_⟩)
  have s8 : ∀ a, a < zsz ν6 → a ≠ zsz ν → a ≠ vl → a ≠ var → zsame ν6 m8 a := fun a ha n1 n2 n3 => (s7 a n1).trans (g8.same (by omega) (by omega))
  have hx8 : zext ν6 m8 := hx7.trans g8.1
  have sb0 : ∀ a, a = zsz ν ∨ a = zsz ν6 → zsame m7 m8 a := fun a ha => g8.same (by omega) (by omega)
  have fb : fg ≠ zsz ν ∧ fg ≠ vl ∧ fg ≠ var := ⟨by omega, fun t => (by rw [← t, y1] at y7; cases y7), fun t => (by rw [← t, y1] at y9; cases y9)⟩
  have ko : ∀ j, j ≠ 1 → (j < 203 + 17 * V ∨ 203 + 17 * V + 17 ≤ j) → wU (rVa r V w x7 x8 x9 x10) 7 0 j = wU r 7 0 j := fun j j0 j1 => by
    unfold wU
    by_cases t : j = 7
    · rw [if_pos t, if_pos t]
    · rw [if_neg t, if_neg t, rVa_out w6 j0 t (by omega)]
  have pz : ∀ y, y < 12 → wP (wU (rVa r V w x7 x8 x9 x10) 7 0) V y 0 = 0 := fun y hy => by
    have : wP (wU (rVa r V w x7 x8 x9 x10) 7 0) V y 0 = wP r V y 0 := (wU_n (by omega)).trans (rVa_out w6 (by omega) (by omega) (by omega))
    rw [this]; exact hz.2.1 V y (Nat.le_refl _) h8' hy
  have z8 := g8.1.1
  have S8 := S6.addV (b := zsz ν) (tb := zsz ν6) (sb := zsz ν6 + 1) (hi' := zsz m8) (r' := wU (rVa r V w x7 x8 x9 x10) 7 0) ok6 (by omega) s3 ⟨h4, h5⟩ hx8 h8' (fun a ha q1 q2 q3 q4 => s8 a ha (by omega) q3 q4) (s8 fg (by omega) fb.1 fb.2.1 fb.2.2) (fun a ha hz => s8 a ha (fun t => by rw [t, tb] at hz; unfold zmp at hz; omega) (fun t => by rw [t, y7] at hz; unfold zmp at hz; omega) (fun t => by rw [t, y9] at hz; unfold zmp at hz; omega)) l8 ⟨by omega, by omega⟩ ⟨by omega, by omega⟩ ⟨by omega, by omega⟩ (fun u u1 u2 => by rw [(sb0 _ (Or.inl rfl)).1]; exact f7 u u1 u2) (by rw [(sb0 _ (Or.inl rfl)).2.1, (sb0 _ (Or.inl rfl)).2.1]; exact f33) (fun y hy => by rw [(sb0 _ (Or.inr rfl)).2.2.1, fT, pz y hy]; exact ⟨rfl, Or.inl rfl⟩) (by rw [wV_w7]; exact z0 13 (by decide) (by decide)) (by rw [wU_n (by decide)]; exact rVa_1) ko (fun y q1 => ⟨by rw [wU_n (by omega)]; exact hz.1 _ (by omega), by rw [wU_n (by omega)]; exact hz.1 _ (by omega)⟩)
  have g8' : zG (fun _ => False) (c + 3) (e + 25) μ0 m8 := (zG.trN (W := fun _ => False) (c := c + 1 + 1 + 1) (d := e + 10 + 12 + 3) (c' := 0) (d' := 0) g7 (g8.mono (fun a _ q => Or.inr (by omega)) (Nat.le_refl _) (Nat.le_refl _))).mono (fun _ _ q => q) (by omega) (by omega)
  refine k m8 (zsz m8) _ _ _ ok8 ⟨S8, ⟨Nat.le_refl _, by rw [hx8.2.2 s (by omega)]; exact s3, h4, h5⟩, fun i hi' => ?_, fun v hv => ?_⟩ hz' g8'
  · have he := S6.2.1.2.2.1 i hi'
    have ti := y4 i hi'
    rw [(s8 (ea i) (by omega) (by omega) (fun u => by rw [u, y7] at ti; cases ti) (fun u => by rw [u, y9] at ti; cases ti)).2.1 21]
    have := gN.same (a := ea i) (by omega) id
    rw [this.2.1]; exact NE i hi'
  · dsimp only
    by_cases t : v = V
    · rw [if_pos t, if_pos t, (sb0 _ (Or.inl rfl)).2.1, f30]
    · rw [if_neg t, if_neg t]
      have he := (S6.2.2.1.2.2.1 v (by omega)).1
      have ti := (y5 v (by omega)).1
      rw [(s8 (va v) (by omega) (by omega) (fun u => by rw [u, y7] at ti; cases ti) (fun u => by rw [u, y9] at ti; cases ti)).2.1 30]
      have := gN.same (a := va v) (by omega) id
      rw [this.2.1]; exact NV v (by omega)
end ZJ
