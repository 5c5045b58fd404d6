set_option maxRecDepth 100000
/-! THE START, 1: the first State grows -/
/-- a State that is being built; its names -/
def zBi (ν : ZM) (r : Nat → Int32) (K V s lo hi F fg el ear vl var ds dm sm : Nat) (ea va ta sa : Nat → Nat) (nE nV : Nat → ZP) : Prop := zSta ν lo hi s (wU r 7 0) K V F fg el ear vl var ds dm sm ea va ta sa ∧ (hi ≤ zsz ν ∧ (ztg ν s).1 = 2 ∧ el ≠ vl ∧ ear ≠ var) ∧ (∀ i, i < K → zfr ν 21 (ea i) = nE i) ∧ ∀ v, v < V → zfr ν 30 (va v) = nV v
section ZJ
variable {G : ZG} {μ ν τ μ0 : ZM} {Q : ZM → Prop} {E E1 E2 : ZP → ZM → Prop} {K V s lo hi F fg el ear vl var ds dm sm c e x7 x8 x9 x10 : Nat} {ea va ta sa : Nat → Nat} {r : Nat → Int32} {w : List Nat} {z1 z2 z3 z4 : Int32} {q : ZP} {nE nV : Nat → ZP}
theorem C_iEcho (okν : zok ν) (hB : zBi ν r K V s lo hi F fg el ear vl var ds dm sm ea va ta sa nE nV) (hz : zPz r V) (h12 : K < 12) (a4 : V ≤ 8) (hq : zis 23 q) (w6 : w.length ≤ 6) (h7 : z1 = nI x7) (h8 : z2 = nI x8) (h9 : z3 = nI x9) (h10 : z4 = nI x10) (hl0 : zsz μ0 ≤ lo) (g : zG (fun _ => False) c e μ0 ν)
    (k : ∀ τ hi' ea', zok τ → zBi τ (rEc r K w x7 x8 x9 x10) (K + 1) V s lo hi' F fg el ear vl var ds dm sm ea' va ta sa (fun i => if i = K then q else nE i) nV → zPz (rEc r K w x7 x8 x9 x10) V → zG (fun _ => False) (c + 1) (e + 9) μ0 τ → Q τ) : Call G Y_X3_init [vP (3, 0, zsz ν), vP q, vI z1, vI z2, vI z3, vI z4] (zNew ν 3 0 9) (rV fun ν2 => Call G Y_J2_add [vP (10, 0, el), vP (3, 0, zsz ν)] ν2 (rI fun _ ν3 => Q ν3) E1) E2 := by
  subst h7; subst h8; subst h9; subst h10
  refine Call.zo fun ok6 _ => ?_
  obtain ⟨S, ⟨h1, h3, h4, h5⟩, NE, NV⟩ := hB
  have gN : zG (fun _ => False) 1 9 ν (zNew ν 3 0 9) := zG.nw
  have S6 : zSta (zNew ν 3 0 9) lo hi s (wU r 7 0) K V F fg el ear vl var ds dm sm ea va ta sa := S.nw okν h1 gN
  have fresh : ∀ f, zfi (zNew ν 3 0 9) f (zsz ν) = 0 := fun f => by rw [zfi_zNew]; exact okν.1 f (zsz ν) (Nat.le_refl _)
  have z6 : zsz ν < zsz (zNew ν 3 0 9) := Nat.lt_succ_self _
  have tb : (ztg (zNew ν 3 0 9) (zsz ν)).1 = 3 := by rw [ztg_zNew, if_pos rfl]
  have hE1 := S6.2.1.1
  have hV1 := S6.2.2.1.1
  have hS1 := S6.1.1
  have hfg := S6.1.1.2.2
  have s3 : (ztg (zNew ν 3 0 9) s).1 = 2 := by rw [gN.1.2.2 s (by omega)]; exact h3
  have g6 : zG (fun _ => False) (c + 1) (e + 9) μ0 (zNew ν 3 0 9) := g.tr gN
  have zlo : lo ≤ zsz ν := by omega
  refine S_X3_init ⟨hq, rfl, ?_⟩
  have hx7 : zext (zNew ν 3 0 9) (zFi (zFi (zFi (zFi (zFr (zFi (zNew ν 3 0 9) 28 (zsz ν) (-1)) 21 (zsz ν) q) 22 (zsz ν) (nI x7)) 25 (zsz ν) (nI x8)) 23 (zsz ν) (nI x9)) 24 (zsz ν) (nI x10)) := (((((zext_zFi _ _ _ _).trans (zext_zFr _ _ _ _)).trans (zext_zFi _ _ _ _)).trans (zext_zFi _ _ _ _)).trans (zext_zFi _ _ _ _)).trans (zext_zFi _ _ _ _)
  have s7 : ∀ a, a ≠ zsz ν → zsame (zNew ν 3 0 9) (zFi (zFi (zFi (zFi (zFr (zFi (zNew ν 3 0 9) 28 (zsz ν) (-1)) 21 (zsz ν) q) 22 (zsz ν) (nI x7)) 25 (zsz ν) (nI x8)) 23 (zsz ν) (nI x9)) 24 (zsz ν) (nI x10)) a := fun a hn => ((((((zsame_zFi hn _).trans (zsame_zFr hn _)).trans (zsame_zFi hn _)).trans (zsame_zFi hn _)).trans (zsame_zFi hn _)).trans (zsame_zFi hn _))
  have m0 : zsz μ0 ≤ zsz ν := g.1.1
  have g7 : zG (fun _ => False) (c + 1) (e + 9) μ0 (zFi (zFi (zFi (zFi (zFr (zFi (zNew ν 3 0 9) 28 (zsz ν) (-1)) 21 (zsz ν) q) 22 (zsz ν) (nI x7)) 25 (zsz ν) (nI x8)) 23 (zsz ν) (nI x9)) 24 (zsz ν) (nI x10)) := zG.Nfi (zG.Nfi (zG.Nfi (zG.Nfi (zG.Nfr (zG.Nfi g6 m0) m0) m0) m0) m0) m0
  have hz' := rEc_z (x7 := x7) (x8 := x8) (x9 := x9) (x10 := x10) w6 h12 a4 hz
  have f7 : ∀ u, 7 ≤ u → u < 15 → zfi (zFi (zFi (zFi (zFi (zFr (zFi (zNew ν 3 0 9) 28 (zsz ν) (-1)) 21 (zsz ν) q) 22 (zsz ν) (nI x7)) 25 (zsz ν) (nI x8)) 23 (zsz ν) (nI x9)) 24 (zsz ν) (nI x10)) (fE u) (zsz ν) = wE (wU (rEc r K w x7 x8 x9 x10) 7 0) K u - oE u := by
    intro u u1 u2
    rw [wE_w7]
    have z0 : ∀ y, 11 ≤ y → y < 15 → wE (rEc r K w x7 x8 x9 x10) K y = 0 := fun y y1 y2 => hz'.1 (23 + 15 * K + y) (by omega)
    have hu : u = 7 ∨ u = 8 ∨ u = 9 ∨ u = 10 ∨ u = 11 ∨ u = 12 ∨ u = 13 ∨ u = 14 := by omega
    rcases hu with rfl | rfl | rfl | rfl | rfl | rfl | rfl | rfl
    · rw [rEc_7]; simp [fE, oE, zfi_zFi, zfi_zFr]
    · rw [rEc_8]; simp [fE, oE, zfi_zFi, zfi_zFr]
    · rw [rEc_9]; simp [fE, oE, zfi_zFi, zfi_zFr]
    · rw [rEc_10]; simp [fE, oE, zfi_zFi, zfi_zFr]
    · rw [z0 11 (by decide) (by decide)]; simp [fE, oE, zfi_zFi, zfi_zFr, fresh]
    · rw [z0 12 (by decide) (by decide)]; simp [fE, oE, zfi_zFi, zfi_zFr, fresh]
    · rw [z0 13 (by decide) (by decide)]; simp [fE, oE, zfi_zFi, zfi_zFr]
    · rw [z0 14 (by decide) (by decide)]; simp [fE, oE, zfi_zFi, zfi_zFr, fresh]
  have f21 : zfr (zFi (zFi (zFi (zFi (zFr (zFi (zNew ν 3 0 9) 28 (zsz ν) (-1)) 21 (zsz ν) q) 22 (zsz ν) (nI x7)) 25 (zsz ν) (nI x8)) 23 (zsz ν) (nI x9)) 24 (zsz ν) (nI x10)) 21 (zsz ν) = q := by simp [zfr_zFi, zfr_zFr]
  have z7 : zsz (zFi (zFi (zFi (zFi (zFr (zFi (zNew ν 3 0 9) 28 (zsz ν) (-1)) 21 (zsz ν) q) 22 (zsz ν) (nI x7)) 25 (zsz ν) (nI x8)) 23 (zsz ν) (nI x9)) 24 (zsz ν) (nI x10)) = zsz ν + 1 := rfl
  generalize (zFi (zFi (zFi (zFi (zFr (zFi (zNew ν 3 0 9) 28 (zsz ν) (-1)) 21 (zsz ν) q) 22 (zsz ν) (nI x7)) 25 (zsz ν) (nI x8)) 23 (zsz ν) (nI x9)) 24 (zsz ν) (nI x10)) = m7 at hx7 s7 g7 f7 f21 z7 ⊢
  have e6 : zsz (zNew ν 3 0 9) = zsz ν + 1 := rfl
  obtain ⟨y1, y2, y3, y4, y5, y6, y7, y8, y9⟩ := S6.tg ok6
  have l7 := S6.2.1.2.1.kp (s7 el (by omega)) (s7 ear (by omega))
  refine Call.zq (C_alAdd l7 h12 rfl (fun t => by rw [t, y8] at y6; cases y6) fun m8 g8 l8 ok8 _ => ⟨_, rfl, ?_⟩)
  have s8 : ∀ a, a < zsz (zNew ν 3 0 9) → a ≠ zsz ν → a ≠ el → a ≠ ear → zsame (zNew ν 3 0 9) m8 a := fun a ha n1 n2 n3 => (s7 a n1).trans (g8.same (by omega) (by omega))
  have hx8 : zext (zNew ν 3 0 9) m8 := hx7.trans g8.1
  have sb0 : zsame m7 m8 (zsz ν) := g8.same (by omega) (by omega)
  have fb : fg ≠ zsz ν ∧ fg ≠ el ∧ fg ≠ ear := ⟨by omega, fun t => (by rw [← t, y1] at y6; cases y6), fun t => (by rw [← t, y1] at y8; cases y8)⟩
  have ko : ∀ j, j ≠ 0 → (j < 23 + 15 * K ∨ 23 + 15 * K + 15 ≤ j) → wU (rEc r K w x7 x8 x9 x10) 7 0 j = wU r 7 0 j := fun j j0 j1 => by
    unfold wU
    by_cases t : j = 7
    · rw [if_pos t, if_pos t]
    · rw [if_neg t, if_neg t, rEc_out w6 j0 (by omega)]
  have z8 := g8.1.1
  have S8 := S6.addE (b := zsz ν) (hi' := zsz m8) (r' := wU (rEc r K w x7 x8 x9 x10) 7 0) ok6 (by omega) s3 ⟨h4, h5⟩ hx8 h12 (fun a ha q1 q2 q3 q4 => s8 a ha (by omega) q3 q4) (s8 fg (by omega) fb.1 fb.2.1 fb.2.2) (fun a ha hz => s8 a ha (fun t => by rw [t, tb] at hz; unfold zmp at hz; omega) (fun t => by rw [t, y6] at hz; unfold zmp at hz; omega) (fun t => by rw [t, y8] at hz; unfold zmp at hz; omega)) l8 ⟨h1, by omega⟩ (fun u u1 u2 => by rw [sb0.1]; exact f7 u u1 u2) (by rw [wU_n (by decide)]; exact rEc_0) ko (fun y q1 q2 => ⟨by rw [wU_n (by omega)]; exact hz.1 _ (by omega), by rw [wU_n (by omega)]; exact hz.1 _ (by omega)⟩)
  have g8' : zG (fun _ => False) (c + 1) (e + 9) μ0 m8 := (zG.trN (W := fun _ => False) (c := c + 1) (d := e + 9) (c' := 0) (d' := 0) g7 (g8.mono (fun a _ q => Or.inr (by omega)) (Nat.le_refl _) (Nat.le_refl _)))
  refine k m8 (zsz m8) _ ok8 ⟨S8, ⟨Nat.le_refl _, by rw [hx8.2.2 s (by omega)]; exact s3, h4, h5⟩, fun i hi' => ?_, fun v hv => ?_⟩ hz' g8'
  · dsimp only
    by_cases t : i = K
    · rw [if_pos t, if_pos t, sb0.2.1, f21]
    · rw [if_neg t, if_neg t]
      have he := S6.2.1.2.2.1 i (by omega)
      have ti := y4 i (by omega)
      rw [(s8 (ea i) (by omega) (by omega) (fun u => by rw [u, y6] at ti; cases ti) (fun u => by rw [u, y8] at ti; cases ti)).2.1 21]
      exact NE i (by omega)
  · have he := (S6.2.2.1.2.2.1 v hv).1
    have ti := (y5 v hv).1
    rw [(s8 (va v) (by omega) (by omega) (fun u => by rw [u, y6] at ti; cases ti) (fun u => by rw [u, y8] at ti; cases ti)).2.1 30]
    exact NV v hv
end ZJ
