set_option maxRecDepth 100000
/-! THE START, 6: the law from its entry -/
section ZJ
variable {G : ZG} {μ ν τ : ZM} {Q : Option ZV → ZM → Prop} {E : ZP → ZM → Prop} {B m t0 r0 : Nat} {σ : ZS}
theorem zMs.tg (h : zMs μ m σ) (hok : zok μ) (ht : (ztg μ m).1 = 5) (hm : m < zsz μ) : ∀ a, zZm m a → a < zsz μ ∧ ((ztg μ a).1 = 5 ∨ (ztg μ a).1 = 200 ∨ (ztg μ a).1 = 201) := by
  obtain ⟨⟨h1, h2, h3, h4, h5, h6, h7, h8, h9, h10, h11, h12⟩, -⟩ := h
  intro a ha
  have q : ∀ {f t n b : Nat}, zfr μ f m = (t, n, b) → (t = 200 ∨ t = 201) → b < zsz μ ∧ ((ztg μ b).1 = 5 ∨ (ztg μ b).1 = 200 ∨ (ztg μ b).1 = 201) := fun e ht => by
    obtain ⟨q1, q2⟩ := hok.ref e (by omega) (by omega)
    exact ⟨q1, Or.inr (by rw [q2]; exact ht)⟩
  have : a = m ∨ a = m + 1 ∨ a = m + 2 ∨ a = m + 3 ∨ a = m + 4 ∨ a = m + 5 ∨ a = m + 6 ∨ a = m + 7 ∨ a = m + 8 ∨ a = m + 9 ∨ a = m + 10 ∨ a = m + 11 ∨ a = m + 12 := by have := ha.1; have := ha.2; omega
  rcases this with rfl | rfl | rfl | rfl | rfl | rfl | rfl | rfl | rfl | rfl | rfl | rfl | rfl
  · exact ⟨hm, Or.inl ht⟩
  · exact q h1 (Or.inl rfl)
  · exact q h2 (Or.inl rfl)
  · exact q h3 (Or.inl rfl)
  · exact q h4 (Or.inl rfl)
  · exact q h5 (Or.inl rfl)
  · exact q h6 (Or.inl rfl)
  · exact q h7 (Or.inl rfl)
  · exact q h8 (Or.inl rfl)
  · exact q h9 (Or.inr rfl)
  · exact q h10 (Or.inl rfl)
  · exact q h11 (Or.inl rfl)
  · exact q h12 (Or.inl rfl)
theorem zKn.kp (h : zKn G μ B) (k : ∀ a, a < B → zsmC μ ν a) : zKn G ν B := fun y hy => (h y hy).kpB k
theorem L_start (hG : zGk G) (hI : zIc G μ) (hT : zKt G μ B) (hN : zKn G μ B) (h119 : zStr μ B (zgS G 119) tInit) (hr0 : (ztg μ r0).1 = 209 ∧ r0 < zsz μ) (ht : t0 ≤ 144) (k : ∀ ν, zsz ν ≤ zsz μ + 1200144 → zsl ν ≤ zsl μ + 5497018 → Q (some (vI 1)) ν) : Wp G Y_L_law 0 [(0, vP (209, t0, r0))] [] μ Q E := by
  refine Wp.zo fun hok => S_L_law ?_
  have gx : zG (fun _ => False) 1 8 μ (zNew μ 1 0 8) := zG.nw
  have hB := hT.2.1
  have kB : ∀ {c e : Nat} {ρ : ZM}, zG (fun _ => False) c e μ ρ → ∀ a, a < B → zsmC μ ρ a := fun g a ha => (g.same (Nat.lt_of_lt_of_le ha hB) id).c
  refine Call.zq (C_xInit (hN.kp (kB gx)) (Nat.lt_succ_self _) (by rw [ztg_zNew, if_pos rfl]) (fun f => by rw [zfi_zNew]; exact hok.1 f _ (Nat.le_refl _)) (by rw [zfr_zNew]; exact hok.2.1 1 _ (Nat.le_refl _)) fun ν1 d da bf sb sba R1 g1 ok1 _ => ⟨rfl, ?_⟩)
  have G1 : zG (fun _ => False) (1 + 40) (8 + 1300) μ ν1 := zG.trN (W := fun _ => False) gx (g1.mono (fun a _ q => Or.inr (by omega)) (Nat.le_refl _) (Nat.le_refl _))
  have z1 := G1.1.1
  have gm : zG (fun _ => False) 1 28 ν1 (zNew ν1 5 0 28) := zG.nw
  have G2 : zG (fun _ => False) (1 + 40 + 1) (8 + 1300 + 28) μ (zNew ν1 5 0 28) := G1.tr gm
  have T2 : zKt G (zNew ν1 5 0 28) B := hT.kp G2.1 (kB G2)
  have s2 : zStr (zNew ν1 5 0 28) (zsz ν1) (zgS G 119) tInit := (zNa.up (X := fun _ => False) ⟨h119.kpB (kB G2), id, id⟩ (show B ≤ zsz ν1 by omega)).1
  refine Call.zq (C_init5 (m := zsz ν1) rfl (fun f => by rw [zfi_zNew]; exact ok1.1 f _ (Nat.le_refl _)) (T2.ks (by omega)) s2 fun ν2 r hp hM e2 l2 hs ok2 x2 => ⟨rfl, ?_⟩)
  have hr : r = rIn := by rw [pI_load] at hp; cases hp; rfl
  subst hr
  have g2 : zG (fun _ => False) (1 + 12) (28 + 8914) ν1 ν2 := by
    have sm : ∀ a, a < zsz ν1 → zsame ν1 ν2 a := fun a ha => (gm.same ha id).trans (hs a ha)
    exact ⟨gm.1.trans x2, by rw [e2]; show zsz ν1 + 1 + 12 ≤ _; omega, by rw [l2]; show zsl ν1 + 28 + 8914 ≤ _; omega, fun a ha _ => sm a ha, fun f a _ ha => (sm a ha).2.1 f⟩
  have tm : (ztg ν2 (zsz ν1)).1 = 5 := by rw [x2.2.2 (zsz ν1) (Nat.lt_succ_self _), ztg_zNew, if_pos rfl]
  have g3 : zG (fun _ => False) 1 1 ν2 (zNew ν2 203 1 1) := zG.nw
  have ok3 : zok (zNew ν2 203 1 1) := ok2.zNew 203 1 1
  have g23 := g2.tr g3
  have GF := G1.tr g23
  have zm : zsz ν1 < zsz ν2 := by rw [e2]; show zsz ν1 < zsz ν1 + 1 + 12; omega
  have M3 : zMs (zNew ν2 203 1 1) (zsz ν1) sI0 := hM.kp fun a ha => by
    have := (hM.tg ok2 tm zm a ha).1
    exact (g3.same this id).c
  have t3 : (ztg (zNew ν2 203 1 1) (zsz ν1)).1 = 5 := by rw [g3.1.2.2 _ zm]; exact tm
  have R3 := R1.kp ok1 g23
  have hZ := M3.tg ok3 t3 (Nat.lt_of_lt_of_le zm g3.1.1)
  have X3 := R3.xs (hN.kp (kB GF)) ok3 hB (hI.nw hok GF) (Z := zZm (zsz ν1)) (fun a ha => ⟨(hZ a ha).1, ha.1, (hZ a ha).2⟩)
  have L3 : zLv G (zsz μ) d da bf sb (zsz ν1) (zsz ν2) r0 B sI0 sI0 (zNew ν2 203 1 1) := ⟨⟨_, _, X3⟩, M3, hT.kp GF.1 (kB GF), by omega, ⟨by rw [ztg_zNew, if_pos rfl], Nat.lt_succ_self _⟩, ⟨by rw [GF.1.2.2 r0 hr0.2]; exact hr0.1, Nat.lt_of_lt_of_le hr0.2 GF.1.1⟩⟩
  have gr : zGs (2000 * 0) sI0 := ⟨pLoad_ok pI_load, fun y q => (by cases q), fun y q => (by cases q)⟩
  have c1 := GF.2.1
  have c2 := GF.2.2.1
  refine L_loop (S := zsz (zNew ν2 203 1 1)) (T := zsl (zNew ν2 203 1 1)) hG ht (fun ν q1 q2 => k ν (by omega) (by omega)) 24 0 sI0 _ rfl L3 gr (Nat.le_refl _) (Nat.le_refl _)
end ZJ
