set_option maxRecDepth 100000
/-! THE COMPONENT, 31: copies of echoes and valleys -/
theorem zG.nfr {c d f a : Nat} {μ ν : ZM} {v : ZP} (h : zG (fun _ => False) c d μ ν) (ha : zsz μ ≤ a) : zG (fun _ => False) c d μ (zFr ν f a v) :=
  ⟨h.1, h.2.1, h.2.2.1, fun b hb hn => (h.2.2.2.1 b hb hn).trans (zsame_zFr (by omega) v), fun g b hg hb => by rw [zfr_zFr, if_neg (fun q => by have := q.2; omega)]; exact h.2.2.2.2 g b hg hb⟩
theorem zG.nfi {c d f a : Nat} {μ ν : ZM} {v : Int32} (h : zG (fun _ => False) c d μ ν) (ha : zsz μ ≤ a) : zG (fun _ => False) c d μ (zFi ν f a v) :=
  (zG.trN (W := fun _ => False) h (zG.fi (Or.inr ha))).mono (fun _ _ q => q) (Nat.le_refl _) (Nat.le_refl _)
theorem zG.nci {c d a i b j n : Nat} {μ ν : ZM} (h : zG (fun _ => False) c d μ ν) (ha : zsz μ ≤ b) : zG (fun _ => False) c d μ (zCi ν a i b j n) :=
  (zG.trN (W := fun _ => False) h (zG.ci (Or.inr ha))).mono (fun _ _ q => q) (Nat.le_refl _) (Nat.le_refl _)
section ZJ
variable {G : ZG} {μ : ZM} {Q : Option ZV → ZM → Prop} {E : ZP → ZM → Prop}
theorem C_eCopy {b : Nat} (hb : b < zsz μ) (hn : zis 23 (zfr μ 21 b))
    (k : ∀ ν, zsz ν = zsz μ + 1 → zG (fun _ => False) 1 9 μ ν → (∀ w, 7 ≤ w → w < 15 → zfi ν (fE w) (zsz μ) = zfi μ (fE w) b) → zfr ν 21 (zsz μ) = zfr μ 21 b → Q (some (vP (3, 0, zsz μ))) ν) : Call G Y_X3_copy [vP (3, 0, b)] μ Q E := by
  have ne : b ≠ zsz μ := by omega
  have z := Nat.le_refl (zsz μ)
  refine S_X3_copy ⟨_, rfl, hn, _, rfl, _, rfl, _, rfl, _, rfl, S_X3_init ⟨hn, rfl, _, rfl, _, rfl, _, rfl, _, rfl, k _ rfl ?_ ?_ ?_⟩⟩
  · have g0 : zG (fun _ => False) 1 9 μ (zNew μ 3 0 9) := zG.nw
    exact (((((((((((g0.nfi z).nfr z).nfi z).nfi z).nfi z).nfi z).nfi z).nfi z).nfi z).nfi z))
  · intro w h1 h2
    have : w = 7 ∨ w = 8 ∨ w = 9 ∨ w = 10 ∨ w = 11 ∨ w = 12 ∨ w = 13 ∨ w = 14 := by omega
    rcases this with rfl | rfl | rfl | rfl | rfl | rfl | rfl | rfl <;> simp [fE, zfi_zFi, zfi_zFr, zfi_zNew, ne]
  · simp [zfr_zFi, zfr_zFr]
theorem C_vCopy {b ta sa : Nat} (hb : b < zsz μ) (hta : ta < zsz μ) (hsa : sa < zsz μ) (h33 : zfr μ 33 b = (201, 12, ta)) (h34 : zfr μ 34 b = (200, 3, sa)) (ht : ∀ e, e < 12 → zai μ ta e = 0 ∨ zai μ ta e = 1) (hn : zis 23 (zfr μ 30 b))
    (k : ∀ ν, zsz ν = zsz μ + 3 → zG (fun _ => False) 3 25 μ ν → (∀ w, 7 ≤ w → w < 14 → zfi ν (fV w) (zsz μ) = zfi μ (fV w) b) → zfr ν 30 (zsz μ) = zfr μ 30 b → zfr ν 33 (zsz μ) = (201, 12, zsz μ + 1) → zfr ν 34 (zsz μ) = (200, 3, zsz μ + 1 + 1) → (∀ e, e < 12 → zai ν (zsz μ + 1) e = zai μ ta e) → (∀ j, j < 3 → zai ν (zsz μ + 1 + 1) j = zai μ sa j) → Q (some (vP (4, 0, zsz μ))) ν) : Call G Y_X4_copy [vP (4, 0, b)] μ Q E := by
  have ne : b ≠ zsz μ := by omega
  have z := Nat.le_refl (zsz μ)
  have z1 : zsz μ ≤ zsz μ + 1 := by omega
  have z2 : zsz μ ≤ zsz μ + 1 + 1 := by omega
  refine S_X4_copy ⟨_, rfl, hn, _, rfl, _, rfl, _, _, h33, fun i hi => ?_, _, _, h34, S_X4_init_2 ⟨hn, rfl, _, rfl, _, rfl, _, rfl, _, rfl, _, rfl, k _ rfl ?_ ?_ ?_ ?_ ?_ ?_ ?_⟩⟩
  · rcases ht i hi with q | q <;> rw [show zai (zNew μ 4 0 10) ta i = zai μ ta i from rfl, q] <;> exact ⟨rfl, rfl⟩
  · have g0 : zG (fun _ => False) 1 10 μ (zNew μ 4 0 10) := zG.nw
    have g1 : zG (fun _ => False) (1 + 1) (10 + 12) μ (zNew (zNew μ 4 0 10) 201 12 12) := g0.tr zG.nw
    have g2 := g1.nci (a := ta) (i := 0) (j := 0) (n := 12) (b := zsz μ + 1) z1
    have g3 : zG (fun _ => False) (1 + 1 + 1) (10 + 12 + 3) μ (zNew (zCi (zNew (zNew μ 4 0 10) 201 12 12) ta 0 (zsz μ + 1) 0 12) 200 3 3) := g2.tr zG.nw
    have g4 := g3.nci (a := sa) (i := 0) (j := 0) (n := 3) (b := zsz μ + 1 + 1) z2
    exact ((((((((((g4.nfr z).nfi z).nfi z).nfr z).nfr z).nfi z).nfi z).nfi z).nfi z).nfi z)
  · intro w h1 h2
    have : w = 7 ∨ w = 8 ∨ w = 9 ∨ w = 10 ∨ w = 11 ∨ w = 12 ∨ w = 13 := by omega
    rcases this with rfl | rfl | rfl | rfl | rfl | rfl | rfl <;> simp [fV, zfi_zFi, zfi_zFr, zfi_zNew, zfi_zCi, ne]
  · simp [zfr_zFi, zfr_zFr, zfr_zNew, zfr_zCi]
  · simp [zfr_zFi, zfr_zFr]
  · simp [zfr_zFi, zfr_zFr]
  · intro e he
    have n1 : ¬ zsz μ + 1 = zsz μ + 1 + 1 := by omega
    have n2 : ¬ ta = zsz μ + 1 := by omega
    simp [zai_zFi, zai_zFr, zai_zNew, zai_zCi, he]
  · intro j hj
    have n1 : ¬ sa = zsz μ + 1 := by omega
    have n2 : ¬ sa = zsz μ + 1 + 1 := by omega
    simp [zai_zFi, zai_zFr, zai_zNew, zai_zCi, hj, n1]
end ZJ
