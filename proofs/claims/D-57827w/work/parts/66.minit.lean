/-! CONTRACTS, 28: the model's constructor -/
/-- the text of the first configuration -/
def tInit : List Nat := [102, 97, 105, 114, 32, 53, 59, 102, 111, 103, 32, 50, 32, 55, 32, 52, 59, 101, 99, 104, 111, 32, 121, 111, 100, 101, 108, 32, 51, 32, 54, 32, 57, 32, 53, 59, 101, 99, 104, 111, 32, 109, 117, 109, 98, 108, 101, 32, 56, 32, 50, 32, 52, 32, 49, 59, 101, 99, 104, 111, 32, 98, 101, 108, 108, 32, 53, 32, 57, 32, 49, 52, 32, 56, 59, 101, 99, 104, 111, 32, 104, 111, 114, 110, 32, 52, 32, 53, 32, 54, 32, 51, 59, 118, 97, 108, 108, 101, 121, 32, 103, 114, 101, 101, 110, 32, 52, 32, 49, 32, 49, 48, 32, 54, 48, 59, 118, 97, 108, 108, 101, 121, 32, 100, 101, 101, 112, 32, 56, 32, 50, 32, 56, 32, 53, 59, 118, 97, 108, 108, 101, 121, 32, 111, 108, 100, 32, 50, 32, 49, 32, 49, 53, 32, 51, 48, 59, 116, 101, 115, 116, 101, 100, 32, 103, 114, 101, 101, 110, 32, 121, 111, 100, 101, 108, 59, 116, 101, 115, 116, 101, 100, 32, 100, 101, 101, 112, 32, 109, 117, 109, 98, 108, 101, 59, 116, 101, 115, 116, 101, 100, 32, 111, 108, 100, 32, 104, 111, 114, 110, 59]
def sInit : ZS := (fun _ => 0, none, [], tInit, 0, -1, [])
theorem pLoad_init : ∃ r, pLoad tInit = .ok r := by
  have h : (match pLoad tInit with | .ok _ => true | .error _ => false) = true := by decide +kernel
  revert h
  cases pLoad tInit with
  | ok r => exact fun _ => ⟨r, rfl⟩
  | error e => exact fun h => by cases h
section ZIN
variable {G : ZG} {μ ν : ZM} {Q : Option ZV → ZM → Prop} {E : ZP → ZM → Prop} {m : Nat}
def mInit (μ : ZM) (m : Nat) : ZM := zFr (zNew (zFr (zNew (zFi (zFr (zNew (zFr (zNew (zFr (zNew (zFr (zNew (zFr (zNew (zFr (zNew (zFr (zNew (zFr (zNew (zFr (zNew (zFr (zNew μ 200 627 627) 40 m (200, 627, zsz μ)) 200 627 627) 41 m (200, 627, zsz μ + 1)) 200 627 627) 42 m (200, 627, zsz μ + 1 + 1)) 200 627 627) 43 m (200, 627, zsz μ + 1 + 1 + 1)) 200 5016 5016) 44 m (200, 5016, zsz μ + 1 + 1 + 1 + 1)) 200 16 16) 48 m (200, 16, zsz μ + 1 + 1 + 1 + 1 + 1)) 200 24 24) 49 m (200, 24, zsz μ + 1 + 1 + 1 + 1 + 1 + 1)) 200 8 8) 50 m (200, 8, zsz μ + 1 + 1 + 1 + 1 + 1 + 1 + 1)) 201 96 96) 51 m (201, 96, zsz μ + 1 + 1 + 1 + 1 + 1 + 1 + 1 + 1)) 200 900 900) 55 m (200, 900, zsz μ + 1 + 1 + 1 + 1 + 1 + 1 + 1 + 1 + 1)) 63 m (-1)) 200 90 90) 64 m (200, 90, zsz μ + 1 + 1 + 1 + 1 + 1 + 1 + 1 + 1 + 1 + 1)) 200 256 256) 66 m (200, 256, zsz μ + 1 + 1 + 1 + 1 + 1 + 1 + 1 + 1 + 1 + 1 + 1)
theorem mInit_ai (μ : ZM) (m : Nat) : zai (mInit μ m) = zai μ := by
  unfold mInit
  simp only [zai_zFr, zai_zNew, zai_zFi]
theorem mInit_sz (μ : ZM) (m : Nat) : zsz (mInit μ m) = zsz μ + 12 := by
  unfold mInit
  simp only [zsz_zFr, zsz_zNew, zsz_zFi]
theorem mInit_sl (μ : ZM) (m : Nat) : zsl (mInit μ m) = zsl μ + 8914 := by
  have e : zsl (mInit μ m) = zsl μ + 627 + 627 + 627 + 627 + 5016 + 16 + 24 + 8 + 96 + 900 + 90 + 256 := by
    unfold mInit
    rw [zsl_zFr, zsl_zNew, zsl_zFr, zsl_zNew, zsl_zFi, zsl_zFr, zsl_zNew, zsl_zFr, zsl_zNew, zsl_zFr, zsl_zNew, zsl_zFr, zsl_zNew, zsl_zFr, zsl_zNew, zsl_zFr, zsl_zNew, zsl_zFr, zsl_zNew, zsl_zFr, zsl_zNew, zsl_zFr, zsl_zNew, zsl_zFr, zsl_zNew]
  have e2 : ∀ x : Nat, x + 627 + 627 + 627 + 627 + 5016 + 16 + 24 + 8 + 96 + 900 + 90 + 256 = x + 8914 := fun x => by omega
  exact e.trans (e2 _)
theorem mInit_m {μ : ZM} {m : Nat} (hz : zsz μ = m + 1) : zMm (mInit μ m) m := by
  unfold mInit zMm
  simp only [zfr_zFr, zfr_zNew, zfr_zFi, hz]
  refine ⟨?_, ?_, ?_, ?_, ?_, ?_, ?_, ?_, ?_, ?_, ?_, ?_⟩ <;> rfl
theorem mInit_fi (μ : ZM) (m f b : Nat) : zfi (mInit μ m) f b = if f = 63 ∧ b = m then -1 else zfi μ f b := by
  unfold mInit
  simp only [zfi_zFr, zfi_zNew, zfi_zFi]
theorem mInit_fr (μ : ZM) {m f b : Nat} (hb : b ≠ m) : zfr (mInit μ m) f b = zfr μ f b := by
  have hne : ∀ c, ¬ (f = c ∧ b = m) := fun c t => hb t.2
  unfold mInit
  simp only [zfr_zFr, zfr_zNew, zfr_zFi, if_neg (hne _)]
theorem mInit_o (μ : ZM) (m : Nat) : zar (mInit μ m) = zar μ ∧ zal (mInit μ m) = zal μ := by
  unfold mInit
  constructor
  · simp only [zar_zFr, zar_zNew, zar_zFi]
  · simp only [zal_zFr, zal_zNew, zal_zFi]
/-- a new object's cells behind it -/
theorem C_init5 (hz : zsz μ = m + 1) (h0 : ∀ f, zfi μ f m = 0) (hk : zKs G μ m) (hs : zStr μ m (zgS G 119) tInit)
    (k : ∀ ν r, pLoad tInit = .ok r → zMs ν m (r, none, [], [], 0, -1, []) → zsz ν = zsz μ + 12 → zsl ν = zsl μ + 8914 → (∀ b, b < m → zsame μ ν b) → Q none ν) : Call G Y_X5_init [vP (5, 0, m)] μ Q E := by
  refine Call.adm fun _ hgd _ => ?_
  obtain ⟨o1, o2, o3, o4, o5, -⟩ := hgd.1
  refine S_X5_init ?_
  show Wp G Y_X5_init 117 [(0, vP (5, 0, m)), (1, vP (zgS G 119)), (2, vI 0)] [] (mInit μ m) Q E
  have hm1 := mInit_m hz
  have ha1 := mInit_ai μ m
  have hf1 : ∀ f, f ≠ 63 → zfi (mInit μ m) f m = 0 := fun f hf => by rw [mInit_fi, if_neg (fun t => hf t.1)]; exact h0 f
  have h63 : zfi (mInit μ m) 63 m = -1 := by rw [mInit_fi, if_pos ⟨rfl, rfl⟩]
  have hsz1 := mInit_sz μ m
  have hsl1 := mInit_sl μ m
  have hsame1 : ∀ b, b < m → zsame μ (mInit μ m) b := fun b hb => ⟨fun f => by rw [mInit_fi, if_neg (fun t => by omega)], fun f => mInit_fr μ (by omega), fun _ => by rw [ha1], fun _ => by rw [(mInit_o μ m).1], fun _ => by rw [(mInit_o μ m).2]⟩
  obtain ⟨μ1, hμ1⟩ : ∃ x, x = mInit μ m := ⟨_, rfl⟩
  rw [← hμ1] at hm1 ha1 hf1 h63 hsz1 hsl1 hsame1 ⊢
  have str1 : ∀ {p : ZP} {w : List Nat}, zStr μ m p w → zStr μ1 m p w := fun {p w} h => by
    obtain ⟨g1, g2, g3, g4, q, g5, g6, g7, g8, g9⟩ := h
    exact ⟨g1, g2, ((hsame1 _ g2).1 141).trans g3, g4, q, ((hsame1 _ g2).2.1 140).trans g5, g6, g7, g8, fun j hj => by rw [ha1]; exact g9 j hj⟩
  have hk1 : zKs G μ1 m := fun x hx => str1 (hk x hx)
  have hs1 := str1 hs
  have hlen : tInit.length = 211 := rfl
  -- from here the model's frame
  have fin : ∀ ν r, pLoad tInit = .ok r → zMs ν m (r, none, [], [], 0, -1, []) → zW (zFm m) (zAm m) μ1 ν → Q none ν := fun ν r hp hms hW => by
    refine k ν r hp hms (hW.1.trans hsz1) (hW.2.1.trans hsl1) fun b hb => (hsame1 b hb).trans ⟨fun f => hW.2.2.2.2.2.2.1 f b (fun t => by unfold zFm at t; omega), fun f => by rw [hW.fr], fun j => hW.2.2.2.2.2.2.2 b j (fun t => by unfold zAm at t; omega), fun j => by rw [hW.2.2.2.2.1], fun j => by rw [hW.2.2.2.2.2.1]⟩
  have key : ∀ d i (ν : ZM), i + d = tInit.length → zW zF0 (zA1 (m + 10)) μ1 ν → (∀ j, j < i → zai ν (m + 10) j = nI (tInit.getD j 0) ∧ tInit.getD j 0 < 256) → Wp G Y_X5_init 117 [(0, vP (5, 0, m)), (1, vP (zgS G 119)), (2, vI (nI i))] [] ν Q E := by
    intro d
    induction d with
    | succ d ih =>
      intro i ν hi hW hj
      have hWm : zW (zFm m) (zAm m) μ1 ν := hW.m1 (by unfold zAm; omega)
      have hsν := hs1.same hWm (Nat.le_refl _)
      refine B_X5_init_117 ⟨hs1.1, C_strLen hsν ⟨_, rfl, fun t => absurd (nI_lt (by omega) (by omega)) t, fun _ => ⟨_, _, (hm1.fr hWm.fr).2.2.2.2.2.2.2.2.2.1, C_strChar i hsν rfl (by omega) ⟨_, rfl, i, zix.eq rfl (by omega) (by omega), ?_⟩⟩⟩⟩
      rw [nI_1]
      refine ih (i + 1) _ (by omega) (hW.trans (zW_A1 _ _ _ _)) fun j hj' => ?_
      rw [zai_zAi]
      by_cases hji : j = i
      · rw [if_pos ⟨rfl, hji⟩, hji]
        exact ⟨rfl, by have := (hsν.2.2.2.2.choose_spec.2.2.2.2 i (by omega)).2; omega⟩
      · rw [if_neg (fun t => hji t.2)]
        exact hj j (by omega)
    | zero =>
      intro i ν hi hW hj
      have hi' : i = tInit.length := by omega
      rw [hi'] at hj ⊢
      have hWm : zW (zFm m) (zAm m) μ1 ν := hW.m1 (by unfold zAm; omega)
      have hsν := hs1.same hWm (Nat.le_refl _)
      have hW2 : zW (zFm m) (zAm m) μ1 (zFi ν 56 m (nI tInit.length)) := hWm.trans (zW_Fi (F := zFm m) rfl _ _)
      have hfν : ∀ f, zfi ν f m = zfi μ1 f m := fun f => hW.2.2.2.2.2.2.1 f m (fun t => t)
      have hms : zMs (zFi ν 56 m (nI tInit.length)) m sInit := by
        refine ⟨hm1.fr hW2.fr, ?_, ?_, ⟨by show ([] : List (Nat → Int32)).length ≤ 8; simp, ?_, fun i hi => absurd hi (Nat.not_lt_zero _)⟩, ⟨by show tInit.length ≤ 900; omega, by rw [zfi_zFi, if_pos ⟨rfl, rfl⟩]; rfl, fun j hj' => hj j hj'⟩, ⟨?_, ?_⟩, ⟨by show ([] : List Nat).length ≤ 256; simp, ?_, fun i hi => absurd hi (Nat.not_lt_zero _)⟩⟩
        · funext j
          show zai ν (m + 1) j = 0
          rw [hW.ai (show ¬ zA1 (m + 10) (m + 1) by unfold zA1; omega), ha1]
          exact o3 _ _ (by omega)
        · show zfi (zFi ν 56 m _) 47 m = 0
          rw [zfi_zFi, if_neg (by omega), hfν]; exact hf1 47 (by omega)
        · rw [zfi_zFi, if_neg (by omega), hfν]; exact hf1 45 (by omega)
        · rw [zfi_zFi, if_neg (by omega), hfν]; exact hf1 62 (by omega)
        · rw [zfi_zFi, if_neg (by omega), hfν]; exact h63
        · rw [zfi_zFi, if_neg (by omega), hfν]; exact hf1 67 (by omega)
      obtain ⟨r, hr⟩ := pLoad_init
      refine B_X5_init_117 ⟨hs1.1, C_strLen hsν ⟨_, rfl, fun _ => C_strLen hsν ⟨_, rfl, C_load (σ := sInit) (hk1.same hW2) hms (fun _ _ => rfl) (fun r' hp ρ hρ _ hWρ => ⟨_, rfl, fin ρ r' hp hρ (hW2.trans hWρ)⟩) (fun e he => absurd (he.symm.trans hr) (by simp))⟩, fun t => absurd t (nI_nlt (Nat.le_refl _) (by omega))⟩⟩
  exact key tInit.length 0 μ1 (by omega) (zW.rf _ _ _) (fun j hj => by omega)
end ZIN
