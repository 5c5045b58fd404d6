set_option maxRecDepth 100000
/-! THE COMPONENT, 15: contracts come and end -/
theorem sPlace_wU {r : Nat → Int32} {v e j : Nat} {x : Int32} (hj : ∀ i, i ≤ 2 → j ≠ 203 + 17 * v + (14 + i)) : ∀ (d k : Nat), k + d ≤ 3 → sPlace (wU r j x) v e d k = sPlace r v e d k := by
  intro d
  induction d with
  | zero => intro k _; rfl
  | succ d ih =>
    intro k hk
    have : wV (wU r j x) v (14 + k) = wV r v (14 + k) := wU_n (fun q => hj k (by omega) q.symm)
    simp only [sPlace, this, ih (k + 1) (by omega)]
theorem wU_comm {r : Nat → Int32} {i j : Nat} {x y : Int32} (h : i ≠ j) : wU (wU r i x) j y = wU (wU r j y) i x := by
  funext a
  unfold wU
  by_cases h1 : a = j
  · subst h1
    have h2 : ¬ a = i := fun q => h q.symm
    rw [if_pos rfl, if_neg h2, if_pos rfl]
  · rw [if_neg h1]
    by_cases h2 : a = i
    · rw [if_pos h2, if_pos h2]
    · rw [if_neg h2, if_neg h2, if_neg h1]
theorem sShift_wU {v j : Nat} {x : Int32} (hj : ∀ i, i ≤ 2 → j ≠ 203 + 17 * v + (14 + i)) : ∀ (d k : Nat) (r : Nat → Int32), k + d ≤ 2 → sShift (wU r j x) v d k = wU (sShift r v d k) j x := by
  intro d
  induction d with
  | zero => intro k r _; rfl
  | succ d ih =>
    intro k r hk
    have e1 : wV (wU r j x) v (14 + k + 1) = wV r v (14 + k + 1) := wU_n (fun q => hj (k + 1) (by omega) (by omega))
    show sShift (wU (wU r j x) (203 + 17 * v + (14 + k)) (wV (wU r j x) v (14 + k + 1))) v d (k + 1) = _
    rw [e1, wU_comm (hj k (by omega)), ih (k + 1) _ (by omega)]
    rfl
theorem sShift_at {v j : Nat} (hj : ∀ i, i ≤ 2 → j ≠ 203 + 17 * v + (14 + i)) : ∀ (d k : Nat) (r : Nat → Int32), k + d ≤ 2 → sShift r v d k j = r j := by
  intro d
  induction d with
  | zero => intro k r _; rfl
  | succ d ih =>
    intro k r hk
    show sShift (wU r _ _) v d (k + 1) j = _
    rw [ih (k + 1) _ (by omega), wU_n (hj k (by omega))]
section ZJ
variable {G : ZG} {μ : ZM} {Q : Option ZV → ZM → Prop} {E : ZP → ZM → Prop} {lo hi s K V F fg el ear vl var ds dm sm : Nat} {ea va ta sa : Nat → Nat} {r : Nat → Int32} {z1 z2 z3 : Int32}
theorem L_shift {v m : Nat} (hv : v < V) (hm : m ≤ 2) : ∀ (d k : Nat) (ν : ZM) (rr : Nat → Int32), k + d = m → zok ν → hi ≤ zsz ν → zSta ν lo hi s rr K V F fg el ear vl var ds dm sm ea va ta sa → wV rr v 13 = nI m → (∀ i, k ≤ i → i ≤ m → zai ν (sa v) i = wV rr v (14 + i)) →
    (∀ ρ, zSta ρ lo hi s (sShift rr v d k) K V F fg el ear vl var ds dm sm ea va ta sa → zG (zWl lo ν) 0 0 ν ρ → zsz ρ = zsz ν → zfr ρ = zfr ν → Q none ρ) → Wp G Y_X4_release 28 [(0, vP (4, 0, va v)), (2, vI (nI k))] [] ν Q E := by
  intro d
  induction d with
  | zero =>
    intro k ν rr hk hok hh h hc hst K
    exact B_X4_release_28 ⟨_, (h.eV hv 13 (by decide)).trans hc, fun _ => K ν h (zG.rf _ _) rfl rfl, fun e => absurd e (nI_nlt (by omega) (by omega))⟩
  | succ d ih =>
    intro k ν rr hk hok hh h hc hst K
    have hsa := (h.2.2.1.2.2.1 v hv).2.2.1
    have e1 := hst (k + 1) (by omega) (by omega)
    refine B_X4_release_28 ⟨_, (h.eV hv 13 (by decide)).trans hc, fun e => absurd (nI_lt (by omega) (by omega)) e, fun _ => ⟨_, _, (h.2.2.1.2.2.2.2.2.1 v hv).2, k + 1, zix.eq (nI_1 k) (by omega) (by omega), _, e1, k, zix.eq rfl (by omega) (by omega), ?_⟩⟩
    rw [nI_1]
    have h' := h.stK hok hh hv k (by omega) (x := wV rr v (14 + (k + 1)))
    have c' : wV (wU rr (203 + 17 * v + (14 + k)) (wV rr v (14 + (k + 1)))) v 13 = wV rr v 13 := wU_n (by omega)
    refine ih (k + 1) _ _ (by omega) (hok.zAi (by omega) _ _) hh h' (c'.trans hc) (fun i h1 h2 => ?_) fun ρ k1 k2 k3 k4 => K ρ k1 (zG.wl (zG.ai ((h.ow hok).2 v hv).2.2) k2) k3 k4
    rw [zai_zAi, if_neg (fun q => by have := q.2; omega), hst i (by omega) h2]
    show _ = wU rr (203 + 17 * v + (14 + k)) _ (203 + 17 * v + (14 + i))
    rw [wU_n (by omega)]; rfl
theorem L_find {v e n : Nat} (hv : v < V) (he : e < 12) (hn : wV r v 13 = nI n) (hn3 : n ≤ 3) (hok : zok μ) (hh : hi ≤ zsz μ) (h : zSta μ lo hi s r K V F fg el ear vl var ds dm sm ea va ta sa)
    (Kk : ∀ ρ, zSta ρ lo hi s (sShift (wU r (203 + 17 * v + 13) (nI (n - 1))) v (n - 1 - sPlace r v e n 0) (sPlace r v e n 0)) K V F fg el ear vl var ds dm sm ea va ta sa → zG (zWl lo μ) 0 0 μ ρ → zsz ρ = zsz μ → zfr ρ = zfr μ → sPlace r v e n 0 < n → Q none ρ) :
    ∀ (d k : Nat), k + d = n → sPlace r v e n 0 = sPlace r v e d k → (∃ i, k ≤ i ∧ i < n ∧ wV r v (14 + i) = nI e) → Wp G Y_X4_release 2 [(0, vP (4, 0, va v)), (1, vI (nI e)), (2, vI (nI k))] [] μ Q E := by
  intro d
  induction d with
  | zero => intro k hk hp hex; obtain ⟨i, h1, h2, -⟩ := hex; omega
  | succ d ih =>
    intro k hk hp hex
    have hst : ∀ i, i < n → zai μ (sa v) i = wV r v (14 + i) := fun i hi => h.2.2.1.2.2.2.2.2.2.2 v i hv (by omega) (by rw [hn]; exact nI_lt hi (by omega))
    refine B_X4_release_2 ⟨_, _, (h.2.2.1.2.2.2.2.2.1 v hv).2, k, zix.eq rfl (by omega) (by omega), _, hst k (by omega), fun e1 => ⟨_, (h.eV hv 13 (by decide)).trans hn, ?_⟩, fun e1 => ?_⟩
    · have hpk : sPlace r v e n 0 = k := by rw [hp]; simp only [sPlace]; rw [if_pos e1]
      rw [hpk] at Kk
      have e2 : nI n - 1 = nI (n - 1) := by
        obtain ⟨m, hm⟩ : ∃ m, n = m + 1 := ⟨n - 1, by omega⟩
        subst hm; exact nI_pred m
      rw [e2]
      have hva := (h.2.2.1.2.2.1 v hv).1
      have h' := h.stV hok hh hv 13 (by decide) (x := nI (n - 1)) (fun _ i _ hi2 => hst i (by have := (nI_ltI (by omega) (by omega)).mp hi2; omega))
      refine L_shift hv (m := n - 1) (by omega) (n - 1 - k) k _ _ (by omega) (hok.zFi (fV 13) (by omega) _) hh h' wU_s (fun i h1 h2 => ?_) fun ρ k1 k2 k3 k4 => Kk ρ k1 (zG.wl (zG.fi ((h.ow hok).2 v hv).1) k2) k3 k4 (by omega)
      rw [zai_zFi, hst i (by omega)]
      show r _ = wU r _ _ _
      rw [wU_n (by omega)]
    · rw [nI_1]
      refine ih (k + 1) (by omega) (by rw [hp]; simp only [sPlace]; rw [if_neg e1]) ?_
      obtain ⟨i, h1, h2, h3⟩ := hex
      refine ⟨i, ?_, h2, h3⟩
      rcases Nat.eq_or_lt_of_le h1 with q | q
      · subst q; exact absurd h3 e1
      · exact q
/-- the state's tag -/
theorem tg_arg {t a : Nat} {vs : List ZV} (h : ∀ v ∈ vP (t, 0, a) :: vs, zvk μ v) (ht : t ≠ 0) (ho : t ≠ 251) : (ztg μ a).1 = t ∧ a < zsz μ := by
  have hp : zpk μ (t, 0, a) := h _ List.mem_cons_self
  have := hp.lt ht ho
  exact ⟨congrArg Prod.fst this.2, this.1⟩
theorem C_sEnd (v e n : Nat) (h1 : z1 = nI e) (hv : v < V) (he : e < K) (hm : wE r e 13 - 1 = nI v) (hn : wV r v 13 = nI n) (hn3 : n ≤ 3) (hex : ∃ i, i < n ∧ wV r v (14 + i) = nI e) (hh : hi ≤ zsz μ) (h : zSta μ lo hi s r K V F fg el ear vl var ds dm sm ea va ta sa)
    (k : ∀ ν, zSta ν lo hi s (sEnds r v e n) K V F fg el ear vl var ds dm sm ea va ta sa → zG (zWl lo μ) 0 0 μ ν → zsz ν = zsz μ → zfr ν = zfr μ → Q (some (vI (nI v))) ν) : Call G Y_X2_end [vP (2, 0, s), vI z1] μ Q E := by
  subst h1
  have hK := h.1.2.1.2.2.2.1
  have e13 : zfi μ 28 (ea e) = nI v := (h.eE he 13 (by decide)).trans hm
  refine Call.zo fun hok hargs => ?_
  obtain ⟨hs2, hsz⟩ := tg_arg hargs (by decide) (by decide)
  have hlo : lo ≤ s := h.1.1.1
  refine S_X2_end (C_sEcho e rfl he h ⟨_, rfl, _, rfl, _, e13, C_sValley v rfl hv h ⟨_, rfl, _, rfl, S_X4_release (L_find (G := G) (E := fun q ν => zkc q.1 = true ∧ E q ν) hv (by omega) hn hn3 hok hh h (fun ρ k1 k2 k3 k4 hpl => ⟨rfl, ?_⟩) n 0 (by omega) rfl (by obtain ⟨i, h1, h2⟩ := hex; exact ⟨i, Nat.zero_le _, h1, h2⟩))⟩⟩)
  have hwE : zWl lo ρ (ea e) := ⟨(h.2.1.2.2.1 e he).1, by rw [k2.1.2.2 _ (by have := (h.2.1.2.2.1 e he).2; omega)]; exact ((h.ow hok).1 e he).2⟩
  have hwS : zWl lo ρ s := ⟨hlo, by rw [k2.1.2.2 _ hsz, hs2]; unfold zim; omega⟩
  have hh' : hi ≤ zsz ρ := by omega
  refine Call.zo fun hok0 _ => C_sEcho e rfl he k1 ⟨_, rfl, _, rfl, ?_⟩
  refine Call.zo fun hok1 _ => ?_
  have a1 := k1.stE hok0 hh' he 13 (by decide) (x := -1) (y := 0) (by decide)
  refine C_sEcho e rfl he a1 ⟨_, rfl, _, rfl, _, a1.1.2.2.1 6 (by decide), ?_⟩
  have a2 := a1.stE hok1 hh' he 12 (by decide) (x := 0) (y := 0) (by decide)
  have hea : ea e < zsz ρ := by have := (h.2.1.2.2.1 e he).2; omega
  have a3 := a2.stS (hok1.zFi (fE 12) hea 0) hh' (by show (ztg ρ s).1 = 2; rw [k2.1.2.2 _ hsz]; exact hs2) 6 (by decide) (x := wU (sShift (wU r (203 + 17 * v + 13) (nI (n - 1))) v (n - 1 - sPlace r v e n 0) (sPlace r v e n 0)) (23 + 15 * e + 13) 0 6 + 1)
  refine k _ ?_ (zG.wl k2 (((zG.fi hwE).tr (zG.fi hwE)).tr (zG.fi hwS))) k3 k4
  · have hj : ∀ i, i ≤ 2 → 203 + 17 * v + 13 ≠ 203 + 17 * v + (14 + i) := fun i hi => by omega
    have e2 : nI n - 1 = nI (n - 1) := by
      obtain ⟨m, hm⟩ : ∃ m, n = m + 1 := ⟨n - 1, by omega⟩
      subst hm; exact nI_pred m
    have e3 : wU (sShift r v (n - 1 - sPlace r v e n 0) (sPlace r v e n 0)) (203 + 17 * v + 13) (nI (n - 1)) 6 = sShift r v (n - 1 - sPlace r v e n 0) (sPlace r v e n 0) 6 := wU_n (by omega)
    unfold sEnds
    rw [sShift_wU hj _ _ _ (by omega)] at a3
    rw [e2]
    dsimp only
    rw [← e3]
    have e4 : wU (sShift r v (n - 1 - sPlace r v e n 0) (sPlace r v e n 0)) (203 + 17 * v + 13) (nI (n - 1)) 6 = wU (wU (sShift r v (n - 1 - sPlace r v e n 0) (sPlace r v e n 0)) (203 + 17 * v + 13) (nI (n - 1))) (23 + 15 * e + 13) 0 6 := (wU_n (by omega)).symm
    rw [e4]
    rw [sShift_wU hj _ _ _ (by omega)]
    exact a3
end ZJ
