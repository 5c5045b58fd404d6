set_option maxRecDepth 100000
/-! THE COMPONENT, 53: rows that are being read -/
/-- a row with one more echo; with one more valley -/
def rEc (r : Nat → Int32) (K : Nat) (w : List Nat) (x7 x8 x9 x10 : Nat) : Nat → Int32 := wU (wU (wU (wU (wU (sNamed r (23 + 15 * K) w) (23 + 15 * K + 7) (nI x7)) (23 + 15 * K + 8) (nI x8)) (23 + 15 * K + 9) (nI x9)) (23 + 15 * K + 10) (nI x10)) 0 (nI (K + 1))
def rVa (r : Nat → Int32) (V : Nat) (w : List Nat) (x7 x8 x9 x10 : Nat) : Nat → Int32 := wU (wU (wU (wU (wU (wU (sNamed r (203 + 17 * V) w) (203 + 17 * V + 7) (nI x7)) (203 + 17 * V + 8) (nI x8)) (203 + 17 * V + 9) (nI x9)) (203 + 17 * V + 10) (nI x10)) 7 (r 7 + nI x10)) 1 (nI (V + 1))
/-- what is zero while a row is being read -/
def zPz (r : Nat → Int32) (V : Nat) : Prop := (∀ j, (j = 2 ∨ j = 5 ∨ j = 6 ∨ j = 8 ∨ j = 9 ∨ j = 10 ∨ (23 ≤ j ∧ j < 203 ∧ 11 ≤ (j - 23) % 15) ∨ (203 ≤ j ∧ j < 339 ∧ 11 ≤ (j - 203) % 17) ∨ (339 ≤ j ∧ j < 627 ∧ (j - 339) % 3 ≠ 0)) → r j = 0) ∧ (∀ v e, V ≤ v → v < 8 → e < 12 → wP r v e 0 = 0) ∧ r 7 = sPur r V
theorem sPur_cg {r r' : Nat → Int32} : ∀ n, (∀ v, v < n → wV r' v 10 = wV r v 10) → sPur r' n = sPur r n := by
  intro n
  induction n with
  | zero => intro _; rfl
  | succ n ih =>
    intro h
    show sPur r' n + wV r' n 10 = sPur r n + wV r n 10
    rw [ih (fun v hv => h v (by omega)), h n (by omega)]
section RL
variable {r : Nat → Int32} {K V x7 x8 x9 x10 : Nat} {w : List Nat}
theorem rEc_out (h6 : w.length ≤ 6) {j : Nat} (h0 : j ≠ 0) (hj : j < 23 + 15 * K ∨ 23 + 15 * K + 11 ≤ j) : rEc r K w x7 x8 x9 x10 j = r j := by
  unfold rEc wU
  rw [if_neg h0, if_neg (by omega), if_neg (by omega), if_neg (by omega), if_neg (by omega), sNamed_out h6 (by omega)]
theorem rEc_0 : rEc r K w x7 x8 x9 x10 0 = nI (K + 1) := by unfold rEc wU; rw [if_pos rfl]
theorem rEc_7 : wE (rEc r K w x7 x8 x9 x10) K 7 = nI x7 := by
  unfold wE rEc wU
  rw [if_neg (by omega), if_neg (by omega), if_neg (by omega), if_neg (by omega), if_pos rfl]
theorem rEc_8 : wE (rEc r K w x7 x8 x9 x10) K 8 = nI x8 := by
  unfold wE rEc wU
  rw [if_neg (by omega), if_neg (by omega), if_neg (by omega), if_pos rfl]
theorem rEc_9 : wE (rEc r K w x7 x8 x9 x10) K 9 = nI x9 := by
  unfold wE rEc wU
  rw [if_neg (by omega), if_neg (by omega), if_pos rfl]
theorem rEc_10 : wE (rEc r K w x7 x8 x9 x10) K 10 = nI x10 := by
  unfold wE rEc wU
  rw [if_neg (by omega), if_pos rfl]
theorem rEc_nm (h1 : 1 ≤ w.length) (h6 : w.length ≤ 6) (hw : ∀ k, k < w.length → 97 ≤ w.getD k 0 ∧ w.getD k 0 ≤ 122) : sName (rEc r K w x7 x8 x9 x10) (23 + 15 * K) = w := by
  have nm : ∀ j, 23 + 15 * K ≤ j → j < 23 + 15 * K + 7 → rEc r K w x7 x8 x9 x10 j = sNamed r (23 + 15 * K) w j := fun j j1 j2 => by
    unfold rEc wU
    rw [if_neg (by omega), if_neg (by omega), if_neg (by omega), if_neg (by omega), if_neg (by omega)]
  have hn : sNm (rEc r K w x7 x8 x9 x10) (23 + 15 * K) := sNm_of (w := w) (by rw [nm _ (by omega) (by omega)]; exact sNamed_at.1) (fun k hk => by rw [nm _ (by omega) (by omega)]; exact sNamed_at.2 k hk) h1 h6 hw
  refine (sIs_iff hn (by omega) (fun j hj => by have := hw j hj; omega)).mp ?_
  unfold sIs
  rw [Bool.and_eq_true, decide_eq_true_eq, List.all_eq_true]
  refine ⟨by rw [nm _ (by omega) (by omega)]; exact sNamed_at.1, fun k hk => ?_⟩
  have hk := List.mem_range.mp hk
  rw [decide_eq_true_eq, nm _ (by omega) (by omega)]; exact sNamed_at.2 k hk
theorem rEc_z (h6 : w.length ≤ 6) (hK : K < 12) (hV : V ≤ 8) (h : zPz r V) : zPz (rEc r K w x7 x8 x9 x10) V := by
  obtain ⟨h1, h2, h3⟩ := h
  refine ⟨fun j hj => ?_, fun v e hv hv8 he => ?_, ?_⟩
  · rw [rEc_out h6 (by omega) (by omega)]; exact h1 j hj
  · have : wP (rEc r K w x7 x8 x9 x10) v e 0 = wP r v e 0 := rEc_out h6 (by omega) (by omega)
    rw [this]; exact h2 v e hv hv8 he
  · rw [rEc_out h6 (by omega) (by omega), h3]
    exact (sPur_cg V fun v hv => rEc_out h6 (by omega) (by omega)).symm
theorem rVa_out (h6 : w.length ≤ 6) {j : Nat} (h1 : j ≠ 1) (h7 : j ≠ 7) (hj : j < 203 + 17 * V ∨ 203 + 17 * V + 11 ≤ j) : rVa r V w x7 x8 x9 x10 j = r j := by
  unfold rVa wU
  rw [if_neg h1, if_neg h7, if_neg (by omega), if_neg (by omega), if_neg (by omega), if_neg (by omega), sNamed_out h6 (by omega)]
theorem rVa_1 : rVa r V w x7 x8 x9 x10 1 = nI (V + 1) := by unfold rVa wU; rw [if_pos rfl]
theorem rVa_s : rVa r V w x7 x8 x9 x10 7 = r 7 + nI x10 := by unfold rVa wU; rw [if_neg (by decide), if_pos rfl]
theorem rVa_7 : wV (rVa r V w x7 x8 x9 x10) V 7 = nI x7 := by
  unfold wV rVa wU
  rw [if_neg (by omega), if_neg (by omega), if_neg (by omega), if_neg (by omega), if_neg (by omega), if_pos rfl]
theorem rVa_8 : wV (rVa r V w x7 x8 x9 x10) V 8 = nI x8 := by
  unfold wV rVa wU
  rw [if_neg (by omega), if_neg (by omega), if_neg (by omega), if_neg (by omega), if_pos rfl]
theorem rVa_9 : wV (rVa r V w x7 x8 x9 x10) V 9 = nI x9 := by
  unfold wV rVa wU
  rw [if_neg (by omega), if_neg (by omega), if_neg (by omega), if_pos rfl]
theorem rVa_10 : wV (rVa r V w x7 x8 x9 x10) V 10 = nI x10 := by
  unfold wV rVa wU
  rw [if_neg (by omega), if_neg (by omega), if_pos rfl]
theorem rVa_nm (h1 : 1 ≤ w.length) (h6 : w.length ≤ 6) (hw : ∀ k, k < w.length → 97 ≤ w.getD k 0 ∧ w.getD k 0 ≤ 122) : sName (rVa r V w x7 x8 x9 x10) (203 + 17 * V) = w := by
  have nm : ∀ j, 203 + 17 * V ≤ j → j < 203 + 17 * V + 7 → rVa r V w x7 x8 x9 x10 j = sNamed r (203 + 17 * V) w j := fun j j1 j2 => by
    unfold rVa wU
    rw [if_neg (by omega), if_neg (by omega), if_neg (by omega), if_neg (by omega), if_neg (by omega), if_neg (by omega)]
  have hn : sNm (rVa r V w x7 x8 x9 x10) (203 + 17 * V) := sNm_of (w := w) (by rw [nm _ (by omega) (by omega)]; exact sNamed_at.1) (fun k hk => by rw [nm _ (by omega) (by omega)]; exact sNamed_at.2 k hk) h1 h6 hw
  refine (sIs_iff hn (by omega) (fun j hj => by have := hw j hj; omega)).mp ?_
  unfold sIs
  rw [Bool.and_eq_true, decide_eq_true_eq, List.all_eq_true]
  refine ⟨by rw [nm _ (by omega) (by omega)]; exact sNamed_at.1, fun k hk => ?_⟩
  have hk := List.mem_range.mp hk
  rw [decide_eq_true_eq, nm _ (by omega) (by omega)]; exact sNamed_at.2 k hk
theorem rVa_z (h6 : w.length ≤ 6) (hV : V < 8) (h : zPz r V) : zPz (rVa r V w x7 x8 x9 x10) (V + 1) := by
  obtain ⟨h1, h2, h3⟩ := h
  refine ⟨fun j hj => ?_, fun v e hv hv8 he => ?_, ?_⟩
  · rw [rVa_out h6 (by omega) (by omega) (by omega)]; exact h1 j hj
  · have : wP (rVa r V w x7 x8 x9 x10) v e 0 = wP r v e 0 := rVa_out h6 (by omega) (by omega) (by omega)
    rw [this]; exact h2 v e (by omega) hv8 he
  · show _ = sPur (rVa r V w x7 x8 x9 x10) V + wV (rVa r V w x7 x8 x9 x10) V 10
    have e : sPur (rVa r V w x7 x8 x9 x10) V = sPur r V := sPur_cg V fun v hv => by unfold wV; exact rVa_out h6 (by omega) (by omega) (by omega)
    rw [rVa_s, rVa_10, h3, e]
theorem rT_z {v e : Nat} (hv : v < V) (he : e < 12) (hV : V ≤ 8) (h : zPz r V) : zPz (wU r (iP v e 0) 1) V := by
  obtain ⟨h1, h2, h3⟩ := h
  have out : ∀ j, j ≠ iP v e 0 → wU r (iP v e 0) 1 j = r j := fun j hj => by unfold wU; rw [if_neg hj]
  refine ⟨fun j hj => ?_, fun v' e' hv' hv8 he' => ?_, ?_⟩
  · rw [out j (by unfold iP; omega)]; exact h1 j hj
  · have : wP (wU r (iP v e 0) 1) v' e' 0 = wP r v' e' 0 := out _ (by unfold iP; omega)
    rw [this]; exact h2 v' e' hv' hv8 he'
  · rw [out 7 (by unfold iP; omega), h3]
    have e : sPur (wU r (iP v e 0) 1) V = sPur r V := sPur_cg V fun v' hv' => by unfold wV; exact out _ (by unfold iP; omega)
    exact e.symm
theorem sFind_cg {r' : Nat → Int32} (h : ∀ j, 8 ≤ j → r' j = r j) {q d : Nat} (hq : 8 ≤ q) : ∀ n k, sFind r' q d w n k = sFind r q d w n k := by
  intro n
  induction n with
  | zero => intro k; rfl
  | succ n ih =>
    intro k
    have e : ∀ s : Nat → Int32, sFind s q d w (n + 1) k = if sIs s (q + d * k) w = true then some k else sFind s q d w n (k + 1) := fun _ => rfl
    have ei : sIs r' (q + d * k) w = sIs r (q + d * k) w := by
      unfold sIs
      rw [h _ (by omega)]
      congr 1
      congr 1
      funext j
      rw [h _ (by omega)]
    rw [e, e, ei, ih]
end RL
