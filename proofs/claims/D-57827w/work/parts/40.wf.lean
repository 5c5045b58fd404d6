/-! LAWS OF ROWS, 1: who serves whom -/
/-- sl v: the staff of valley v in its order; po v: its posts -/
def sStaff (r : Nat → Int32) (K V : Nat) (sl : Nat → List Nat) (po : Nat → Nat) : Prop :=
  (∀ v, v < 8 → wV r v 13 = nI (sl v).length ∧ wV r v 8 = nI (po v) ∧ (sl v).length ≤ po v ∧ po v ≤ 3 ∧ (sl v).Nodup ∧ (∀ k, k < (sl v).length → wV r v (14 + k) = nI ((sl v).getD k 0)) ∧ (∀ e, e ∈ sl v → e < K ∧ wE r e 13 = nI (v + 1)) ∧ (V ≤ v → sl v = []))
  ∧ ∀ e, e < 12 → (∀ v, v < 8 → e ∉ sl v) → wE r e 13 = 0
theorem wE_wU_V {r : Nat → Int32} {v w : Nat} (x : Int32) {e u : Nat} (hu : u < 15) (he : e < 12) : wE (wU r (203 + 17 * v + w) x) e u = wE r e u := by
  unfold wE wU; rw [if_neg (by omega)]
theorem wV_wU_E {r : Nat → Int32} {e u : Nat} (x : Int32) {v w : Nat} (hu : u < 15) (he : e < 12) : wV (wU r (23 + 15 * e + u) x) v w = wV r v w := by
  unfold wV wU; rw [if_neg (by omega)]
theorem wV_wU_lo {r : Nat → Int32} {j : Nat} (x : Int32) {v w : Nat} (hj : j < 203) : wV (wU r j x) v w = wV r v w := by
  unfold wV wU; rw [if_neg (by omega)]
theorem wE_wU_lo {r : Nat → Int32} {j : Nat} (x : Int32) {e u : Nat} (hj : j < 23) : wE (wU r j x) e u = wE r e u := by
  unfold wE wU; rw [if_neg (by omega)]
theorem wV_wU {r : Nat → Int32} (x : Int32) {v w v' w' : Nat} (hw : w < 17) (hw' : w' < 17) : wV (wU r (203 + 17 * v + w) x) v' w' = if v' = v ∧ w' = w then x else wV r v' w' := by
  unfold wV wU
  by_cases h : v' = v ∧ w' = w
  · rw [if_pos h, if_pos (by rw [h.1, h.2])]
  · rw [if_neg h, if_neg (by omega)]
theorem wE_wU {r : Nat → Int32} (x : Int32) {e u e' u' : Nat} (hu : u < 15) (hu' : u' < 15) : wE (wU r (23 + 15 * e + u) x) e' u' = if e' = e ∧ u' = u then x else wE r e' u' := by
  unfold wE wU
  by_cases h : e' = e ∧ u' = u
  · rw [if_pos h, if_pos (by rw [h.1, h.2])]
  · rw [if_neg h, if_neg (by omega)]
theorem sComes_V {r : Nat → Int32} {v e n v' w : Nat} (hv : v < 8) (he : e < 12) (hn : n < 3) (hw : w < 17) : wV (sComes r v e n) v' w = if v' = v ∧ w = 14 + n then nI e else if v' = v ∧ w = 13 then nI (n + 1) else wV r v' w := by
  unfold sComes
  rw [wV_wU_lo _ (by omega), wV_wU_E _ (by omega) he, wV_wU _ (by omega) hw, wV_wU _ (by omega) hw]
  by_cases h1 : v' = v ∧ w = 13
  · rw [if_pos h1, if_neg (by omega), if_pos h1]
  · rw [if_neg h1]
    by_cases h2 : v' = v ∧ w = 14 + n
    · rw [if_pos h2, if_pos h2]
    · rw [if_neg h2, if_neg h2, if_neg h1]
theorem sComes_E {r : Nat → Int32} {v e n e' u : Nat} (hv : v < 8) (he : e < 12) (hn : n < 3) (hu : u < 15) (he' : e' < 12) : wE (sComes r v e n) e' u = if e' = e ∧ u = 13 then nI (v + 1) else wE r e' u := by
  unfold sComes
  rw [wE_wU_lo _ (by omega), wE_wU _ (by omega) hu, wE_wU_V _ hu he', wE_wU_V _ hu he']
theorem sComes_staff {r : Nat → Int32} {K V : Nat} {sl : Nat → List Nat} {po : Nat → Nat} (h : sStaff r K V sl po) {v e : Nat} (hv : v < V) (hV : V ≤ 8) (he : e < K) (hK : K ≤ 12) (hne : ∀ w, w < 8 → e ∉ sl w) (hlt : (sl v).length < po v) : sStaff (sComes r v e (sl v).length) K V (kU sl v (sl v ++ [e])) po := by
  obtain ⟨h1, h2⟩ := h
  obtain ⟨a1, a2, a3, a4, a5, a6, a7, a8⟩ := h1 v (by omega)
  refine ⟨fun w hw => ?_, fun x hx hn => ?_⟩
  · obtain ⟨b1, b2, b3, b4, b5, b6, b7, b8⟩ := h1 w hw
    by_cases hwv : w = v
    · subst hwv
      have ek : kU sl w (sl w ++ [e]) w = sl w ++ [e] := by unfold kU; rw [if_pos rfl]
      rw [ek, List.length_append]
      refine ⟨?_, ?_, by simp; omega, b4, ?_, fun k hk => ?_, fun x hx => ?_, fun hVw => by omega⟩
      · rw [sComes_V (by omega) (by omega) (by omega) (by omega), if_neg (by omega), if_pos ⟨rfl, rfl⟩]; rfl
      · rw [sComes_V (by omega) (by omega) (by omega) (by omega), if_neg (by omega), if_neg (by omega)]; exact b2
      · rw [List.nodup_append]
        refine ⟨b5, by simp, fun x hx y hy => ?_⟩
        rw [List.mem_singleton] at hy
        rw [hy]; intro q; rw [q] at hx; exact hne w hw hx
      · simp only [List.length_cons, List.length_nil] at hk
        rw [sComes_V (by omega) (by omega) (by omega) (by omega)]
        by_cases hkl : k = (sl w).length
        · subst hkl
          rw [if_pos ⟨rfl, rfl⟩]; simp
        · rw [if_neg (by omega), if_neg (by omega), b6 k (by omega)]
          simp [List.getElem?_append_left (show k < (sl w).length by omega)]
      · rcases List.mem_append.mp hx with q | q
        · obtain ⟨c1, c2⟩ := b7 x q
          refine ⟨c1, ?_⟩
          rw [sComes_E (by omega) (by omega) (by omega) (by omega) (by omega)]
          split
          · rfl
          · exact c2
        · rw [List.mem_singleton] at q
          subst q
          refine ⟨he, ?_⟩
          rw [sComes_E (by omega) (by omega) (by omega) (by omega) (by omega), if_pos ⟨rfl, rfl⟩]
    · have ek : kU sl v (sl v ++ [e]) w = sl w := by unfold kU; rw [if_neg hwv]
      rw [ek]
      have st : ∀ u, u < 17 → wV (sComes r v e (sl v).length) w u = wV r w u := fun u hu => by
        rw [sComes_V (by omega) (by omega) (by omega) hu, if_neg (fun q => hwv q.1), if_neg (fun q => hwv q.1)]
      refine ⟨by rw [st 13 (by omega)]; exact b1, by rw [st 8 (by omega)]; exact b2, b3, b4, b5, fun k hk => by rw [st (14 + k) (by omega)]; exact b6 k hk, fun x hx => ?_, b8⟩
      obtain ⟨c1, c2⟩ := b7 x hx
      refine ⟨c1, ?_⟩
      rw [sComes_E (by omega) (by omega) (by omega) (by omega) (by omega), if_neg ?_]
      · exact c2
      · intro q; rw [q.1] at hx; exact hne w hw hx
  · have hxe : x ≠ e := by
      intro q
      refine hn v (by omega) ?_
      unfold kU; rw [if_pos rfl, q]; simp
    rw [sComes_E (by omega) (by omega) (by omega) (by omega) hx, if_neg (fun q => hxe q.1)]
    refine h2 x hx fun w hw hm => hn w hw ?_
    unfold kU
    split
    · rename_i q; rw [← q]; exact List.mem_append_left _ hm
    · exact hm
theorem sShift_V {v : Nat} (hv : v < 8) : ∀ d k (r : Nat → Int32), k + d ≤ 2 → ∀ v' w, w < 17 → wV (sShift r v d k) v' w = if v' = v ∧ 14 + k ≤ w ∧ w < 14 + k + d then wV r v (w + 1) else wV r v' w := by
  intro d
  induction d with
  | zero =>
    intro k r hk v' w hw
    rw [if_neg (by omega)]; rfl
  | succ d ih =>
    intro k r hk v' w hw
    show wV (sShift (wU r (203 + 17 * v + (14 + k)) (wV r v (14 + k + 1))) v d (k + 1)) v' w = _
    rw [ih (k + 1) _ (by omega) v' w hw]
    by_cases h1 : v' = v ∧ 14 + (k + 1) ≤ w ∧ w < 14 + (k + 1) + d
    · rw [if_pos h1, if_pos (by omega), wV_wU _ (by omega) (by omega), if_neg (by omega)]
    · rw [if_neg h1, wV_wU _ (by omega) hw]
      by_cases h2 : v' = v ∧ w = 14 + k
      · rw [if_pos h2, if_pos (by omega), h2.2]
      · rw [if_neg h2, if_neg (by omega)]
theorem sShift_out {v : Nat} (hv : v < 8) : ∀ d k (r : Nat → Int32), k + d ≤ 2 → ∀ j, (j < 203 ∨ 339 ≤ j) → sShift r v d k j = r j := by
  intro d
  induction d with
  | zero => intro k r _ j _; rfl
  | succ d ih =>
    intro k r hk j hj
    show sShift (wU r (203 + 17 * v + (14 + k)) (wV r v (14 + k + 1))) v d (k + 1) j = _
    rw [ih (k + 1) _ (by omega) j hj]
    unfold wU; rw [if_neg (by omega)]
theorem sEnds_V {r : Nat → Int32} {v e n p : Nat} (hv : v < 8) (he : e < 12) (hn : n ≤ 3) (hp : sPlace r v e n 0 = p) (hpn : p < n) {v' w : Nat} (hw : w < 17) : wV (sEnds r v e n) v' w = if v' = v ∧ w = 13 then nI n - 1 else if v' = v ∧ 14 + p ≤ w ∧ w < 13 + n then wV r v (w + 1) else wV r v' w := by
  unfold sEnds
  dsimp only
  rw [hp, wV_wU_lo _ (by omega), wV_wU_E _ (by omega) he, wV_wU_E _ (by omega) he, wV_wU _ (by omega) hw]
  by_cases h1 : v' = v ∧ w = 13
  · rw [if_pos h1, if_pos h1]
  · rw [if_neg h1, if_neg h1, sShift_V hv _ _ _ (by omega) _ _ hw]
    by_cases h2 : v' = v ∧ 14 + p ≤ w ∧ w < 13 + n
    · rw [if_pos h2, if_pos (by omega)]
    · rw [if_neg h2, if_neg (by omega)]
theorem sShift_E {r : Nat → Int32} {v d k e u : Nat} (hv : v < 8) (hk : k + d ≤ 2) (he : e < 12) (hu : u < 15) : wE (sShift r v d k) e u = wE r e u := sShift_out hv d k r hk _ (by omega)
theorem sEnds_E {r : Nat → Int32} {v e n p : Nat} (hv : v < 8) (he : e < 12) (hn : n ≤ 3) (hp : sPlace r v e n 0 = p) (hpn : p < n) {e' u : Nat} (hu : u < 15) (he' : e' < 12) : wE (sEnds r v e n) e' u = if e' = e ∧ (u = 13 ∨ u = 12) then 0 else wE r e' u := by
  unfold sEnds
  dsimp only
  rw [hp, wE_wU_lo _ (by omega), wE_wU _ (by omega) hu, wE_wU _ (by omega) hu, wE_wU_V _ hu he', sShift_E hv (by omega) he' hu]
  by_cases h1 : e' = e ∧ u = 12
  · rw [if_pos h1, if_pos ⟨h1.1, Or.inr h1.2⟩]
  · rw [if_neg h1]
    by_cases h2 : e' = e ∧ u = 13
    · rw [if_pos h2, if_pos ⟨h2.1, Or.inl h2.2⟩]
    · rw [if_neg h2, if_neg (by omega)]
