/-! LAWS OF ROWS, 4: a day -/
/-- the contracts of the first n echoes end -/
def sEndAll (r : Nat → Int32) : Nat → Nat → Int32
  | 0 => r
  | n + 1 => if 0 < wE (sEndAll r n) n 13 then sEnd (sEndAll r n) n else sEndAll r n
def sGoneE (v : Nat) (r : Nat → Int32) : Nat → Nat → Int32
  | 0 => r
  | n + 1 => wU (sGoneE v r n) (iP v n 1) 0
def sGoneV (K : Nat) (r : Nat → Int32) : Nat → Nat → Int32
  | 0 => r
  | v + 1 => sGoneE v (sGoneV K r v) K
def sSeason (r : Nat → Int32) (K V : Nat) : Nat → Int32 := sFair (sGoneV K (sEndAll r K) V) K V
def sPayN (v : Nat) (mem : Nat → Nat) (r : Nat → Int32) : Nat → Nat → Int32
  | 0 => r
  | k + 1 => sPays (sPayN v mem r k) v (mem k)
def sMem (r : Nat → Int32) (v k : Nat) : Nat := (wV r v (14 + k)).toNatClampNeg
def sSt (r : Nat → Int32) (v : Nat) : Nat := (wV r v 13).toNatClampNeg
def sShout (r : Nat → Int32) (v : Nat) : Nat → Int32 := sPayN v (sMem r v) (sEarns (sMem r v) v r (sSt r v)) (sSt r v)
def sShouts (r : Nat → Int32) : Nat → Nat → Int32
  | 0 => r
  | v + 1 => sShout (sShouts r v) v
def sFogNow (r : Nat → Int32) (d : Nat) : Int32 := r (11 + d % (r 4).toNatClampNeg)
def sLeaves (r : Nat → Int32) (e : Nat) : Nat → Int32 := sEnd (wU (wU r (iP (wE r e 13 - 1).toNatClampNeg e 1) 1) (23 + 15 * e + 14) (wE r e 14 + 1)) e
def sMay (r : Nat → Int32) (e : Nat) : Nat → Int32 :=
  if 0 < wE r e 13 then (if wE r e 12 < 2 ∧ (wE r e 12 = 0 ∨ ¬ wE r e 10 < sFogNow r (r 2).toNatClampNeg) then r else sLeaves r e) else r
def sMays (r : Nat → Int32) : Nat → Nat → Int32
  | 0 => r
  | e + 1 => sMay (sMays r e) e
def sDay1 (r : Nat → Int32) (K V : Nat) : Nat → Int32 := if (r 2).toNatClampNeg % (r 3).toNatClampNeg = 0 then sSeason r K V else r
def sDay2 (r : Nat → Int32) (K V : Nat) : Nat → Int32 := sMays (sShouts (sDay1 r K V) V) K
def sDay (r : Nat → Int32) (K V : Nat) : Nat → Int32 := wU (sDay2 r K V) 2 (sDay2 r K V 2 + 1)
def sDays (r : Nat → Int32) (K V : Nat) : Nat → Nat → Int32
  | 0 => r
  | n + 1 => sDay (sDays r K V n) K V
/-- how often echoes have left -/
def sLeft (r : Nat → Int32) : Nat → Int32
  | 0 => 0
  | n + 1 => sLeft r n + wE r n 14
theorem sEndAll_ok {r : Nat → Int32} {K V : Nat} {po : Nat → Nat} {B : Nat} (h : sW r K V po B) : ∀ n, n ≤ 12 → sKp r (sEndAll r n) ∧ sW (sEndAll r n) K V po B := by
  intro n
  induction n with
  | zero => intro _; exact ⟨sKp.rf r, h⟩
  | succ n ih =>
    intro hn
    obtain ⟨h1, h2⟩ := ih (by omega)
    unfold sEndAll
    split
    · rename_i hc
      obtain ⟨h3, h4⟩ := sEnd_ok h2 (by omega) hc
      exact ⟨h1.trans h3, h4⟩
    · exact ⟨h1, h2⟩
theorem sGoneE_ok {r : Nat → Int32} {v : Nat} (hv : v < 8) : ∀ n, n ≤ 12 → sKp r (sGoneE v r n) ∧ ∀ j, j < 339 → sGoneE v r n j = r j := by
  intro n
  induction n with
  | zero => intro _; exact ⟨sKp.rf r, fun _ _ => rfl⟩
  | succ n ih =>
    intro hn
    obtain ⟨h1, h2⟩ := ih (by omega)
    refine ⟨h1.up (iDyn_P hv (by omega) (by omega) (by omega)) _, fun j hj => ?_⟩
    show wU _ _ _ j = _
    unfold wU iP
    rw [if_neg (by omega)]
    exact h2 j hj
theorem sGoneV_ok {r : Nat → Int32} {K : Nat} (hK : K ≤ 12) : ∀ v, v ≤ 8 → sKp r (sGoneV K r v) ∧ ∀ j, j < 339 → sGoneV K r v j = r j := by
  intro v
  induction v with
  | zero => intro _; exact ⟨sKp.rf r, fun _ _ => rfl⟩
  | succ v ih =>
    intro hv
    obtain ⟨h1, h2⟩ := ih (by omega)
    obtain ⟨h3, h4⟩ := sGoneE_ok (r := sGoneV K r v) (show v < 8 by omega) K hK
    exact ⟨h1.trans h3, fun j hj => (h4 j hj).trans (h2 j hj)⟩
theorem sW.lo {r r' : Nat → Int32} {K V : Nat} {po : Nat → Nat} {B : Nat} (h : sW r K V po B) (hk : sKp r r') (hl : ∀ j, j < 339 → r' j = r j) : sW r' K V po B := by
  obtain ⟨sl, hs⟩ := h.2.2.2.2.1
  exact h.mk hk ⟨sl, hs.same h.1.1 (fun v w hv _ hw => hl _ (by omega)) (fun e he => hl _ (by omega))⟩ (h.2.2.2.2.2.same fun e he => hl _ (by omega))
theorem sSeason_ok {r : Nat → Int32} {K V : Nat} {po : Nat → Nat} {B : Nat} (h : sW r K V po B) : sKp r (sSeason r K V) ∧ sW (sSeason r K V) K V po B := by
  have hK := h.1.1
  obtain ⟨h1, h2⟩ := sEndAll_ok h K hK
  obtain ⟨h3, h4⟩ := sGoneV_ok (r := sEndAll r K) hK V h.1.2.1
  have h5 := h2.lo h3 h4
  obtain ⟨h6, h7, -⟩ := sFair_ok h5
  exact ⟨(h1.trans h3).trans h6, h7⟩
theorem sSt_eq {r : Nat → Int32} {K V : Nat} {sl : Nat → List Nat} {po : Nat → Nat} (h : sStaff r K V sl po) {v : Nat} (hv : v < 8) : sSt r v = (sl v).length ∧ wV r v 13 = nI (sSt r v) ∧ sSt r v ≤ 3 := by
  obtain ⟨b1, b2, b3, b4, -⟩ := h.1 v hv
  have : sSt r v = (sl v).length := by unfold sSt; rw [b1]; exact nI_clamp (by omega)
  exact ⟨this, by rw [this]; exact b1, by omega⟩
theorem sMem_eq {r : Nat → Int32} {K V : Nat} {sl : Nat → List Nat} {po : Nat → Nat} (h : sStaff r K V sl po) (hK : K ≤ 12) {v k : Nat} (hv : v < 8) (hk : k < sSt r v) : (sl v)[k]? = some (sMem r v k) ∧ wV r v (14 + k) = nI (sMem r v k) ∧ sMem r v k < K ∧ sMem r v k ∈ sl v := by
  obtain ⟨b1, b2, b3, b4, b5, b6, b7, b8⟩ := h.1 v hv
  rw [(sSt_eq h hv).1] at hk
  have e1 := b6 k hk
  have hm := List.getElem_mem hk
  have hlt := (b7 _ hm).1
  rw [List.getD_eq_getElem?_getD, List.getElem?_eq_getElem hk, Option.getD_some] at e1
  have e2 : sMem r v k = (sl v)[k] := by unfold sMem; rw [e1]; exact nI_clamp (by omega)
  exact ⟨by rw [e2]; exact List.getElem?_eq_getElem hk, by rw [e2]; exact e1, by rw [e2]; exact hlt, by rw [e2]; exact hm⟩
theorem sPayN_ok {r : Nat → Int32} {K V : Nat} {sl : Nat → List Nat} {po : Nat → Nat} {v B : Nat} {mem : Nat → Nat} (h : sStaff r K V sl po) (hK : K ≤ 12) (hv : v < 8) (hu : sUn r B) (hB : B < 1000000000) : ∀ n, n ≤ 3 → (∀ k, k < n → mem k < 12) → sStaff (sPayN v mem r n) K V sl po ∧ sKp r (sPayN v mem r n) ∧ sUn (sPayN v mem r n) (B + n) ∧ (∀ v' w, w < 17 → w ≠ 10 → w ≠ 12 → wV (sPayN v mem r n) v' w = wV r v' w) := by
  intro n
  induction n with
  | zero => intro _ _; exact ⟨h, sKp.rf r, hu, fun _ _ _ _ _ => rfl⟩
  | succ n ih =>
    intro hn hm
    obtain ⟨h1, h2, h3, h4⟩ := ih (by omega) (fun k hk => hm k (by omega))
    have he := hm n (by omega)
    exact ⟨sPays_staff h1 hK he, h2.trans (sPays_kp hv he), sPays_un (B := B + n) he h3 (by omega), fun v' w hw q1 q2 => (sPays_V he hw q1 q2).trans (h4 v' w hw q1 q2)⟩
theorem sShout_ok {r : Nat → Int32} {K V : Nat} {po : Nat → Nat} {B v : Nat} (h : sW r K V po B) (hv : v < 8) (hB : B < 1000000000) : sKp r (sShout r v) ∧ sW (sShout r v) K V po (B + 3) := by
  obtain ⟨sl, hs⟩ := h.2.2.2.2.1
  have hK := h.1.1
  obtain ⟨e1, e2, e3⟩ := sSt_eq hs hv
  have hm : ∀ k, k < sSt r v → sMem r v k < 12 := fun k hk => by have := (sMem_eq hs hK hv hk).2.2.1; omega
  have hu : sUn (sEarns (sMem r v) v r (sSt r v)) B := h.2.2.2.2.2.same fun e he => sEarns_E (by omega) he
  obtain ⟨h1, h2, h3, -⟩ := sPayN_ok (mem := sMem r v) (sEarns_staff hs hK) hK hv hu hB (sSt r v) e3 hm
  have kp := (sEarns_kp hv hm).trans h2
  exact ⟨kp, h.mk kp ⟨sl, h1⟩ (h3.le (by omega))⟩
theorem sShouts_ok {r : Nat → Int32} {K V : Nat} {po : Nat → Nat} {B : Nat} (h : sW r K V po B) (hB : B < 999999000) : ∀ v, v ≤ 8 → sKp r (sShouts r v) ∧ sW (sShouts r v) K V po (B + 3 * v) := by
  intro v
  induction v with
  | zero => intro _; exact ⟨sKp.rf r, h⟩
  | succ v ih =>
    intro hv
    obtain ⟨h1, h2⟩ := ih (by omega)
    obtain ⟨h3, h4⟩ := sShout_ok (v := v) h2 (by omega) (by omega)
    exact ⟨h1.trans h3, h4⟩
theorem sLeaves_pre {r : Nat → Int32} {K V : Nat} {po : Nat → Nat} {B e v : Nat} (h : sW r K V po B) (he : e < 12) (hv : v < 8) : sKp r (wU (wU r (iP v e 1) 1) (23 + 15 * e + 14) (wE r e 14 + 1)) ∧ sW (wU (wU r (iP v e 1) 1) (23 + 15 * e + 14) (wE r e 14 + 1)) K V po B ∧ wE (wU (wU r (iP v e 1) 1) (23 + 15 * e + 14) (wE r e 14 + 1)) e 13 = wE r e 13 := by
  have kp : sKp r (wU (wU r (iP v e 1) 1) (23 + 15 * e + 14) (wE r e 14 + 1)) := ((sKp.rf r).up (iDyn_P hv he (by omega) (by omega)) _).up (iDyn_E he (by omega) (by omega)) _
  have hE : ∀ x u, x < 12 → u < 14 → wE (wU (wU r (iP v e 1) 1) (23 + 15 * e + 14) (wE r e 14 + 1)) x u = wE r x u := fun x u hx hu => by
    rw [wE_wU _ (by omega) (by omega), if_neg (by omega)]
    unfold wE wU iP; rw [if_neg (by omega)]
  obtain ⟨sl, hs⟩ := h.2.2.2.2.1
  refine ⟨kp, h.mk kp ⟨sl, hs.same h.1.1 (fun v' w hv' _ hw => ?_) (fun x hx => hE x 13 hx (by omega))⟩ (h.2.2.2.2.2.same fun x hx => hE x 12 hx (by omega)), hE e 13 he (by omega)⟩
  rw [wV_wU_E _ (by omega) he]
  unfold wV wU iP; rw [if_neg (by omega)]
theorem sMay_ok {r : Nat → Int32} {K V : Nat} {po : Nat → Nat} {B e : Nat} (h : sW r K V po B) (he : e < 12) : sKp r (sMay r e) ∧ sW (sMay r e) K V po B := by
  unfold sMay
  split
  · rename_i hc
    split
    · exact ⟨sKp.rf r, h⟩
    · obtain ⟨sl, hs⟩ := h.2.2.2.2.1
      rcases hs.emp he with ⟨q, -⟩ | ⟨v, hv, hvV, hm, hv1⟩
      · rw [q] at hc; exact absurd hc (by decide)
      · have ev : (wE r e 13 - 1).toNatClampNeg = v := by rw [hv1, nI_pred]; exact nI_clamp (by omega)
        obtain ⟨h1, h2, h3⟩ := sLeaves_pre h he hv
        unfold sLeaves
        rw [ev]
        obtain ⟨h4, h5⟩ := sEnd_ok h2 he (by rw [h3]; exact hc)
        exact ⟨h1.trans h4, h5⟩
  · exact ⟨sKp.rf r, h⟩
theorem sMays_ok {r : Nat → Int32} {K V : Nat} {po : Nat → Nat} {B : Nat} (h : sW r K V po B) : ∀ n, n ≤ 12 → sKp r (sMays r n) ∧ sW (sMays r n) K V po B := by
  intro n
  induction n with
  | zero => intro _; exact ⟨sKp.rf r, h⟩
  | succ n ih =>
    intro hn
    obtain ⟨h1, h2⟩ := ih (by omega)
    obtain ⟨h3, h4⟩ := sMay_ok (e := n) h2 (by omega)
    exact ⟨h1.trans h3, h4⟩
theorem sDay1_ok {r : Nat → Int32} {K V : Nat} {po : Nat → Nat} {B : Nat} (h : sW r K V po B) : sKp r (sDay1 r K V) ∧ sW (sDay1 r K V) K V po B := by
  unfold sDay1
  split
  · exact sSeason_ok h
  · exact ⟨sKp.rf r, h⟩
theorem sDay2_ok {r : Nat → Int32} {K V : Nat} {po : Nat → Nat} {B : Nat} (h : sW r K V po B) (hB : B < 999999000) : sKp r (sDay2 r K V) ∧ sW (sDay2 r K V) K V po (B + 24) := by
  obtain ⟨h1, h2⟩ := sDay1_ok h
  obtain ⟨h3, h4⟩ := sShouts_ok h2 hB V h.1.2.1
  obtain ⟨h5, h6⟩ := sMays_ok h4 K h.1.1
  refine ⟨(h1.trans h3).trans h5, ?_⟩
  obtain ⟨a1, a2, a3, a4, a5, a6⟩ := h6
  exact ⟨a1, a2, a3, a4, a5, a6.le (by have := h.1.2.1; omega)⟩
/-- all but what days change -/
def sKd (r r' : Nat → Int32) : Prop := ∀ j, ¬ iDyn j → j ≠ 2 → r' j = r j
theorem sDay_ok {r : Nat → Int32} {K V : Nat} {po : Nat → Nat} {B : Nat} (h : sW r K V po B) (hB : B < 999999000) : sKd r (sDay r K V) ∧ sW (sDay r K V) K V po (B + 24) ∧ sDay r K V 2 = r 2 + 1 := by
  obtain ⟨h1, h2⟩ := sDay2_ok h hB
  have e2 : sDay2 r K V 2 = r 2 := h1 2 (by unfold iDyn; omega)
  refine ⟨fun j hj h2j => ?_, ?_, ?_⟩
  · unfold sDay wU; rw [if_neg h2j]; exact h1 j hj
  · obtain ⟨a1, ⟨a2, a2'⟩, ⟨S, a3⟩, ⟨f, a4⟩, ⟨sl, a5⟩, a6⟩ := h2
    have oth : ∀ j, j ≠ 2 → sDay r K V j = sDay2 r K V j := fun j hj => by unfold sDay wU; rw [if_neg hj]
    refine ⟨a1, ⟨by rw [oth 0 (by omega)]; exact a2, by rw [oth 1 (by omega)]; exact a2'⟩, ⟨S, by rw [oth 3 (by omega)]; exact a3⟩, ⟨f, by rw [oth 4 (by omega)]; exact a4⟩, ⟨sl, a5.same a1.1 (fun v w hv _ hw => oth _ (by omega)) (fun e he => oth _ (by omega))⟩, a6.same fun e he => oth _ (by omega)⟩
  · unfold sDay wU; rw [if_pos rfl, e2]
theorem sDays_ok {r : Nat → Int32} {K V : Nat} {po : Nat → Nat} {B : Nat} (h : sW r K V po B) (hB : B < 900000000) : ∀ n, n ≤ 120 → sKd r (sDays r K V n) ∧ sW (sDays r K V n) K V po (B + 24 * n) ∧ sDays r K V n 2 = r 2 + nI n := by
  intro n
  induction n with
  | zero => intro _; exact ⟨fun _ _ _ => rfl, h, (by show r 2 = r 2 + 0; simp)⟩
  | succ n ih =>
    intro hn
    obtain ⟨h1, h2, h3⟩ := ih (by omega)
    obtain ⟨h4, h5, h6⟩ := sDay_ok h2 (by omega)
    exact ⟨fun j hj h2j => (h4 j hj h2j).trans (h1 j hj h2j), h5, by show sDay _ K V 2 = _; rw [h6, h3, ← nI_1, Int32.add_assoc]⟩
