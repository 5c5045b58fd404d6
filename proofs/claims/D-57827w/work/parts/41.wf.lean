/-! LAWS OF ROWS, 2: what a day may change; the end of a contract; bounds -/
/-- the places that days and fairs may change, but for the day -/
def iDyn (j : Nat) : Prop := j = 5 ∨ j = 6 ∨ j = 8 ∨ (23 ≤ j ∧ j < 203 ∧ 11 ≤ (j - 23) % 15) ∨ (203 ≤ j ∧ j < 339 ∧ 10 ≤ (j - 203) % 17) ∨ (339 ≤ j ∧ j < 627 ∧ (j - 339) % 3 ≠ 0)
def sKp (r r' : Nat → Int32) : Prop := ∀ j, ¬ iDyn j → r' j = r j
theorem sKp.rf (r : Nat → Int32) : sKp r r := fun _ _ => rfl
theorem sKp.trans {r r' r'' : Nat → Int32} (h : sKp r r') (k : sKp r' r'') : sKp r r'' := fun j hj => (k j hj).trans (h j hj)
theorem sKp.up {r r' : Nat → Int32} (h : sKp r r') {j : Nat} (hj : iDyn j) (x : Int32) : sKp r (wU r' j x) := fun i hi => by
  have hne : i ≠ j := fun q => by rw [q] at hi; exact hi hj
  unfold wU
  rw [if_neg hne]
  exact h i hi
theorem iDyn_E {e u : Nat} (he : e < 12) (hu : 11 ≤ u) (hu' : u < 15) : iDyn (23 + 15 * e + u) := by unfold iDyn; omega
theorem iDyn_V {v w : Nat} (hv : v < 8) (hw : 10 ≤ w) (hw' : w < 17) : iDyn (203 + 17 * v + w) := by unfold iDyn; omega
theorem iDyn_P {v e w : Nat} (hv : v < 8) (he : e < 12) (hw : 0 < w) (hw' : w < 3) : iDyn (iP v e w) := by unfold iDyn iP; omega
theorem sKp.E {r r' : Nat → Int32} (h : sKp r r') {e u : Nat} (hu : u < 11) (he : e < 12) : wE r' e u = wE r e u := h _ (by unfold iDyn; omega)
theorem sKp.V {r r' : Nat → Int32} (h : sKp r r') {v w : Nat} (hw : w < 10) (hv : v < 8) : wV r' v w = wV r v w := h _ (by unfold iDyn; omega)
theorem sKp.P {r r' : Nat → Int32} (h : sKp r r') {v e : Nat} (he : e < 12) (hv : v < 8) : wP r' v e 0 = wP r v e 0 := h _ (by unfold iDyn; omega)
theorem sComes_kp {r : Nat → Int32} {v e n : Nat} (hv : v < 8) (he : e < 12) (hn : n < 3) : sKp r (sComes r v e n) :=
  ((((sKp.rf r).up (iDyn_V hv (by omega) (by omega)) _).up (iDyn_V hv (by omega) (by omega)) _).up (iDyn_E he (by omega) (by omega)) _).up (by unfold iDyn; omega) _
theorem sShift_kp {v : Nat} (hv : v < 8) : ∀ d k (r r0 : Nat → Int32), k + d ≤ 2 → sKp r0 r → sKp r0 (sShift r v d k) := by
  intro d
  induction d with
  | zero => intro k r r0 _ h; exact h
  | succ d ih => intro k r r0 hk h; exact ih (k + 1) _ r0 (by omega) (h.up (iDyn_V hv (by omega) (by omega)) _)
theorem sEnds_kp {r : Nat → Int32} {v e n p : Nat} (hv : v < 8) (he : e < 12) (hn : n ≤ 3) (hp : sPlace r v e n 0 = p) (hpn : p < n) : sKp r (sEnds r v e n) := by
  unfold sEnds
  dsimp only
  rw [hp]
  exact ((((sShift_kp hv _ _ _ r (by omega) (sKp.rf r)).up (iDyn_V hv (by omega) (by omega)) _).up (iDyn_E he (by omega) (by omega)) _).up (iDyn_E he (by omega) (by omega)) _).up (by unfold iDyn; omega) _
theorem sPays_kp {r : Nat → Int32} {v e : Nat} (hv : v < 8) (he : e < 12) : sKp r (sPays r v e) := by
  unfold sPays
  split
  · exact (sKp.rf r).up (iDyn_E he (by omega) (by omega)) _
  · exact ((((sKp.rf r).up (iDyn_V hv (by omega) (by omega)) _).up (iDyn_V hv (by omega) (by omega)) _).up (iDyn_E he (by omega) (by omega)) _).up (iDyn_E he (by omega) (by omega)) _
theorem sEarnS_kp {mem : Nat → Nat} {v : Nat} {r : Nat → Int32} (hv : v < 8) : ∀ n, (∀ k, k < n → mem k < 12) → sKp r (sEarnS mem v r n).1 := by
  intro n
  induction n with
  | zero => intro _; exact sKp.rf r
  | succ n ih => intro h; exact (ih (fun k hk => h k (by omega))).up (iDyn_P hv (h n (by omega)) (by omega) (by omega)) _
theorem sEarns_kp {mem : Nat → Nat} {v : Nat} {r : Nat → Int32} {n : Nat} (hv : v < 8) (h : ∀ k, k < n → mem k < 12) : sKp r (sEarns mem v r n) :=
  (((sEarnS_kp hv n h).up (iDyn_V hv (by omega) (by omega)) _).up (iDyn_V hv (by omega) (by omega)) _).up (by unfold iDyn; omega) _
/-- a staff of rows that agree -/
theorem sStaff.same {r r' : Nat → Int32} {K V : Nat} {sl : Nat → List Nat} {po : Nat → Nat} (h : sStaff r K V sl po) (hK : K ≤ 12) (hV : ∀ v w, v < 8 → (w = 8 ∨ 13 ≤ w) → w < 17 → wV r' v w = wV r v w) (hE : ∀ e, e < 12 → wE r' e 13 = wE r e 13) : sStaff r' K V sl po := by
  obtain ⟨h1, h2⟩ := h
  refine ⟨fun v hv => ?_, fun e he hn => by rw [hE e he]; exact h2 e he hn⟩
  obtain ⟨a1, a2, a3, a4, a5, a6, a7, a8⟩ := h1 v hv
  exact ⟨by rw [hV v 13 hv (by omega) (by omega)]; exact a1, by rw [hV v 8 hv (by omega) (by omega)]; exact a2, a3, a4, a5, fun k hk => by rw [hV v (14 + k) hv (by omega) (by omega)]; exact a6 k hk, fun e he => ⟨(a7 e he).1, by rw [hE e (by have := (a7 e he).1; omega)]; exact (a7 e he).2⟩, a8⟩
/-- whom an echo serves -/
theorem sStaff.emp {r : Nat → Int32} {K V : Nat} {sl : Nat → List Nat} {po : Nat → Nat} (h : sStaff r K V sl po) {e : Nat} (he : e < 12) : (wE r e 13 = 0 ∧ ∀ v, v < 8 → e ∉ sl v) ∨ ∃ v, v < 8 ∧ v < V ∧ e ∈ sl v ∧ wE r e 13 = nI (v + 1) := by
  obtain ⟨h1, h2⟩ := h
  by_cases hx : ∃ v, v < 8 ∧ e ∈ sl v
  · obtain ⟨v, hv, hm⟩ := hx
    obtain ⟨a1, a2, a3, a4, a5, a6, a7, a8⟩ := h1 v hv
    refine Or.inr ⟨v, hv, ?_, hm, (a7 e hm).2⟩
    apply Decidable.byContradiction
    intro q
    rw [a8 (by omega)] at hm
    cases hm
  · have hx' : ∀ v, v < 8 → e ∉ sl v := fun v hv hm => hx ⟨v, hv, hm⟩
    exact Or.inl ⟨h2 e he hx', hx'⟩
theorem sStaff.one {r : Nat → Int32} {K V : Nat} {sl : Nat → List Nat} {po : Nat → Nat} (h : sStaff r K V sl po) {e v w : Nat} (hv : v < 8) (hw : w < 8) (h1 : e ∈ sl v) (h2 : e ∈ sl w) : v = w := by
  have e1 := ((h.1 v hv).2.2.2.2.2.2.1 e h1).2
  have e2 := ((h.1 w hw).2.2.2.2.2.2.1 e h2).2
  rw [e1] at e2
  have := (nI_eq (by omega) (by omega)).mp e2
  omega
theorem sStaff.place {r : Nat → Int32} {K V : Nat} {sl : Nat → List Nat} {po : Nat → Nat} (h : sStaff r K V sl po) (hK : K ≤ 12) {e v : Nat} (hv : v < 8) (h1 : e ∈ sl v) : sPlace r v e (sl v).length 0 < (sl v).length ∧ (sl v)[sPlace r v e (sl v).length 0]? = some e ∧ ∃ i, i < (sl v).length ∧ wV r v (14 + i) = nI e := by
  obtain ⟨a1, a2, a3, a4, a5, a6, a7, a8⟩ := h.1 v hv
  obtain ⟨i, hi, hie⟩ := List.getElem_of_mem h1
  have hex : ∃ i, i < (sl v).length ∧ wV r v (14 + i) = nI e := ⟨i, hi, by rw [a6 i hi, List.getD_eq_getElem?_getD, List.getElem?_eq_getElem hi, hie]; rfl⟩
  obtain ⟨p1, -, p3⟩ := sPlace_lt (r := r) (v := v) (e := e) (n := (sl v).length) (sl v).length 0 (by omega) (by obtain ⟨i, g1, g2⟩ := hex; exact ⟨i, by omega, g1, g2⟩)
  refine ⟨p1, ?_, hex⟩
  rw [a6 _ p1, List.getD_eq_getElem?_getD, List.getElem?_eq_getElem p1] at p3
  have hm := List.getElem_mem p1
  have hlt := (a7 _ hm).1
  have := (nI_eq (by simp only [Option.getD_some]; omega) (by have := (a7 _ h1).1; omega)).mp p3
  rw [List.getElem?_eq_getElem p1]
  exact congrArg some this
theorem sEnds_staff {r : Nat → Int32} {K V : Nat} {sl : Nat → List Nat} {po : Nat → Nat} (h : sStaff r K V sl po) (hK : K ≤ 12) {e v : Nat} (hv : v < 8) (hm : e ∈ sl v) : sStaff (sEnds r v e (sl v).length) K V (kU sl v ((sl v).eraseIdx (sPlace r v e (sl v).length 0))) po := by
  obtain ⟨p1, p2, -⟩ := h.place hK hv hm
  have one := fun w (hw : w < 8) (q : e ∈ sl w) => h.one hw hv q hm
  obtain ⟨h1, h2⟩ := h
  obtain ⟨a1, a2, a3, a4, a5, a6, a7, a8⟩ := h1 v hv
  have he := (a7 e hm).1
  obtain ⟨p, hp⟩ : ∃ p, sPlace r v e (sl v).length 0 = p := ⟨_, rfl⟩
  rw [hp] at p1 p2 ⊢
  have hV : ∀ v' w, w < 17 → wV (sEnds r v e (sl v).length) v' w = _ := fun v' w hw => sEnds_V hv (by omega) (by omega) hp p1 hw
  have hE : ∀ e', e' < 12 → wE (sEnds r v e (sl v).length) e' 13 = if e' = e then 0 else wE r e' 13 := fun e' he' => by
    rw [sEnds_E hv (by omega) (by omega) hp p1 (by omega) he']
    by_cases q : e' = e
    · rw [if_pos ⟨q, Or.inl rfl⟩, if_pos q]
    · rw [if_neg (fun t => q t.1), if_neg q]
  have inj : ∀ i j x, (sl v)[i]? = some x → (sl v)[j]? = some x → i = j := fun i j x hi hj => by
    have hil := (List.getElem?_eq_some_iff.mp hi).1
    exact (List.getElem?_inj hil a5).mp (hi.trans hj.symm)
  have notmem : e ∉ (sl v).eraseIdx p := by
    intro q
    obtain ⟨i, hi1, hi2⟩ := List.mem_eraseIdx_iff_getElem?.mp q
    exact hi1 (inj i p e hi2 p2)
  refine ⟨fun w hw => ?_, fun x hx hn => ?_⟩
  · obtain ⟨b1, b2, b3, b4, b5, b6, b7, b8⟩ := h1 w hw
    by_cases hwv : w = v
    · subst hwv
      have ek : kU sl w ((sl w).eraseIdx p) w = (sl w).eraseIdx p := by unfold kU; rw [if_pos rfl]
      have el : ((sl w).eraseIdx p).length = (sl w).length - 1 := List.length_eraseIdx_of_lt p1
      rw [ek, el]
      refine ⟨?_, ?_, by omega, b4, b5.sublist (List.eraseIdx_sublist _ _), fun k hk => ?_, fun x hx => ?_, fun q => ?_⟩
      · rw [hV _ _ (by omega), if_pos ⟨rfl, rfl⟩]
        obtain ⟨n, hn⟩ : ∃ n, (sl w).length = n + 1 := ⟨(sl w).length - 1, by omega⟩
        rw [hn]; exact nI_pred n
      · rw [hV _ _ (by omega), if_neg (by omega), if_neg (by omega)]; exact b2
      · rw [hV _ _ (by omega), if_neg (by omega), List.getD_eq_getElem?_getD, List.getElem?_eraseIdx]
        by_cases hkp : k < p
        · rw [if_neg (by omega), if_pos hkp, b6 k (by omega), List.getD_eq_getElem?_getD]
        · rw [if_pos (by omega), if_neg hkp, Nat.add_assoc, b6 (k + 1) (by omega), List.getD_eq_getElem?_getD]
      · have hx0 := List.mem_of_mem_eraseIdx hx
        refine ⟨(b7 x hx0).1, ?_⟩
        rw [hE x (by have := (b7 x hx0).1; omega), if_neg (show ¬ x = e from fun t => by rw [t] at hx; exact notmem hx)]
        exact (b7 x hx0).2
      · rw [b8 q]; rfl
    · have ek : kU sl v ((sl v).eraseIdx p) w = sl w := by unfold kU; rw [if_neg hwv]
      rw [ek]
      have st : ∀ u, u < 17 → wV (sEnds r v e (sl v).length) w u = wV r w u := fun u hu => by
        rw [hV w u hu, if_neg (fun q => hwv q.1), if_neg (fun q => hwv q.1)]
      refine ⟨by rw [st 13 (by omega)]; exact b1, by rw [st 8 (by omega)]; exact b2, b3, b4, b5, fun k hk => by rw [st (14 + k) (by omega)]; exact b6 k hk, fun x hx => ⟨(b7 x hx).1, ?_⟩, b8⟩
      rw [hE x (by have := (b7 x hx).1; omega), if_neg (show ¬ x = e from fun t => by rw [t] at hx; exact hwv (one w hw hx))]
      exact (b7 x hx).2
  · rw [hE x hx]
    by_cases q : x = e
    · rw [if_pos q]
    · rw [if_neg q]
      refine h2 x hx fun w hw hmw => hn w hw ?_
      unfold kU
      split
      · rename_i hwv
        rw [hwv] at hmw
        obtain ⟨i, hi⟩ := List.mem_iff_getElem?.mp hmw
        refine List.mem_eraseIdx_iff_getElem?.mpr ⟨i, fun t => ?_, hi⟩
        rw [t, p2] at hi
        exact q (Option.some.inj hi).symm
      · exact hmw
/-- unpaid days are few -/
def sUn (r : Nat → Int32) (B : Nat) : Prop := ∀ e, e < 12 → ∃ u, wE r e 12 = nI u ∧ u ≤ B
theorem sUn.le {r : Nat → Int32} {B C : Nat} (h : sUn r B) (hC : B ≤ C) : sUn r C := fun e he => by
  obtain ⟨u, h1, h2⟩ := h e he
  exact ⟨u, h1, by omega⟩
theorem sUn.same {r r' : Nat → Int32} {B : Nat} (h : sUn r B) (hE : ∀ e, e < 12 → wE r' e 12 = wE r e 12) : sUn r' B := fun e he => by rw [hE e he]; exact h e he
theorem sPays_E13 {r : Nat → Int32} {v e : Nat} (he : e < 12) (x : Nat) (hx : x < 12) : wE (sPays r v e) x 13 = wE r x 13 := by
  unfold sPays
  split
  · rw [wE_wU _ (by omega) (by omega), if_neg (by omega)]
  · rw [wE_wU _ (by omega) (by omega), if_neg (by omega), wE_wU _ (by omega) (by omega), if_neg (by omega), wE_wU_V _ (by omega) hx, wE_wU_V _ (by omega) hx]
theorem sPays_V {r : Nat → Int32} {v e : Nat} (he : e < 12) {v' w : Nat} (hw : w < 17) (h1 : w ≠ 10) (h2 : w ≠ 12) : wV (sPays r v e) v' w = wV r v' w := by
  unfold sPays
  split
  · rw [wV_wU_E _ (by omega) he]
  · rw [wV_wU_E _ (by omega) he, wV_wU_E _ (by omega) he, wV_wU _ (by omega) hw, if_neg (by omega), wV_wU _ (by omega) hw, if_neg (by omega)]
theorem sPays_un {r : Nat → Int32} {v e B : Nat} (he : e < 12) (h : sUn r B) (hB : B < 2000000000) : sUn (sPays r v e) (B + 1) := fun x hx => by
  obtain ⟨u, h1, h2⟩ := h x hx
  unfold sPays
  split
  · rw [wE_wU _ (by omega) (by omega)]
    by_cases q : x = e
    · subst q
      rw [if_pos ⟨rfl, rfl⟩, h1, nI_1]; exact ⟨u + 1, rfl, by omega⟩
    · rw [if_neg (by omega)]; exact ⟨u, h1, by omega⟩
  · rw [wE_wU _ (by omega) (by omega)]
    by_cases q : x = e
    · rw [if_pos ⟨q, rfl⟩]; exact ⟨0, rfl, by omega⟩
    · rw [if_neg (by omega), wE_wU _ (by omega) (by omega), if_neg (by omega), wE_wU_V _ (by omega) hx, wE_wU_V _ (by omega) hx]; exact ⟨u, h1, by omega⟩
theorem sPays_staff {r : Nat → Int32} {K V : Nat} {sl : Nat → List Nat} {po : Nat → Nat} {v e : Nat} (h : sStaff r K V sl po) (hK : K ≤ 12) (he : e < 12) : sStaff (sPays r v e) K V sl po :=
  h.same hK (fun _ _ _ q hw => sPays_V he hw (by omega) (by omega)) (fun x hx => sPays_E13 he x hx)
theorem sEarns_E {mem : Nat → Nat} {v : Nat} {r : Nat → Int32} {n : Nat} {e u : Nat} (hu : u < 15) (he : e < 12) : wE (sEarns mem v r n) e u = wE r e u := by
  unfold sEarns
  dsimp only
  rw [wE_wU_lo _ (by omega), wE_wU_V _ hu he, wE_wU_V _ hu he]
  exact sEarnS_lo _ _ (by omega)
theorem sEarns_V {mem : Nat → Nat} {v : Nat} {r : Nat → Int32} {n : Nat} {v' w : Nat} (hv : v' < 8) (hw : w < 17) (h1 : w ≠ 10) (h2 : w ≠ 11) : wV (sEarns mem v r n) v' w = wV r v' w := by
  unfold sEarns
  dsimp only
  rw [wV_wU_lo _ (by omega), wV_wU _ (by omega) hw, if_neg (by omega), wV_wU _ (by omega) hw, if_neg (by omega)]
  exact sEarnS_lo _ _ (by omega)
theorem sEarns_staff {r : Nat → Int32} {K V : Nat} {sl : Nat → List Nat} {po : Nat → Nat} {mem : Nat → Nat} {v n : Nat} (h : sStaff r K V sl po) (hK : K ≤ 12) : sStaff (sEarns mem v r n) K V sl po :=
  h.same hK (fun _ _ hv q hw => sEarns_V hv hw (by omega) (by omega)) (fun x hx => sEarns_E (by omega) hx)
theorem sComes_un {r : Nat → Int32} {v e n B : Nat} (h : sUn r B) (hv : v < 8) (he : e < 12) (hn : n < 3) : sUn (sComes r v e n) B := h.same fun x hx => by rw [sComes_E hv he hn (by omega) hx, if_neg (by omega)]
theorem sEnds_un {r : Nat → Int32} {v e n p B : Nat} (h : sUn r B) (hv : v < 8) (he : e < 12) (hn : n ≤ 3) (hp : sPlace r v e n 0 = p) (hpn : p < n) : sUn (sEnds r v e n) B := fun x hx => by
  rw [sEnds_E hv he hn hp hpn (by omega) hx]
  split
  · exact ⟨0, rfl, by omega⟩
  · exact h x hx
/-- the contract of echo e ends, whomever it serves -/
def sEnd (r : Nat → Int32) (e : Nat) : Nat → Int32 := sEnds r (wE r e 13 - 1).toNatClampNeg e (wV r (wE r e 13 - 1).toNatClampNeg 13).toNatClampNeg
theorem sEnd_eq {r : Nat → Int32} {K V : Nat} {sl : Nat → List Nat} {po : Nat → Nat} (h : sStaff r K V sl po) {e v : Nat} (hv : v < 8) (hm : e ∈ sl v) : sEnd r e = sEnds r v e (sl v).length := by
  obtain ⟨a1, a2, a3, a4, a5, a6, a7, a8⟩ := h.1 v hv
  unfold sEnd
  rw [(a7 e hm).2, nI_pred, nI_clamp (by omega), a1, nI_clamp (by omega)]
/-- what holds of a row at all times -/
def sW (r : Nat → Int32) (K V : Nat) (po : Nat → Nat) (B : Nat) : Prop := (K ≤ 12 ∧ V ≤ 8 ∧ 0 < K ∧ 0 < V) ∧ (r 0 = nI K ∧ r 1 = nI V) ∧ (∃ S, r 3 = nI S ∧ 0 < S ∧ S ≤ 30) ∧ (∃ f, r 4 = nI f ∧ 0 < f ∧ f ≤ 12) ∧ (∃ sl, sStaff r K V sl po) ∧ sUn r B
theorem sW.mk {r r' : Nat → Int32} {K V : Nat} {po : Nat → Nat} {B B' : Nat} (h : sW r K V po B) (hk : sKp r r') (hs : ∃ sl, sStaff r' K V sl po) (hu : sUn r' B') : sW r' K V po B' := by
  obtain ⟨h1, ⟨h2, h3⟩, ⟨S, h4⟩, ⟨f, h5⟩, -, -⟩ := h
  exact ⟨h1, ⟨by rw [hk 0 (by unfold iDyn; omega)]; exact h2, by rw [hk 1 (by unfold iDyn; omega)]; exact h3⟩, ⟨S, by rw [hk 3 (by unfold iDyn; omega)]; exact h4⟩, ⟨f, by rw [hk 4 (by unfold iDyn; omega)]; exact h5⟩, hs, hu⟩
theorem sEnd_ok {r : Nat → Int32} {K V : Nat} {po : Nat → Nat} {B e : Nat} (h : sW r K V po B) (he : e < 12) (hc : 0 < wE r e 13) : sKp r (sEnd r e) ∧ sW (sEnd r e) K V po B := by
  obtain ⟨sl, hs⟩ := h.2.2.2.2.1
  rcases hs.emp he with ⟨q, -⟩ | ⟨v, hv, hvV, hm, -⟩
  · rw [q] at hc; exact absurd hc (by decide)
  · have hK := h.1.1
    rw [sEnd_eq hs hv hm]
    obtain ⟨p1, -, -⟩ := hs.place hK hv hm
    have a3 := (hs.1 v hv).2.2.1
    have a4 := (hs.1 v hv).2.2.2.1
    have kp := sEnds_kp hv he (show (sl v).length ≤ 3 by omega) rfl p1
    exact ⟨kp, h.mk kp ⟨_, sEnds_staff hs hK hv hm⟩ (sEnds_un h.2.2.2.2.2 hv he (by omega) rfl p1)⟩
