/-! THE COMPONENT, 2: ArrayDeque -/
/-- a place of a ring -/
def wr (cap h i : Nat) : Nat := if h + i < cap then h + i else h + i - cap
theorem wr_lt {cap h i : Nat} (h1 : h < cap) (h2 : i ≤ cap) : wr cap h i < cap := by unfold wr; split <;> omega
theorem wr_0 {cap h : Nat} (h1 : h < cap) : wr cap h 0 = h := by unfold wr; rw [if_pos (by omega)]; rfl
theorem wr_1 {cap h i : Nat} (h1 : h < cap) (h2 : i < cap) : wr cap (wr cap h 1) i = wr cap h (i + 1) := by
  unfold wr
  split <;> split <;> split <;> omega
theorem wr_inj {cap h i j : Nat} (h1 : h < cap) (h2 : i < cap) (h3 : j < cap) (e : wr cap h i = wr cap h j) : i = j := by
  unfold wr at e
  split at e <;> split at e <;> omega
/-- an ArrayDeque: its array, its head, what it holds -/
def zDq (μ : ZM) (d ar cap h : Nat) (q : List ZP) : Prop := zfr μ 101 d = (204, cap, ar) ∧ zfi μ 102 d = nI h ∧ zfi μ 103 d = nI (wr cap h q.length) ∧ h < cap ∧ q.length < cap ∧ cap ≤ 1000 ∧ (∀ i p, q[i]? = some p → zar μ ar (wr cap h i) = p) ∧ ∀ p ∈ q, p.1 ≠ 0
theorem zDq.kp {μ ν : ZM} {d ar cap h : Nat} {q : List ZP} (k : zDq μ d ar cap h q) (h1 : zsame μ ν d) (h2 : zsame μ ν ar) : zDq ν d ar cap h q :=
  ⟨(h1.2.1 101).trans k.1, (h1.1 102).trans k.2.1, (h1.1 103).trans k.2.2.1, k.2.2.2.1, k.2.2.2.2.1, k.2.2.2.2.2.1, fun i p hp => (h2.2.2.2.1 _).trans (k.2.2.2.2.2.2.1 i p hp), k.2.2.2.2.2.2.2⟩
section ZJ
variable {G : ZG} {μ : ZM} {Q : Option ZV → ZM → Prop} {E : ZP → ZM → Prop} {d ar cap h : Nat} {q : List ZP}
theorem C_dqInit {z : Int32} {c : Nat} (hz : z = nI c) (hc : 0 < c) (hc2 : c < 1000) (hok : zok μ) (hd : d < zsz μ) (h0 : zfi μ 102 d = 0) (h1 : zfi μ 103 d = 0) (k : ∀ ν, zG (fun a => a = d) 1 (c + 1) μ ν → zDq ν d (zsz μ) (c + 1) 0 [] → zsz ν = zsz μ + 1 → Q none ν) : Call G Y_J31_init [vP (12, 0, d), vI z] μ Q E := by
  subst hz
  refine S_J31_init (S_J0_init_12 ⟨rfl, fun _ => ⟨fun _ => ⟨c + 1, nI_1 c, by omega, k _ ?_ ⟨?_, ?_, ?_, by omega, by show 0 < c + 1; omega, by omega, fun i p hp => (by cases hp), fun p hp => (by cases hp)⟩ rfl⟩, fun e => ?_⟩, fun e => ?_⟩)
  · have := (zG.nw (W := fun a => a = d) (μ := μ) (t := 204) (n := c + 1) (k := c + 1)).tr (zG.fr (f := 101) (a := d) (v := (204, c + 1, zsz μ)) rfl)
    exact this
  · rw [zfr_zFr, if_pos ⟨rfl, rfl⟩]
  · rw [zfi_zFr, zfi_zNew, h0]; rfl
  · rw [zfi_zFr, zfi_zNew, h1]; rfl
  · exact absurd ((nI_eq (a := c) (b := 2147483647) (by omega) (by omega)).mp e) (by omega)
  · exact absurd ((nI_ltI (a := c) (b := 1) (by omega) (by omega)).mp e) (by omega)
theorem C_dqInc {t : Nat} (h1 : t < cap) (h2 : cap ≤ 1000) (k : Q (some (vI (nI (if t + 1 < cap then t + 1 else 0)))) μ) : Call G Y_J31_inc [vI (nI t), vI (nI cap)] μ Q E := by
  refine S_J31_inc ⟨fun e => ?_, fun e => ?_⟩ <;> rw [nI_1] at e
  · rw [nI_1]
    rw [if_pos ((nI_ltI (by omega) (by omega)).mp e)] at k
    exact k
  · rw [if_neg (fun q => e (nI_lt q (by omega)))] at k
    exact k
theorem C_dqEmpty (k : zDq μ d ar cap h q) (kt : q = [] → Q (some (vI 1)) μ) (kf : q ≠ [] → Q (some (vI 0)) μ) : Call G Y_J31_isEmpty [vP (12, 0, d)] μ Q E := by
  obtain ⟨k1, k2, k3, k4, k5, k6, k7, k8⟩ := k
  have hw := wr_lt k4 (Nat.le_of_lt k5)
  refine S_J31_isEmpty ⟨_, k2, _, k3, fun e => kf (fun e2 => e ?_), fun e => kt ?_⟩
  · rw [e2]; show nI h = nI (wr cap h 0); rw [wr_0 k4]
  · have e2 := (nI_eq (by omega) (by omega)).mp e
    cases q with
    | nil => rfl
    | cons p q' =>
      have := wr_inj k4 (i := 0) (j := (p :: q').length) (by omega) k5 (by rw [wr_0 k4]; exact e2)
      cases this
theorem C_dqSize (k : zDq μ d ar cap h q) (kk : Q (some (vI (nI q.length))) μ) : Call G Y_J31_size [vP (12, 0, d)] μ Q E := by
  obtain ⟨k1, k2, k3, k4, k5, k6, k7, k8⟩ := k
  refine S_J31_size ⟨_, k3, _, k2, _, _, k1, S_J31_sub ?_⟩
  have hw : wr cap h q.length = if h + q.length < cap then h + q.length else h + q.length - cap := rfl
  by_cases hl : h + q.length < cap
  · rw [if_pos hl] at hw
    have e : nI (wr cap h q.length) - nI h = nI q.length := by rw [hw, pk_sub (by omega)]; congr 1; omega
    rw [e]
    exact ⟨fun _ => ⟨_, rfl, kk⟩, fun q => absurd q (nI_pos (by omega))⟩
  · rw [if_neg hl] at hw
    have e : nI (wr cap h q.length) - nI h + nI cap = nI q.length := by
      have e2 : nI (wr cap h q.length) + nI cap = nI q.length + nI h := by rw [nI_add, nI_add]; congr 1; omega
      have e3 : nI (wr cap h q.length) - nI h + nI cap = nI (wr cap h q.length) + nI cap - nI h := by
        rw [Int32.sub_eq_add_neg, Int32.sub_eq_add_neg, Int32.add_assoc, Int32.add_comm (-nI h), ← Int32.add_assoc]
      rw [e3, e2]; exact Int32.add_sub_cancel _ _
    refine ⟨fun hn => absurd ?_ hn, fun _ => ⟨_, rfl, by rw [e]; exact kk⟩⟩
    have hlt : wr cap h q.length < h := by omega
    rw [Int32.lt_iff_toInt_lt]
    have e1 : (nI (wr cap h q.length) - nI h).toInt = (wr cap h q.length : Int) - h := by
      rw [Int32.toInt_sub, nI_toInt (by omega), nI_toInt (by omega)]
      exact Int.bmod_eq_of_le (by omega) (by omega)
    rw [e1]
    show _ < (0 : Int)
    omega
theorem C_dqAdd {p : ZP} (k : zDq μ d ar cap h q) (hr : q.length + 1 < cap) (hp : p.1 ≠ 0) (hs : zsto 204 p.1 = true) (kk : ∀ ν, zG (fun a => a = d ∨ a = ar) 0 0 μ ν → zDq ν d ar cap h (q ++ [p]) → Q none ν) : Call G Y_J31_addLast [vP (12, 0, d), vP p] μ Q E := by
  obtain ⟨k1, k2, k3, k4, k5, k6, k7, k8⟩ := k
  have hw := wr_lt k4 (Nat.le_of_lt k5)
  have hw1 : wr cap h (q.length + 1) = if wr cap h q.length + 1 < cap then wr cap h q.length + 1 else 0 := by
    unfold wr
    split <;> split <;> split <;> omega
  refine S_J31_addLast ⟨fun _ => ⟨_, _, k1, _, k3, wr cap h q.length, zix.eq rfl hw (by omega), hs, _, k2, C_dqInc hw k6 ⟨_, rfl, ?_⟩⟩, fun e => absurd e hp⟩
  rw [← hw1]
  refine ⟨fun _ => kk _ ((zG.ar (W := fun a => a = d ∨ a = ar) (Or.inr rfl)).tr (zG.fi (Or.inl rfl))) ⟨k1, ?_, ?_, k4, by rw [List.length_append]; exact hr, k6, fun i p' hp' => ?_, fun p' hp' => ?_⟩, fun e => ?_⟩
  · rw [zfi_zFi, if_neg (fun e => by cases e.1)]; exact k2
  · rw [zfi_zFi, if_pos ⟨rfl, rfl⟩, List.length_append]; rfl
  · rw [zar_zFi, zar_zAr]
    rw [List.getElem?_append] at hp'
    split at hp'
    · rename_i hi
      rw [if_neg (fun e => by have := wr_inj k4 (by omega) k5 e.2; omega)]
      exact k7 i p' hp'
    · rename_i hi
      have hi2 : i - q.length = 0 := by
        have := (List.getElem?_eq_some_iff.mp hp').1
        simp at this; exact this
      rw [hi2] at hp'
      cases hp'
      rw [if_pos ⟨rfl, by congr 1; omega⟩]
  · rcases List.mem_append.mp hp' with e | e
    · exact k8 p' e
    · rw [List.mem_singleton.mp e]; exact hp
  · have e2 := (nI_eq (by omega) (by have := wr_lt k4 (i := q.length + 1) (by omega); omega)).mp e
    have := wr_inj k4 (i := 0) (j := q.length + 1) (by omega) hr (by rw [wr_0 k4]; exact e2)
    omega
theorem C_dqFirst {p : ZP} (k : zDq μ d ar cap h (p :: q)) (kk : ∀ ν, zG (fun a => a = d ∨ a = ar) 0 0 μ ν → zDq ν d ar cap (wr cap h 1) q → Q (some (vP p)) ν) : Call G Y_J31_removeFirst [vP (12, 0, d)] μ Q E := by
  obtain ⟨k1, k2, k3, k4, k5, k6, k7, k8⟩ := k
  have k5' : q.length + 1 < cap := k5
  have hp0 : p.1 ≠ 0 := k8 p List.mem_cons_self
  have e0 : zar μ ar h = p := by have := k7 0 p rfl; rw [wr_0 k4] at this; exact this
  have hw1 : wr cap h 1 = if h + 1 < cap then h + 1 else 0 := by
    unfold wr
    split <;> omega
  refine S_J31_removeFirst (S_J31_pollFirst ⟨_, _, k1, _, k2, S_J31_elementAt ⟨h, zix.eq rfl k4 (by omega), _, e0, ⟨_, rfl, fun e => absurd e hp0, fun _ => ⟨h, zix.eq rfl k4 (by omega), C_dqInc k4 k6 ⟨_, rfl, ⟨_, rfl, fun _ => ?_, fun e => absurd e hp0⟩⟩⟩⟩⟩⟩)
  rw [← hw1]
  refine kk _ ((zG.ar (W := fun a => a = d ∨ a = ar) (Or.inr rfl)).tr (zG.fi (Or.inl rfl))) ⟨k1, ?_, ?_, wr_lt k4 (by omega), by omega, k6, fun i p' hp' => ?_, fun p' hp' => k8 p' (List.mem_cons_of_mem _ hp')⟩
  · rw [zfi_zFi, if_pos ⟨rfl, rfl⟩]
  · rw [zfi_zFi, if_neg (fun e => by cases e.1), wr_1 k4 (by omega)]; exact k3
  · have hi := (List.getElem?_eq_some_iff.mp hp').1
    rw [zar_zFi, zar_zAr, wr_1 k4 (by omega), if_neg (fun e => by have := wr_inj k4 (i := i + 1) (j := 0) (by omega) (by omega) (by rw [wr_0 k4]; exact e.2); omega)]
    exact k7 (i + 1) p' hp'
theorem C_dqLast {p : ZP} (k : zDq μ d ar cap h (q ++ [p])) (kk : ∀ ν, zG (fun a => a = d ∨ a = ar) 0 0 μ ν → zDq ν d ar cap h q → Q (some (vP p)) ν) : Call G Y_J31_removeLast [vP (12, 0, d)] μ Q E := by
  obtain ⟨k1, k2, k3, k4, k5, k6, k7, k8⟩ := k
  rw [List.length_append] at k3 k5
  have k5' : q.length + 1 < cap := k5
  have k3' : zfi μ 103 d = nI (wr cap h (q.length + 1)) := k3
  have hp0 : p.1 ≠ 0 := k8 p (List.mem_append_right _ (List.mem_singleton.mpr rfl))
  have hw := wr_lt k4 (i := q.length) (by omega)
  have e0 : zar μ ar (wr cap h q.length) = p := k7 q.length p (by rw [List.getElem?_append_right (Nat.le_refl _), Nat.sub_self]; rfl)
  have hdec : ∀ {Q' : Option ZV → ZM → Prop} {E' : ZP → ZM → Prop}, Q' (some (vI (nI (wr cap h q.length)))) μ → Call G Y_J31_dec [vI (nI (wr cap h (q.length + 1))), vI (nI cap)] μ Q' E' := by
    intro Q' E' hQ
    refine S_J31_dec ⟨fun e => ?_, fun e => ?_⟩
    · by_cases hz : wr cap h (q.length + 1) = 0
      · rw [hz] at e
        exact absurd (by decide : nI 0 + (-1) < 0) e
      · have e2 : nI (wr cap h (q.length + 1)) + (-1) = nI (wr cap h q.length) := by
          have : wr cap h (q.length + 1) = wr cap h q.length + 1 := by
            unfold wr at hz ⊢
            split at hz <;> split <;> split <;> omega
          rw [this, ← nI_1, Int32.add_assoc]
          exact Int32.add_zero _
        rw [e2]; exact hQ
    · by_cases hz : wr cap h (q.length + 1) = 0
      · have e2 : nI cap - 1 = nI (wr cap h q.length) := by
          have : cap = wr cap h q.length + 1 := by
            unfold wr at hz ⊢
            split at hz <;> split <;> omega
          conv => lhs; rw [this]
          exact nI_pred _
        rw [e2]; exact hQ
      · obtain ⟨w, hw2⟩ := Nat.exists_eq_succ_of_ne_zero hz
        rw [hw2] at e
        have hlt := wr_lt k4 (i := q.length + 1) (by omega)
        rw [Nat.succ_eq_add_one, ← nI_1, Int32.add_assoc] at e
        exact absurd (show nI w < 0 by rw [show (1 : Int32) + (-1) = 0 by decide, Int32.add_zero] at e; exact e) (nI_pos (by omega))
  refine S_J31_removeLast (S_J31_pollLast ⟨_, _, k1, _, k3', hdec ⟨_, rfl, S_J31_elementAt ⟨wr cap h q.length, zix.eq rfl hw (by omega), _, e0, ⟨_, rfl, fun e => absurd e hp0, fun _ => ⟨wr cap h q.length, zix.eq rfl hw (by omega), ⟨_, rfl, fun _ => ?_, fun e => absurd e hp0⟩⟩⟩⟩⟩⟩)
  refine kk _ ((zG.fi (W := fun a => a = d ∨ a = ar) (Or.inl rfl)).tr (zG.ar (Or.inr rfl))) ⟨k1, ?_, ?_, k4, by omega, k6, fun i p' hp' => ?_, fun p' hp' => k8 p' (List.mem_append_left _ hp')⟩
  · rw [zfi_zAr, zfi_zFi, if_neg (fun e => by cases e.1)]; exact k2
  · rw [zfi_zAr, zfi_zFi, if_pos ⟨rfl, rfl⟩]
  · have hi := (List.getElem?_eq_some_iff.mp hp').1
    rw [zar_zAr, zar_zFi, if_neg (fun e => by have := wr_inj k4 (by omega) (by omega) e.2; omega)]
    exact k7 i p' (by rw [List.getElem?_append_left hi]; exact hp')
theorem L_dqClr {i m t : Nat} (hc : cap ≤ 1000) (hm : m ≤ cap) (hi : i ≤ m) (K : ∀ ν, zG (fun a => a = ar) 0 0 μ ν → Wp G Y_J31_circularClear 12 [(0, vP (204, cap, ar)), (1, vI (nI m)), (2, vI (nI t)), (3, vI (nI m))] [] ν Q E) : Wp G Y_J31_circularClear 12 [(0, vP (204, cap, ar)), (1, vI (nI i)), (2, vI (nI t)), (3, vI (nI m))] [] μ Q E := by
  obtain ⟨n, hn⟩ : ∃ n, m = i + n := ⟨m - i, by omega⟩
  induction n generalizing i μ with
  | zero => have : m = i := by omega
            subst this
            exact K μ (zG.rf _ _)
  | succ n ih =>
    refine B_J31_circularClear_12 ⟨fun e => absurd (nI_lt (by omega) (by omega)) e, fun _ => ⟨i, zix.eq rfl (by omega) (by omega), ?_⟩⟩
    rw [nI_1]
    exact ih (i := i + 1) (by omega) (fun ν hν => K ν ((zG.ar (W := fun a => a = ar) rfl).tr hν)) (by omega)
theorem C_dqClear (k : zDq μ d ar cap h q) (hne : d ≠ ar) (kk : ∀ ν, zG (fun a => a = d ∨ a = ar) 0 0 μ ν → zDq ν d ar cap 0 [] → Q none ν) (hd : d < zsz μ) : Call G Y_J31_clear [vP (12, 0, d)] μ Q E := by
  obtain ⟨k1, k2, k3, k4, k5, k6, k7, k8⟩ := k
  have hw := wr_lt k4 (Nat.le_of_lt k5)
  have fin : ∀ ν, zG (fun a => a = ar) 0 0 μ ν → Q none (zFi (zFi ν 103 d 0) 102 d 0) := by
    intro ν hν
    have hs := hν.same hd hne
    refine kk _ (((hν.mono (V := fun a => a = d ∨ a = ar) (fun a _ e => Or.inr e) (Nat.le_refl _) (Nat.le_refl _)).tr (zG.fi (Or.inl rfl))).tr (zG.fi (Or.inl rfl))) ⟨(hs.2.1 101).trans k1, ?_, ?_, by omega, by show 0 < cap; omega, k6, fun i p hp => (by cases hp), fun p hp => (by cases hp)⟩
    · rw [zfi_zFi, if_pos ⟨rfl, rfl⟩]; rfl
    · rw [zfi_zFi, if_neg (fun e => by cases e.1), zfi_zFi, if_pos ⟨rfl, rfl⟩]
      show _ = nI (wr cap 0 0)
      rw [wr_0 (by omega)]; rfl
  refine S_J31_clear ⟨_, _, k1, _, k2, _, k3, S_J31_circularClear ⟨fun e => ?_, fun e => ?_⟩⟩
  · have hlt := (nI_ltI (by omega) (by omega)).mp e
    refine L_dqClr k6 (Nat.le_refl _) (by omega) (fun ν hν => ?_)
    refine B_J31_circularClear_12 ⟨fun _ => ⟨fun _ => ?_, fun e => absurd ((nI_eq (by omega) (by omega)).mp e) (by omega)⟩, fun e => absurd e (nI_nlt (Nat.le_refl _) (by omega))⟩
    refine L_dqClr (i := 0) k6 (by omega) (by omega) (fun ρ hρ => ?_)
    exact B_J31_circularClear_12 ⟨fun _ => ⟨fun e => absurd rfl e, fun _ => ⟨rfl, fin ρ (hν.tr hρ)⟩⟩, fun e => absurd e (nI_nlt (Nat.le_refl _) (by omega))⟩
  · have hle : h ≤ wr cap h q.length := Nat.le_of_not_lt (fun q => e (nI_lt q (by omega)))
    refine L_dqClr k6 (by omega) hle (fun ρ hρ => ?_)
    exact B_J31_circularClear_12 ⟨fun _ => ⟨fun e => absurd rfl e, fun _ => ⟨rfl, fin ρ hρ⟩⟩, fun e => absurd e (nI_nlt (Nat.le_refl _) (by omega))⟩
end ZJ
