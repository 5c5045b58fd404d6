set_option maxRecDepth 100000
/-! THE COMPONENT, 33: a State's copy: its echoes -/
theorem upd1_p {t : Nat} (f : Nat → Nat) (e b : Nat) : (fun i => if i = e then ((t, 0, b) : ZP) else (t, 0, f i)) = fun i => (t, 0, upd1 f e b i) := by
  funext i
  unfold upd1
  by_cases q : i = e
  · rw [if_pos q, if_pos q]
  · rw [if_neg q, if_neg q]
/-- e echoes stand in a list behind address B -/
def zCe (ν : ZM) (B l ar e : Nat) (eb : Nat → Nat) (r : Nat → Int32) (nm : Nat → ZP) : Prop := zLs ν l ar 12 e (fun i => (3, 0, eb i)) ∧ (∀ i, i < e → B ≤ eb i ∧ eb i < zsz ν) ∧ (∀ i j, i < e → j < e → eb i = eb j → i = j) ∧ ∀ i, i < e → (∀ w, 7 ≤ w → w < 15 → zfi ν (fE w) (eb i) = wE r i w - oE w) ∧ zfr ν 21 (eb i) = nm i
theorem zCe.kp {μ ν : ZM} {B l ar e : Nat} {eb : Nat → Nat} {r : Nat → Int32} {nm : Nat → ZP} (h : zCe μ B l ar e eb r nm) (hs : zsz μ ≤ zsz ν) (k1 : zsame μ ν l) (k2 : zsame μ ν ar) (k3 : ∀ i, i < e → zsame μ ν (eb i)) : zCe ν B l ar e eb r nm := by
  obtain ⟨a1, a2, a3, a4⟩ := h
  exact ⟨a1.kp k1 k2, fun i hi => ⟨(a2 i hi).1, Nat.lt_of_lt_of_le (a2 i hi).2 hs⟩, a3, fun i hi => ⟨fun w h1 h2 => ((k3 i hi).1 _).trans ((a4 i hi).1 w h1 h2), ((k3 i hi).2.1 _).trans (a4 i hi).2⟩⟩
theorem zCe.add {μ ν : ZM} {B l ar e b : Nat} {eb : Nat → Nat} {r : Nat → Int32} {nm : Nat → ZP} (h : zCe μ B l ar e eb r nm) (hs : zsz μ ≤ zsz ν) (hl : zLs ν l ar 12 (e + 1) (fun i => if i = e then (3, 0, b) else (3, 0, eb i))) (k3 : ∀ i, i < e → zsame μ ν (eb i)) (hb : B ≤ b ∧ zsz μ ≤ b ∧ b < zsz ν) (hf : ∀ w, 7 ≤ w → w < 15 → zfi ν (fE w) b = wE r e w - oE w) (hn : zfr ν 21 b = nm e) : zCe ν B l ar (e + 1) (upd1 eb e b) r nm := by
  obtain ⟨a1, a2, a3, a4⟩ := h
  rw [upd1_p] at hl
  have un : ∀ i, i < e → upd1 eb e b i = eb i := fun i hi => upd1_n (by omega)
  refine ⟨hl, fun i hi => ?_, fun i j hi hj hij => ?_, fun i hi => ?_⟩
  · rcases Nat.eq_or_lt_of_le (Nat.le_of_lt_succ hi) with q | q
    · rw [q, upd1_s]; exact ⟨hb.1, hb.2.2⟩
    · rw [un i q]; exact ⟨(a2 i q).1, Nat.lt_of_lt_of_le (a2 i q).2 hs⟩
  · rcases Nat.eq_or_lt_of_le (Nat.le_of_lt_succ hi) with q | q <;> rcases Nat.eq_or_lt_of_le (Nat.le_of_lt_succ hj) with q2 | q2
    · omega
    · rw [q, upd1_s, un j q2] at hij; have := (a2 j q2).2; omega
    · rw [q2, upd1_s, un i q] at hij; have := (a2 i q).2; omega
    · rw [un i q, un j q2] at hij; exact a3 i j q q2 hij
  · rcases Nat.eq_or_lt_of_le (Nat.le_of_lt_succ hi) with q | q
    · rw [q, upd1_s]; exact ⟨hf, hn⟩
    · rw [un i q]; exact ⟨fun w h1 h2 => ((k3 i q).1 _).trans ((a4 i q).1 w h1 h2), ((k3 i q).2.1 _).trans (a4 i q).2⟩
section ZJ
variable {G : ZG} {μ : ZM} {Q : Option ZV → ZM → Prop} {E : ZP → ZM → Prop} {lo hi s K V F fg el ear vl var ds dm sm : Nat} {ea va ta sa : Nat → Nat} {r : Nat → Int32} {z1 z2 z3 : Int32}
theorem L_cpE {s1 l1 a1 it : Nat} {ν1 : ZM} (hok : zok μ) (hh : hi ≤ zsz μ) (h : zSta μ lo hi s r K V F fg el ear vl var ds dm sm ea va ta sa) (hn : ∀ e, e < K → zis 23 (zfr μ 21 (ea e))) (h1 : zsz μ ≤ s1 ∧ zsz μ ≤ l1 ∧ zsz μ ≤ a1 ∧ zsz μ ≤ it) (h2 : s1 < zsz ν1 ∧ l1 < zsz ν1 ∧ a1 < zsz ν1 ∧ it < zsz ν1) (h3 : s1 ≠ l1 ∧ s1 ≠ a1 ∧ s1 ≠ it ∧ l1 ≠ a1 ∧ l1 ≠ it ∧ a1 ≠ it) (hs1 : zfr ν1 10 s1 = (10, 0, l1)) {c0 d0 : Nat}
    (Kc : ∀ ρ eb, zG (fun _ => False) (c0 + K) (d0 + 9 * K) μ ρ → zG (fun a => a = it ∨ a = l1 ∨ a = a1) K (9 * K) ν1 ρ → zCe ρ (zsz ν1) l1 a1 K eb r (fun i => zfr μ 21 (ea i)) → zok ρ → ∃ a1, zfr ρ 11 s = (10, 0, a1) ∧ Call G Y_J2_iterator [vP (10, 0, a1)] ρ (rP fun q1 ν2 => ∃ b1, q1 = (11, 0, b1) ∧ Wp G Y_X2_copy 72 [(0, vP (2, 0, s)), (1, vP (2, 0, s1)), (2, vP (11, 0, b1))] [] ν2 Q E) (fun q ν => zkc q.1 = true ∧ E q ν)) :
    ∀ (d e : Nat) (ν : ZM) (eb : Nat → Nat), e + d = K → zG (fun _ => False) (c0 + e) (d0 + 9 * e) μ ν → zG (fun a => a = it ∨ a = l1 ∨ a = a1) e (9 * e) ν1 ν → zIt ν it el e → zCe ν (zsz ν1) l1 a1 e eb r (fun i => zfr μ 21 (ea i)) → Wp G Y_X2_copy 26 [(0, vP (2, 0, s)), (1, vP (2, 0, s1)), (2, vP (11, 0, it))] [] ν Q E := by
  have hK := h.1.2.1.2.2.2.1
  intro d
  induction d with
  | zero =>
    intro e ν eb hed gμ gν hit hc
    have : e = K := by omega
    subst this
    have hν := h.nw hok hh gμ
    exact Wp.zo fun hokν => B_X2_copy_26 (C_itHas hν.2.1.2.1 hit (Nat.le_refl _) (fun q => absurd q (Nat.lt_irrefl _)) (fun _ => ⟨_, rfl, fun _ => Kc ν eb gμ gν hc hokν, fun q => absurd rfl q⟩))
  | succ d ih =>
    intro e ν eb hed gμ gν hit hc
    have heK : e < K := by omega
    have hν := h.nw hok hh gμ
    have hzν := gμ.1.1
    have hz1 := gν.1.1
    have hel : el < zsz μ := by have := h.2.1.1; omega
    have hea := (h.2.1.2.2.1 e heK).2
    refine B_X2_copy_26 (C_itHas hν.2.1.2.1 hit (by omega) (fun _ => ⟨_, rfl, fun q => absurd q (by decide), fun _ => C_itNext hν.2.1.2.1 hit heK (by omega) fun ν3 g3 hit3 => ⟨_, rfl, _, rfl, l1, ?_, ?_⟩⟩) (fun q => absurd q (by omega)))
    · rw [(g3.same (a := s1) (by omega) (by omega)).2.1, (gν.same (a := s1) (by omega) (by omega)).2.1]; exact hs1
    have gμ3 : zG (fun _ => False) (c0 + e + 0) (d0 + 9 * e + 0) μ ν3 := zG.trN (W := fun _ => False) gμ (g3.mono (fun a _ q => Or.inr (by omega)) (Nat.le_refl _) (Nat.le_refl _))
    have h3' := h.nw hok hh gμ3
    have hz3 := g3.1.1
    have nm3 : zfr ν3 21 (ea e) = zfr μ 21 (ea e) := gμ3.2.2.2.2 _ _ (Or.inl rfl) (by omega)
    refine C_eCopy (by omega) (by rw [nm3]; exact hn e heK) fun ν4 z4 g4 f4 n4 => ⟨_, rfl, _, rfl, ?_⟩
    have k34 : ∀ a, a < zsz ν3 → zsame ν3 ν4 a := fun a ha => g4.same ha id
    have kν4 : ∀ a, a < zsz ν → a ≠ it → zsame ν ν4 a := fun a ha hne => (g3.same ha hne).trans (k34 a (by omega))
    have hl4 := hc.1.kp (kν4 l1 (by omega) (by omega)) (kν4 a1 (by omega) (by omega))
    refine C_alAdd hl4 (by omega) rfl (by omega) fun ν5 g5 l5 => ⟨_, rfl, ?_⟩
    have hz5 := g5.1.1
    have kν5 : ∀ a, a < zsz ν → a ≠ it → a ≠ l1 → a ≠ a1 → zsame ν ν5 a := fun a ha q1 q2 q3 => (kν4 a ha q1).trans (g5.same (by omega) (by omega))
    have kb : zsame ν4 ν5 (zsz ν3) := g5.same (by omega) (by omega)
    have gμ4 : zG (fun _ => False) (c0 + e + 0 + 1) (d0 + 9 * e + 0 + 9) μ ν4 := gμ3.tr g4
    have gμ5 := zG.trN (W := fun _ => False) gμ4 (g5.mono (fun a _ q => Or.inr (by omega)) (Nat.le_refl _) (Nat.le_refl _))
    have gν5 : zG (fun a => a = it ∨ a = l1 ∨ a = a1) (e + 0 + 1 + 0) (9 * e + 0 + 9 + 0) ν1 ν5 := ((gν.trans (V := fun a => a = it) g3 (fun a _ q => Or.inl q)).trans (V := fun _ => False) g4 (fun a _ q => q.elim)).trans (V := fun a => a = l1 ∨ a = a1) g5 (fun a _ q => Or.inr q)
    have it5 : zsame ν3 ν5 it := (k34 it (by omega)).trans (g5.same (by omega) (by omega))
    have lt5 : zsame ν3 ν5 el := (k34 el (by omega)).trans (g5.same (by omega) (by omega))
    refine ih (e + 1) ν5 (upd1 eb e (zsz ν3)) (by omega) (gμ5.mono (fun _ _ q => q) (by omega) (by omega)) (gν5.mono (fun _ _ q => q) (by omega) (by omega)) (hit3.kp it5 lt5) (hc.add (by omega) l5 (fun i hi => ?_) ⟨by omega, by omega, by omega⟩ (fun w w1 w2 => ?_) ?_)
    · have := hc.2.1 i hi
      exact kν5 _ this.2 (by omega) (by omega) (by omega)
    · rw [kb.1, f4 w w1 w2]; exact h3'.eE heK w ⟨w1, w2⟩
    · rw [kb.2.1, n4, nm3]
end ZJ
