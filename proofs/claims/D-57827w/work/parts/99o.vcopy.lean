set_option maxRecDepth 100000
/-! THE COMPONENT, 34: a State's copy: its valleys -/
/-- v valleys stand in a list behind address B -/
def zCv (ν : ZM) (B l ar v : Nat) (vb tb sb : Nat → Nat) (r : Nat → Int32) (nm : Nat → ZP) : Prop := zLs ν l ar 8 v (fun i => (4, 0, vb i)) ∧ (∀ i, i < v → B ≤ vb i ∧ vb i < tb i ∧ tb i < sb i ∧ sb i < zsz ν) ∧ (∀ i j, i < v → j < v → vb i = vb j ∨ tb i = tb j ∨ sb i = sb j → i = j) ∧ ∀ i, i < v → (∀ w, 7 ≤ w → w < 14 → zfi ν (fV w) (vb i) = wV r i w) ∧ zfr ν 30 (vb i) = nm i ∧ (zfr ν 33 (vb i) = (201, 12, tb i) ∧ zfr ν 34 (vb i) = (200, 3, sb i)) ∧ (∀ e, e < 12 → zai ν (tb i) e = wP r i e 0) ∧ ∀ k, k < 3 → nI k < wV r i 13 → zai ν (sb i) k = wV r i (14 + k)
theorem zCv.kp {μ ν : ZM} {B l ar v : Nat} {vb tb sb : Nat → Nat} {r : Nat → Int32} {nm : Nat → ZP} (h : zCv μ B l ar v vb tb sb r nm) (hs : zsz μ ≤ zsz ν) (k1 : zsame μ ν l) (k2 : zsame μ ν ar) (k3 : ∀ i, i < v → zsame μ ν (vb i) ∧ zsame μ ν (tb i) ∧ zsame μ ν (sb i)) : zCv ν B l ar v vb tb sb r nm := by
  obtain ⟨a1, a2, a3, a4⟩ := h
  exact ⟨a1.kp k1 k2, fun i hi => by have := a2 i hi; omega, a3, fun i hi => ⟨fun w h1 h2 => ((k3 i hi).1.1 _).trans ((a4 i hi).1 w h1 h2), ((k3 i hi).1.2.1 _).trans (a4 i hi).2.1, ⟨((k3 i hi).1.2.1 _).trans (a4 i hi).2.2.1.1, ((k3 i hi).1.2.1 _).trans (a4 i hi).2.2.1.2⟩, fun e he => ((k3 i hi).2.1.2.2.1 _).trans ((a4 i hi).2.2.2.1 e he), fun k hk hn => ((k3 i hi).2.2.2.2.1 _).trans ((a4 i hi).2.2.2.2 k hk hn)⟩⟩
theorem zCv.add {μ ν : ZM} {B l ar v b : Nat} {vb tb sb : Nat → Nat} {r : Nat → Int32} {nm : Nat → ZP} (h : zCv μ B l ar v vb tb sb r nm) (hs : zsz μ ≤ zsz ν) (hl : zLs ν l ar 8 (v + 1) (fun i => if i = v then (4, 0, b) else (4, 0, vb i))) (k3 : ∀ i, i < v → zsame μ ν (vb i) ∧ zsame μ ν (tb i) ∧ zsame μ ν (sb i)) (hb : B ≤ b ∧ zsz μ ≤ b ∧ b + 1 + 1 < zsz ν)
    (hf : (∀ w, 7 ≤ w → w < 14 → zfi ν (fV w) b = wV r v w) ∧ zfr ν 30 b = nm v ∧ (zfr ν 33 b = (201, 12, b + 1) ∧ zfr ν 34 b = (200, 3, b + 1 + 1)) ∧ (∀ e, e < 12 → zai ν (b + 1) e = wP r v e 0) ∧ ∀ k, k < 3 → nI k < wV r v 13 → zai ν (b + 1 + 1) k = wV r v (14 + k)) : zCv ν B l ar (v + 1) (upd1 vb v b) (upd1 tb v (b + 1)) (upd1 sb v (b + 1 + 1)) r nm := by
  obtain ⟨a1, a2, a3, a4⟩ := h
  rw [upd1_p] at hl
  have un : ∀ (f : Nat → Nat) x i, i < v → upd1 f v x i = f i := fun f x i hi => upd1_n (by omega)
  refine ⟨hl, fun i hi => ?_, fun i j hi hj hij => ?_, fun i hi => ?_⟩
  · rcases Nat.eq_or_lt_of_le (Nat.le_of_lt_succ hi) with q | q
    · rw [q, upd1_s, upd1_s, upd1_s]; omega
    · rw [un _ _ i q, un _ _ i q, un _ _ i q]; have := a2 i q; omega
  · rcases Nat.eq_or_lt_of_le (Nat.le_of_lt_succ hi) with q | q <;> rcases Nat.eq_or_lt_of_le (Nat.le_of_lt_succ hj) with q2 | q2
    · omega
    · rw [q, upd1_s, upd1_s, upd1_s, un _ _ j q2, un _ _ j q2, un _ _ j q2] at hij; have := a2 j q2; omega
    · rw [q2, upd1_s, upd1_s, upd1_s, un _ _ i q, un _ _ i q, un _ _ i q] at hij; have := a2 i q; omega
    · rw [un _ _ i q, un _ _ i q, un _ _ i q, un _ _ j q2, un _ _ j q2, un _ _ j q2] at hij; exact a3 i j q q2 hij
  · rcases Nat.eq_or_lt_of_le (Nat.le_of_lt_succ hi) with q | q
    · rw [q, upd1_s, upd1_s, upd1_s]; exact hf
    · rw [un _ _ i q, un _ _ i q, un _ _ i q]
      obtain ⟨b1, b2, b3, b4, b5⟩ := a4 i q
      obtain ⟨c1, c2, c3⟩ := k3 i q
      exact ⟨fun w h1 h2 => (c1.1 _).trans (b1 w h1 h2), (c1.2.1 _).trans b2, ⟨(c1.2.1 _).trans b3.1, (c1.2.1 _).trans b3.2⟩, fun e he => (c2.2.2.1 _).trans (b4 e he), fun k hk hn => (c3.2.2.1 _).trans (b5 k hk hn)⟩
section ZJ
variable {G : ZG} {μ : ZM} {Q : Option ZV → ZM → Prop} {E : ZP → ZM → Prop} {lo hi s K V F fg el ear vl var ds dm sm : Nat} {ea va ta sa : Nat → Nat} {r : Nat → Int32} {z1 z2 z3 : Int32}
theorem L_cpV {s1 l1 a1 it : Nat} {ν1 : ZM} (hok : zok μ) (hh : hi ≤ zsz μ) (h : zSta μ lo hi s r K V F fg el ear vl var ds dm sm ea va ta sa) (hn : ∀ v, v < V → zis 23 (zfr μ 30 (va v))) (h1 : zsz μ ≤ s1 ∧ zsz μ ≤ l1 ∧ zsz μ ≤ a1 ∧ zsz μ ≤ it) (h2 : s1 < zsz ν1 ∧ l1 < zsz ν1 ∧ a1 < zsz ν1 ∧ it < zsz ν1) (h3 : s1 ≠ l1 ∧ s1 ≠ a1 ∧ s1 ≠ it ∧ l1 ≠ a1 ∧ l1 ≠ it ∧ a1 ≠ it) (hs1 : zfr ν1 11 s1 = (10, 0, l1)) {c0 d0 : Nat}
    (Kc : ∀ ρ vb tb sb, zG (fun _ => False) (c0 + 3 * V) (d0 + 25 * V) μ ρ → zG (fun a => a = it ∨ a = l1 ∨ a = a1) (3 * V) (25 * V) ν1 ρ → zCv ρ (zsz ν1) l1 a1 V vb tb sb r (fun i => zfr μ 30 (va i)) → zok ρ → ∃ a1, zfr ρ 12 s1 = (13, 0, a1) ∧ ∃ a2, zfr ρ 12 s = (13, 0, a2) ∧ Call G Y_J0_addAll [vP (13, 0, a1), vP (13, 0, a2)] ρ (rI fun x2 ν2 => ∃ a3, zfr ν2 13 s1 = (14, 0, a3) ∧ ∃ a4, zfr ν2 13 s = (14, 0, a4) ∧ Call G Y_J22_putAll [vP (14, 0, a3), vP (14, 0, a4)] ν2 (rV fun ν3 => ∃ x3, zfi ν3 14 s = x3 ∧ ∃ x4, zfi ν3 15 s = x4 ∧ ∃ x5, zfi ν3 16 s = x5 ∧ ∃ x6, zfi ν3 17 s = x6 ∧ ∃ x7, zfi ν3 18 s = x7 ∧ ∃ x8, zfi ν3 19 s = x8 ∧ ∃ x9, zfi ν3 20 s = x9 ∧ Q (some (vP (2, 0, s1))) (zFi (zFi (zFi (zFi (zFi (zFi (zFi ν3 14 s1 x3) 15 s1 x4) 16 s1 x5) 17 s1 x6) 18 s1 x7) 19 s1 x8) 20 s1 x9)) (fun q ν => zkc q.1 = true ∧ E q ν)) (fun q ν => zkc q.1 = true ∧ E q ν)) :
    ∀ (d v : Nat) (ν : ZM) (vb tb sb : Nat → Nat), v + d = V → zG (fun _ => False) (c0 + 3 * v) (d0 + 25 * v) μ ν → zG (fun a => a = it ∨ a = l1 ∨ a = a1) (3 * v) (25 * v) ν1 ν → zIt ν it vl v → zCv ν (zsz ν1) l1 a1 v vb tb sb r (fun i => zfr μ 30 (va i)) → Wp G Y_X2_copy 72 [(0, vP (2, 0, s)), (1, vP (2, 0, s1)), (2, vP (11, 0, it))] [] ν Q E := by
  have hV := h.1.2.1.2.2.2.2.1
  intro d
  induction d with
  | zero =>
    intro v ν vb tb sb hvd gμ gν hit hc
    have : v = V := by omega
    subst this
    have hν := h.nw hok hh gμ
    exact Wp.zo fun hokν => B_X2_copy_72 (C_itHas hν.2.2.1.2.1 hit (Nat.le_refl _) (fun q => absurd q (Nat.lt_irrefl _)) (fun _ => ⟨_, rfl, fun _ => Kc ν vb tb sb gμ gν hc hokν, fun q => absurd rfl q⟩))
  | succ d ih =>
    intro v ν vb tb sb hvd gμ gν hit hc
    have hvV : v < V := by omega
    have hν := h.nw hok hh gμ
    have hzν := gμ.1.1
    have hz1 := gν.1.1
    have hvl : vl < zsz μ := by have := h.2.2.1.1; omega
    have hva := h.2.2.1.2.2.1 v hvV
    refine B_X2_copy_72 (C_itHas hν.2.2.1.2.1 hit (by omega) (fun _ => ⟨_, rfl, fun q => absurd q (by decide), fun _ => C_itNext hν.2.2.1.2.1 hit hvV (by omega) fun ν3 g3 hit3 => ⟨_, rfl, _, rfl, l1, ?_, ?_⟩⟩) (fun q => absurd q (by omega)))
    · rw [(g3.same (a := s1) (by omega) (by omega)).2.1, (gν.same (a := s1) (by omega) (by omega)).2.1]; exact hs1
    have gμ3 : zG (fun _ => False) (c0 + 3 * v + 0) (d0 + 25 * v + 0) μ ν3 := zG.trN (W := fun _ => False) gμ (g3.mono (fun a _ q => Or.inr (by omega)) (Nat.le_refl _) (Nat.le_refl _))
    have h3' := h.nw hok hh gμ3
    have hz3 := g3.1.1
    have nm3 : zfr ν3 30 (va v) = zfr μ 30 (va v) := gμ3.2.2.2.2 _ _ (Or.inr rfl) (by omega)
    have h33 := h3'.2.2.1.2.2.2.2.2.1 v hvV
    have hta := h3'.2.2.1.2.2.2.2.2.2.1 v
    refine C_vCopy (ta := ta v) (sa := sa v) (by omega) (by omega) (by omega) h33.1 h33.2 (fun e he => ?_) (by rw [nm3]; exact hn v hvV) fun ν4 z4 g4 f4 n4 t4 s4 ct4 cs4 => ⟨_, rfl, _, rfl, ?_⟩
    · have := hta e hvV he; rw [this.1]; exact this.2
    have k34 : ∀ a, a < zsz ν3 → zsame ν3 ν4 a := fun a ha => g4.same ha id
    have kν4 : ∀ a, a < zsz ν → a ≠ it → zsame ν ν4 a := fun a ha hne => (g3.same ha hne).trans (k34 a (by omega))
    have hl4 := hc.1.kp (kν4 l1 (by omega) (by omega)) (kν4 a1 (by omega) (by omega))
    refine C_alAdd hl4 (by omega) rfl (by omega) fun ν5 g5 l5 => ⟨_, rfl, ?_⟩
    have hz5 := g5.1.1
    have kν5 : ∀ a, a < zsz ν → a ≠ it → a ≠ l1 → a ≠ a1 → zsame ν ν5 a := fun a ha q1 q2 q3 => (kν4 a ha q1).trans (g5.same (by omega) (by omega))
    have kb : ∀ b, zsz ν3 ≤ b → b < zsz ν4 → zsame ν4 ν5 b := fun b b1 b2 => g5.same b2 (by omega)
    have kb0 := kb (zsz ν3) (by omega) (by omega)
    have kb1 := kb (zsz ν3 + 1) (by omega) (by omega)
    have kb2 := kb (zsz ν3 + 1 + 1) (by omega) (by omega)
    have gμ4 : zG (fun _ => False) (c0 + 3 * v + 0 + 3) (d0 + 25 * v + 0 + 25) μ ν4 := gμ3.tr g4
    have gμ5 := zG.trN (W := fun _ => False) gμ4 (g5.mono (fun a _ q => Or.inr (by omega)) (Nat.le_refl _) (Nat.le_refl _))
    have gν5 : zG (fun a => a = it ∨ a = l1 ∨ a = a1) (3 * v + 0 + 3 + 0) (25 * v + 0 + 25 + 0) ν1 ν5 := ((gν.trans (V := fun a => a = it) g3 (fun a _ q => Or.inl q)).trans (V := fun _ => False) g4 (fun a _ q => q.elim)).trans (V := fun a => a = l1 ∨ a = a1) g5 (fun a _ q => Or.inr q)
    have it5 : zsame ν3 ν5 it := (k34 it (by omega)).trans (g5.same (by omega) (by omega))
    have lt5 : zsame ν3 ν5 vl := (k34 vl (by omega)).trans (g5.same (by omega) (by omega))
    refine ih (v + 1) ν5 (upd1 vb v (zsz ν3)) (upd1 tb v (zsz ν3 + 1)) (upd1 sb v (zsz ν3 + 1 + 1)) (by omega) (gμ5.mono (fun _ _ q => q) (by omega) (by omega)) (gν5.mono (fun _ _ q => q) (by omega) (by omega)) (hit3.kp it5 lt5) (hc.add (by omega) l5 (fun i hi => ?_) ⟨by omega, by omega, by omega⟩ ⟨fun w w1 w2 => ?_, ?_, ⟨(kb0.2.1 _).trans t4, (kb0.2.1 _).trans s4⟩, fun e he => ?_, fun k hk hkn => ?_⟩)
    · have := hc.2.1 i hi
      exact ⟨kν5 _ (by omega) (by omega) (by omega) (by omega), kν5 _ (by omega) (by omega) (by omega) (by omega), kν5 _ (by omega) (by omega) (by omega) (by omega)⟩
    · rw [kb0.1, f4 w w1 w2]; exact h3'.eV hvV w ⟨w1, w2⟩
    · rw [kb0.2.1, n4, nm3]
    · rw [kb1.2.2.1, ct4 e he]; exact (hta e hvV he).1
    · rw [kb2.2.2.1, cs4 k hk]; exact h3'.2.2.1.2.2.2.2.2.2.2 v k hvV hk hkn
end ZJ
