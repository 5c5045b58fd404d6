set_option maxRecDepth 100000
/-! THE COMPONENT, 46: counters -/
theorem sSum_add (f g : Nat → Nat) : ∀ n, sSum (fun v => f v + g v) n = sSum f n + sSum g n := by
  intro n
  induction n with
  | zero => rfl
  | succ n ih => unfold sSum; rw [ih]; omega
theorem sSum_0 {f : Nat → Nat} : ∀ n, (∀ i, i < n → f i = 0) → sSum f n = 0 := by
  intro n
  induction n with
  | zero => intro _; rfl
  | succ n ih => intro h; unfold sSum; rw [ih (fun i hi => h i (by omega)), h n (by omega)]
theorem sSum_1 {f : Nat → Nat} {v : Nat} : ∀ n, v < n → f v = 1 → (∀ i, i < n → i ≠ v → f i = 0) → sSum f n = 1 := by
  intro n
  induction n with
  | zero => intro h; omega
  | succ n ih =>
    intro h h1 h0
    unfold sSum
    by_cases q : v = n
    · rw [sSum_0 n (fun i hi => h0 i (by omega) (by omega)), ← q, h1]
    · rw [ih (by omega) h1 (fun i hi hn => h0 i (by omega) hn), h0 n (by omega) (fun t => q t.symm)]
theorem sHas_cons {x : Nat} {l : List Nat} (hx : x ∉ l) : ∀ n, sHas (x :: l) n = sHas l n + if x < n then 1 else 0 := by
  intro n
  induction n with
  | zero => unfold sHas; simp
  | succ n ih =>
    rw [sHas_succ, sHas_succ, ih]
    by_cases q : n = x
    · subst q
      rw [if_neg (show ¬ n < n by omega), if_pos (show n ∈ n :: l from List.mem_cons_self), if_neg hx, if_pos (show n < n + 1 by omega)]
    · have e1 : (n ∈ x :: l) ↔ n ∈ l := by simp [q]
      have e2 : (x < n + 1) ↔ x < n := by omega
      simp only [e1, e2]
      omega
theorem sHas_all {K : Nat} : ∀ {l : List Nat}, l.Nodup → (∀ e, e ∈ l → e < K) → sHas l K = l.length := by
  intro l
  induction l with
  | nil => intro _ _; unfold sHas; simp
  | cons x l ih =>
    intro nd h
    rw [List.nodup_cons] at nd
    rw [sHas_cons nd.1, ih nd.2 (fun e he => h e (List.mem_cons_of_mem _ he)), if_pos (h x List.mem_cons_self)]
    rfl
theorem sCon_sum {r : Nat → Int32} {K V : Nat} {sl : Nat → List Nat} {po : Nat → Nat} (hs : sStaff r K V sl po) (hV : V ≤ 8) : ∀ n, n ≤ 12 → sSum (fun v => sHas (sl v) n) V = sCon r n := by
  intro n
  induction n with
  | zero => intro _; exact sSum_0 _ (fun i _ => by unfold sHas; simp)
  | succ n ih =>
    intro hn
    have e0 : sSum (fun v => sHas (sl v) (n + 1)) V = sSum (fun v => sHas (sl v) n + if n ∈ sl v then 1 else 0) V := sSum_congr _ (fun v _ => sHas_succ _ _)
    rw [e0, sSum_add, ih (by omega)]
    show _ = sCon r n + if 0 < wE r n 13 then 1 else 0
    congr 1
    rcases hs.emp (show n < 12 by omega) with ⟨q, q2⟩ | ⟨v, hv, hvV, hm, q⟩
    · rw [sSum_0 _ (fun v hv => if_neg (q2 v (by omega))), if_neg (by rw [q]; decide)]
    · rw [sSum_1 (f := fun v => if n ∈ sl v then 1 else 0) V hvV (if_pos hm) (fun w hw hne => if_neg (fun t => hne (hs.one (by omega) hv t hm))), if_pos (by rw [q]; exact nI_lt (a := 0) (by omega) (by omega))]
/-- the staff of the first valleys -/
def sStN (r : Nat → Int32) : Nat → Int32
  | 0 => 0
  | v + 1 => sStN r v + wV r v 13
theorem sStN_con {r : Nat → Int32} {K V : Nat} {po : Nat → Nat} {B : Nat} (h : sW r K V po B) : sStN r V = nI (sCon r K) := by
  have gb := h.1
  obtain ⟨sl, hs⟩ := h.2.2.2.2.1
  have e1 : ∀ i, i ≤ 8 → sStN r i = nI (sSum (fun v => (sl v).length) i) := by
    intro i
    induction i with
    | zero => intro _; rfl
    | succ i ih =>
      intro hi
      show sStN r i + wV r i 13 = nI (sSum (fun v => (sl v).length) i + (sl i).length)
      rw [ih (by omega), (hs.1 i (by omega)).1, nI_add]
  rw [e1 V gb.2.1, ← sCon_sum hs gb.2.1 K gb.1]
  congr 1
  refine sSum_congr _ fun v hv => ?_
  obtain ⟨-, -, -, -, a5, -, a7, -⟩ := hs.1 v (by omega)
  exact (sHas_all a5 (fun e he => (a7 e he).1)).symm
theorem i32_sub_sub (a b c : Int32) : a - b - c = a - (b + c) := by
  rw [Int32.sub_eq_add_neg, Int32.sub_eq_add_neg, Int32.sub_eq_add_neg, Int32.neg_add, Int32.sub_eq_add_neg, Int32.add_assoc]
section ZJ
variable {G : ZG} {μ ν : ZM} {Q : Option ZV → ZM → Prop} {E : ZP → ZM → Prop} {x d da bf sb sba n K V D B : Nat} {po : Nat → Nat} {Z : Nat → Prop} {σ : ZS} {z z1 z2 z3 : Int32}
theorem C_xcontracts (h : zXs G μ x d da bf sb sba n Z σ) (hg : sGd (aR σ) K V po D) (k : ∀ ν, zG (fun _ => False) 1 4 μ ν → Q (some (vI (nI (sCon (aR σ) K)))) ν) : Call G Y_X1_contracts [vP (1, 0, x)] μ Q E := by
  refine Call.zo fun hok _ => ?_
  obtain ⟨s, lo, hi, F, fg, el, ear, vl, var, ds, dm, sm, ea, va, ta, sa, vw⟩ := h.vw hok hg
  obtain ⟨w1, w2, w3⟩ := vw _ _ _ (zG.rf _ μ)
  have gb := hg.1.1
  have hvl : vl < zsz μ := by have := w2.2.2.1.1; omega
  have loop : ∀ (d i : Nat) (ν : ZM), i + d = V → zG (fun _ => False) 1 4 μ ν → zIt ν (zsz μ) vl i → Wp G Y_X1_contracts 15 [(1, vI (sStN (aR σ) i)), (2, vP (11, 0, zsz μ))] [] ν Q E := by
    intro d
    induction d with
    | zero =>
      intro i ν hid g hit
      have : i = V := by omega
      subst this
      obtain ⟨u1, u2, u3⟩ := vw _ _ _ g
      exact B_X1_contracts_15 (C_itHas u2.2.2.1.2.1 hit (Nat.le_refl _) (fun q => absurd q (Nat.lt_irrefl _)) (fun _ => ⟨_, rfl, fun _ => by rw [sStN_con hg.1]; exact k ν g, fun q => absurd rfl q⟩))
    | succ d ih =>
      intro i ν hid g hit
      have hi' : i < V := by omega
      obtain ⟨u1, u2, u3⟩ := vw _ _ _ g
      refine B_X1_contracts_15 (C_itHas u2.2.2.1.2.1 hit (by omega) (fun _ => ⟨_, rfl, fun q => absurd q (by decide), fun _ => C_itNext u2.2.2.1.2.1 hit hi' (by omega) fun ρ g1 g2 => ⟨_, rfl, _, rfl, ?_⟩⟩) (fun q => absurd q (by omega)))
      have gρ : zG (fun _ => False) 1 4 μ ρ := zG.trN (W := fun _ => False) g (g1.mono (fun a _ q => Or.inr (by rw [q]; exact Nat.le_refl _)) (Nat.le_refl _) (Nat.le_refl _))
      obtain ⟨p1, p2, p3⟩ := vw _ _ _ gρ
      exact ⟨_, p2.eV hi' 13 (by decide), ih (i + 1) ρ (by omega) gρ g2⟩
  exact S_X1_contracts ⟨s, w1, vl, w2.1.2.2.2.1.2.2.1, C_alIter hok hvl fun ν g1 g2 => ⟨_, rfl, _, rfl, loop V 0 ν (by omega) g1 g2⟩⟩
theorem C_xcontractImbalance (h : zXs G μ x d da bf sb sba n Z σ) (hg : sGd (aR σ) K V po D) (k : zXe G x d da bf sb Z σ μ Q σ (vI (aR σ 5 - aR σ 6 - nI (sCon (aR σ) K)))) : Call G Y_X1_contractImbalance [vP (1, 0, x)] μ Q E := by
  refine Call.zo fun hok _ => ?_
  obtain ⟨-, -, ⟨s, hs, hs2⟩, -⟩ := id h
  exact S_X1_contractImbalance ⟨s, hs, _, hs2.w (w := 5) (by decide), _, hs2.w (w := 6) (by decide), C_xcontracts h hg fun ν g => ⟨_, rfl, k ν (zXd.nw h hok g (by decide) (by decide))⟩⟩
theorem C_xemploymentRate (h : zXs G μ x d da bf sb sba n Z σ) (hg : sGd (aR σ) K V po D) (k : zXe G x d da bf sb Z σ μ Q σ (vF (FP.fdiv (FP.i2f (nI (sCon (aR σ) K))) (FP.i2f (nI K))))) : Call G Y_X1_employmentRate [vP (1, 0, x)] μ Q E := by
  refine Call.zo fun hok _ => ?_
  obtain ⟨s, lo, hi, F, fg, el, ear, vl, var, ds, dm, sm, ea, va, ta, sa, vw⟩ := h.vw hok hg
  have gb := hg.1.1
  refine S_X1_employmentRate (C_xcontracts h hg fun ν g => ⟨_, rfl, ?_⟩)
  obtain ⟨u1, u2, u3⟩ := vw _ _ _ g
  exact ⟨s, u1, el, u2.1.2.2.2.1.2.1, C_alSize u2.2.1.2.1 ⟨_, rfl, (vf_div32 _ gb.2.2.1 gb.1).1, k ν (zXd.nw h hok g (by decide) (by decide))⟩⟩
theorem C_xmeanSavings (h : zXs G μ x d da bf sb sba n Z σ) (hg : sGd (aR σ) K V po D) (k : zXe G x d da bf sb Z σ μ Q σ (vD (FP.ddiv (FP.i2d (sSav (aR σ) K)) (FP.i2d (nI K))))) : Call G Y_X1_meanSavings [vP (1, 0, x)] μ Q E := by
  refine Call.zo fun hok _ => ?_
  obtain ⟨s, lo, hi, F, fg, el, ear, vl, var, ds, dm, sm, ea, va, ta, sa, vw⟩ := h.vw hok hg
  obtain ⟨w1, w2, w3⟩ := vw _ _ _ (zG.rf _ μ)
  have gb := hg.1.1
  have hel : el < zsz μ := by have := w2.2.1.1; omega
  have loop : ∀ (d i : Nat) (ν : ZM), i + d = K → zG (fun _ => False) 1 4 μ ν → zIt ν (zsz μ) el i → Wp G Y_X1_meanSavings 15 [(0, vP (1, 0, x)), (1, vI (sSav (aR σ) i)), (2, vP (11, 0, zsz μ))] [] ν Q E := by
    intro d
    induction d with
    | zero =>
      intro i ν hid g hit
      have : i = K := by omega
      subst this
      obtain ⟨u1, u2, u3⟩ := vw _ _ _ g
      exact B_X1_meanSavings_15 (C_itHas u2.2.1.2.1 hit (Nat.le_refl _) (fun q => absurd q (Nat.lt_irrefl _)) (fun _ => ⟨_, rfl, fun _ => ⟨s, u1, el, u2.1.2.2.2.1.2.1, C_alSize u2.2.1.2.1 ⟨_, rfl, (vf_div64 _ gb.2.2.1 gb.1).1, k ν (zXd.nw h hok g (by decide) (by decide))⟩⟩, fun q => absurd rfl q⟩))
    | succ d ih =>
      intro i ν hid g hit
      have hi' : i < K := by omega
      obtain ⟨u1, u2, u3⟩ := vw _ _ _ g
      refine B_X1_meanSavings_15 (C_itHas u2.2.1.2.1 hit (by omega) (fun _ => ⟨_, rfl, fun q => absurd q (by decide), fun _ => C_itNext u2.2.1.2.1 hit hi' (by omega) fun ρ g1 g2 => ⟨_, rfl, _, rfl, ?_⟩⟩) (fun q => absurd q (by omega)))
      have gρ : zG (fun _ => False) 1 4 μ ρ := zG.trN (W := fun _ => False) g (g1.mono (fun a _ q => Or.inr (by rw [q]; exact Nat.le_refl _)) (Nat.le_refl _) (Nat.le_refl _))
      obtain ⟨p1, p2, p3⟩ := vw _ _ _ gρ
      have e11 := p2.eE hi' 11 (by decide)
      rw [show oE 11 = 0 from rfl, i32_s0] at e11
      exact ⟨_, e11, ih (i + 1) ρ (by omega) gρ g2⟩
  exact S_X1_meanSavings ⟨s, w1, el, w2.1.2.2.2.1.2.1, C_alIter hok hel fun ν g1 g2 => ⟨_, rfl, _, rfl, loop K 0 ν (by omega) g1 g2⟩⟩
theorem C_xmoneyImbalance (h : zXs G μ x d da bf sb sba n Z σ) (hg : sGd (aR σ) K V po D) (k : zXe G x d da bf sb Z σ μ Q σ (vI (aR σ 7 + aR σ 8 + aR σ 9 - aR σ 10 - sPur (aR σ) V - sSav (aR σ) K))) : Call G Y_X1_moneyImbalance [vP (1, 0, x)] μ Q E := by
  refine Call.zo fun hok _ => ?_
  obtain ⟨s, lo, hi, F, fg, el, ear, vl, var, ds, dm, sm, ea, va, ta, sa, vw⟩ := h.vw hok hg
  obtain ⟨w1, w2, w3⟩ := vw _ _ _ (zG.rf _ μ)
  have gb := hg.1.1
  have hel : el < zsz μ := by have := w2.2.1.1; omega
  have hvl : vl < zsz μ := by have := w2.2.2.1.1; omega
  have loop2 : ∀ (ν0 : ZM), zG (fun _ => False) 1 4 μ ν0 → ∀ (d i : Nat) (ν : ZM), i + d = K → zG (fun _ => False) 1 4 ν0 ν → zIt ν (zsz ν0) el i → Wp G Y_X1_moneyImbalance 87 [(1, vI (aR σ 7 + aR σ 8 + aR σ 9 - aR σ 10 - sPur (aR σ) V - sSav (aR σ) i)), (2, vP (11, 0, zsz ν0))] [] ν Q E := by
    intro ν0 g0 d
    have hz0 := g0.1.1
    induction d with
    | zero =>
      intro i ν hid g hit
      have : i = K := by omega
      subst this
      obtain ⟨u1, u2, u3⟩ := vw _ _ _ (g0.tr g)
      exact B_X1_moneyImbalance_87 (C_itHas u2.2.1.2.1 hit (Nat.le_refl _) (fun q => absurd q (Nat.lt_irrefl _)) (fun _ => ⟨_, rfl, fun _ => k ν (zXd.nw h hok (g0.tr g) (by decide) (by decide)), fun q => absurd rfl q⟩))
    | succ d ih =>
      intro i ν hid g hit
      have hi' : i < K := by omega
      obtain ⟨u1, u2, u3⟩ := vw _ _ _ (g0.tr g)
      refine B_X1_moneyImbalance_87 (C_itHas u2.2.1.2.1 hit (by omega) (fun _ => ⟨_, rfl, fun q => absurd q (by decide), fun _ => C_itNext u2.2.1.2.1 hit hi' (by omega) fun ρ g1 g2 => ⟨_, rfl, _, rfl, ?_⟩⟩) (fun q => absurd q (by omega)))
      have gρ : zG (fun _ => False) 1 4 ν0 ρ := zG.trN (W := fun _ => False) g (g1.mono (fun a _ q => Or.inr (by rw [q]; exact Nat.le_refl _)) (Nat.le_refl _) (Nat.le_refl _))
      obtain ⟨p1, p2, p3⟩ := vw _ _ _ (g0.tr gρ)
      have e11 := p2.eE hi' 11 (by decide)
      rw [show oE 11 = 0 from rfl, i32_s0] at e11
      have st : sSav (aR σ) (i + 1) = sSav (aR σ) i + wE (aR σ) i 11 := rfl
      refine ⟨_, e11, ?_⟩
      rw [i32_sub_sub, ← st]
      exact ih (i + 1) ρ (by omega) gρ g2
  have loop : ∀ (d i : Nat) (ν : ZM), i + d = V → zG (fun _ => False) 1 4 μ ν → zIt ν (zsz μ) vl i → Wp G Y_X1_moneyImbalance 45 [(0, vP (1, 0, x)), (1, vI (aR σ 7 + aR σ 8 + aR σ 9 - aR σ 10 - sPur (aR σ) i)), (2, vP (11, 0, zsz μ))] [] ν Q E := by
    intro d
    induction d with
    | zero =>
      intro i ν hid g hit
      have : i = V := by omega
      subst this
      obtain ⟨u1, u2, u3⟩ := vw _ _ _ g
      have hz := g.1.1
      refine Wp.zo fun okν => B_X1_moneyImbalance_45 (C_itHas u2.2.2.1.2.1 hit (Nat.le_refl _) (fun q => absurd q (Nat.lt_irrefl _)) (fun _ => ⟨_, rfl, fun _ => ⟨s, u1, el, u2.1.2.2.2.1.2.1, C_alIter okν (by omega) fun ρ g1 g2 => ⟨_, rfl, _, rfl, ?_⟩⟩, fun q => absurd rfl q⟩))
      have := loop2 ν g K 0 ρ (by omega) g1 g2
      rw [show sSav (aR σ) 0 = 0 from rfl, i32_s0] at this
      exact this
    | succ d ih =>
      intro i ν hid g hit
      have hi' : i < V := by omega
      obtain ⟨u1, u2, u3⟩ := vw _ _ _ g
      refine B_X1_moneyImbalance_45 (C_itHas u2.2.2.1.2.1 hit (by omega) (fun _ => ⟨_, rfl, fun q => absurd q (by decide), fun _ => C_itNext u2.2.2.1.2.1 hit hi' (by omega) fun ρ g1 g2 => ⟨_, rfl, _, rfl, ?_⟩⟩) (fun q => absurd q (by omega)))
      have gρ : zG (fun _ => False) 1 4 μ ρ := zG.trN (W := fun _ => False) g (g1.mono (fun a _ q => Or.inr (by rw [q]; exact Nat.le_refl _)) (Nat.le_refl _) (Nat.le_refl _))
      obtain ⟨p1, p2, p3⟩ := vw _ _ _ gρ
      have st : sPur (aR σ) (i + 1) = sPur (aR σ) i + wV (aR σ) i 10 := rfl
      refine ⟨_, p2.eV hi' 10 (by decide), ?_⟩
      rw [i32_sub_sub, ← st]
      exact ih (i + 1) ρ (by omega) gρ g2
  refine S_X1_moneyImbalance ⟨s, w1, _, w2.1.2.2.1 7 (by decide), _, w2.1.2.2.1 8 (by decide), _, w2.1.2.2.1 9 (by decide), _, w2.1.2.2.1 10 (by decide), vl, w2.1.2.2.2.1.2.2.1, C_alIter hok hvl fun ν g1 g2 => ⟨_, rfl, _, rfl, ?_⟩⟩
  have := loop V 0 ν (by omega) g1 g2
  rw [show sPur (aR σ) 0 = 0 from rfl, i32_s0] at this
  exact this
theorem C_xServes {s lo hi F fg el ear vl var ds dm sm : Nat} {ea va ta sa : Nat → Nat} {r : Nat → Int32} {sl : Nat → List Nat} (v e : Nat) (h1 : z = nI e) (hv : v < V) (he : e < K) (hs : sStaff r K V sl po) (h : zSta μ lo hi s r K V F fg el ear vl var ds dm sm ea va ta sa) (kt : e ∈ sl v → Q (some (vI 1)) μ) (kf : e ∉ sl v → Q (some (vI 0)) μ) : Call G Y_X1_serves [vP (1, 0, x), vP (4, 0, va v), vI z] μ Q E := by
  have hK := h.1.2.1.2.2.2.1
  have hV := h.1.2.1.2.2.2.2.1
  obtain ⟨a1, a2, a3, a4, a5, a6, a7, a8⟩ := hs.1 v (by omega)
  have key : ∀ d i, i + d = (sl v).length → (∀ k, k < i → (sl v).getD k 0 ≠ e) → Wp G Y_X1_serves 2 [(1, vP (4, 0, va v)), (2, vI z), (3, vI (nI i))] [] μ Q E := by
    intro d
    induction d with
    | zero =>
      intro i hi hn
      refine B_X1_serves_2 ⟨_, h.eV hv 13 (by decide), fun _ => kf fun hm => ?_, fun q => absurd q (by rw [a1]; exact nI_nlt (by omega) (by omega))⟩
      obtain ⟨j, hj, hje⟩ := List.getElem_of_mem hm
      refine hn j (by omega) ?_
      rw [List.getD_eq_getElem?_getD, List.getElem?_eq_getElem hj, hje]; rfl
    | succ d ih =>
      intro i hi hn
      have hil : i < (sl v).length := by omega
      have hm : (sl v).getD i 0 ∈ sl v := by rw [List.getD_eq_getElem?_getD, List.getElem?_eq_getElem hil]; exact List.getElem_mem hil
      have hlt := (a7 _ hm).1
      refine B_X1_serves_2 ⟨_, h.eV hv 13 (by decide), fun q => absurd (by rw [a1]; exact nI_lt hil (by omega)) q, fun _ => ⟨3, sa v, (h.2.2.1.2.2.2.2.2.1 v hv).2, i, zix.eq rfl (by omega) (by omega), _, (h.2.2.1.2.2.2.2.2.2.2 v i hv (by omega) (by rw [a1]; exact nI_lt hil (by omega))).trans (a6 i hil), fun q => ?_, fun q => ?_⟩⟩
      · rw [nI_1]
        refine ih (i + 1) (by omega) fun k hk => ?_
        by_cases t : k = i
        · rw [t]; intro t2; exact q (by rw [h1, t2])
        · exact hn k (by omega)
      · rw [h1] at q
        have := (nI_eq (by omega) (by omega)).mp q
        exact kt (by rw [← this]; exact hm)
  exact S_X1_serves (key (sl v).length 0 (by omega) (fun k hk => by omega))
theorem C_xdoubleServants (h : zXs G μ x d da bf sb sba n Z σ) (hg : sGd (aR σ) K V po D) (k : zXe G x d da bf sb Z σ μ Q σ (vI 0)) : Call G Y_X1_doubleServants [vP (1, 0, x)] μ Q E := by
  refine Call.zo fun hok _ => ?_
  obtain ⟨s, lo, hi, F, fg, el, ear, vl, var, ds, dm, sm, ea, va, ta, sa, vw⟩ := h.vw hok hg
  obtain ⟨w1, w2, w3⟩ := vw _ _ _ (zG.rf _ μ)
  have gb := hg.1.1
  have hvl : vl < zsz μ := by have := w2.2.2.1.1; omega
  obtain ⟨sl, hs⟩ := hg.1.2.2.2.2.1
  refine S_X1_doubleServants ?_
  have key : ∀ dd e ν, e + dd = K → zG (fun _ => False) e (4 * e) μ ν → Wp G Y_X1_doubleServants 4 [(0, vP (1, 0, x)), (1, vI 0), (2, vI (nI e))] [] ν Q E := by
    intro dd
    induction dd with
    | zero =>
      intro e ν he g
      obtain ⟨u1, u2, u3⟩ := vw _ _ _ g
      have he' : e = K := by omega
      exact B_X1_doubleServants_4 ⟨s, u1, el, u2.1.2.2.2.1.2.1, C_alSize u2.2.1.2.1 ⟨_, rfl, fun _ => k _ (zXd.nw h hok g (by omega) (by omega)), fun q => absurd q (nI_nlt (by omega) (by omega))⟩⟩
    | succ dd ih =>
      intro e ν he g
      obtain ⟨u1, u2, u3⟩ := vw _ _ _ g
      have hz := g.1.1
      have loop : ∀ (c i : Nat) (ρ : ZM) (y : Int32), i + c = V → zG (fun _ => False) (e + 1) (4 * e + 4) μ ρ → zIt ρ (zsz ν) vl i → zsz ν ≤ zsz ρ → ((y = 0 ∧ ∀ v, v < i → e ∉ sl v) ∨ (y = 1 ∧ ∃ v, v < i ∧ e ∈ sl v)) → Wp G Y_X1_doubleServants 36 [(0, vP (1, 0, x)), (1, vI 0), (2, vI (nI e)), (3, vI y), (4, vP (11, 0, zsz ν))] [] ρ Q E := by
        intro c
        induction c with
        | zero =>
          intro i ρ y hi g hit _ hy
          have : i = V := by omega
          subst this
          obtain ⟨p1, p2, p3⟩ := vw _ _ _ g
          refine B_X1_doubleServants_36 (C_itHas p2.2.2.1.2.1 hit (Nat.le_refl _) (fun q => absurd q (Nat.lt_irrefl _)) (fun _ => ⟨_, rfl, fun _ => ⟨fun _ => ?_, fun q => ?_⟩, fun q => absurd rfl q⟩))
          · rw [nI_1]
            exact ih (e + 1) ρ (by omega) (g.mono (fun _ _ q => q) (by omega) (by omega))
          · rcases hy with ⟨q2, -⟩ | ⟨q2, -⟩ <;> rw [q2] at q <;> exact absurd q (by decide)
        | succ c ih2 =>
          intro i ρ y hi g hit hzν hy
          have hi' : i < V := by omega
          obtain ⟨p1, p2, p3⟩ := vw _ _ _ g
          refine B_X1_doubleServants_36 (C_itHas p2.2.2.1.2.1 hit (by omega) (fun _ => ⟨_, rfl, fun q => absurd q (by decide), fun _ => C_itNext p2.2.2.1.2.1 hit hi' (by omega) fun τ g1 g2 => ⟨_, rfl, _, rfl, ?_⟩⟩) (fun q => absurd q (by omega)))
          have gτ : zG (fun _ => False) (e + 1) (4 * e + 4) μ τ := zG.trN (W := fun _ => False) (c := e + 1) (d := 4 * e + 4) (c' := 0) (d' := 0) g (g1.mono (fun a _ q => Or.inr (by rw [q]; exact hz)) (Nat.le_refl _) (Nat.le_refl _))
          obtain ⟨q1, q2, q3⟩ := vw _ _ _ gτ
          have hzτ := g1.1.1
          refine C_xServes i e rfl hi' (by omega) hs q2 (fun hm => ⟨_, rfl, fun q => absurd q (by decide), fun _ => ?_⟩) (fun hm => ⟨_, rfl, fun _ => ?_, fun q => absurd rfl q⟩)
          · rcases hy with ⟨y0, y1⟩ | ⟨y0, v, y1, y2⟩
            · rw [y0]
              exact ih2 (i + 1) τ _ (by omega) gτ g2 (by omega) (Or.inr ⟨by decide, i, by omega, hm⟩)
            · exact absurd (hs.one (by omega) (by omega) y2 hm) (by omega)
          · rw [Int32.add_zero]
            refine ih2 (i + 1) τ _ (by omega) gτ g2 (by omega) ?_
            rcases hy with ⟨y0, y1⟩ | ⟨y0, v, y1, y2⟩
            · refine Or.inl ⟨y0, fun v hv => ?_⟩
              by_cases t : v = i
              · rw [t]; exact hm
              · exact y1 v (by omega)
            · exact Or.inr ⟨y0, v, by omega, y2⟩
      refine Wp.zo fun okν => B_X1_doubleServants_4 ⟨s, u1, el, u2.1.2.2.2.1.2.1, C_alSize u2.2.1.2.1 ⟨_, rfl, fun q => absurd (nI_lt (by omega) (by omega)) q, fun _ => ⟨s, u1, vl, u2.1.2.2.2.1.2.2.1, C_alIter okν (by omega) fun ρ g1 g2 => ⟨_, rfl, _, rfl, loop V 0 ρ 0 (by omega) (g.tr g1) g2 g1.1.1 (Or.inl ⟨rfl, fun v hv => by omega⟩)⟩⟩⟩⟩
  exact key K 0 μ (by omega) (zG.rf _ _)
end ZJ
