set_option maxRecDepth 100000
/-! THE COMPONENT, 64: the words of commands -/
theorem pKind_no {w : List Nat} (h0 : w ≠ tPass) (h1 : w ≠ tFair) (h2 : w ≠ tTest) (h3 : w ≠ tDismiss) (h4 : w ≠ tWage) (h5 : w ≠ tFund) (h6 : w ≠ tTrain) : pKind w = none := by
  unfold pKind; rw [if_neg h0, if_neg h1, if_neg h2, if_neg h3, if_neg h4, if_neg h5, if_neg h6]
/-- a word's hash is known -/
def zWc (τ : ZM) (q : ZP) (w : List Nat) (C : Nat) : Prop := ∃ h, q = (23, 0, h) ∧ (h < C ∧ (ztg τ h).1 = 23) ∧ ((zfi τ 142 h = sHash w ∧ sHash w ≠ 0) ∨ (zfi τ 142 h = 0 ∧ sHash w = 0 ∧ zfi τ 143 h ≠ 0))
/-- what a hash has changed -/
def zWe (ν τ : ZM) : Prop := τ = ν ∨ ∃ h f y, (ztg ν h).1 = 23 ∧ (f = 142 ∨ f = 143) ∧ τ = zFi ν f h y
section ZJ
variable {G : ZG} {μ ν τ μ0 : ZM} {Q : Option ZV → ZM → Prop} {E : ZP → ZM → Prop} {P x bf B c e a M K V s lo hi F fg el ear vl var ds dm sm c' e' h n C f c0 e0 d da sb sba D k : Nat} {ea va ta sa : Nat → Nat} {r : Nat → Int32} {po : Nat → Nat} {b w : List Nat} {y z z1 z2 : Int32} {q : ZP} {Z : Nat → Prop} {σ : ZS}
theorem C_hashC (hs : zis 23 q) (hh : zWc ν q w C) (k : Q (some (vI (sHash w))) ν) : Call G Y_J9_hashCode [vP q] ν Q E := by
  obtain ⟨h, rfl, -, t⟩ := hh
  rcases t with ⟨t1, t2⟩ | ⟨t1, t2, t3⟩
  · refine S_J9_hashCode ⟨hs, _, t1, fun _ => k, fun t => absurd t t2⟩
  · rw [t2] at k
    exact S_J9_hashCode ⟨hs, _, t1, fun t => absurd rfl t, fun _ => ⟨_, rfl, fun _ => k, fun t => absurd t t3⟩⟩
/-- is it a command's word -/
theorem C_isCmd (hc : zPc G μ0 x bf B b) (h : zPq G μ0 ν P x b c e a M) (hf : zFh G ν (zfr ν 72 P)) (hM : zsz μ0 ≤ M)
    (k : ∀ τ, zPq G μ0 τ P x b c e a M → zWe ν τ → zfr τ 72 P = zfr ν 72 P → (pKind (pWd b (pSk b a)) ≠ none → zWc τ (zfr ν 72 P) (pWd b (pSk b a)) (zsz ν)) → Q (some (vI (if pKind (pWd b (pSk b a)) = none then 0 else 1))) τ) : Call G Y_X1_isCommand [vP (zfr ν 72 P)] ν Q E := by
  obtain ⟨C0, hs0⟩ := zWd.str hc h.2.2.2 h.2.2.1.2.2.2.2
  refine S_X1_isCommand ⟨hs0.1, C_hashW hc h.2.2.2 h.2.2.1.2.2.2.2 hf hM fun τ ht => ⟨_, rfl, ?_⟩⟩
  have st : zPq G μ0 τ P x b c e a M ∧ zWe ν τ ∧ zfr τ 72 P = zfr ν 72 P ∧ (pKind (pWd b (pSk b a)) ≠ none → zWc τ (zfr ν 72 P) (pWd b (pSk b a)) (zsz ν)) := by
    rcases ht with ⟨h0, f0, y0, k1, k2, k3, k4, rfl, k6, k7⟩ | ⟨rfl, k2, k3⟩
    · exact ⟨h.hs (by omega) k4, Or.inr ⟨h0, f0, y0, k3, k4, rfl⟩, rfl, fun _ => ⟨h0, k6, ⟨k2, k3⟩, k7⟩⟩
    · exact ⟨h, Or.inl rfl, rfl, fun t => absurd (by rw [k3]; rfl) t⟩
  obtain ⟨q0, he, e72, hk⟩ := st
  have K := k τ q0 he e72 hk
  obtain ⟨C1, hs1⟩ := zWd.str hc q0.2.2.2 q0.2.2.1.2.2.2.2
  rw [e72] at hs1
  generalize pWd b (pSk b a) = w at K hs1
  have yes : ∀ z : Int32, z = 0 ∨ z = 1 ∨ z = 2 ∨ z = 3 ∨ z = 4 ∨ z = 5 ∨ z = 6 → pKind w ≠ none → Wp G Y_X1_isCommand 172 [(2, vI z)] [] τ Q E := fun z hz hn => by
    rw [if_neg hn] at K
    refine B_X1_isCommand_172 ⟨fun _ => K, fun _ => K, fun _ => K, fun _ => K, fun _ => K, fun _ => K, fun _ => K, fun t => absurd t ?_⟩
    rcases hz with rfl | rfl | rfl | rfl | rfl | rfl | rfl <;> decide
  have no : pKind w = none → Wp G Y_X1_isCommand 172 [(2, vI (-1))] [] τ Q E := fun hn => by
    rw [if_pos hn] at K
    exact B_X1_isCommand_172 ⟨fun t => absurd t (by decide), fun t => absurd t (by decide), fun t => absurd t (by decide), fun t => absurd t (by decide), fun t => absurd t (by decide), fun t => absurd t (by decide), fun t => absurd t (by decide), fun _ => K⟩
  have nk : ∀ (t : List Nat) (y : Int32), sHash w = y → sHash t ≠ y → w ≠ t := fun t y h1 h2 h3 => h2 (by rw [← h3]; exact h1)
  have eq : ∀ (i : Nat) (t : List Nat) (z : Int32), (i, t) ∈ kTx → (z = 0 ∨ z = 1 ∨ z = 2 ∨ z = 3 ∨ z = 4 ∨ z = 5 ∨ z = 6) → pKind t ≠ none → (w ≠ t → pKind w = none) → Call G Y_J9_equals [vP (zfr ν 72 P), vP (zgS G i)] τ (rI fun x2 ν2 => (x2 = 0 → Wp G Y_X1_isCommand 172 [(2, vI (-1))] [] ν2 Q E) ∧ (¬ x2 = 0 → Wp G Y_X1_isCommand 172 [(2, vI z)] [] ν2 Q E)) (fun q ν => zkc q.1 = true ∧ E q ν) := fun i t z hi hz h1 h2 =>
    C_strEq hs1 (hc.str q0.2.2.2 hi) (fun u => ⟨_, rfl, fun v => absurd v (by decide), fun _ => yes z hz (by rw [u]; exact h1)⟩) (fun u => ⟨_, rfl, fun _ => no (h2 u), fun v => absurd rfl v⟩)
  refine ⟨fun hx => ?_, fun hx => ?_, fun hx => ?_, fun hx => ?_, fun hx => ?_, fun hx => ?_, fun hx => ?_, fun n1 n2 n3 n4 n5 n6 n7 => no (pKind_no ?_ ?_ ?_ ?_ ?_ ?_ ?_)⟩
  · exact eq 108 tFair 1 (by unfold kTx; simp) (by decide) (by decide) fun u => pKind_no (nk _ _ hx (by decide)) u (nk _ _ hx (by decide)) (nk _ _ hx (by decide)) (nk _ _ hx (by decide)) (nk _ _ hx (by decide)) (nk _ _ hx (by decide))
  · exact eq 117 tFund 5 (by unfold kTx; simp) (by decide) (by decide) fun u => pKind_no (nk _ _ hx (by decide)) (nk _ _ hx (by decide)) (nk _ _ hx (by decide)) (nk _ _ hx (by decide)) (nk _ _ hx (by decide)) u (nk _ _ hx (by decide))
  · exact eq 113 tPass 0 (by unfold kTx; simp) (by decide) (by decide) fun u => pKind_no u (nk _ _ hx (by decide)) (nk _ _ hx (by decide)) (nk _ _ hx (by decide)) (nk _ _ hx (by decide)) (nk _ _ hx (by decide)) (nk _ _ hx (by decide))
  · exact eq 114 tTest 2 (by unfold kTx; simp) (by decide) (by decide) fun u => pKind_no (nk _ _ hx (by decide)) (nk _ _ hx (by decide)) u (nk _ _ hx (by decide)) (nk _ _ hx (by decide)) (nk _ _ hx (by decide)) (nk _ _ hx (by decide))
  · exact eq 116 tWage 4 (by unfold kTx; simp) (by decide) (by decide) fun u => pKind_no (nk _ _ hx (by decide)) (nk _ _ hx (by decide)) (nk _ _ hx (by decide)) (nk _ _ hx (by decide)) u (nk _ _ hx (by decide)) (nk _ _ hx (by decide))
  · exact eq 118 tTrain 6 (by unfold kTx; simp) (by decide) (by decide) fun u => pKind_no (nk _ _ hx (by decide)) (nk _ _ hx (by decide)) (nk _ _ hx (by decide)) (nk _ _ hx (by decide)) (nk _ _ hx (by decide)) (nk _ _ hx (by decide)) u
  · exact eq 115 tDismiss 3 (by unfold kTx; simp) (by decide) (by decide) fun u => pKind_no (nk _ _ hx (by decide)) (nk _ _ hx (by decide)) (nk _ _ hx (by decide)) u (nk _ _ hx (by decide)) (nk _ _ hx (by decide)) (nk _ _ hx (by decide))
  · exact fun t => n3 (by rw [t]; decide)
  · exact fun t => n1 (by rw [t]; decide)
  · exact fun t => n4 (by rw [t]; decide)
  · exact fun t => n7 (by rw [t]; decide)
  · exact fun t => n5 (by rw [t]; decide)
  · exact fun t => n2 (by rw [t]; decide)
  · exact fun t => n6 (by rw [t]; decide)
/-- names looked up in the state that is held -/
def zNmd (G : ZG) (μ0 : ZM) (s K V : Nat) (r : Nat → Int32) : Prop := ∀ ν c e, zG (fun _ => False) c e μ0 ν → ∀ q w, (∃ C, zStr ν C q w) → ∀ (Q' : Option ZV → ZM → Prop) (E' : ZP → ZM → Prop), ((∀ k, sThing r true w = some k → k < V → Q' (some (vI (nI k))) ν) → (sThing r true w = none → Q' (some (vI (-1))) ν) → Call G Y_X2_valleyNamed [vP (2, 0, s), vP q] ν Q' E') ∧ ((∀ k, sThing r false w = some k → k < K → Q' (some (vI (nI k))) ν) → (sThing r false w = none → Q' (some (vI (-1))) ν) → Call G Y_X2_echoNamed [vP (2, 0, s), vP q] ν Q' E')
theorem zXs.nmd (h : zXs G μ x d da bf sb sba n Z σ) (hg : sGd (aR σ) K V po D) (hok : zok μ) : ∃ s, zfr μ 0 x = (2, 0, s) ∧ zNmd G μ s K V (aR σ) := by
  obtain ⟨s, lo, hi, F, fg, el, ear, vl, var, ds, dm, sm, ea, va, ta, sa, hs0, b1, b2, b3, b4⟩ := h.st hg
  have gb := hg.1.1
  obtain ⟨hK, hV⟩ := hg.1.2.1
  refine ⟨s, hs0, fun ν c e g q w ⟨C, hw⟩ Q' E' => ⟨fun kt kf => ?_, fun kt kf => ?_⟩⟩
  · have bν := b1.nw hok b2 g
    have fV : ∀ v, v < V → zfr ν 30 (va v) = zfr μ 30 (va v) := fun v hv => (g.same (by have := (b1.2.2.1.2.2.1 v hv).1.2; omega) id).2.1 30
    have es : sThing (aR σ) true w = sFind (aR σ) 203 17 w V 0 := by unfold sThing; rw [if_pos rfl, hV, nI_clamp (by omega)]
    refine C_sNamedV hw bν (fun v hv => ⟨hi, ?_⟩) (fun v hv => (hg.2.1.2.1 v hv).2.2) ?_
    · rw [fV v hv]
      exact (b3.2 v hv).1.kpB fun a ha => (g.same (by omega) id).c
    · rw [← es]
      cases hs : sThing (aR σ) true w with
      | none => exact kf hs
      | some k =>
        rw [es] at hs
        have := sFind_lt hs
        exact kt k (es.trans hs) (by omega)
  · have bν := b1.nw hok b2 g
    have fE : ∀ v, v < K → zfr ν 21 (ea v) = zfr μ 21 (ea v) := fun v hv => (g.same (by have := (b1.2.1.2.2.1 v hv).2; omega) id).2.1 21
    have es : sThing (aR σ) false w = sFind (aR σ) 23 15 w K 0 := by unfold sThing; rw [if_neg (by decide), hK, nI_clamp (by omega)]
    refine C_sNamedE hw bν (fun v hv => ⟨hi, ?_⟩) (fun v hv => (hg.2.1.1 v hv).2.2) ?_
    · rw [fE v hv]
      exact (b3.1 v hv).1.kpB fun a ha => (g.same (by omega) id).c
    · rw [← es]
      cases hs : sThing (aR σ) false w with
      | none => exact kf hs
      | some k =>
        rw [es] at hs
        have := sFind_lt hs
        exact kt k (es.trans hs) (by omega)
end ZJ
