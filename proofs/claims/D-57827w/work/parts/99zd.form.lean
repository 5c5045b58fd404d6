set_option maxRecDepth 100000
/-! THE COMPONENT, 49: the output -/
/-- a held state, its places named -/
def zHd (μ : ZM) (X : Nat → Prop) (lo hi s : Nat) (r : Nat → Int32) (K V F fg el ear vl var ds dm sm : Nat) (ea va ta sa : Nat → Nat) : Prop := zSta μ lo hi s r K V F fg el ear vl var ds dm sm ea va ta sa ∧ hi ≤ zsz μ ∧ zNs μ X hi K V ea va r ∧ ∀ a, X a → (a < lo ∨ hi ≤ a) ∧ a ≠ fg
theorem zHd.kp {μ ν : ZM} {X : Nat → Prop} {lo hi s K V F fg el ear vl var ds dm sm : Nat} {ea va ta sa : Nat → Nat} {r : Nat → Int32} (h : zHd μ X lo hi s r K V F fg el ear vl var ds dm sm ea va ta sa) (hok : zok μ) (hX : ∀ a, a < zsz μ → X a → zxt (ztg μ a).1) (k : zOld X μ ν) : zHd ν X lo hi s r K V F fg el ear vl var ds dm sm ea va ta sa := by
  obtain ⟨h1, h2, h3, h4⟩ := h
  obtain ⟨t1, t2, t3, t4, t5, -⟩ := h1.tg hok
  have hE := h1.2.1.2.2.1
  have hVb := h1.2.2.1.2.2.1
  have hdt : (ztg μ dm).1 = 15 := by rw [(hok.ref h1.2.2.2.1.2.1 (by decide) (by decide)).2]
  have d1 := h1.2.2.2.1.1
  have s1 := h1.2.2.2.2.1.1
  have f1 := h1.1.1.2.2
  have kl : ∀ a, lo ≤ a → a < hi → zsmC μ ν a := fun a q1 q2 => k.2.1 a (by omega) (fun q => by have := (h4 a q).1; omega)
  refine ⟨h1.kq hok k.1 kl (k.2.1 fg (by omega) (fun q => (h4 fg q).2 rfl)) (fun a ha hz => k.2.1 a ha (fun q => by have := hX a ha q; unfold zim at hz; unfold zxt at this; omega)) (fun q => k.2.2.1 dm (by omega) hdt q) (fun q => k.2.2.2 sm (by omega) t3 q), Nat.le_trans h2 k.1.1, ⟨fun e he => ?_, fun v hv => ?_⟩, h4⟩
  · have := (h3.1 e he).kp (ν := ν) (fun a ha hx => k.2.1 a (by omega) hx)
    rw [(kl (ea e) (hE e he).1 (hE e he).2).2.1 21 (by decide) (by decide)]; exact this
  · have := (h3.2 v hv).kp (ν := ν) (fun a ha hx => k.2.1 a (by omega) hx)
    rw [(kl (va v) (hVb v hv).1.1 (hVb v hv).1.2).2.1 30 (by decide) (by decide)]; exact this
/-- more own addresses -/
theorem zHs.kN {μ ν : ZM} {X X' : Nat → Prop} {s : Nat} {r : Nat → Int32} (h : zHs μ X s r) (hok : zok μ) (hX : ∀ a, a < zsz μ → X a → zxt (ztg μ a).1) (k : zOld X μ ν) (hN : ∀ a, X' a → X a ∨ zsz μ ≤ a) : zHs ν X' s r := by
  obtain ⟨lo, hi, K, V, F, fg, el, ear, vl, var, ds, dm, sm, ea, va, ta, sa, h1, h2, h3, h4⟩ := h
  have hf := h1.1.1.2.2
  obtain ⟨j1, j2, j3, j4⟩ := zHd.kp (μ := μ) (ν := ν) ⟨h1, h2, h3, h4⟩ hok hX k
  have nx : ∀ a, a < hi → ¬ X a → ¬ X' a := fun a ha q t => (hN a t).elim q (fun u => by omega)
  have up : ∀ p w, zNa ν X hi p w → zNa ν X' hi p w := fun p w q => by
    obtain ⟨q1, q2, q3⟩ := q
    obtain ⟨-, u2, -, -, q', u5, -, u7, -⟩ := id q1
    exact ⟨q1, nx _ u2 q2, nx _ (by rw [u5]; exact u7) q3⟩
  refine ⟨lo, hi, K, V, F, fg, el, ear, vl, var, ds, dm, sm, ea, va, ta, sa, j1, j2, ⟨fun e he => up _ _ (j3.1 e he), fun v hv => up _ _ (j3.2 v hv)⟩, fun a ha => ?_⟩
  rcases hN a ha with q | q
  · exact h4 a q
  · omega
section ZJ
variable {G : ZG} {μ ν : ZM} {Q : Option ZV → ZM → Prop} {E : ZP → ZM → Prop} {x d da bf sb sba n K V D B : Nat} {po : Nat → Nat} {Z : Nat → Prop} {σ : ZS} {z z1 z2 z3 z4 z5 : Int32} {l w : List Nat} {p : ZP}
/-- another output -/
theorem zXs.out {c e sa' n' : Nat} (h : zXs G μ x d da bf sb sba n Z σ) (hok : zok μ) (g : zG (fun a => a = sb ∨ a = sba) c e μ ν) (hs : (n' = n ∧ sa' = sba) ∨ zsz μ ≤ sa') (hn : n' ≤ 600) (ho : zSb ν sb sa' n' l) : zXs G ν x d da bf sb sa' n' Z (aOut σ l) ∧ zOld (zXw x d da bf sb sba) μ ν := by
  have hxt := h.xt hok
  have hne := h.ne hok
  obtain ⟨t1, t2, t3, t4, t5⟩ := h.tg hok
  obtain ⟨⟨h1, h2, h3, h4, h5, h6, h7⟩, hI, ⟨s0, hs0, hs1⟩, hv, ⟨⟨hh, ps, hq, hp⟩, hl⟩, ⟨b1, b2, b3⟩, ⟨e1, e2⟩, -⟩ := id h
  have kO : zOld (zXw x d da bf sb sba) μ ν := zOld.of g hok (fun a ha q => hxt a ha q.le) (fun a _ q => q.elim (fun t => Or.inr (Or.inr (Or.inr (Or.inr (Or.inl t))))) (fun t => Or.inr (Or.inr (Or.inr (Or.inr (Or.inr (Or.inl t)))))))
  have hN : ∀ a, zXo x d da bf sb sa' Z a → zXo x d da bf sb sba Z a ∨ zsz μ ≤ a := fun a q => by
    rcases q with q | q | q | q | q | q | q
    · exact Or.inl (Or.inl q)
    · exact Or.inl (Or.inr (Or.inl q))
    · exact Or.inl (Or.inr (Or.inr (Or.inl q)))
    · exact Or.inl (Or.inr (Or.inr (Or.inr (Or.inl q))))
    · exact Or.inl (Or.inr (Or.inr (Or.inr (Or.inr (Or.inl q)))))
    · rcases hs with t | t
      · exact Or.inl (Or.inr (Or.inr (Or.inr (Or.inr (Or.inr (Or.inl (q.trans t.2)))))))
      · exact Or.inr (by omega)
    · exact Or.inl (Or.inr (Or.inr (Or.inr (Or.inr (Or.inr (Or.inr q))))))
  have KH : ∀ s r, zHs μ (zXo x d da bf sb sba Z) s r → zHs ν (zXo x d da bf sb sa' Z) s r := fun s r q => q.kN hok hxt (kO.mono (fun _ _ q => q.le)) hN
  have sx : zsame μ ν x := g.same h2 (by omega)
  have sbf : zsame μ ν bf := g.same t3.2 (by omega)
  refine ⟨⟨⟨by rw [g.1.2.2 x h2]; exact h1, Nat.lt_of_lt_of_le h2 g.1.1, (sx.2.1 _).trans h3, (sx.2.1 _).trans h4, (sx.2.1 _).trans h5, ⟨by rcases hs with t | t <;> omega, hn⟩, fun a q => ⟨Nat.lt_of_lt_of_le (h7 a q).1 g.1.1, by rw [g.1.2.2 a (h7 a q).1]; exact (h7 a q).2⟩⟩, hI.old hok (fun a ha q => hxt a ha q.le) kO, ⟨s0, (sx.2.1 _).trans hs0, KH _ _ hs1⟩, ?_, ⟨⟨hh, ps, hq.kp (g.same t1.2 (by omega)) (g.same t2.2 (by omega)), hp.kp KH⟩, hl⟩, ⟨b1, (sx.1 _).trans b2, fun j hj => ⟨(sbf.2.2.1 j).trans (b3 j hj).1, (b3 j hj).2⟩⟩, ⟨(sx.1 _).trans e1, (sx.1 _).trans e2⟩, ho⟩, kO⟩
  show zXv ν _ x (aSv σ)
  cases hc : aSv σ with
  | none => rw [hc] at hv; exact (sx.2.1 1).trans hv
  | some r => rw [hc] at hv; obtain ⟨s', q1, q2⟩ := hv; exact ⟨s', (sx.2.1 1).trans q1, KH _ _ q2⟩
/-- the output so far: behind c appends -/
def zJ (μ : ZM) (sb sba n c : Nat) (l : List Nat) (ν : ZM) : Prop := ∃ sa' n', zSb ν sb sa' n' l ∧ n' ≤ 600 ∧ n ≤ n' ∧ ((n' = n ∧ sa' = sba) ∨ zsz μ ≤ sa') ∧ zG (fun a => a = sb ∨ a = sba) c (2 * (n' - n)) μ ν
theorem C_jApp {c ch : Nat} (hj : zJ μ sb sba n c l ν) (hs : sb < zsz μ) (hz : z = nI ch) (hc : ch < 128) (hl : l.length < 256) (k : ∀ ρ, zJ μ sb sba n (c + 1) (l ++ [ch]) ρ → Q (some (vP (22, 0, sb))) ρ) : Call G Y_J8_append_6 [vP (22, 0, sb), vI z] ν Q E := by
  obtain ⟨sa', n', j1, j2, j3, j4, g⟩ := hj
  refine Call.zo fun okν _ => C_sbApp hz hc (by omega) (Or.inl (by omega)) okν (Nat.lt_of_lt_of_le hs g.1.1) j1 fun ρ sa2 n2 y1 y2 y3 y4 => k ρ ⟨sa2, n2, y1, ?_, by omega, ?_, ?_⟩
  · rcases y3 with ⟨q, -⟩ | ⟨-, q⟩ <;> omega
  · rcases y3 with ⟨q, q2⟩ | ⟨q, -⟩
    · rw [q, q2]; exact j4
    · right; have := g.1.1; omega
  · exact (g.trans y4 (fun a ha q => by omega)).mono (fun _ _ q => q) (Nat.le_refl _) (by omega)
theorem C_jAppS {c C : Nat} (hj : zJ μ sb sba n c l ν) (hs : sb < zsz μ) (hp : zStr ν C p w) (hp1 : p.2.2 ≠ sb ∧ (zfr ν 140 p.2.2).2.2 ≠ sb) (hC : C ≤ zsz ν) (hl : l.length + w.length ≤ 256) (k : ∀ ρ, zJ μ sb sba n (c + 1) (l ++ w) ρ → Q (some (vP (22, 0, sb))) ρ) : Call G Y_J8_append [vP (22, 0, sb), vP p] ν Q E := by
  obtain ⟨sa', n', j1, j2, j3, j4, g⟩ := hj
  refine Call.zo fun okν _ => C_sbAppS hp hp1 hC (by omega) (by omega) okν (Nat.lt_of_lt_of_le hs g.1.1) j1 fun ρ sa2 n2 y1 y2 y3 y4 => k ρ ⟨sa2, n2, y1, ?_, by omega, ?_, ?_⟩
  · rcases y3 with ⟨q, -⟩ | ⟨-, q, q2⟩ <;> omega
  · rcases y3 with ⟨q, q2⟩ | ⟨q, -⟩
    · rw [q, q2]; exact j4
    · right; have := g.1.1; omega
  · exact (g.trans y4 (fun a ha q => by omega)).mono (fun _ _ q => q) (Nat.le_refl _) (by omega)
theorem C_xformatContracts (h : zXs G μ x d da bf sb sba n Z σ) (hg : sGd (aR σ) K V po D) (k : zXe G x d da bf sb Z σ μ Q (aOut σ (fAll (aR σ) V)) (vI (nI (fAll (aR σ) V).length))) : Call G Y_X1_formatContracts [vP (1, 0, x)] μ Q E := by
  refine Call.zo fun hok _ => ?_
  have hxt := h.xt hok
  have hne := h.ne hok
  obtain ⟨t1, t2, t3, t4, t5⟩ := h.tg hok
  obtain ⟨⟨h1, h2, h3, h4, h5, h6, h7⟩, -, -, -, -, -, -, ho⟩ := id h
  obtain ⟨s, lo, hi, F, fg, el, ear, vl, var, ds, dm, sm, ea, va, ta, sa, hs0, b1, b2, b3, b4⟩ := h.st hg
  have gb := hg.1.1
  obtain ⟨sl, hs⟩ := hg.1.2.2.2.2.1
  have fl := fAll_len hg hs
  have vw : ∀ {c l ν}, zJ μ sb sba n c l ν → zfr ν 0 x = (2, 0, s) ∧ zfr ν 7 x = (22, 0, sb) ∧ zHd ν (zXo x d da bf sb sba Z) lo hi s (aR σ) K V F fg el ear vl var ds dm sm ea va ta sa := fun hj => by
    obtain ⟨sa', n', j1, j2, j3, j4, g⟩ := hj
    have sx := g.same h2 (show ¬ (x = sb ∨ x = sba) by omega)
    have kO : zOld (zXo x d da bf sb sba Z) μ _ := zOld.of g hok hxt (fun a _ q => q.elim (fun t => Or.inr (Or.inr (Or.inr (Or.inr (Or.inl t))))) (fun t => Or.inr (Or.inr (Or.inr (Or.inr (Or.inr (Or.inl t)))))))
    exact ⟨(sx.2.1 _).trans hs0, (sx.2.1 _).trans h5, zHd.kp ⟨b1, b2, b3, b4⟩ hok hxt kO⟩
  have nX : ∀ {ν p w}, zNa ν (zXo x d da bf sb sba Z) hi p w → p.2.2 ≠ sb ∧ (zfr ν 140 p.2.2).2.2 ≠ sb := fun q => ⟨fun t => q.2.1 (Or.inr (Or.inr (Or.inr (Or.inr (Or.inl t))))), fun t => q.2.2 (Or.inr (Or.inr (Or.inr (Or.inr (Or.inl t)))))⟩
  refine S_X1_formatContracts ⟨sb, h5, C_sbSet0 hok t4.2 ho fun ν0 y1 y2 => ⟨rfl, ?_⟩⟩
  have j0 : zJ μ sb sba n 0 [] ν0 := ⟨sba, n, y1, h6.2, Nat.le_refl _, Or.inl ⟨rfl, rfl⟩, y2.mono (fun a _ q => Or.inl q) (Nat.le_refl _) (Nat.zero_le _)⟩
  -- those who serve valley v
  have staff : ∀ (v : Nat) (hv : v < V) (base : List Nat) (c : Nat), base.length ≤ 29 * v + 8 → (∀ ν, zJ μ sb sba n (c + 6) (base ++ fStf (aR σ) v (sSt (aR σ) v)) ν → Wp G Y_X1_formatContracts 10 [(0, vP (1, 0, x)), (1, vI (nI (v + 1)))] [] ν Q E) → ∀ dd i (ν : ZM), i + dd = sSt (aR σ) v → zJ μ sb sba n (c + 2 * i) (base ++ fStf (aR σ) v i) ν → Wp G Y_X1_formatContracts 68 [(0, vP (1, 0, x)), (1, vI (nI v)), (2, vP (4, 0, va v)), (3, vI (nI i))] [] ν Q E := by
    intro v hv base c hbl kk dd
    obtain ⟨s1, s2, s3⟩ := sSt_eq hs (show v < 8 by omega)
    have up : ∀ {c1 c2 l ν}, zJ μ sb sba n c1 l ν → c1 ≤ c2 → zJ μ sb sba n c2 l ν := fun hj hc => by
      obtain ⟨sa', n', j1, j2, j3, j4, g⟩ := hj
      exact ⟨sa', n', j1, j2, j3, j4, g.mono (fun _ _ q => q) hc (Nat.le_refl _)⟩
    induction dd with
    | zero =>
      intro i ν hi hj
      have hi' : i = sSt (aR σ) v := by omega
      subst hi'
      obtain ⟨w1, w2, w3⟩ := vw hj
      refine B_X1_formatContracts_68 ⟨_, w3.1.eV hv 13 (by decide), fun _ => ?_, fun t => absurd t (by rw [s2]; exact nI_nlt (Nat.le_refl _) (by omega))⟩
      rw [nI_1]; exact kk ν (up hj (by omega))
    | succ dd ih =>
      intro i ν hi hj
      obtain ⟨w1, w2, w3⟩ := vw hj
      obtain ⟨-, m2, m3, -⟩ := sMem_eq hs gb.1 (show v < 8 by omega) (show i < sSt (aR σ) v by omega)
      have hfl := fStf_len hg hs (show v < 8 by omega) i (by omega)
      have hn6 := (sName_ok (hg.2.1.1 _ m3).2.2).2.1
      have nm : ∀ (ρ : ZM) (pre : List Nat), pre.length ≤ 1 → pre = (if i = 0 then [] else [43]) → zJ μ sb sba n (c + 2 * i + 1) (base ++ fStf (aR σ) v i ++ pre) ρ → Wp G Y_X1_formatContracts 90 [(0, vP (1, 0, x)), (1, vI (nI v)), (2, vP (4, 0, va v)), (3, vI (nI i))] [] ρ Q E := by
        intro ρ pre hp1 hp hjρ
        obtain ⟨u1, u2, u3⟩ := vw hjρ
        have na := u3.2.2.1.1 _ m3
        refine B_X1_formatContracts_90 ⟨sb, u2, s, u1, 3, sa v, (u3.1.2.2.1.2.2.2.2.2.1 v hv).2, i, zix.eq rfl (by omega) (by omega), _, u3.1.2.2.1.2.2.2.2.2.2.2 v i hv (by omega) (by rw [s2]; exact nI_lt (by omega) (by omega)), C_sEcho (sMem (aR σ) v i) m2 m3 u3.1 ⟨_, rfl, _, rfl, _, rfl, na.1.1, C_jAppS hjρ t4.2 na.1 (nX na) u3.2.1 (by rw [List.length_append, List.length_append]; omega) fun τ hτ => ⟨_, rfl, _, rfl, ?_⟩⟩⟩
        rw [nI_1]
        refine ih (i + 1) τ (by omega) ?_
        have e : fStf (aR σ) v (i + 1) = fStf (aR σ) v i ++ (if i = 0 then [] else [43]) ++ sName (aR σ) (23 + 15 * sMem (aR σ) v i) := rfl
        rw [e, ← hp]
        rw [List.append_assoc, List.append_assoc] at hτ
        rw [List.append_assoc]
        exact up hτ (by omega)
      refine B_X1_formatContracts_68 ⟨_, w3.1.eV hv 13 (by decide), fun q => absurd (by rw [s2]; exact nI_lt (by omega) (by omega)) q, fun _ => ⟨fun q => ?_, fun q => ⟨sb, w2, C_jApp hj t4.2 rfl (by decide) (by rw [List.length_append]; omega) fun ρ hρ => ⟨_, rfl, _, rfl, ?_⟩⟩⟩⟩
      · have hi0 : i = 0 := by
          apply Decidable.byContradiction
          intro t
          exact q (nI_lt (a := 0) (by omega) (by omega))
        exact nm ν [] (by decide) (by rw [if_pos hi0]) (by rw [List.append_nil]; exact up hj (by omega))
      · have hi0 : i ≠ 0 := fun t => by rw [t] at q; exact absurd q (by decide)
        exact nm ρ [43] (by decide) (by rw [if_neg hi0]) hρ
  have up : ∀ {c1 c2 l ν}, zJ μ sb sba n c1 l ν → c1 ≤ c2 → zJ μ sb sba n c2 l ν := fun hj hc => by
    obtain ⟨sa', n', j1, j2, j3, j4, g⟩ := hj
    exact ⟨sa', n', j1, j2, j3, j4, g.mono (fun _ _ q => q) hc (Nat.le_refl _)⟩
  have key : ∀ dd v (ν : ZM), v + dd = V → zJ μ sb sba n (9 * v) (fAll (aR σ) v) ν → Wp G Y_X1_formatContracts 10 [(0, vP (1, 0, x)), (1, vI (nI v))] [] ν Q E := by
    intro dd
    induction dd with
    | zero =>
      intro v ν hv hj
      have hv' : v = V := by omega
      subst hv'
      obtain ⟨w1, w2, w3⟩ := vw hj
      obtain ⟨sa', n', j1, j2, j3, j4, g⟩ := hj
      obtain ⟨z1, z2⟩ := h.out hok g j4 j2 j1
      exact B_X1_formatContracts_10 ⟨s, w1, vl, w3.1.1.2.2.2.1.2.2.1, C_alSize w3.1.2.2.1.2.1 ⟨_, rfl, fun _ => ⟨sb, w2, C_sbLen j1 ⟨_, rfl, k ν (zXd.of h hok z1 z2 rfl (by have := g.2.1; omega) (by have := g.2.2.1; omega))⟩⟩, fun q => absurd q (nI_nlt (by omega) (by omega))⟩⟩
    | succ dd ih =>
      intro v ν hv hj
      have hvV : v < V := by omega
      obtain ⟨w1, w2, w3⟩ := vw hj
      have hfl := fl v (by omega)
      have hn6 := (sName_ok (hg.2.1.2.1 v hvV).2.2).2.1
      have h3 := (sSt_eq hs (show v < 8 by omega)).2.2
      have e : fAll (aR σ) (v + 1) = fAll (aR σ) v ++ (if v = 0 then [] else [32]) ++ sName (aR σ) (203 + 17 * v) ++ [61] ++ fStf (aR σ) v (sSt (aR σ) v) := rfl
      -- behind the name
      have nx : ∀ (pre : List Nat) (ρ : ZM), pre.length ≤ 1 → pre = (if v = 0 then [] else [32]) → zJ μ sb sba n (9 * v + 3) (fAll (aR σ) v ++ pre ++ sName (aR σ) (203 + 17 * v) ++ [61]) ρ → Wp G Y_X1_formatContracts 68 [(0, vP (1, 0, x)), (1, vI (nI v)), (2, vP (4, 0, va v)), (3, vI 0)] [] ρ Q E := by
        intro pre ρ hp1 hp hjρ
        refine staff v hvV (fAll (aR σ) v ++ pre ++ sName (aR σ) (203 + 17 * v) ++ [61]) (9 * v + 3) (by rw [List.length_append, List.length_append, List.length_append]; simp only [List.length_cons, List.length_nil]; omega) (fun τ hτ => ih (v + 1) τ (by omega) ?_) (sSt (aR σ) v) 0 ρ (by omega) (by show zJ μ sb sba n _ (_ ++ []) ρ; rw [List.append_nil]; exact hjρ)
        rw [e, ← hp]
        exact up hτ (by omega)
      refine B_X1_formatContracts_10 ⟨s, w1, vl, w3.1.1.2.2.2.1.2.2.1, C_alSize w3.1.2.2.1.2.1 ⟨_, rfl, fun q => absurd (nI_lt (by omega) (by omega)) q, fun _ => ⟨s, w1, C_sValley v rfl hvV w3.1 ⟨_, rfl, _, rfl, fun q => ?_, fun q => ?_⟩⟩⟩⟩
      · have hv0 : v = 0 := by
          apply Decidable.byContradiction
          intro t
          exact q (nI_lt (a := 0) (by omega) (by omega))
        have na := w3.2.2.1.2 v hvV
        refine ⟨sb, w2, _, rfl, na.1.1, C_jAppS hj t4.2 na.1 (nX na) w3.2.1 (by omega) fun ρ hρ => ⟨_, rfl, _, rfl, C_jApp hρ t4.2 rfl (by decide) (by rw [List.length_append]; omega) fun τ hτ => ⟨_, rfl, _, rfl, nx [] τ (by decide) (by rw [if_pos hv0]) (by rw [List.append_nil]; exact up hτ (by omega))⟩⟩⟩
      · have hv0 : v ≠ 0 := fun t => by rw [t] at q; exact absurd q (by decide)
        refine ⟨sb, w2, C_jApp hj t4.2 rfl (by decide) (by omega) fun ρ hρ => ⟨_, rfl, _, rfl, ?_⟩⟩
        obtain ⟨u1, u2, u3⟩ := vw hρ
        have na := u3.2.2.1.2 v hvV
        exact ⟨sb, u2, _, rfl, na.1.1, C_jAppS hρ t4.2 na.1 (nX na) u3.2.1 (by rw [List.length_append]; simp only [List.length_cons, List.length_nil]; omega) fun τ hτ => ⟨_, rfl, _, rfl, C_jApp hτ t4.2 rfl (by decide) (by rw [List.length_append, List.length_append]; simp only [List.length_cons, List.length_nil]; omega) fun τ2 hτ2 => ⟨_, rfl, _, rfl, nx [32] τ2 (by decide) (by rw [if_neg hv0]) hτ2⟩⟩⟩
  exact key V 0 ν0 (by omega) j0
end ZJ
