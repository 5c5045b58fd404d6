set_option maxRecDepth 100000
/-! THE COMPONENT, 40: operations on a copy -/
/-- the component's own addresses alone -/
def zXw (x d da bf sb sba : Nat) (a : Nat) : Prop := zXo x d da bf sb sba (fun _ => False) a
theorem zXw.le {x d da bf sb sba a : Nat} {Z : Nat → Prop} (h : zXw x d da bf sb sba a) : zXo x d da bf sb sba Z a := by
  rcases h with q | q | q | q | q | q | q
  · exact Or.inl q
  · exact Or.inr (Or.inl q)
  · exact Or.inr (Or.inr (Or.inl q))
  · exact Or.inr (Or.inr (Or.inr (Or.inl q)))
  · exact Or.inr (Or.inr (Or.inr (Or.inr (Or.inl q))))
  · exact Or.inr (Or.inr (Or.inr (Or.inr (Or.inr (Or.inl q)))))
  · exact q.elim
/-- names stay -/
def nmK (r r' : Nat → Int32) : Prop := (∀ e u, e < 12 → u < 7 → r' (23 + 15 * e + u) = r (23 + 15 * e + u)) ∧ ∀ v u, v < 8 → u < 7 → r' (203 + 17 * v + u) = r (203 + 17 * v + u)
theorem sKd.nm {r r' : Nat → Int32} (h : sKd r r') : nmK r r' := ⟨fun e u _ hu => h _ (by unfold iDyn; omega) (by omega), fun v u _ hu => h _ (by unfold iDyn; omega) (by omega)⟩
theorem sName_cg {r r' : Nat → Int32} {q : Nat} (h : ∀ u, u < 7 → r' (q + u) = r (q + u)) (hs : sNm r q) : sName r' q = sName r q := by
  obtain ⟨n, h1, h2, h3, h4⟩ := hs
  have e : (r q).toNatClampNeg = n := by rw [h1]; exact nI_clamp (by omega)
  have e' : r' q = r q := h 0 (by omega)
  unfold sName
  rw [e', e]
  refine List.map_congr_left fun k hk => ?_
  have hk' := List.mem_range.mp hk
  rw [Nat.add_assoc, h (1 + k) (by omega)]
theorem zMp.tlb {μ : ZM} {T m : Nat} {ks : List Nat} {nd kp : Nat → Nat} {vl : Nat → ZP} (h : zMp μ T m ks nd kp vl) : tl μ m ≤ 128 := by
  rcases h.1 with ⟨-, n, h⟩ | ⟨t, n, h⟩
  · unfold tl; rw [h.1]; decide
  · unfold tl; rw [h.1]; exact (zpw_le n h.2.2.2.2.1).2
section ZJ
variable {G : ZG} {μ ν : ZM} {Q : Option ZV → ZM → Prop} {E : ZP → ZM → Prop} {x d da bf sb sba n K V D : Nat} {po : Nat → Nat} {Z : Nat → Prop} {σ : ZS} {z1 z2 : Int32}
theorem zSta.tls {lo hi s F fg el ear vl var ds dm sm : Nat} {ea va ta sa : Nat → Nat} {r : Nat → Int32} (h : zSta μ lo hi s r K V F fg el ear vl var ds dm sm ea va ta sa) : tl μ sm ≤ 128 ∧ tl μ dm ≤ 128 := by
  obtain ⟨-, -, -, ⟨-, -, -, ks, nd, kp, vl, h1, -⟩, ⟨-, -, ks', nd', kp', vl', h2, -⟩, -⟩ := h
  exact ⟨h2.tlb, h1.tlb⟩
theorem tg_ne {a b i j : Nat} (h1 : (ztg μ a).1 = i) (h2 : (ztg μ b).1 = j) (hij : i ≠ j) : a ≠ b := fun q => hij (by rw [← h1, ← h2, q])
theorem zXs.ne (h : zXs G μ x d da bf sb sba n Z σ) (hok : zok μ) : (x ≠ d ∧ x ≠ da ∧ x ≠ bf ∧ x ≠ sb ∧ x ≠ sba) ∧ (d ≠ da ∧ d ≠ bf ∧ d ≠ sb ∧ d ≠ sba) ∧ (da ≠ bf ∧ da ≠ sb ∧ da ≠ sba) ∧ bf ≠ sb ∧ bf ≠ sba ∧ sb ≠ sba := by
  obtain ⟨t1, t2, t3, t4, t5⟩ := h.tg hok
  have h1 := h.1.1
  have h6 := h.1.2.2.2.2.2.1.1
  exact ⟨⟨tg_ne h1 t1.1 (by decide), tg_ne h1 t2.1 (by decide), tg_ne h1 t3.1 (by decide), tg_ne h1 t4.1 (by decide), tg_ne h1 t5.1 (by decide)⟩, ⟨tg_ne t1.1 t2.1 (by decide), tg_ne t1.1 t3.1 (by decide), tg_ne t1.1 t4.1 (by decide), tg_ne t1.1 t5.1 (by decide)⟩, ⟨tg_ne t2.1 t3.1 (by decide), tg_ne t2.1 t4.1 (by decide), tg_ne t2.1 t5.1 (by decide)⟩, tg_ne t3.1 t4.1 (by decide), h6, tg_ne t4.1 t5.1 (by decide)⟩
theorem zXs.lt (h : zXs G μ x d da bf sb sba n Z σ) (hok : zok μ) : ∀ a, zXo x d da bf sb sba Z a → a < zsz μ := by
  obtain ⟨t1, t2, t3, t4, t5⟩ := h.tg hok
  have h1 := h.1
  intro a ha
  rcases ha with q | q | q | q | q | q | q
  · rw [q]; exact h1.2.1
  · rw [q]; exact t1.2
  · rw [q]; exact t2.2
  · rw [q]; exact t3.2
  · rw [q]; exact t4.2
  · rw [q]; exact t5.2
  · exact (h1.2.2.2.2.2.2 a q).1
theorem zXs.hk (h : zXs G μ x d da bf sb sba n Z σ) (hok : zok μ) (k : zOld (zXw x d da bf sb sba) μ ν) : ∀ s r, zHs μ (zXo x d da bf sb sba Z) s r → zHs ν (zXo x d da bf sb sba Z) s r := fun _ _ q => q.kX hok (h.xt hok) k (fun _ _ q => q.le)
theorem zXv.kp {X : Nat → Prop} {o : Option (Nat → Int32)} (h : zXv μ X x o) (e : zfr ν 1 x = zfr μ 1 x) (k : ∀ s r, zHs μ X s r → zHs ν X s r) : zXv ν X x o := by
  cases o with
  | none => exact e.trans h
  | some r => obtain ⟨s, q1, q2⟩ := h; exact ⟨s, e.trans q1, k s r q2⟩
/-- behind writes to the own objects -/
theorem zXs.go {σ' : ZS} (h : zXs G μ x d da bf sb sba n Z σ) (hok : zok μ) (k : zOld (zXw x d da bf sb sba) μ ν) (hf : ∀ f, f = 2 ∨ f = 3 ∨ f = 7 → zfr ν f x = zfr μ f x) (hr : ∃ s, zfr ν 0 x = (2, 0, s) ∧ zHs ν (zXo x d da bf sb sba Z) s (aR σ')) (hv : zXv ν (zXo x d da bf sb sba Z) x (aSv σ')) (hq : (∃ h ps, zDq ν d da 10 h ps ∧ zPs ν (zXo x d da bf sb sba Z) ps (aPa σ')) ∧ (aPa σ').length ≤ 8) (hb : (aBu σ').length ≤ 900 ∧ zfi ν 4 x = nI (aBu σ').length ∧ ∀ k, k < (aBu σ').length → zai ν bf k = sB ((aBu σ').getD k 0) ∧ (aBu σ').getD k 0 < 256) (he : zfi ν 5 x = aEc σ' ∧ zfi ν 6 x = aEp σ') (ho : zSb ν sb sba n (aOu σ')) : zXs G ν x d da bf sb sba n Z σ' := by
  have hxt := h.xt hok
  obtain ⟨⟨h1, h2, h3, h4, h5, h6, h7⟩, hI, -⟩ := h
  exact ⟨⟨by rw [k.1.2.2 x h2]; exact h1, Nat.lt_of_lt_of_le h2 k.1.1, (hf 2 (by omega)).trans h3, (hf 3 (by omega)).trans h4, (hf 7 (by omega)).trans h5, h6, fun a q => ⟨Nat.lt_of_lt_of_le (h7 a q).1 k.1.1, by rw [k.1.2.2 a (h7 a q).1]; exact (h7 a q).2⟩⟩, hI.old hok (fun a ha q => hxt a ha q.le) k, hr, hv, hq, hb, he, ho⟩
/-- the state that the component holds -/
theorem zXs.st (h : zXs G μ x d da bf sb sba n Z σ) (hg : sGd (aR σ) K V po D) : ∃ (s lo hi F fg el ear vl var ds dm sm : Nat) (ea va ta sa : Nat → Nat), zfr μ 0 x = (2, 0, s) ∧ zSta μ lo hi s (aR σ) K V F fg el ear vl var ds dm sm ea va ta sa ∧ hi ≤ zsz μ ∧ zNs μ (zXo x d da bf sb sba Z) hi K V ea va (aR σ) ∧ ∀ a, zXo x d da bf sb sba Z a → (a < lo ∨ hi ≤ a) ∧ a ≠ fg := by
  obtain ⟨-, -, ⟨s0, hs0, lo, hi, K0, V0, F, fg, el, ear, vl, var, ds, dm, sm, ea, va, ta, sa, b1, b2, b3, b4⟩, -⟩ := h
  obtain ⟨gb, ⟨hK, hV⟩, -⟩ := hg.1
  have hc := b1.1.2.1
  have e1 : K0 = K := (nI_eq (by omega) (by omega)).mp (hc.1.symm.trans hK)
  have e2 : V0 = V := (nI_eq (by omega) (by omega)).mp (hc.2.1.symm.trans hV)
  subst e1; subst e2
  exact ⟨s0, lo, hi, F, fg, el, ear, vl, var, ds, dm, sm, ea, va, ta, sa, hs0, b1, b2, b3, b4⟩
/-- the state is kept, another takes its place -/
theorem C_xRecord {s : Nat} {r' : Nat → Int32} (h : zXs G μ x d da bf sb sba n Z σ) (hs : zHs μ (zXo x d da bf sb sba Z) s r') (k : ∀ ν, zXs G ν x d da bf sb sba n Z (aOp σ r') → zG (zXw x d da bf sb sba) 0 0 μ ν → Q none ν) : Call G Y_X1_record [vP (1, 0, x), vP (2, 0, s)] μ Q E := by
  refine Call.zo fun hok _ => ?_
  have hxt := h.xt hok
  obtain ⟨t1, t2, t3, t4, t5⟩ := h.tg hok
  have hne := h.ne hok
  obtain ⟨⟨h1, h2, h3, h4, h5, h6, h7⟩, hI, ⟨s0, hs0, hs1⟩, hv, ⟨⟨hh, ps, hq, hp⟩, hl⟩, ⟨b1, b2, b3⟩, ⟨e1, e2⟩, ho⟩ := id h
  have hpl := hp.len
  have fin : ∀ (ν : ZM) (hh' : Nat) (ps' : List ZP) (rs' : List (Nat → Int32)), zG (fun a => a = d ∨ a = da) 0 0 μ ν → zDq ν d da 10 hh' ps' → zPs μ (zXo x d da bf sb sba Z) ps' rs' → rs'.length < 8 → sKeep (aPa σ) (aR σ) = rs' ++ [aR σ] → ∃ a2, zfr ν 2 x = (12, 0, a2) ∧ ∃ a3, zfr ν 0 x = (2, 0, a3) ∧ Call G Y_J31_addLast [vP (12, 0, a2), vP (2, 0, a3)] ν (rV fun ν2 => Q none (zFr ν2 0 x (2, 0, s))) (fun q ν => zkc q.1 = true ∧ E q ν) := by
    intro ν hh' ps' rs' g hq' hp' hl' hk
    have nx : ¬ (x = d ∨ x = da) := by omega
    have sx : zsame μ ν x := g.same h2 nx
    refine ⟨d, (sx.2.1 _).trans h3, s0, (sx.2.1 _).trans hs0, C_dqAdd hq' (by rw [hp'.len]; omega) (by show (2 : Nat) ≠ 0; decide) rfl fun ν2 g2 hq2 => ⟨rfl, ?_⟩⟩
    have g12 := g.tr g2
    have sx2 : zsame μ ν2 x := g12.same h2 nx
    have gT : zG (zXw x d da bf sb sba) 0 0 μ (zFr ν2 0 x (2, 0, s)) := (g12.mono (fun a _ q => Or.inr (q.imp id Or.inl)) (Nat.le_refl _) (Nat.le_refl _)).tr (zG.fr (W := zXw x d da bf sb sba) (f := 0) (v := (2, 0, s)) (Or.inl rfl))
    have kO : zOld (zXw x d da bf sb sba) μ (zFr ν2 0 x (2, 0, s)) := zOld.of gT hok (fun a ha q => hxt a ha q.le) (fun _ _ q => q)
    have KH := h.hk hok kO
    have sbf : zsame μ ν2 bf := g12.same t3.2 (by omega)
    have ssb : zsame μ (zFr ν2 0 x (2, 0, s)) sb := (g12.same t4.2 (by omega)).trans (zsame_zFr (by omega) _)
    have ssba : zsame μ (zFr ν2 0 x (2, 0, s)) sba := (g12.same t5.2 (by omega)).trans (zsame_zFr (by omega) _)
    refine k _ (h.go hok kO (fun f hf => ?_) ⟨s, by rw [zfr_zFr, if_pos ⟨rfl, rfl⟩], KH s r' hs⟩ (hv.kp ?_ KH) ⟨⟨hh', ps' ++ [(2, 0, s0)], hq2.kp (zsame_zFr (by omega) _) (zsame_zFr (by omega) _), ?_⟩, ?_⟩ ⟨b1, (sx2.1 _).trans b2, fun j hj => ⟨(sbf.2.2.1 j).trans (b3 j hj).1, (b3 j hj).2⟩⟩ ⟨(sx2.1 _).trans e1, (sx2.1 _).trans e2⟩ (ho.kp ssb.c ssba.c)) gT
    · rw [zfr_zFr, if_neg (by omega)]; exact sx2.2.1 f
    · rw [zfr_zFr, if_neg (by omega)]; exact sx2.2.1 1
    · show zPs _ _ _ (sKeep (aPa σ) (aR σ))
      rw [hk]
      exact (hp'.kp KH).snoc (KH s0 _ hs1)
    · show (sKeep (aPa σ) (aR σ)).length ≤ 8
      rw [hk, List.length_append]; simp; omega
  refine S_X1_record ⟨d, h3, C_dqSize hq ⟨_, rfl, fun h8 => ?_, fun h8 => ?_⟩⟩
  · have hne : (aPa σ).length ≠ 8 := fun q => h8 (by rw [hpl, q]; rfl)
    refine fin μ hh ps (aPa σ) ((zG.rf _ _)) hq hp (by omega) ?_
    unfold sKeep; rw [if_neg hne]
  · have h8' : ps.length = 8 := (nI_eq (b := 8) (by omega) (by omega)).mp h8
    cases ps with
    | nil => cases h8'
    | cons p ps =>
      cases hc : aPa σ with
      | nil => rw [hc] at hpl; cases hpl
      | cons r rs =>
        rw [hc] at hp
        obtain ⟨⟨s1, rfl, -⟩, hp2⟩ := hp
        refine ⟨d, h3, C_dqFirst hq fun ν g hq1 => ⟨_, rfl, _, rfl, fin ν _ ps rs g hq1 hp2 ?_ ?_⟩⟩
        · rw [← hp2.len]; have : ps.length + 1 = 8 := h8'; omega
        · unfold sKeep; rw [hc, if_pos (by rw [← hc, ← hpl]; exact h8')]; rfl
/-- an operation done on a copy; or an exception -/
theorem C_xPerform {p : ZP} {ok : Prop} {r' : Nat → Int32} {v : Int32} {c e : Nat} (hg7 : (zgS G 7).1 ≠ 0) (h : zXs G μ x d da bf sb sba n Z σ) (hg : sGd (aR σ) K V po D) (hn : ok → nmK (aR σ) r')
    (hop : ∀ (ν : ZM) (s F fg el ear vl var ds dm sm : Nat) (ea va ta sa : Nat → Nat) (Q' : Option ZV → ZM → Prop) (E' : ZP → ZM → Prop), zok ν → zext μ ν → (∀ a, a < zsz μ → zsmC μ ν a) → zIc G ν → zSta ν (zsz μ) (zsz ν) s (aR σ) K V F fg el ear vl var ds dm sm ea va ta sa →
      (ok → ∀ ρ, zSta ρ (zsz μ) (zsz ρ) s r' K V F fg el ear vl var ds dm sm ea va ta sa → zGt (zsz μ) c e sm dm ν ρ → zIc G ρ → Q' (some (vI v)) ρ) → (¬ ok → zIse ν E') → CallLam G p (2, 0, s) 15 ν Q' E')
    (k : ok → ∀ ν, zXs G ν x d da bf sb sba n Z (aOp σ r') → zOld (zXw x d da bf sb sba) μ ν → zsz ν ≤ zsz μ + (630 + c) → zsl ν ≤ zsl μ + (2060 + e) → Q (some (vI v)) ν)
    (kx : ¬ ok → ∀ ν a, zXs G ν x d da bf sb sba n Z σ → zOld (zXw x d da bf sb sba) μ ν → zsz ν ≤ zsz μ + 631 → zsl ν ≤ zsl μ + 2066 → E (25, 0, a) ν) : Call G Y_X1_perform [vP (1, 0, x), vP p] μ Q E := by
  refine Call.zo fun hok _ => ?_
  have hlt := h.lt hok
  have hI := h.2.1
  obtain ⟨s0, lo, hi, F, fg, el, ear, vl, var, ds, dm, sm, ea, va, ta, sa, hs0, b1, b2, b3, b4⟩ := h.st hg
  obtain ⟨gb, ⟨hK, hV⟩, -⟩ := id hg.1
  have hrg := hg.2.1
  obtain ⟨t1, t2, t3, -⟩ := b1.tg hok
  have hdt : (ztg μ dm).1 = 15 := by rw [(hok.ref b1.2.2.2.1.2.1 (by decide) (by decide)).2]
  refine nS_X1_perform ⟨s0, hs0, Call.zq (C_sCopy b2 hg7 b1 (fun e he => (b3.1 e he).1.1) (fun v hv => (b3.2 v hv).1.1) fun σ1 el' ear' vl' var' ds' dm' sm' eb vb tb sb' c1 c2 c3 c4 c5 okσ _ => ⟨_, rfl, _, rfl, ?_⟩)⟩
  have o1 : zOld (fun _ => False) μ σ1 := zOld.cp c4 c5 hok hdt t3
  have I1 := hI.old hok (X := fun _ => False) (fun _ _ q => q.elim) o1
  have T1 := c1.tls
  refine hop σ1 _ F fg el' ear' vl' var' ds' dm' sm' eb vb tb sb' _ _ okσ o1.1 (fun a ha => o1.2.1 a ha id) I1 c1 (fun hk ρ r1 r2 r3 => ⟨_, rfl, ?_⟩) (fun hk => ?_)
  · have T2 := r1.tls
    have o2 : zOld (fun _ => False) μ ρ := o1.op okσ (Nat.le_refl _) r2.1
    have x2 := h.kp hok (o2.mono (fun _ _ q => q.elim))
    have hnm := hn hk
    refine Call.zo fun okρ _ => C_xRecord x2 (⟨zsz μ, zsz ρ, K, V, F, fg, el', ear', vl', var', ds', dm', sm', eb, vb, tb, sb', r1, Nat.le_refl _, ⟨fun e he => ?_, fun v hv => ?_⟩, fun a ha => ⟨Or.inl (hlt a ha), (b4 a ha).2⟩⟩ : zHs ρ (zXo x d da bf sb sba Z) (zsz μ) r') fun τ y1 y2 => ⟨rfl, k hk τ y1 ?_ ?_ ?_⟩
    · have q := ((b3.1 e he).kp (ν := ρ) (fun a ha hx => o2.2.1 a (by omega) id)).up (C := zsz ρ) (by have := o2.1.1; omega)
      rw [r2.1.2.2.2.2 21 (eb e) (Or.inl rfl) (c1.2.1.2.2.1 e he).2, c2 e he, sName_cg (fun u hu => hnm.1 e u (by omega) hu) (hrg.1 e he).2.2]; exact q
    · have q := ((b3.2 v hv).kp (ν := ρ) (fun a ha hx => o2.2.1 a (by omega) id)).up (C := zsz ρ) (by have := o2.1.1; omega)
      rw [r2.1.2.2.2.2 30 (vb v) (Or.inr rfl) (c1.2.2.1.2.2.1 v hv).1.2, c3 v hv, sName_cg (fun u hu => hnm.2 v u (by omega) hu) (hrg.2.1 v hv).2.2]; exact q
    · exact (o2.mono (Y := zXw x d da bf sb sba) (fun _ _ q => q.elim)).trans (zOld.of y2 okρ (fun a ha q => x2.xt okρ a ha q.le) (fun _ _ q => q)) (fun _ _ q => q)
    · have := y2.2.1; have := r2.1.2.1; have := c5.2.1; omega
    · have := y2.2.2.1; have := r2.1.2.2.1; have := c5.2.2.1; have := r2.2; omega
  · have gN : zG (fun _ => False) 1 6 σ1 (zNew σ1 25 0 6) := zG.nw
    have o2 : zOld (fun _ => False) μ (zNew σ1 25 0 6) := o1.trans (zOld.nw (X := fun _ => False) gN okσ) (fun _ _ q => q)
    refine ⟨rfl, kx hk _ _ (h.kp hok (o2.mono (fun _ _ q => q.elim))) (o2.mono (fun _ _ q => q.elim)) ?_ ?_⟩
    · have := gN.2.1; have := c5.2.1; omega
    · have := gN.2.2.1; have := c5.2.2.1; omega
end ZJ
