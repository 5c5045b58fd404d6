set_option maxRecDepth 100000
/-! THE COMPONENT, 47: the buffer, the output's bytes -/
theorem i8_and (x : Int32) : (x &&& 255).toInt8 = x.toInt8 := by
  apply Int8.toBitVec_inj.mp
  apply BitVec.eq_of_getLsbD_eq
  intro i hi
  have : i = 0 ∨ i = 1 ∨ i = 2 ∨ i = 3 ∨ i = 4 ∨ i = 5 ∨ i = 6 ∨ i = 7 := by omega
  rcases this with rfl | rfl | rfl | rfl | rfl | rfl | rfl | rfl <;> simp [Int32.toBitVec_toInt8, BitVec.getLsbD_signExtend]
theorem sB_eq (x : Int32) : (x.toInt8.toInt32).toInt8.toInt32 = x.toInt8.toInt32 := by rw [Int8.toInt8_toInt32]
theorem sB_x1B (z : Int32) (s : Nat) : (((z >>> (nI s &&& 31)).toInt8.toInt32).toInt8.toInt32) = sB (x1B z s) := by
  rw [sB_eq]
  unfold sB
  rw [← (x1B_ok z s).1, i8_and]
/-- the component's buffer -/
def zXb (μ : ZM) (x bf : Nat) (l : List Nat) : Prop := l.length ≤ 900 ∧ zfi μ 4 x = nI l.length ∧ ∀ k, k < l.length → zai μ bf k = sB (l.getD k 0) ∧ l.getD k 0 < 256
/-- writes to the buffer -/
def zBw (x bf : Nat) (μ ν : ZM) : Prop := zG (fun a => a = x ∨ a = bf) 0 0 μ ν ∧ (∀ f, zfr ν f x = zfr μ f x) ∧ ∀ f, f ≠ 4 → zfi ν f x = zfi μ f x
theorem zBw.rf (x bf : Nat) (μ : ZM) : zBw x bf μ μ := ⟨zG.rf _ _, fun _ => rfl, fun _ _ => rfl⟩
theorem zBw.trans {x bf : Nat} {μ ν ρ : ZM} (h : zBw x bf μ ν) (k : zBw x bf ν ρ) : zBw x bf μ ρ := ⟨h.1.tr k.1, fun f => (k.2.1 f).trans (h.2.1 f), fun f hf => (k.2.2 f hf).trans (h.2.2 f hf)⟩
theorem zXb.put {μ : ZM} {x bf c : Nat} {l : List Nat} (h : zXb μ x bf l) (hl : l.length < 900) (hc : c < 256) : zXb (zFi (zAi μ bf l.length (sB c)) 4 x (nI (l.length + 1))) x bf (l ++ [c]) ∧ zBw x bf μ (zFi (zAi μ bf l.length (sB c)) 4 x (nI (l.length + 1))) := by
  refine ⟨⟨by rw [List.length_append]; simp; omega, by rw [zfi_zFi, if_pos ⟨rfl, rfl⟩, List.length_append]; rfl, fun k hk => ?_⟩, (zG.ai (W := fun a => a = x ∨ a = bf) (Or.inr rfl)).tr (zG.fi (Or.inl rfl)), fun _ => rfl, fun f hf => by rw [zfi_zFi, if_neg (fun q => hf q.1)]; rfl⟩
  rw [List.length_append] at hk
  simp only [List.length_cons, List.length_nil] at hk
  rw [zai_zFi, zai_zAi, snoc_at]
  by_cases q : k = l.length
  · rw [if_pos ⟨rfl, q⟩, if_pos q]; exact ⟨rfl, hc⟩
  · rw [if_neg (fun t => q t.2), if_neg q]; exact h.2.2 k (by omega)
section ZJ
variable {G : ZG} {μ ν : ZM} {Q : Option ZV → ZM → Prop} {E : ZP → ZM → Prop} {x d da bf sb sba n K V D : Nat} {po : Nat → Nat} {Z : Nat → Prop} {σ : ZS} {z z1 z2 z3 z4 z5 : Int32} {l : List Nat}
/-- one word -/
theorem L_xWord {w i : Nat} (hi : i < 5) (hz : zai ν w i = z) (h3 : zfr ν 3 x = (202, 900, bf)) (b : zXb ν x bf l) (hl : l.length + 4 ≤ 900) (k : ∀ τ, zXb τ x bf (l ++ x4B z) → zBw x bf ν τ → Wp G Y_X1_appendWords 8 [(0, vP (1, 0, x)), (2, vP (200, 5, w)), (3, vI (nI 5)), (4, vI (nI (i + 1)))] [] τ Q E) : Wp G Y_X1_appendWords 8 [(0, vP (1, 0, x)), (2, vP (200, 5, w)), (3, vI (nI 5)), (4, vI (nI i))] [] ν Q E := by
  refine B_X1_appendWords_8 ⟨fun q => absurd (nI_lt hi (by omega)) q, fun _ => ⟨i, zix.eq rfl hi (by omega), _, hz, ?_⟩⟩
  have step : ∀ (s : Nat) (t : Int32) (l' : List Nat) (τ : ZM), ¬ nI s < 0 → nI s + (-8) = t → zBw x bf ν τ → zXb τ x bf l' → l'.length < 900 → (∀ ρ, zXb ρ x bf (l' ++ [x1B z s]) → zBw x bf ν ρ → Wp G Y_X1_appendWords 24 [(0, vP (1, 0, x)), (2, vP (200, 5, w)), (3, vI (nI 5)), (4, vI (nI i)), (5, vI z), (6, vI t)] [] ρ Q E) → Wp G Y_X1_appendWords 24 [(0, vP (1, 0, x)), (2, vP (200, 5, w)), (3, vI (nI 5)), (4, vI (nI i)), (5, vI z), (6, vI (nI s))] [] τ Q E := by
    intro s t l' τ e1 e2 hw hb hl' kk
    refine B_X1_appendWords_24 ⟨fun u => absurd u e1, fun _ => ⟨900, bf, (hw.2.1 3).trans h3, _, hb.2.1, l'.length, zix.eq rfl (by omega) (by omega), ?_⟩⟩
    rw [sB_x1B, e2, nI_1]
    obtain ⟨p1, p2⟩ := hb.put hl' (x1B_ok z s).2
    exact kk _ p1 (hw.trans p2)
  have s4 : l ++ [x1B z 24] ++ [x1B z 16] ++ [x1B z 8] ++ [x1B z 0] = l ++ x4B z := by unfold x4B; simp
  refine step 24 (nI 16) l ν (by decide) (by decide) (zBw.rf _ _ _) b (by omega) fun ρ1 b1 w1 => ?_
  refine step 16 (nI 8) _ _ (by decide) (by decide) w1 b1 (by rw [List.length_append]; simp; omega) fun ρ2 b2 w2 => ?_
  refine step 8 (nI 0) _ _ (by decide) (by decide) w2 b2 (by rw [List.length_append, List.length_append]; simp; omega) fun ρ3 b3 w3 => ?_
  refine step 0 (-8) _ _ (by decide) (by decide) w3 b3 (by rw [List.length_append, List.length_append, List.length_append]; simp; omega) fun ρ4 b4 w4 => ?_
  rw [s4] at b4
  refine B_X1_appendWords_24 ⟨fun _ => ?_, fun u => absurd (by decide) u⟩
  rw [nI_1]
  exact k ρ4 b4 w4
/-- another buffer -/
theorem zXs.buf (h : zXs G μ x d da bf sb sba n Z σ) (hok : zok μ) (hb : zXb ν x bf l) (w : zBw x bf μ ν) : zXs G ν x d da bf sb sba n Z (aBuf σ l) ∧ zOld (zXw x d da bf sb sba) μ ν := by
  have hxt := h.xt hok
  have hne := h.ne hok
  obtain ⟨t1, t2, t3, t4, t5⟩ := h.tg hok
  obtain ⟨⟨h1, h2, h3, h4, h5, h6, h7⟩, hI, ⟨s0, hs0, hs1⟩, hv, ⟨⟨hh, ps, hq, hp⟩, hl⟩, -, ⟨e1, e2⟩, ho⟩ := id h
  have kO : zOld (zXw x d da bf sb sba) μ ν := zOld.of w.1 hok (fun a ha q => hxt a ha q.le) (fun a _ q => q.elim Or.inl (fun t => Or.inr (Or.inr (Or.inr (Or.inl t)))))
  have KH := h.hk hok kO
  exact ⟨h.go hok kO (fun f _ => w.2.1 f) ⟨s0, (w.2.1 0).trans hs0, KH _ _ hs1⟩ (hv.kp (w.2.1 1) KH) ⟨⟨hh, ps, hq.kp (w.1.same t1.2 (by omega)) (w.1.same t2.2 (by omega)), hp.kp KH⟩, hl⟩ hb ⟨(w.2.2 5 (by decide)).trans e1, (w.2.2 6 (by decide)).trans e2⟩ (ho.kp (w.1.same t4.2 (by omega)).c (w.1.same t5.2 (by omega)).c), kO⟩
theorem zXd.gen {σ' : ZS} {sba' n' : Nat} (h : zXs G μ x d da bf sb sba n Z σ) (hok : zok μ) (hν : zXs G ν x d da bf sb sba' n' Z σ') (k : zOld (zXw x d da bf sb sba) μ ν) (hc : zsz ν + 2200 * (aBu σ').length ≤ zsz μ + 2200 * (aBu σ).length + 50000) (hd : zsl ν + 8400 * (aBu σ').length ≤ zsl μ + 8400 * (aBu σ).length + 228500) : zXd G x d da bf sb Z σ σ' μ ν := by
  exact ⟨⟨_, _, hν⟩, k.1, h.own hok k, hc, hd⟩
theorem C_xappend (h : zXs G μ x d da bf sb sba n Z σ) (kt : (aBu σ).length + 20 ≤ 900 → zXe G x d da bf sb Z σ μ Q (aBuf σ (aBu σ ++ (x4B z1 ++ (x4B z2 ++ (x4B z3 ++ (x4B z4 ++ x4B z5)))))) (vI (nI ((aBu σ).length + 20)))) (k1 : ¬ (aBu σ).length + 20 ≤ 900 → zXt G x d da bf sb Z σ μ E σ 25) : Call G Y_X1_append [vP (1, 0, x), vI z1, vI z2, vI z3, vI z4, vI z5] μ Q E := by
  refine Call.zo fun hok _ => ?_
  obtain ⟨⟨h1, h2, h3, h4, h5, h6, h7⟩, -, -, -, -, ⟨b1, b2, b3⟩, -⟩ := id h
  obtain ⟨t1, t2, t3, t4, t5⟩ := h.tg hok
  have e20 : nI (aBu σ).length + 20 = nI ((aBu σ).length + 20) := nI_add _ 20
  refine S_X1_append ⟨_, b2, fun hgt => ?_, fun hle => ?_⟩
  · rw [e20] at hgt
    have : 900 < (aBu σ).length + 20 := (nI_ltI (a := 900) (by omega) (by omega)).mp hgt
    exact B_X1_append_18 (S_X1_checkState ⟨fun t => absurd rfl t, fun _ => ⟨rfl, (k1 (by omega)).nw h hok⟩⟩)
  · rw [e20] at hle
    have hl : (aBu σ).length + 20 ≤ 900 := by
      apply Decidable.byContradiction
      intro t
      exact hle (show nI 900 < _ from nI_lt (by omega) (by omega))
    have x4 : ∀ z, (x4B z).length = 4 := fun _ => rfl
    refine B_X1_append_18 (S_X1_checkState ⟨fun _ => ⟨rfl, by decide, by decide, by decide, by decide, by decide, ?_⟩, fun t => absurd t (by decide)⟩)
    have g : zG (fun _ => False) 1 5 μ (zAi (zAi (zAi (zAi (zAi (zNew μ 200 5 5) (zsz μ) 0 z1) (zsz μ) 1 z2) (zsz μ) 2 z3) (zsz μ) 3 z4) (zsz μ) 4 z5) := zG.trN (W := fun _ => False) (gLam2 μ 200 5 5 z1 z2) (((zG.ai (Or.inr (Nat.le_refl _))).tr (zG.ai (Or.inr (Nat.le_refl _)))).tr (zG.ai (Or.inr (Nat.le_refl _))))
    have a0 : zai (zAi (zAi (zAi (zAi (zAi (zNew μ 200 5 5) (zsz μ) 0 z1) (zsz μ) 1 z2) (zsz μ) 2 z3) (zsz μ) 3 z4) (zsz μ) 4 z5) (zsz μ) 0 = z1 := by simp [zai_zAi]
    have a1 : zai (zAi (zAi (zAi (zAi (zAi (zNew μ 200 5 5) (zsz μ) 0 z1) (zsz μ) 1 z2) (zsz μ) 2 z3) (zsz μ) 3 z4) (zsz μ) 4 z5) (zsz μ) 1 = z2 := by simp [zai_zAi]
    have a2 : zai (zAi (zAi (zAi (zAi (zAi (zNew μ 200 5 5) (zsz μ) 0 z1) (zsz μ) 1 z2) (zsz μ) 2 z3) (zsz μ) 3 z4) (zsz μ) 4 z5) (zsz μ) 2 = z3 := by simp [zai_zAi]
    have a3 : zai (zAi (zAi (zAi (zAi (zAi (zNew μ 200 5 5) (zsz μ) 0 z1) (zsz μ) 1 z2) (zsz μ) 2 z3) (zsz μ) 3 z4) (zsz μ) 4 z5) (zsz μ) 3 = z4 := by simp [zai_zAi]
    have a4 : zai (zAi (zAi (zAi (zAi (zAi (zNew μ 200 5 5) (zsz μ) 0 z1) (zsz μ) 1 z2) (zsz μ) 2 z3) (zsz μ) 3 z4) (zsz μ) 4 z5) (zsz μ) 4 = z5 := by simp [zai_zAi]
    have hz : zsz (zAi (zAi (zAi (zAi (zAi (zNew μ 200 5 5) (zsz μ) 0 z1) (zsz μ) 1 z2) (zsz μ) 2 z3) (zsz μ) 3 z4) (zsz μ) 4 z5) = zsz μ + 1 := rfl
    refine Call.zo fun okν _ => ?_
    generalize zAi (zAi (zAi (zAi (zAi (zNew μ 200 5 5) (zsz μ) 0 z1) (zsz μ) 1 z2) (zsz μ) 2 z3) (zsz μ) 3 z4) (zsz μ) 4 z5 = ν at g a0 a1 a2 a3 a4 hz okν ⊢
    have oν : zOld (zXw x d da bf sb sba) μ ν := zOld.nw g hok
    have hν := h.kp hok (zOld.nw g hok)
    obtain ⟨⟨u1, u2, u3, u4, -⟩, -, -, -, -, c0, -⟩ := id hν
    have sm : ∀ τ, zBw x bf ν τ → ∀ i, zai τ (zsz μ) i = zai ν (zsz μ) i := fun τ w i => (w.1.same (by omega) (by omega)).2.2.1 i
    have h3' : ∀ τ, zBw x bf ν τ → zfr τ 3 x = (202, 900, bf) := fun τ w => (w.2.1 3).trans u4
    have ln : ∀ (l : List Nat) (z : Int32), (l ++ x4B z).length = l.length + 4 := fun l z => by rw [List.length_append, x4]
    refine S_X1_appendWords (L_xWord (i := 0) (by decide) a0 u4 c0 (by omega) fun τ1 b1 w1 => L_xWord (i := 1) (by decide) ((sm τ1 w1 1).trans a1) (h3' τ1 w1) b1 (by rw [ln]; omega) fun τ2 b2 w2' => ?_)
    have w2 := w1.trans w2'
    refine L_xWord (i := 2) (by decide) ((sm τ2 w2 2).trans a2) (h3' τ2 w2) b2 (by rw [ln, ln]; omega) fun τ3 b3 w3' => ?_
    have w3 := w2.trans w3'
    refine L_xWord (i := 3) (by decide) ((sm τ3 w3 3).trans a3) (h3' τ3 w3) b3 (by rw [ln, ln, ln]; omega) fun τ4 b4 w4' => ?_
    have w4 := w3.trans w4'
    refine L_xWord (i := 4) (by decide) ((sm τ4 w4 4).trans a4) (h3' τ4 w4) b4 (by rw [ln, ln, ln, ln]; omega) fun τ5 b5 w5' => ?_
    have w5 := w4.trans w5'
    have e : aBu σ ++ x4B z1 ++ x4B z2 ++ x4B z3 ++ x4B z4 ++ x4B z5 = aBu σ ++ (x4B z1 ++ (x4B z2 ++ (x4B z3 ++ (x4B z4 ++ x4B z5)))) := by simp
    rw [e] at b5
    have el : (aBu σ ++ (x4B z1 ++ (x4B z2 ++ (x4B z3 ++ (x4B z4 ++ x4B z5))))).length = (aBu σ).length + 20 := by simp [x4]
    obtain ⟨y1, y2⟩ := hν.buf okν b5 w5
    refine B_X1_appendWords_8 ⟨fun _ => ⟨rfl, _, b5.2.1, ?_⟩, fun q => absurd q (nI_nlt (by omega) (by omega))⟩
    rw [el]
    refine kt hl τ5 (zXd.gen h hok y1 (oν.trans y2 (fun _ _ q => q)) ?_ ?_)
    · show _ + 2200 * (aBu σ ++ (x4B z1 ++ (x4B z2 ++ (x4B z3 ++ (x4B z4 ++ x4B z5))))).length ≤ _
      rw [el]; have := w5.1.2.1; have := g.2.1; omega
    · show _ + 8400 * (aBu σ ++ (x4B z1 ++ (x4B z2 ++ (x4B z3 ++ (x4B z4 ++ x4B z5))))).length ≤ _
      rw [el]; have := w5.1.2.2.1; have := g.2.2.1; omega
theorem C_xtruncate (h : zXs G μ x d da bf sb sba n Z σ) (kt : ∀ m, m ≤ (aBu σ).length → z = nI m → zXe G x d da bf sb Z σ μ Q (aBuf σ ((aBu σ).take m)) (vI (nI m))) (k1 : (∀ m, m ≤ (aBu σ).length → z ≠ nI m) → zXt G x d da bf sb Z σ μ E σ 26) : Call G Y_X1_truncate [vP (1, 0, x), vI z] μ Q E := by
  refine Call.zo fun hok _ => ?_
  obtain ⟨-, -, -, -, -, ⟨b1, b2, b3⟩, -⟩ := id h
  refine S_X1_truncate ⟨_, b2, C_xIn 0 ((aBu σ).length + 1) (by decide) (by rw [Int32.toInt_toInt64, nI_toInt (by omega)]; omega) (fun m _ m2 hz => ⟨_, rfl, S_X1_checkArgument ⟨fun _ => ⟨rfl, ?_⟩, fun t => absurd t (by decide)⟩⟩) (fun hne => ⟨_, rfl, S_X1_checkArgument ⟨fun t => absurd rfl t, fun _ => ⟨rfl, (k1 fun m m1 => hne m (by omega) (by omega) (by omega)).nw h hok⟩⟩⟩)⟩
  have hm : m ≤ (aBu σ).length := by omega
  have el : ((aBu σ).take m).length = m := by rw [List.length_take]; omega
  have hb : zXb (zFi μ 4 x z) x bf ((aBu σ).take m) := by
    refine ⟨by omega, by rw [zfi_zFi, if_pos ⟨rfl, rfl⟩, el]; exact hz, fun k hk => ?_⟩
    rw [el] at hk
    have : ((aBu σ).take m).getD k 0 = (aBu σ).getD k 0 := by simp [List.getD_eq_getElem?_getD, List.getElem?_take, hk]
    rw [this]
    exact b3 k (by omega)
  have w : zBw x bf μ (zFi μ 4 x z) := ⟨zG.fi (Or.inl rfl), fun _ => rfl, fun f hf => by rw [zfi_zFi, if_neg (fun q => hf q.1)]⟩
  obtain ⟨y1, y2⟩ := h.buf hok hb w
  have := kt m hm hz (zFi μ 4 x z) (zXd.gen h hok y1 y2 (by show _ + 2200 * ((aBu σ).take m).length ≤ _; rw [el]; have := w.1.2.1; omega) (by show _ + 8400 * ((aBu σ).take m).length ≤ _; rw [el]; have := w.1.2.2.1; omega))
  rw [hz] at this ⊢
  exact this
theorem C_xoutputByte (h : zXs G μ x d da bf sb sba n Z σ) (kt : ∀ m, m < (aOu σ).length → z = nI m → zXe G x d da bf sb Z σ μ Q σ (vI (nI ((aOu σ).getD m 0)))) (k1 : (∀ m, m < (aOu σ).length → z ≠ nI m) → zXe G x d da bf sb Z σ μ Q σ (vI (-1))) : Call G Y_X1_outputByte [vP (1, 0, x), vI z] μ Q E := by
  refine Call.zo fun hok _ => ?_
  obtain ⟨⟨h1, h2, h3, h4, h5, -⟩, -, -, -, -, -, -, ho⟩ := id h
  have hl : (aOu σ).length ≤ 2000 := by have := ho.2.1; have := ho.2.2.1; omega
  refine S_X1_outputByte ⟨sb, h5, C_sbLen ho ⟨_, rfl, C_xIn 0 (aOu σ).length (by decide) ?_ (fun m _ hm hz => ⟨_, rfl, fun t => absurd t (by decide), fun _ => ⟨sb, h5, C_sbAt hz hm ho ⟨_, rfl, (kt m hm hz).rf h hok⟩⟩⟩) (fun hne => ⟨_, rfl, fun _ => (k1 fun m hm => hne m (by omega) hm (by omega)).rf h hok, fun t => absurd rfl t⟩)⟩⟩
  rcases Nat.eq_zero_or_pos (aOu σ).length with q | q
  · rw [q]; decide
  · exact nI_m1L q (by omega)
end ZJ
