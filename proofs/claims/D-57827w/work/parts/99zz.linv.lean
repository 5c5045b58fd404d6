set_option maxRecDepth 100000
/-! THE LAW, 3: what holds between the calls -/
/-- the model's addresses -/
def zZm (m a : Nat) : Prop := m ≤ a ∧ a ≤ m + 12
/-- the constants' Strings, ahead of all that is made -/
def zKt (G : ZG) (ν : ZM) (B : Nat) : Prop := zKs G ν B ∧ B ≤ zsz ν ∧ (∀ a, a < B → ¬ zxo (ztg ν a).1) ∧ zfi ν 142 (zgS G 107).2.2 = 0 ∧ ¬ zfi ν 143 (zgS G 107).2.2 = 0
section ZJ
variable {G : ZG} {μ ν ρ : ZM} {x d da bf sb sba n m o t0 r0 B : Nat} {σ σ' σx σm : ZS} {Q : Option ZV → ZM → Prop} {E : ZP → ZM → Prop} {v kk z4 : Int32} {D i : Nat}
theorem zKt.kp (h : zKt G μ B) (hx : zext μ ν) (k : ∀ a, a < B → zsmC μ ν a) : zKt G ν B := by
  obtain ⟨h1, h2, h3, h4, h5⟩ := h
  have k7 := k _ (h1 (107, []) (by unfold kTx; simp)).2.1
  exact ⟨fun y hy => (h1 y hy).kpB k, Nat.le_trans h2 hx.1, fun a ha => by rw [hx.2.2 a (Nat.lt_of_lt_of_le ha h2)]; exact h3 a ha, (k7.1 _).trans h4, by rw [k7.1]; exact h5⟩
theorem zKt.ks (h : zKt G μ B) (hB : B ≤ m) : zKs G μ m := fun y hy => (zNa.up (X := fun _ => False) ⟨h.1 y hy, id, id⟩ hB).1
theorem zKt.kx (h : zKt G μ B) (hX : zXs G μ x d da bf sb sba n (zZm m) σ) (hok : zok μ) (hB : B ≤ m) : zKx G μ B (zXo x d da bf sb sba (zZm m)) := by
  obtain ⟨t1, t2, t3, t4, t5⟩ := hX.tg hok
  have h1 := hX.1.1
  refine ⟨h.1, h.2.1, fun a ha => ?_, h.2.2.2⟩
  apply Decidable.byContradiction
  intro hn
  have hB' := h.2.2.1 a (by omega)
  unfold zxo at hB'
  rcases ha with q | q | q | q | q | q | q
  · rw [q] at hB'; omega
  · rw [q] at hB'; omega
  · rw [q] at hB'; omega
  · rw [q] at hB'; omega
  · rw [q] at hB'; omega
  · rw [q] at hB'; omega
  · have := q.1; omega
theorem zMs.kp (h : zMs μ m σ) (k : ∀ a, zZm m a → zsmC μ ν a) : zMs ν m σ := by
  obtain ⟨⟨h1, h2, h3, h4, h5, h6, h7, h8, h9, h10, h11, h12⟩, g2, g3, g4, g5, ⟨g6, g7⟩, g8⟩ := h
  have k0 := k m ⟨Nat.le_refl _, by omega⟩
  have ka : ∀ j, j ≤ 12 → zai ν (m + j) = zai μ (m + j) := fun j hj => funext (k (m + j) ⟨by omega, by omega⟩).2.2.1
  have kr := fun f (h1 : f ≠ 105) (h2 : f ≠ 108) => k0.2.1 f h1 h2
  exact ⟨⟨(kr _ (by decide) (by decide)).trans h1, (kr _ (by decide) (by decide)).trans h2, (kr _ (by decide) (by decide)).trans h3, (kr _ (by decide) (by decide)).trans h4, (kr _ (by decide) (by decide)).trans h5, (kr _ (by decide) (by decide)).trans h6, (kr _ (by decide) (by decide)).trans h7, (kr _ (by decide) (by decide)).trans h8, (kr _ (by decide) (by decide)).trans h9, (kr _ (by decide) (by decide)).trans h10, (kr _ (by decide) (by decide)).trans h11, (kr _ (by decide) (by decide)).trans h12⟩, (ka 1 (by omega)).trans g2, g3.same (k0.1 _) (ka 2 (by omega)), g4.same (k0.1 _) (ka 5 (by omega)), g5.same (k0.1 _) (ka 10 (by omega)), ⟨(k0.1 _).trans g6, (k0.1 _).trans g7⟩, g8.same (k0.1 _) (ka 12 (by omega))⟩
/-- what holds between the calls: the component's state is σx, the model's σm -/
def zLv (G : ZG) (x d da bf sb m o r0 B : Nat) (σx σm : ZS) (ν : ZM) : Prop := (∃ sba n, zXs G ν x d da bf sb sba n (zZm m) σx) ∧ zMs ν m σm ∧ zKt G ν B ∧ B ≤ m ∧ ((ztg ν o).1 = 203 ∧ o < zsz ν) ∧ ((ztg ν r0).1 = 209 ∧ r0 < zsz ν)
/-- behind a call of the component -/
theorem zLv.cx (hL : zLv G x d da bf sb m o r0 B σ σm μ) (hd : zXd G x d da bf sb (zZm m) σ σ' μ ν) : zLv G x d da bf sb m o r0 B σ' σm ν ∧ ∀ j, zai ν r0 j = zai μ r0 j := by
  obtain ⟨⟨sba, n, hX⟩, hM, hK, hB, ⟨ho, ho2⟩, ⟨hr, hr2⟩⟩ := hL
  obtain ⟨hX', hx, hs, -⟩ := hd
  refine ⟨⟨hX', hM.kp fun a ha => ?_, hK.kp hx fun a ha => hs a (Nat.lt_of_lt_of_le ha hK.2.1) (hK.2.2.1 a ha), hB, ⟨by rw [hx.2.2 o ho2]; exact ho, Nat.lt_of_lt_of_le ho2 hx.1⟩, ⟨by rw [hx.2.2 r0 hr2]; exact hr, Nat.lt_of_lt_of_le hr2 hx.1⟩⟩, fun j => (hs r0 hr2 (by rw [hr]; unfold zxo; omega)).2.2.1 j⟩
  obtain ⟨q1, q2⟩ := hX.1.2.2.2.2.2.2 a ha
  exact hs a q1 (by unfold zxo; omega)
theorem zAl_C (ν : ZM) (a : Nat) (w : Int64) (b : Nat) : zsmC ν (zAl ν o a w) b := ⟨fun _ => rfl, fun _ _ _ => rfl, fun _ => rfl, fun _ => rfl⟩
/-- the answer is kept -/
theorem zLv.al {w : Int64} (hL : zLv G x d da bf sb m o r0 B σx σm ν) (hok : zok ν) : zLv G x d da bf sb m o r0 B σx σm (zAl ν o 0 w) := by
  obtain ⟨⟨sba, n, hX⟩, hM, hK, hB, ho, hr⟩ := hL
  refine ⟨⟨sba, n, hX.kp hok ⟨zext.rf ν, fun a _ _ => zAl_C ν 0 w a, fun _ _ _ h => h, fun _ _ _ h => h⟩⟩, hM.kp fun a _ => zAl_C ν 0 w a, hK.kp (zext.rf ν) fun a _ => zAl_C ν 0 w a, hB, ho, hr⟩
/-- behind a call of the model -/
theorem zW.gm (hW : zW (zFm m) (zAm m) ν ρ) : zG (zZm m) 0 0 ν ρ := by
  obtain ⟨w1, w2, w3, w4, w5, w6, w7, w8⟩ := hW
  refine ⟨⟨Nat.le_of_eq w1.symm, Nat.le_of_eq w2.symm, fun a _ => by rw [w3]⟩, Nat.le_of_eq w1, Nat.le_of_eq w2, fun a _ hn => ⟨fun f => w7 f a (fun q => hn ?_), fun f => by rw [w4], fun j => w8 a j (fun q => hn ?_), fun j => by rw [w5], fun j => by rw [w6]⟩, fun f a _ _ => by rw [w4]⟩
  · have : a = m := q
    rw [this]; exact ⟨Nat.le_refl _, by omega⟩
  · exact ⟨Nat.le_of_lt q.1, q.2⟩
theorem zLv.cm (hL : zLv G x d da bf sb m o r0 B σ' σ ν) (hok : zok ν) (hm : zMs ρ m σ') (hW : zW (zFm m) (zAm m) ν ρ) : zLv G x d da bf sb m o r0 B σ' σ' ρ := by
  obtain ⟨⟨sba, n, hX⟩, hM, hK, hB, ⟨ho, ho2⟩, ⟨hr, hr2⟩⟩ := hL
  have g := zW.gm hW
  have k : zOld (zZm m) ν ρ := zOld.of g hok (fun a ha q => hX.zt a ha q) (fun _ _ q => q)
  exact ⟨⟨sba, n, hX.kp hok k⟩, hm, hK.kp g.1 fun a ha => k.2.1 a (Nat.lt_of_lt_of_le ha hK.2.1) (fun q => by have := q.1; omega), hB, ⟨by rw [g.1.2.2 o ho2]; exact ho, Nat.lt_of_lt_of_le ho2 g.1.1⟩, ⟨by rw [g.1.2.2 r0 hr2]; exact hr, Nat.lt_of_lt_of_le hr2 g.1.1⟩⟩
/-- a good row; good rows -/
def zGr (D : Nat) (r : Nat → Int32) : Prop := ∃ K V po, sGd r K V po D
def zGs (D : Nat) (σ : ZS) : Prop := zGr D (aR σ) ∧ (∀ r, aSv σ = some r → zGr D r) ∧ ∀ r, r ∈ aPa σ → zGr D r
theorem zGr.le {D' : Nat} {r : Nat → Int32} (h : zGr D r) (hD : D ≤ D') : zGr D' r := by obtain ⟨K, V, po, h⟩ := h; exact ⟨K, V, po, h.le hD⟩
theorem zGs.le {D' : Nat} (h : zGs D σ) (hD : D ≤ D') : zGs D' σ := ⟨h.1.le hD, fun r q => (h.2.1 r q).le hD, fun r q => (h.2.2 r q).le hD⟩
theorem sKeep_mem {l : List (Nat → Int32)} {r y : Nat → Int32} (h : y ∈ sKeep l r) : y ∈ l ∨ y = r := by
  unfold sKeep at h
  rcases List.mem_append.mp h with q | q
  · split at q
    · exact Or.inl (List.mem_of_mem_tail q)
    · exact Or.inl q
  · exact Or.inr (List.mem_singleton.mp q)
theorem zGs.op {r : Nat → Int32} (h : zGs D σ) (hr : zGr (D + 2000) r) : zGs (D + 2000) (aOp σ r) :=
  ⟨hr, fun y q => (h.2.1 y q).le (by omega), fun y q => by
    rcases sKeep_mem q with q | q
    · exact (h.2.2 y q).le (by omega)
    · rw [q]; exact h.1.le (by omega)⟩
theorem zGs.exec {r : Nat → Int32} (h : zGs D σ) (hr : zGr (D + 2000) r) : zGs (D + 2000) (aExec σ r) :=
  ⟨hr, fun y q => (h.2.1 y q).le (by omega), fun y q => by
    rcases sKeep_mem q with q | q
    · exact (h.2.2 y q).le (by omega)
    · rw [q]; exact h.1.le (by omega)⟩
/-- the law goes on -/
def zNx (G : ZG) (x d da bf sb m o t0 r0 B : Nat) (σ : ZS) (D : Nat) (z4 : Int32) (μ : ZM) (Q : Option ZV → ZM → Prop) (E : ZP → ZM → Prop) : Prop := ∀ σ' ν, zLv G x d da bf sb m o r0 B σ' σ' ν → zGs (D + 2000) σ' → zsz ν + 2200 * (aBu σ').length ≤ zsz μ + 2200 * (aBu σ).length + 50000 → zsl ν + 8400 * (aBu σ').length ≤ zsl μ + 8400 * (aBu σ).length + 228500 → Wp G Y_L_law 23 [(0, vP (209, t0, r0)), (1, vP (1, 0, x)), (2, vP (5, 0, m)), (3, vP (203, 1, o)), (4, vI (z4 + 6))] [] ν Q E
theorem lg_cmp_self (w : Int64) : lg_cmp w w = 0 := by
  have h1 : ¬ lg_cmp w w < 0 := fun h => by have := (lg_cmp_neg w w).mp h; omega
  have h2 : ¬ 0 < lg_cmp w w := fun h => by have := (lg_cmp_pos w w).mp h; omega
  rw [Int32.lt_iff_toInt_lt] at h1 h2
  apply Int32.toInt_inj.mp
  have e : (0 : Int32).toInt = 0 := by decide
  rw [e] at h1 h2 ⊢
  omega
theorem L_t0 (hL : zLv G x d da bf sb m o r0 B σ σ μ) (hd : zXd G x d da bf sb (zZm m) σ σ' μ ν) (okν : zok ν) (hg : zGs (D + 2000) σ') (nx : zNx G x d da bf sb m o t0 r0 B σ D z4 μ Q E) (ok1 : zok (zAl ν o 0 v.toInt64)) : zEd (zAl ν o 0 v.toInt64) m (rI fun x12 ν2 => Call G Y_X5_thrown [vP (5, 0, m)] ν2 (rI fun x13 ν3 => (x13 = 0 → ((¬ (0 : Int32) = 0 → Wp G Y_L_law 23 [(0, vP (209, t0, r0)), (1, vP (1, 0, x)), (2, vP (5, 0, m)), (3, vP (203, 1, o)), (4, vI (z4 + 6))] [] ν3 Q E) ∧ ((0 : Int32) = 0 → (0 < 1 ∧ ∃ l1, zal ν3 o 0 = l1 ∧ ((lg_cmp l1 x12.toInt64) = 0 → Wp G Y_L_law 23 [(0, vP (209, t0, r0)), (1, vP (1, 0, x)), (2, vP (5, 0, m)), (3, vP (203, 1, o)), (4, vI (z4 + 6))] [] ν3 Q E) ∧ (¬ (lg_cmp l1 x12.toInt64) = 0 → Q (some (vI 0)) ν3))))) ∧ (¬ x13 = 0 → Q (some (vI 0)) ν3)) (fun q ν => zkc q.1 = true ∧ E q ν)) σ' 0 v := by
  intro ρ hm ht hW
  have L1 := ((hL.cx hd).1.al (w := v.toInt64) okν).cm ok1 hm hW
  have e1 : zsz ρ = zsz ν := hW.1
  have e2 : zsl ρ = zsl ν := hW.2.1
  have N := nx σ' ρ L1 hg (by rw [e1]; exact hd.2.2.2.1) (by rw [e2]; exact hd.2.2.2.2)
  have el : zal ρ o 0 = v.toInt64 := by rw [hW.2.2.2.2.2.1, zal_zAl, if_pos ⟨rfl, rfl⟩]
  exact ⟨_, rfl, S_X5_thrown ⟨_, ht, _, rfl, fun _ => ⟨fun q => absurd rfl q, fun _ => ⟨by decide, _, el, fun _ => N, fun q => absurd (lg_cmp_self _) q⟩⟩, fun q => absurd rfl q⟩⟩
theorem L_t1 (hk : ¬ kk = 0) (hL : zLv G x d da bf sb m o r0 B σ σ μ) (hd : zXd G x d da bf sb (zZm m) σ σ' μ ν) (okν : zok ν) (hg : zGs (D + 2000) σ') (nx : zNx G x d da bf sb m o t0 r0 B σ D z4 μ Q E) : zEd ν m (rI fun x12 ν2 => Call G Y_X5_thrown [vP (5, 0, m)] ν2 (rI fun x13 ν3 => (x13 = kk → ((¬ kk = 0 → Wp G Y_L_law 23 [(0, vP (209, t0, r0)), (1, vP (1, 0, x)), (2, vP (5, 0, m)), (3, vP (203, 1, o)), (4, vI (z4 + 6))] [] ν3 Q E) ∧ (kk = 0 → (0 < 1 ∧ ∃ l1, zal ν3 o 0 = l1 ∧ ((lg_cmp l1 x12.toInt64) = 0 → Wp G Y_L_law 23 [(0, vP (209, t0, r0)), (1, vP (1, 0, x)), (2, vP (5, 0, m)), (3, vP (203, 1, o)), (4, vI (z4 + 6))] [] ν3 Q E) ∧ (¬ (lg_cmp l1 x12.toInt64) = 0 → Q (some (vI 0)) ν3))))) ∧ (¬ x13 = kk → Q (some (vI 0)) ν3)) (fun q ν => zkc q.1 = true ∧ E q ν)) σ' kk v := by
  intro ρ hm ht hW
  have L1 := (hL.cx hd).1.cm okν hm hW
  have e1 : zsz ρ = zsz ν := hW.1
  have e2 : zsl ρ = zsl ν := hW.2.1
  have N := nx σ' ρ L1 hg (by rw [e1]; exact hd.2.2.2.1) (by rw [e2]; exact hd.2.2.2.2)
  exact ⟨_, rfl, S_X5_thrown ⟨_, ht, _, rfl, fun _ => ⟨fun _ => N, fun q => absurd q hk⟩, fun q => absurd rfl q⟩⟩
/-- the law goes on behind a call of the model -/
theorem L_nx (hL : zLv G x d da bf sb m o r0 B σ σ μ) (hd : zXd G x d da bf sb (zZm m) σ σ' μ ν) (okν : zok ν) (hg : zGs (D + 2000) σ') (nx : zNx G x d da bf sb m o t0 r0 B σ D z4 μ Q E) (hm : zMs ρ m σ') (hW : zW (zFm m) (zAm m) ν ρ) : Wp G Y_L_law 23 [(0, vP (209, t0, r0)), (1, vP (1, 0, x)), (2, vP (5, 0, m)), (3, vP (203, 1, o)), (4, vI (z4 + 6))] [] ρ Q E := by
  have L1 := (hL.cx hd).1.cm okν hm hW
  have e1 : zsz ρ = zsz ν := hW.1
  have e2 : zsl ρ = zsl ν := hW.2.1
  exact nx σ' ρ L1 hg (by rw [e1]; exact hd.2.2.2.1) (by rw [e2]; exact hd.2.2.2.2)
theorem L_n0 (hL : zLv G x d da bf sb m o r0 B σ σ μ) (hd : zXd G x d da bf sb (zZm m) σ σ' μ ν) (okν : zok ν) (hg : zGs (D + 2000) σ') (nx : zNx G x d da bf sb m o t0 r0 B σ D z4 μ Q E) : zEd ν m (rI fun x2 ν2 => (v = x2 → Wp G Y_L_law 23 [(0, vP (209, t0, r0)), (1, vP (1, 0, x)), (2, vP (5, 0, m)), (3, vP (203, 1, o)), (4, vI (z4 + 6))] [] ν2 Q E) ∧ (¬ v = x2 → Q (some (vI 0)) ν2)) σ' kk v := by
  intro ρ hm ht hW
  exact ⟨_, rfl, fun _ => L_nx hL hd okν hg nx hm hW, fun q => absurd rfl q⟩
theorem nI_un {z : Int32} {a b : Nat} (h : z = nI a) (k : z = nI b) (ha : a < 2147483648) (hb : b < 2147483648) : b = a := (nI_eq hb ha).mp (k.symm.trans h)
end ZJ
