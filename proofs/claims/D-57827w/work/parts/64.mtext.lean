/-! CONTRACTS, 26: the model's buffer and output -/
/-- a byte of a number; its four bytes -/
def x1B (v : Int32) (s : Nat) : Nat := ((v >>> (nI s &&& 31)) &&& 255).toNatClampNeg
theorem x1B_ok (v : Int32) (s : Nat) : (v >>> (nI s &&& 31)) &&& 255 = nI (x1B v s) ∧ x1B v s < 256 := by
  obtain ⟨j, j1, j2⟩ := pk_andE (v >>> (nI s &&& 31)) (m := 255) 8 rfl
  have : x1B v s = j := by unfold x1B; rw [j2]; exact nI_clamp (by omega)
  exact ⟨by rw [this]; exact j2, by omega⟩
def x4B (v : Int32) : List Nat := [x1B v 24, x1B v 16, x1B v 8, x1B v 0]
def aBuf (σ : ZS) (l : List Nat) : ZS := (aR σ, aSv σ, aPa σ, l, aEc σ, aEp σ, aOu σ)
def aOut (σ : ZS) (l : List Nat) : ZS := (aR σ, aSv σ, aPa σ, aBu σ, aEc σ, aEp σ, l)
def zFb (m f b : Nat) : Prop := b = m ∧ f = 56
def zFu (m f b : Nat) : Prop := b = m ∧ f = 67
/-- a name in a row -/
def sName (r : Nat → Int32) (p : Nat) : List Nat := (List.range (r p).toNatClampNeg).map (fun k => (r (p + 1 + k)).toNatClampNeg)
/-- the output: of the first k that serve v; of the first v valleys -/
def fStf (r : Nat → Int32) (v : Nat) : Nat → List Nat
  | 0 => []
  | k + 1 => fStf r v k ++ (if k = 0 then [] else [43]) ++ sName r (23 + 15 * sMem r v k)
def fAll (r : Nat → Int32) : Nat → List Nat
  | 0 => []
  | v + 1 => fAll r v ++ (if v = 0 then [] else [32]) ++ sName r (203 + 17 * v) ++ [61] ++ fStf r v (sSt r v)
def sFindB (r : Nat → Int32) (b : List Nat) (v : Bool) : Int32 := if pSk b 0 = 0 ∧ (pWd b 0).length = b.length ∧ 0 < b.length then o2i (sThing r v (pWd b 0)) else -1
section ZTX
variable {G : ZG} {μ ν : ZM} {Q : Option ZV → ZM → Prop} {E : ZP → ZM → Prop} {m a p q K V D : Nat} {z z1 z2 z3 z4 z5 : Int32} {b l w : List Nat} {r : Nat → Int32} {e : Int32 × Nat} {po : Nat → Nat} {σ : ZS}
theorem zBu.put (h : zBu μ m l) (hl : l.length < 900) {c : Nat} (hc : c < 256) : zBu (zFi (zAi μ (m + 10) l.length (nI c)) 56 m (nI (l.length + 1))) m (l ++ [c]) := by
  obtain ⟨h1, h2, h3⟩ := h
  refine ⟨by rw [List.length_append]; simp; omega, by rw [zfi_zFi, if_pos ⟨rfl, rfl⟩, List.length_append]; rfl, fun k hk => ?_⟩
  rw [List.length_append] at hk
  simp only [List.length_cons, List.length_nil] at hk
  rw [zai_zFi, zai_zAi]
  by_cases hkl : k = l.length
  · subst hkl
    rw [if_pos ⟨rfl, rfl⟩]
    have : (l ++ [c]).getD l.length 0 = c := by simp
    rw [this]; exact ⟨rfl, hc⟩
  · have : (l ++ [c]).getD k 0 = l.getD k 0 := by simp [List.getElem?_append_left (show k < l.length by omega)]
    rw [if_neg (fun t => hkl t.2), this]
    exact h3 k (by omega)
theorem C_four (hm : zMm μ m) (h : zBu μ m l) (hl : l.length + 4 ≤ 900) (k : ∀ ν, zBu ν m (l ++ x4B z) → zW (zFb m) (zA1 (m + 10)) μ ν → Q none ν) : Call G Y_X5_four [vP (5, 0, m), vI z] μ Q E := by
  refine S_X5_four ?_
  have W : ∀ (ν : ZM) (j : Nat) (x y : Int32), zW (zFb m) (zA1 (m + 10)) ν (zFi (zAi ν (m + 10) j x) 56 m y) := fun ν j x y => (zW_A1 ν (m + 10) j x).trans (zW_Fi (F := zFb m) ⟨rfl, rfl⟩ _ y)
  obtain ⟨c3, d3⟩ := x1B_ok z 24
  obtain ⟨c2, d2⟩ := x1B_ok z 16
  obtain ⟨c1, d1⟩ := x1B_ok z 8
  obtain ⟨c0, d0⟩ := x1B_ok z 0
  have step : ∀ (s : Nat) (t : Int32) (l' : List Nat) (ν : ZM), (z >>> (nI s &&& 31)) &&& 255 = nI (x1B z s) → x1B z s < 256 → ¬ nI s < 0 → nI s + (-8) = t → zMm ν m → zBu ν m l' → l'.length < 900 → (zBu (zFi (zAi ν (m + 10) l'.length (nI (x1B z s))) 56 m (nI (l'.length + 1))) m (l' ++ [x1B z s]) → Wp G Y_X5_four 3 [(0, vP (5, 0, m)), (1, vI z), (2, vI t)] [] (zFi (zAi ν (m + 10) l'.length (nI (x1B z s))) 56 m (nI (l'.length + 1))) Q E) → Wp G Y_X5_four 3 [(0, vP (5, 0, m)), (1, vI z), (2, vI (nI s))] [] ν Q E := by
    intro s t l' ν e1 e2 e3 e4 hmν hb hl' kk
    refine B_X5_four_3 ⟨fun u => absurd u e3, fun _ => ⟨_, _, hmν.2.2.2.2.2.2.2.2.2.1, _, hb.2.1, l'.length, zix.eq rfl (by omega) (by omega), ?_⟩⟩
    rw [e1, e4, nI_1]
    exact kk (hb.put hl' e2)
  have s4 : l ++ [x1B z 24] ++ [x1B z 16] ++ [x1B z 8] ++ [x1B z 0] = l ++ x4B z := by unfold x4B; simp
  refine step 24 (nI 16) l μ c3 d3 (by decide) (by decide) hm h (by omega) fun b1 => ?_
  refine step 16 (nI 8) _ _ c2 d2 (by decide) (by decide) hm b1 (by rw [List.length_append]; simp; omega) fun b2 => ?_
  refine step 8 (nI 0) _ _ c1 d1 (by decide) (by decide) hm b2 (by rw [List.length_append, List.length_append]; simp; omega) fun b3 => ?_
  refine step 0 (-8) _ _ c0 d0 (by decide) (by decide) hm b3 (by rw [List.length_append, List.length_append, List.length_append]; simp; omega) fun b4 => ?_
  rw [s4] at b4
  exact B_X5_four_3 ⟨fun _ => k _ b4 ((((W _ _ _ _).trans (W _ _ _ _)).trans (W _ _ _ _)).trans (W _ _ _ _)), fun u => absurd u (by decide)⟩
theorem zMs.buf (h : zMs μ m σ) (hb : zBu ν m l) (hW : zW (zFb m) (zA1 (m + 10)) μ ν) : zMs ν m (aBuf σ l) := by
  obtain ⟨h1, h2, h3, h4, h5, ⟨h6, h7⟩, h8⟩ := h
  have hf : ∀ f, f ≠ 56 → zfi ν f m = zfi μ f m := fun f q => hW.2.2.2.2.2.2.1 f m (by unfold zFb; omega)
  have ha : ∀ c, c ≠ m + 10 → zai ν c = zai μ c := fun c q => hW.ai q
  exact ⟨h1.fr hW.fr, (ha _ (by omega)).trans h2, h3.same (hf 47 (by omega)) (ha _ (by omega)), h4.same (hf 45 (by omega)) (ha _ (by omega)), hb, ⟨(hf 62 (by omega)).trans h6, (hf 63 (by omega)).trans h7⟩, h8.same (hf 67 (by omega)) (ha _ (by omega))⟩
theorem zW.bm (h : zW (zFb m) (zA1 (m + 10)) μ ν) : zW (zFm m) (zAm m) μ ν := h.mono (fun f b q => q.1) (fun b q => by unfold zA1 at q; unfold zAm; omega)
theorem C_append (h : zMs μ m σ) (kt : (aBu σ).length + 20 ≤ 900 → zEd μ m Q (aBuf σ (aBu σ ++ (x4B z1 ++ (x4B z2 ++ (x4B z3 ++ (x4B z4 ++ x4B z5)))))) 0 (nI ((aBu σ).length + 20))) (k1 : ¬ (aBu σ).length + 20 ≤ 900 → zEd μ m Q σ 1 0) : Call G Y_X5_append [vP (5, 0, m), vI z1, vI z2, vI z3, vI z4, vI z5] μ Q E := by
  have hb := h.2.2.2.2.1
  have e20 : nI (aBu σ).length + 20 = nI ((aBu σ).length + 20) := nI_add _ 20
  refine S_X5_append ⟨_, hb.2.1, fun hgt => ?_, fun hle => ?_⟩
  · rw [e20] at hgt
    have : 900 < (aBu σ).length + 20 := (nI_ltI (a := 900) (by omega) (by have := hb.1; omega)).mp hgt
    exact B_X5_append_19 (C_passes0 ⟨_, rfl, fun t => absurd rfl t, fun _ => (k1 (by omega)).no h⟩)
  · rw [e20] at hle
    have hl : (aBu σ).length + 20 ≤ 900 := by
      apply Decidable.byContradiction
      intro t
      exact hle (show nI 900 < _ from nI_lt (by omega) (by have := hb.1; omega))
    have x4 : ∀ z, (x4B z).length = 4 := fun _ => rfl
    have h0 := h.thr 0
    refine B_X5_append_19 (C_passes1 ⟨_, rfl, fun _ => C_four h0.1 h0.2.2.2.2.1 (by show (aBu σ).length + 4 ≤ 900; omega) fun ν1 b1 W1 => ⟨rfl, C_four (h0.1.fr W1.fr) b1 (by rw [List.length_append, x4]; omega) fun ν2 b2 W2 => ⟨rfl, C_four (h0.1.fr (W1.trans W2).fr) b2 (by rw [List.length_append, List.length_append, x4, x4]; omega) fun ν3 b3 W3 => ⟨rfl, C_four (h0.1.fr ((W1.trans W2).trans W3).fr) b3 (by rw [List.length_append, List.length_append, List.length_append, x4, x4, x4]; omega) fun ν4 b4 W4 => ⟨rfl, C_four (h0.1.fr (((W1.trans W2).trans W3).trans W4).fr) b4 (by rw [List.length_append, List.length_append, List.length_append, List.length_append, x4, x4, x4, x4]; omega) fun ν5 b5 W5 => ⟨rfl, _, b5.2.1, ?_⟩⟩⟩⟩⟩, fun t => absurd t (by decide)⟩)
    have W := (((W1.trans W2).trans W3).trans W4).trans W5
    have e : aBu σ ++ x4B z1 ++ x4B z2 ++ x4B z3 ++ x4B z4 ++ x4B z5 = aBu σ ++ (x4B z1 ++ (x4B z2 ++ (x4B z3 ++ (x4B z4 ++ x4B z5)))) := by simp
    rw [e] at b5 ⊢
    have el : (aBu σ ++ (x4B z1 ++ (x4B z2 ++ (x4B z3 ++ (x4B z4 ++ x4B z5))))).length = (aBu σ).length + 20 := by simp [x4]
    rw [el]
    exact kt hl ν5 (h0.buf b5 W) (by rw [W.2.2.2.2.2.2.1 46 m (by unfold zFb; omega), zfi_zFi, if_pos ⟨rfl, rfl⟩]) ((zW_m46 μ m 0).trans W.bm)
theorem C_truncate (h : zMs μ m σ) (kt : ∀ n, n ≤ (aBu σ).length → z = nI n → zEd μ m Q (aBuf σ ((aBu σ).take n)) 0 (nI n)) (k1 : (∀ n, n ≤ (aBu σ).length → z ≠ nI n) → zEd μ m Q σ 1 0) : Call G Y_X5_truncate [vP (5, 0, m), vI z] μ Q E := by
  have hb := h.2.2.2.2.1
  have hl := hb.1
  refine S_X5_truncate ⟨_, hb.2.1, C_in 0 ((aBu σ).length + 1) (by decide) (by rw [Int32.toInt_toInt64, nI_toInt (by omega)]; omega) (fun n _ n2 hz => ⟨_, rfl, C_passes1 ⟨_, rfl, fun _ => ?_, fun t => absurd t (by decide)⟩⟩) (fun hne => ⟨_, rfl, C_passes0 ⟨_, rfl, fun t => absurd rfl t, fun _ => (k1 fun n n1 => hne n (by omega) (by omega) (by omega)).no h⟩⟩)⟩
  have h0 := h.thr 0
  have hW : zW (zFb m) (zA1 (m + 10)) (zFi μ 46 m 0) (zFi (zFi μ 46 m 0) 56 m z) := zW_Fi ⟨rfl, rfl⟩ _ _
  rw [hz] at hW ⊢
  refine kt n (by omega) hz _ (h0.buf (l := (aBu σ).take n) ⟨by rw [List.length_take]; omega, by rw [zfi_zFi, if_pos ⟨rfl, rfl⟩, List.length_take, show min n (aBu σ).length = n by omega], fun k hk => ?_⟩ hW) (by rw [zfi_zFi, if_neg (by omega), zfi_zFi, if_pos ⟨rfl, rfl⟩]) ((zW_m46 μ m 0).trans hW.bm)
  rw [List.length_take] at hk
  have : ((aBu σ).take n).getD k 0 = (aBu σ).getD k 0 := by simp [List.getD_eq_getElem?_getD, List.getElem?_take, show k < n by omega]
  rw [this]
  exact hb.2.2 k (by omega)
theorem C_finds (v : Bool) (hv : z = sBl v) (hk : zKs G μ m) (h : zMs μ m σ) (hg : sGd (aR σ) K V po D) (k : zEd μ m Q σ 0 (sFindB (aR σ) (aBu σ) v)) : Call G Y_X5_finds [vP (5, 0, m), vI z] μ Q E := by
  obtain ⟨h1, h2, h3, h4, h5, h67, h8⟩ := id h
  have hl : (aBu σ).length ≤ 900 := h5.1
  obtain ⟨hw, ⟨e1, e2, -⟩, -, -⟩ := id hg
  have hr : sKV (aR σ) K V := ⟨hw.2.1.1, hw.2.1.2, hw.1.1, hw.1.2.1⟩
  have W0 : zW (zFs m) (zAt m) (zFi μ 46 m 0) (zFi (zFi μ 46 m 0) 57 m 0) := zW_Fi (by unfold zFs; omega) _ _
  have Wm : zW (zFm m) (zAm m) μ (zFi (zFi μ 46 m 0) 57 m 0) := (zW_m46 μ m 0).trans W0.sft.tm
  have tb : zTb G (zFi (zFi μ 46 m 0) 57 m 0) m (aBu σ) := ⟨hk.same Wm, h1, h5⟩
  unfold sFindB at k
  refine S_X5_finds (C_next (a := 0) tb (by rw [zfi_zFi, if_pos ⟨rfl, rfl⟩]; rfl) (Nat.zero_le _) fun ν t1 t2 t3 t4 hW => ⟨_, rfl, _, t3, fun hne => ?_, fun heq => ⟨_, t4, _, t1.2.2.2.1, fun hne => ?_, fun heq2 => ⟨fun hn => ?_, fun hpos => ?_⟩⟩⟩)
  all_goals
    have hW2 : zW (zFs m) (zAt m) (zFi μ 46 m 0) ν := W0.trans (hW.nk.kk.st)
    have hrow : zai ν (m + 1) = aR σ := (hW.ai (fun t => t)).trans h2
    have hp := pSk_le (b := aBu σ) (a := 0) (Nat.zero_le _)
    have hwl := pWd_le hp
  · rw [if_neg (fun t => hne (by rw [t.1]; rfl))] at k
    exact k.back h hW2 hrow
  · have h0 : pSk (aBu σ) 0 = 0 := (nI_eq (b := 0) (by omega) (by omega)).mp heq
    rw [h0] at hne
    rw [if_neg (fun t => hne (by rw [t.2.1]))] at k
    exact k.back h hW2 hrow
  · have h0 : ¬ 0 < (aBu σ).length := fun t => hn (show nI 0 < _ from nI_lt t (by omega))
    rw [if_neg (fun t => h0 t.2.2)] at k
    exact k.back h hW2 hrow
  · have h0 : pSk (aBu σ) 0 = 0 := (nI_eq (b := 0) (by omega) (by omega)).mp heq
    rw [h0] at heq2 t4 t3 hwl
    have hle : (pWd (aBu σ) 0).length = (aBu σ).length := (nI_eq (by omega) (by omega)).mp heq2
    have hps : 0 < (aBu σ).length := (nI_ltI (a := 0) (by omega) (by omega)).mp hpos
    rw [if_pos ⟨h0, hle, hps⟩] at k
    have nm : ∀ q, sNm (aR σ) q → aR σ q = nI (pWd (aBu σ) 0).length → (pWd (aBu σ) 0).length ≤ 6 := fun q hq he => by
      obtain ⟨n, n1, n2, n3, -⟩ := hq
      rw [n1] at he
      have := (nI_eq (by omega) (by omega)).mp he
      omega
    exact C_thingHere (K := K) (V := V) (p := 0) (b := aBu σ) v hv ⟨t1, t3, t4, Nat.zero_le _, hrow⟩ hr ⟨fun j hj => nm _ (e1 j hj).2.2, fun j hj => nm _ (e2 j hj).2.2⟩ ⟨_, rfl, k.back h hW2 hrow⟩
theorem C_findEcho (hk : zKs G μ m) (h : zMs μ m σ) (hg : sGd (aR σ) K V po D) (k : zEd μ m Q σ 0 (sFindB (aR σ) (aBu σ) false)) : Call G Y_X5_findEcho [vP (5, 0, m)] μ Q E := S_X5_findEcho (C_finds false rfl hk h hg fun ν a b c => ⟨_, rfl, k ν a b c⟩)
theorem C_findValley (hk : zKs G μ m) (h : zMs μ m σ) (hg : sGd (aR σ) K V po D) (k : zEd μ m Q σ 0 (sFindB (aR σ) (aBu σ) true)) : Call G Y_X5_findValley [vP (5, 0, m)] μ Q E := S_X5_findValley (C_finds true rfl hk h hg fun ν a b c => ⟨_, rfl, k ν a b c⟩)
theorem C_writes (c : Nat) (hz : z = nI c) (hc : c < 65536) (hm : zMm μ m) (h : zOu μ m l) (hl : l.length < 256) (k : ∀ ν, zOu ν m (l ++ [c]) → zW (zFu m) (zA1 (m + 12)) μ ν → Q none ν) : Call G Y_X5_writes [vP (5, 0, m), vI z] μ Q E := by
  subst hz
  obtain ⟨h1, h2, h3⟩ := h
  refine S_X5_writes ⟨_, _, hm.2.2.2.2.2.2.2.2.2.2.2, _, h2, l.length, zix.eq rfl hl (by omega), ?_⟩
  rw [nI_1]
  refine k _ ⟨by rw [List.length_append]; simp; omega, by rw [zfi_zFi, if_pos ⟨rfl, rfl⟩, List.length_append]; rfl, fun j hj => ?_⟩ ((zW_A1 μ (m + 12) _ _).trans (zW_Fi (F := zFu m) ⟨rfl, rfl⟩ _ _))
  rw [List.length_append] at hj
  simp only [List.length_cons, List.length_nil] at hj
  rw [zai_zFi, zai_zAi]
  by_cases hjl : j = l.length
  · subst hjl
    rw [if_pos ⟨rfl, rfl⟩]
    have : (l ++ [c]).getD l.length 0 = c := by simp
    rw [this]; exact ⟨rfl, hc⟩
  · have : (l ++ [c]).getD j 0 = l.getD j 0 := by simp [List.getElem?_append_left (show j < l.length by omega)]
    rw [if_neg (fun t => hjl t.2), this]
    exact h3 j (by omega)
theorem sName_ok {r : Nat → Int32} {q : Nat} (h : sNm r q) : r q = nI (sName r q).length ∧ (sName r q).length ≤ 6 ∧ ∀ k, k < (sName r q).length → r (q + 1 + k) = nI ((sName r q).getD k 0) ∧ (sName r q).getD k 0 < 128 := by
  obtain ⟨n, h1, h2, h3, h4⟩ := h
  have e : (r q).toNatClampNeg = n := by rw [h1]; exact nI_clamp (by omega)
  have el : (sName r q).length = n := by unfold sName; rw [List.length_map, List.length_range, e]
  refine ⟨by rw [el]; exact h1, by omega, fun k hk => ?_⟩
  rw [el] at hk
  obtain ⟨c, c1, c2, c3⟩ := h4 k hk
  have eg : (sName r q).getD k 0 = c := by
    unfold sName
    rw [List.getD_eq_getElem?_getD, List.getElem?_map, e, List.getElem?_range hk, Option.map_some, Option.getD_some, c1]
    exact nI_clamp (by omega)
  rw [eg]; exact ⟨c1, by omega⟩
theorem C_writesName (q : Nat) (hz : z = nI q) (hq : q + 7 ≤ 627) (hm : zMm μ m) (hr : zai μ (m + 1) = r) (hn : sNm r q) (h : zOu μ m l) (hl : l.length + 6 ≤ 256) (k : ∀ ν, zOu ν m (l ++ sName r q) → zW (zFu m) (zA1 (m + 12)) μ ν → Q none ν) : Call G Y_X5_writesName [vP (5, 0, m), vI z] μ Q E := by
  subst hz
  obtain ⟨n1, n2, n3⟩ := sName_ok hn
  refine S_X5_writesName ?_
  have key : ∀ d i (ν : ZM), i + d = (sName r q).length → zOu ν m (l ++ (sName r q).take i) → zW (zFu m) (zA1 (m + 12)) μ ν → Wp G Y_X5_writesName 2 [(0, vP (5, 0, m)), (1, vI (nI q)), (2, vI (nI i))] [] ν Q E := by
    intro d
    induction d with
    | zero =>
      intro i ν hi ho hW
      have hrow : zai ν (m + 1) = r := (hW.ai (by unfold zA1; omega)).trans hr
      refine B_X5_writesName_2 ⟨_, _, (hm.fr hW.fr).1, q, zix.eq rfl (by omega) (by omega), _, (congrFun hrow q).trans n1, fun _ => ?_, fun t => absurd t (nI_nlt (by omega) (by omega))⟩
      rw [List.take_of_length_le (by omega)] at ho
      exact k ν ho hW
    | succ d ih =>
      intro i ν hi ho hW
      have hrow : zai ν (m + 1) = r := (hW.ai (by unfold zA1; omega)).trans hr
      obtain ⟨g1, g2⟩ := n3 i (by omega)
      have hil : i < (sName r q).length := by omega
      refine B_X5_writesName_2 ⟨_, _, (hm.fr hW.fr).1, q, zix.eq rfl (by omega) (by omega), _, (congrFun hrow q).trans n1, fun t => absurd (nI_lt (by omega) (by omega)) t, fun _ => ⟨q + 1 + i, zix.eq ?_ (by omega) (by omega), _, (congrFun hrow _).trans g1, C_writes _ rfl (by omega) (hm.fr hW.fr) ho (by rw [List.length_append, List.length_take]; omega) fun ρ hρ hWρ => ⟨rfl, ?_⟩⟩⟩
      · show (nI q + nI 1) + nI i = _
        rw [nI_add, nI_add]
      · rw [nI_1]
        refine ih (i + 1) ρ (by omega) ?_ (hW.trans hWρ)
        rw [List.take_succ_eq_append_getElem hil, ← List.append_assoc]
        rw [List.getD_eq_getElem?_getD, List.getElem?_eq_getElem hil] at hρ
        exact hρ
  refine key (sName r q).length 0 μ (by omega) ?_ (zW.rf _ _ _)
  rw [List.take_zero, List.append_nil]; exact h
end ZTX
