/-! CONTRACTS, 20: the model's parser -/
section ZPA
variable {G : ZG} {μ ν : ZM} {Q : Option ZV → ZM → Prop} {E : ZP → ZM → Prop} {m a p q K V : Nat} {z z1 z2 : Int32} {b w : List Nat} {r : Nat → Int32} {e : Int32 × Nat}
/-- a text read up to a, without an error; its token; with an error -/
def pOk (G : ZG) (μ : ZM) (m : Nat) (b : List Nat) (a : Nat) (r : Nat → Int32) : Prop := zTb G μ m b ∧ zfi μ 57 m = nI a ∧ a ≤ b.length ∧ (zfi μ 60 m = 0 ∧ zfi μ 61 m = -1) ∧ zai μ (m + 1) = r
def pTk (G : ZG) (μ : ZM) (m : Nat) (b : List Nat) (p : Nat) (r : Nat → Int32) : Prop := pOk G μ m b p r ∧ zfi μ 58 m = nI p ∧ zfi μ 59 m = nI (pWd b p).length ∧ pSk b p = p
def pEr (G : ZG) (μ : ZM) (m : Nat) (b : List Nat) (e : Int32 × Nat) : Prop := zTb G μ m b ∧ zfi μ 60 m = e.1 ∧ e.1 ≠ 0 ∧ zfi μ 61 m = nI e.2 ∧ ∀ j, 627 ≤ j → zai μ (m + 1) j = 0
theorem zFk_set {f : Nat} (hf : 57 ≤ f ∧ f ≤ 61) (μ : ZM) (x : Int32) : zW (zFk m) (zA1 (m + 1)) μ (zFi μ f m x) := zW_Fi ⟨rfl, hf⟩ μ x
theorem pOk.len (h : pOk G μ m b a r) : b.length ≤ 900 := h.1.2.2.1
theorem C_nextOk (h : pOk G μ m b a r) (k : ∀ ν, pTk G ν m b (pSk b a) r → zW (zFk m) (zA1 (m + 1)) μ ν → Q (some (vI (bAt b (pSk b a)))) ν) : Call G Y_X5_next [vP (5, 0, m)] μ Q E := by
  obtain ⟨h1, h2, h3, ⟨h4, h5⟩, h6⟩ := h
  refine C_next h1 h2 h3 fun ν k1 k2 k3 k4 hW => k ν ⟨⟨k1, k2, pSk_le h3, ⟨(hW.2.2.2.2.2.2.1 60 m (by unfold zFn; omega)).trans h4, (hW.2.2.2.2.2.2.1 61 m (by unfold zFn; omega)).trans h5⟩, (hW.ai (fun q => q)).trans h6⟩, k3, k4, pSk_sk b a⟩ hW.nk
/-- an error is noted -/
theorem pTk.err (h : pTk G μ m b p r) (hz : sZ r) (c : Int32) (hc : c ≠ 0) : pEr G (zFi (zFi μ 60 m c) 61 m (zfi μ 58 m)) m b (c, p) ∧ zW (zFk m) (zA1 (m + 1)) μ (zFi (zFi μ 60 m c) 61 m (zfi μ 58 m)) := by
  obtain ⟨⟨h1, h2, h3, ⟨h4, h5⟩, h6⟩, h7, h8, -⟩ := h
  have hW := (zFk_set (m := m) (f := 60) (by omega) μ c).trans (zFk_set (m := m) (f := 61) (by omega) _ (zfi μ 58 m))
  refine ⟨⟨h1.same hW.kk, by rw [zfi_zFi, if_neg (by omega), zfi_zFi, if_pos ⟨rfl, rfl⟩], hc, by rw [zfi_zFi, if_pos ⟨rfl, rfl⟩]; exact h7, fun j hj => ?_⟩, hW⟩
  show zai μ (m + 1) j = 0
  rw [h6]; exact hz j hj
theorem pEr.same (h : pEr G μ m b e) (hW : zW (zFk m) zA0 μ ν) (h60 : zfi ν 60 m = zfi μ 60 m) (h61 : zfi ν 61 m = zfi μ 61 m) : pEr G ν m b e := by
  obtain ⟨h1, h2, h3, h4, h5⟩ := h
  exact ⟨h1.same (hW.mono (fun f b q => q) (fun b q => q.elim) : zW (zFk m) (zA1 (m + 1)) μ ν).kk, h60.trans h2, h3, h61.trans h4, fun j hj => by rw [hW.ai (fun q => q)]; exact h5 j hj⟩
theorem pEr.set57 (h : pEr G μ m b e) (x : Int32) : pEr G (zFi μ 57 m x) m b e := h.same (zW_Fi ⟨rfl, by omega⟩ μ x) (by rw [zfi_zFi, if_neg (by omega)]) (by rw [zfi_zFi, if_neg (by omega)])
theorem pOk.set57 (h : pOk G μ m b a r) {a' : Nat} (ha : a' ≤ b.length) : pOk G (zFi μ 57 m (nI a')) m b a' r := by
  obtain ⟨h1, h2, h3, ⟨h4, h5⟩, h6⟩ := h
  exact ⟨h1.same (zFk_set (m := m) (f := 57) (by omega) μ _).kk, by rw [zfi_zFi, if_pos ⟨rfl, rfl⟩], ha, ⟨by rw [zfi_zFi, if_neg (by omega)]; exact h4, by rw [zfi_zFi, if_neg (by omega)]; exact h5⟩, h6⟩
theorem getD_ext {l1 l2 : List Nat} (hl : l1.length = l2.length) (h : ∀ i, i < l1.length → l1.getD i 0 = l2.getD i 0) : l1 = l2 := by
  refine List.ext_getElem hl fun i h1 h2 => ?_
  have := h i h1
  rw [List.getD_eq_getElem?_getD, List.getD_eq_getElem?_getD, List.getElem?_eq_getElem h1, List.getElem?_eq_getElem h2] at this
  exact this
theorem C_sees (k : Nat) (hk : (k, w) ∈ kTx) (h : pOk G μ m b a r) (k1 : pWd b (pSk b a) = w → ∀ ν, pTk G ν m b (pSk b a) r → zW (zFk m) (zA1 (m + 1)) μ ν → Q (some (vI 1)) ν) (k0 : pWd b (pSk b a) ≠ w → ∀ ν, pTk G ν m b (pSk b a) r → zW (zFk m) (zA1 (m + 1)) μ ν → Q (some (vI 0)) ν) : Call G Y_X5_sees [vP (5, 0, m), vP (zgS G k)] μ Q E := by
  have hl := h.len
  refine S_X5_sees ⟨(h.1.1 _ hk).1, C_nextOk h fun ν hν hW => ⟨_, rfl, 0, hν.1.2.2.2.1.1, fun t => absurd rfl t, fun _ => ⟨_, hν.2.2.1, ?_⟩⟩⟩
  have hs : zStr ν m (zgS G k) w := hν.1.1.1 _ hk
  have hw1 : w.length < 100000 := hs.2.2.2.1
  have hp := hν.1.2.2.1
  have hw2 := pWd_le hp
  refine C_strLen hs ⟨_, rfl, fun heq => ?_, fun hne => k0 (fun t => hne (by rw [t])) ν hν hW⟩
  have heq' : (pWd b (pSk b a)).length = w.length := (nI_eq (by omega) (by omega)).mp heq
  have key : ∀ d i, i + d = w.length → (∀ j, j < i → (pWd b (pSk b a)).getD j 0 = w.getD j 0) → Wp G Y_X5_sees 27 [(0, vP (5, 0, m)), (1, vP (zgS G k)), (3, vI (nI i))] [] ν Q E := by
    intro d
    induction d with
    | zero =>
      intro i hi hj
      refine B_X5_sees_27 ⟨hs.1, _, hν.2.2.1, fun _ => k1 (getD_ext heq' fun j hj' => hj j (by omega)) ν hν hW, fun q => absurd q (nI_nlt (by omega) (by omega))⟩
    | succ d ih =>
      intro i hi hj
      obtain ⟨g1, g2, g3⟩ := pTw_get (f := pLet) (b := b) (a := pSk b a) (k := i) rfl (show i < (pWd b (pSk b a)).length by omega)
      have hby := hν.1.1.by _ g3
      refine B_X5_sees_27 ⟨hs.1, _, hν.2.2.1, fun q => absurd (nI_lt (by omega) (by omega)) q, fun _ => ⟨_, hν.2.1, C_byteAt (pSk b a + i) hν.1.1 (nI_add _ _) (by omega) ⟨_, rfl, C_strChar i hs rfl (by omega) ⟨_, rfl, fun hy => ?_, fun hn => ?_⟩⟩⟩⟩
      · rw [nI_1]
        have h128 := (hs.2.2.2.2.choose_spec.2.2.2.2 i (by omega)).2
        rw [bAt_lt g3, nI_eq (by omega) (by omega)] at hy
        refine ih (i + 1) (by omega) fun j hj' => ?_
        by_cases q : j = i
        · rw [q]; exact g1.trans hy
        · exact hj j (by omega)
      · refine k0 (fun t => hn ?_) ν hν hW
        rw [bAt_lt g3, ← g1]
        show nI ((pWd b (pSk b a)).getD i 0) = _
        rw [t]
  exact key w.length 0 (by omega) (fun j hj => by omega)
theorem C_goesPast (h58 : zfi μ 58 m = z1) (h59 : zfi μ 59 m = z2) (k : Q none (zFi μ 57 m (z1 + z2))) : Call G Y_X5_goesPast [vP (5, 0, m)] μ Q E := S_X5_goesPast ⟨_, h58, _, h59, k⟩
theorem pTk.past (h : pTk G μ m b p r) (k : pOk G (zFi μ 57 m (nI (p + (pWd b p).length))) m b (p + (pWd b p).length) r → zW (zFk m) (zA1 (m + 1)) μ (zFi μ 57 m (nI (p + (pWd b p).length))) → Q none (zFi μ 57 m (nI (p + (pWd b p).length)))) : Call G Y_X5_goesPast [vP (5, 0, m)] μ Q E :=
  C_goesPast h.2.1 h.2.2.1 (by rw [nI_add]; exact k (h.1.set57 (pWd_le h.1.2.2.1)) (zFk_set (by omega) μ _))
theorem C_keyword (k : Nat) (hk : (k, w) ∈ kTx) (h : pOk G μ m b a r) (hz : sZ r) (kok : ∀ a', pKey b w a = .ok a' → ∀ ν, pOk G ν m b a' r → zW (zFk m) (zA1 (m + 1)) μ ν → Q none ν) (ker : ∀ e, pKey b w a = .error e → ∀ ν, pEr G ν m b e → zW (zFk m) (zA1 (m + 1)) μ ν → Q none ν) : Call G Y_X5_keyword [vP (5, 0, m), vP (zgS G k)] μ Q E := by
  refine S_X5_keyword ⟨(h.1.1 _ hk).1, _, h.2.2.2.1.1, fun _ => C_sees k hk h (fun hw ν hν hW => ⟨_, rfl, C_must1 ⟨rfl, hν.past fun ho hW2 => ⟨rfl, ?_⟩⟩⟩) (fun hw ν hν hW => ⟨_, rfl, C_must0 hν.1.2.2.2.1.1 ⟨rfl, ?_⟩⟩), fun t => absurd rfl t⟩
  · refine kok _ ?_ _ ho (hW.trans hW2)
    unfold pKey; rw [if_pos hw, hw]
  · obtain ⟨he, hW2⟩ := hν.err hz 1 (by decide)
    refine C_goesPast rfl rfl ⟨rfl, ker _ ?_ _ (he.set57 _) ((hW.trans hW2).trans (zFk_set (by omega) _ _))⟩
    unfold pKey; rw [if_neg hw]
theorem C_keyword_e (h : pEr G μ m b e) (hk : zis 23 (zgS G q)) (k : Q none μ) : Call G Y_X5_keyword [vP (5, 0, m), vP (zgS G q)] μ Q E := S_X5_keyword ⟨hk, _, h.2.1, fun t => absurd t h.2.2.1, fun _ => k⟩
theorem C_semicolon (h : pOk G μ m b a r) (hz : sZ r) (kok : ∀ a', pSemi b a = .ok a' → ∀ ν, pOk G ν m b a' r → zW (zFk m) (zA1 (m + 1)) μ ν → Q none ν) (ker : ∀ e, pSemi b a = .error e → ∀ ν, pEr G ν m b e → zai ν (m + 1) = r → zW (zFk m) (zA1 (m + 1)) μ ν → Q none ν) : Call G Y_X5_semicolon [vP (5, 0, m)] μ Q E := by
  refine S_X5_semicolon ⟨_, h.2.2.2.1.1, fun _ => C_nextOk h fun ν hν hW => ⟨_, rfl, fun hn => C_must0 hν.1.2.2.2.1.1 ⟨rfl, _, rfl, ?_⟩, fun hy => C_must1 ⟨rfl, _, hν.1.2.1, ?_⟩⟩, fun t => absurd rfl t⟩
  · obtain ⟨he, hW2⟩ := hν.err hz 1 (by decide)
    refine ker _ ?_ _ (he.set57 _) hν.1.2.2.2.2 ((hW.trans hW2).trans (zFk_set (by omega) _ _))
    unfold pSemi; rw [if_neg hn]
  · obtain ⟨g1, g2⟩ := bAt_eq (e := 59) h.1.by (by omega) hy
    rw [nI_1]
    refine kok _ ?_ _ (hν.1.set57 (by omega)) (hW.trans (zFk_set (by omega) _ _))
    unfold pSemi; rw [if_pos hy]
theorem C_semicolon_e (h : pEr G μ m b e) (k : Q none μ) : Call G Y_X5_semicolon [vP (5, 0, m)] μ Q E := S_X5_semicolon ⟨_, h.2.1, fun t => absurd t h.2.2.1, fun _ => k⟩
theorem pVal_step {l : List Nat} {i : Nat} (hi : i < l.length) (h4 : i < 4) : pVal (l.take (i + 1)) = 10 * pVal (l.take i) + (l.getD i 0 - 48) := by
  unfold pVal
  rw [List.take_take, List.take_take, show min 4 (i + 1) = i + 1 by omega, show min 4 i = i by omega, List.take_succ_eq_append_getElem hi, List.foldl_append]
  rw [List.getD_eq_getElem?_getD, List.getElem?_eq_getElem hi]
  rfl
theorem pVal_over {l : List Nat} {i : Nat} (h4 : 4 ≤ i) : pVal (l.take i) = pVal l := by
  unfold pVal
  rw [List.take_take, show min 4 i = 4 by omega]
theorem pVal_lt {b : List Nat} {p : Nat} : ∀ i, i ≤ 4 → i ≤ (pDg b p).length → pVal ((pDg b p).take i) < 10 ^ i := by
  intro i
  induction i with
  | zero => intro _ _; exact Nat.zero_lt_one
  | succ i ih =>
    intro h1 h2
    have := ih (by omega) (by omega)
    obtain ⟨g1, g2, -⟩ := pTw_get (f := pDgt) (b := b) (a := p) (k := i) rfl (show i < (pDg b p).length by omega)
    unfold pDgt at g2
    have g2 := of_decide_eq_true g2
    have g1' : (pDg b p).getD i 0 = b.getD (p + i) 0 := g1
    rw [pVal_step (by omega) (by omega), g1', Nat.pow_succ]
    omega
theorem C_number {lo hi : Nat} (h1 : z1 = nI lo) (h2 : z2 = nI hi) (hlo : lo ≤ 100) (hhi : hi ≤ 20000) (h : pOk G μ m b a r) (hz : sZ r) (kok : ∀ v a', pNum b lo hi a = .ok (v, a') → ∀ ν, pOk G ν m b a' r → zfi ν 58 m = nI (pSk b a) → zW (zFk m) (zA1 (m + 1)) μ ν → Q (some (vI (nI v))) ν) (ker : ∀ e, pNum b lo hi a = .error e → ∀ ν, pEr G ν m b e → zai ν (m + 1) = r → zW (zFk m) (zA1 (m + 1)) μ ν → Q (some (vI (nI lo))) ν) : Call G Y_X5_number [vP (5, 0, m), vI z1, vI z2] μ Q E := by
  subst h1 h2
  have hl := h.len
  -- the digits are read; then the checks
  have loop : ∀ (ν0 : ZM), zTb G ν0 m b → zfi ν0 57 m = nI (pSk b a) → zfi ν0 58 m = nI (pSk b a) → (∀ ν, zTb G ν m b → zfi ν 57 m = nI (pSk b a + (pDg b (pSk b a)).length) → zfi ν 58 m = nI (pSk b a) → zW (fun f c => c = m ∧ f = 57) zA0 ν0 ν → Wp G Y_X5_number 117 [(0, vP (5, 0, m)), (1, vI (nI lo)), (2, vI (nI hi)), (3, vI (nI (pVal (pDg b (pSk b a)))))] [vI (if 4 < (pDg b (pSk b a)).length then 0 else 1), vP (5, 0, m)] ν Q E) → Wp G Y_X5_number 30 [(0, vP (5, 0, m)), (1, vI (nI lo)), (2, vI (nI hi)), (3, vI 0)] [] ν0 Q E := by
    intro ν0 hb0 e0 e1 kk
    have hp := pSk_le h.2.2.1
    have hd := pDg_le hp
    have key : ∀ d i (ν : ZM), i + d = (pDg b (pSk b a)).length → zTb G ν m b → zfi ν 57 m = nI (pSk b a + i) → zfi ν 58 m = nI (pSk b a) → zW (fun f c => c = m ∧ f = 57) zA0 ν0 ν → Wp G Y_X5_number 30 [(0, vP (5, 0, m)), (1, vI (nI lo)), (2, vI (nI hi)), (3, vI (nI (pVal ((pDg b (pSk b a)).take i))))] [] ν Q E := by
      intro d
      induction d with
      | zero =>
        intro i ν hi hb e57 e58 hW
        have hi' : i = (pDg b (pSk b a)).length := by omega
        have ed : nI (pSk b a + i) - nI (pSk b a) = nI i := by rw [pk_sub (by omega)]; congr 1; omega
        have kk' := kk ν hb (by rw [e57, hi']) e58 hW
        refine B_X5_number_30 ⟨_, e57, C_byteAt (pSk b a + i) hb rfl (by omega) ⟨_, rfl, C_in 48 58 (by decide) (by decide) (fun x x1 x2 hx => ?_) (fun hne => ⟨_, rfl, fun _ => ⟨_, e57, _, e58, fun h4 => ?_, fun h4 => ?_⟩, fun t => absurd rfl t⟩)⟩⟩
        · obtain ⟨g1, g2⟩ := bAt_eq hb.by (by omega) hx
          rw [hi'] at g1 g2
          refine absurd ?_ (pTw_end (f := pDgt) (b := b) (a := pSk b a) rfl g1)
          show pDgt (b.getD (pSk b a + (pDg b (pSk b a)).length) 0) = true
          rw [g2]; unfold pDgt; exact decide_eq_true ⟨x1, by omega⟩
        · rw [ed] at h4
          have h4' : 4 < i := (nI_ltI (a := 4) (by omega) (by omega)).mp h4
          rw [if_pos (by omega)] at kk'
          rw [hi', List.take_of_length_le (Nat.le_refl _)]
          exact kk'
        · rw [ed] at h4
          have h4' : ¬ 4 < i := fun t => h4 (nI_lt (a := 4) t (by omega))
          rw [if_neg (by omega)] at kk'
          rw [hi', List.take_of_length_le (Nat.le_refl _)]
          exact kk'
      | succ d ih =>
        intro i ν hi hb e57 e58 hW
        have ed : nI (pSk b a + i) - nI (pSk b a) = nI i := by rw [pk_sub (by omega)]; congr 1; omega
        obtain ⟨g1, g2, g3⟩ := pTw_get (f := pDgt) (b := b) (a := pSk b a) (k := i) rfl (show i < (pDg b (pSk b a)).length by omega)
        unfold pDgt at g2
        have g2 := of_decide_eq_true g2
        have hW1 : zW (fun f c => c = m ∧ f = 57) zA0 ν (zFi ν 57 m (nI (pSk b a + i + 1))) := zW_Fi ⟨rfl, rfl⟩ ν _
        have hWk : zW (zFk m) (zA1 (m + 1)) ν (zFi ν 57 m (nI (pSk b a + i + 1))) := zFk_set (by omega) ν _
        have nx := ih (i + 1) _ (by omega) (hb.same hWk.kk) (by rw [zfi_zFi, if_pos ⟨rfl, rfl⟩]; rfl) (by rw [zfi_zFi, if_neg (by omega)]; exact e58) (hW.trans hW1)
        refine B_X5_number_30 ⟨_, e57, C_byteAt (pSk b a + i) hb rfl (by omega) ⟨_, rfl, C_in 48 58 (by decide) (by decide) (fun x x1 x2 hx => ⟨_, rfl, fun t => absurd t (by decide), fun _ => ⟨_, e57, _, e58, fun h4 => ?_, fun h4 => C_byteAt (pSk b a + i) hb rfl (by omega) ⟨_, rfl, _, e57, ?_⟩⟩⟩) (fun hne => absurd (bAt_lt g3) (hne _ g2.1 (by omega) (by omega)))⟩⟩
        · rw [ed] at h4
          have h4' : ¬ i < 4 := fun t => h4 (nI_lt (b := 4) t (by omega))
          rw [nI_1]
          rw [pVal_over (by omega), ← pVal_over (i := i) (by omega)] at nx
          exact nx
        · rw [ed] at h4
          have h4' : i < 4 := (nI_ltI (b := 4) (by omega) (by omega)).mp h4
          rw [nI_1]
          have hlt := pVal_lt (b := b) (p := pSk b a) i (by omega) (by omega)
          have g1' : (pDg b (pSk b a)).getD i 0 = b.getD (pSk b a + i) 0 := g1
          rw [pVal_step (by omega) h4', g1'] at nx
          have ev : (10 * nI (pVal ((pDg b (pSk b a)).take i)) + bAt b (pSk b a + i)) - 48 = nI (10 * pVal ((pDg b (pSk b a)).take i) + (b.getD (pSk b a + i) 0 - 48)) := by
            rw [bAt_lt g3]
            show (nI 10 * nI _ + nI _) - nI 48 = _
            rw [pk_mul, nI_add, pk_sub (by omega)]
            congr 1; omega
          rw [ev]
          exact nx
    exact key (pDg b (pSk b a)).length 0 ν0 (by omega) hb0 e0 e1 (zW.rf _ _ _)
  have hp := pSk_le h.2.2.1
  have hd := pDg_le hp
  have hv : pVal (pDg b (pSk b a)) < 10000 := by
    by_cases h4 : (pDg b (pSk b a)).length ≤ 4
    · have := pVal_lt (b := b) (p := pSk b a) _ h4 (Nat.le_refl _)
      rw [List.take_of_length_le (Nat.le_refl _)] at this
      have h10 : 10 ^ (pDg b (pSk b a)).length ≤ 10 ^ 4 := Nat.pow_le_pow_right (by omega) h4
      omega
    · have := pVal_lt (b := b) (p := pSk b a) 4 (Nat.le_refl _) (by omega)
      rw [pVal_over (Nat.le_refl _)] at this
      omega
  refine S_X5_number ⟨_, h.2.2.2.1.1, fun _ => C_nextOk h fun ν hν hW => ⟨_, rfl, C_in 48 58 (by decide) (by decide) (fun x x1 x2 hx => ⟨_, rfl, C_must1 ⟨rfl, loop ν hν.1.1 hν.1.2.1 hν.2.1 fun ρ hb e57 e58 hWρ => ?_⟩⟩) (fun hne => ⟨_, rfl, C_must0 hν.1.2.2.2.1.1 ⟨rfl, ?_⟩⟩)⟩, fun t => absurd rfl t⟩
  · -- digits
    obtain ⟨g1, g2⟩ := bAt_eq hν.1.1.by (by omega) hx
    have hpos : (pDg b (pSk b a)).length ≠ 0 := by
      unfold pDg
      rw [pTw_step g1 (by rw [g2]; unfold pDgt; exact decide_eq_true ⟨x1, by omega⟩)]
      simp
    have oth : ∀ f, f ≠ 57 → zfi ρ f m = zfi ν f m := fun f hf => hWρ.2.2.2.2.2.2.1 f m (fun t => hf t.2)
    have erow : zai ρ (m + 1) = zai ν (m + 1) := hWρ.ai (fun t => t)
    have hWρk : zW (zFk m) (zA1 (m + 1)) ν ρ := hWρ.mono (fun f c t => ⟨t.1, by have := t.2; omega⟩) (fun c t => t.elim)
    have hok : pOk G ρ m b (pSk b a + (pDg b (pSk b a)).length) r := ⟨hb, e57, hd, ⟨(oth 60 (by omega)).trans hν.1.2.2.2.1.1, (oth 61 (by omega)).trans hν.1.2.2.2.1.2⟩, erow.trans hν.1.2.2.2.2⟩
    have mkerr : ∀ c : Int32, c ≠ 0 → pEr G (zFi (zFi ρ 60 m c) 61 m (zfi ρ 58 m)) m b (c, pSk b a) ∧ zW (zFk m) (zA1 (m + 1)) ρ (zFi (zFi ρ 60 m c) 61 m (zfi ρ 58 m)) := fun c hc => by
      have hW := (zFk_set (m := m) (f := 60) (by omega) ρ c).trans (zFk_set (m := m) (f := 61) (by omega) _ (zfi ρ 58 m))
      refine ⟨⟨hb.same hW.kk, by rw [zfi_zFi, if_neg (by omega), zfi_zFi, if_pos ⟨rfl, rfl⟩], hc, by rw [zfi_zFi, if_pos ⟨rfl, rfl⟩]; exact e58, fun j hj => ?_⟩, hW⟩
      show zai ρ (m + 1) j = 0
      rw [hok.2.2.2.2]; exact hz j hj
    have hcast : (nI lo).toInt64.toInt = lo := by rw [Int32.toInt_toInt64, nI_toInt (by omega)]
    have hcast2 : (nI hi).toInt64.toInt = ((hi + 1 : Nat) : Int) - 1 := by rw [Int32.toInt_toInt64, nI_toInt (by omega)]; omega
    by_cases h4 : 4 < (pDg b (pSk b a)).length
    · rw [if_pos h4]
      obtain ⟨he, hW2⟩ := mkerr 1 (by decide)
      have hsp : pNum b lo hi a = .error (1, pSk b a) := by unfold pNum; rw [if_pos (Or.inr h4)]
      have hn60 : ¬ zfi (zFi (zFi ρ 60 m 1) 61 m (zfi ρ 58 m)) 60 m = 0 := by rw [he.2.1]; exact he.2.2.1
      refine B_X5_number_117 (C_must0 hok.2.2.2.1.1 ⟨rfl, C_in lo (hi + 1) hcast hcast2 (fun x _ _ _ => ⟨_, rfl, C_must1 ⟨rfl, _, rfl, fun _ => ker _ hsp _ he hok.2.2.2.2 ((hW.trans hWρk).trans hW2), fun t => absurd t hn60⟩⟩) (fun _ => ⟨_, rfl, C_muste hn60 ⟨rfl, _, rfl, fun _ => ker _ hsp _ he hok.2.2.2.2 ((hW.trans hWρk).trans hW2), fun t => absurd t hn60⟩⟩)⟩)
    · rw [if_neg h4]
      refine B_X5_number_117 (C_must1 ⟨rfl, C_in lo (hi + 1) hcast hcast2 (fun x y1 y2 hx' => ⟨_, rfl, C_must1 ⟨rfl, _, hok.2.2.2.1.1, fun t => absurd rfl t, fun _ => kok _ _ ?_ _ hok e58 (hW.trans hWρk)⟩⟩) (fun hne => ⟨_, rfl, C_must0 hok.2.2.2.1.1 ⟨rfl, ?_⟩⟩)⟩)
      · have hx'' : pVal (pDg b (pSk b a)) = x := (nI_eq (by omega) (by omega)).mp hx'
        unfold pNum
        rw [if_neg (by omega), if_pos (by omega)]
      · obtain ⟨he, hW2⟩ := mkerr 2 (by decide)
        have hn60 : ¬ zfi (zFi (zFi ρ 60 m 2) 61 m (zfi ρ 58 m)) 60 m = 0 := by rw [he.2.1]; exact he.2.2.1
        refine ⟨_, rfl, fun _ => ker _ ?_ _ he hok.2.2.2.2 ((hW.trans hWρk).trans hW2), fun t => absurd t hn60⟩
        unfold pNum
        rw [if_neg (by omega), if_neg (fun t => hne _ t.1 (by omega) (by omega) rfl)]
  · -- no digits
    obtain ⟨he, hW2⟩ := hν.err hz 1 (by decide)
    have h0 : pDg b (pSk b a) = [] := by
      unfold pDg
      refine pTw_stop fun hlt hf => ?_
      unfold pDgt at hf
      have hf := of_decide_eq_true hf
      exact hne _ hf.1 (by omega) (by omega) (bAt_lt hlt)
    have hsp : pNum b lo hi a = .error (1, pSk b a) := by unfold pNum; rw [if_pos (Or.inl (by rw [h0]; rfl))]
    refine loop _ he.1 (by rw [zfi_zFi, if_neg (by omega), zfi_zFi, if_neg (by omega)]; exact hν.1.2.1) (by rw [zfi_zFi, if_neg (by omega), zfi_zFi, if_neg (by omega)]; exact hν.2.1) fun ρ hb e57 e58 hWρ => ?_
    have oth : ∀ f, f ≠ 57 → zfi ρ f m = zfi (zFi (zFi ν 60 m 1) 61 m (zfi ν 58 m)) f m := fun f hf => hWρ.2.2.2.2.2.2.1 f m (fun t => hf t.2)
    have he2 : pEr G ρ m b (1, pSk b a) := he.same (hWρ.mono (fun f c t => ⟨t.1, by have := t.2; omega⟩) (fun c t => t)) (oth 60 (by omega)) (oth 61 (by omega))
    have hWρk : zW (zFk m) (zA1 (m + 1)) (zFi (zFi ν 60 m 1) 61 m (zfi ν 58 m)) ρ := hWρ.mono (fun f c t => ⟨t.1, by have := t.2; omega⟩) (fun c t => t.elim)
    have hn60 : ¬ zfi ρ 60 m = 0 := by rw [he2.2.1]; exact he2.2.2.1
    have hcast : (nI lo).toInt64.toInt = lo := by rw [Int32.toInt_toInt64, nI_toInt (by omega)]
    have hcast2 : (nI hi).toInt64.toInt = ((hi + 1 : Nat) : Int) - 1 := by rw [Int32.toInt_toInt64, nI_toInt (by omega)]; omega
    rw [if_neg (by rw [h0]; decide)]
    exact B_X5_number_117 (C_must1 ⟨rfl, C_in lo (hi + 1) hcast hcast2 (fun x _ _ _ => ⟨_, rfl, C_must1 ⟨rfl, _, rfl, fun _ => ker _ hsp _ he2 ((hWρ.ai (fun t => t)).trans hν.1.2.2.2.2) ((hW.trans hW2).trans hWρk), fun t => absurd t hn60⟩⟩) (fun _ => ⟨_, rfl, C_muste hn60 ⟨rfl, _, rfl, fun _ => ker _ hsp _ he2 ((hWρ.ai (fun t => t)).trans hν.1.2.2.2.2) ((hW.trans hW2).trans hWρk), fun t => absurd t hn60⟩⟩)⟩)
theorem C_number_e (h : pEr G μ m b e) (k : Q (some (vI z1)) μ) : Call G Y_X5_number [vP (5, 0, m), vI z1, vI z2] μ Q E := S_X5_number ⟨_, h.2.1, fun t => absurd t h.2.2.1, fun _ => k⟩
end ZPA
