/-! CONTRACTS, 19: String constants; the model's tokens -/
/-- a String of these signs; objects and arrays below lo -/
def zStr (μ : ZM) (lo : Nat) (p : ZP) (w : List Nat) : Prop := zis 23 p ∧ p.2.2 < lo ∧ zfi μ 141 p.2.2 = 0 ∧ w.length < 100000 ∧ ∃ q : ZP, zfr μ 140 p.2.2 = q ∧ zis 202 q ∧ q.2.2 < lo ∧ q.2.1 = w.length ∧ ∀ j, j < w.length → zai μ q.2.2 j = nI (w.getD j 0) ∧ w.getD j 0 < 128
theorem pTw_end {f : Nat → Bool} {b : List Nat} : ∀ {n a : Nat}, b.length - a = n → a + ((b.drop a).takeWhile f).length < b.length → ¬ f (b.getD (a + ((b.drop a).takeWhile f).length) 0) = true := by
  intro n
  induction n with
  | zero => intro a hn h; omega
  | succ n ih =>
    intro a hn h
    by_cases hf : f (b.getD a 0) = true
    · rw [pTw_step (by omega) hf] at h ⊢
      rw [List.length_cons] at h ⊢
      have := ih (a := a + 1) (by omega) (by omega)
      rw [show a + (((b.drop (a + 1)).takeWhile f).length + 1) = a + 1 + ((b.drop (a + 1)).takeWhile f).length by omega]
      exact this
    · rw [pTw_stop (fun _ => hf)]
      exact hf
theorem pSk_sk (b : List Nat) (a : Nat) : pSk b (pSk b a) = pSk b a := pSk_stop fun h q => pTw_end (f := fun c => c == 32) (b := b) (a := a) rfl h (by show (b.getD (pSk b a) 0 == 32) = true; rw [q]; rfl)
theorem bAt_eq {b : List Nat} {k e : Nat} (hb : ∀ k, k < b.length → b.getD k 0 < 256) (he : e < 2147483648) (h : bAt b k = nI e) : k < b.length ∧ b.getD k 0 = e := by
  unfold bAt at h
  split at h
  · rename_i hk
    have := hb k hk
    exact ⟨hk, (nI_eq (by omega) (by omega)).mp h⟩
  · exact absurd h.symm (o2i_neg he)
theorem bAt_lt {b : List Nat} {k : Nat} (h : k < b.length) : bAt b k = nI (b.getD k 0) := if_pos h
section ZTK
variable {G : ZG} {μ ν : ZM} {Q : Option ZV → ZM → Prop} {E : ZP → ZM → Prop} {m lo : Nat} {z z1 z2 : Int32} {p : ZP} {w b : List Nat}
theorem C_strLen (h : zStr μ lo p w) (k : Q (some (vI (nI w.length))) μ) : Call G Y_J9_length [vP p] μ Q E := by
  obtain ⟨h1, h2, h3, h4, q, h5, h6, h7, h8, h9⟩ := h
  refine S_J9_length ⟨h1, q, h5, h6, S_J9_coder ⟨h1, _, h3, rfl, _, rfl, ?_⟩⟩
  dsimp only
  rw [pk_shrN (by rw [h8]; omega) _ 0 (by decide), h8, Nat.pow_zero, Nat.div_one]
  exact k
theorem C_strChar (i : Nat) (h : zStr μ lo p w) (hz : z = nI i) (hi : i < w.length) (k : Q (some (vI (nI (w.getD i 0)))) μ) : Call G Y_J9_charAt [vP p, vI z] μ Q E := by
  obtain ⟨h1, h2, h3, h4, q, h5, h6, h7, h8, h9⟩ := h
  obtain ⟨c1, c2⟩ := h9 i hi
  subst hz
  have e1 : ((nI (w.getD i 0) &&& 255).toUInt32 % 65536).toInt32 = nI (w.getD i 0) := by
    rw [pk_andN (by omega) 8 rfl, pk_char, pk_tn (by omega)]
    congr 1; omega
  refine S_J9_charAt ⟨h1, S_J9_isLatin1 ⟨h1, _, h3, fun t => absurd rfl t, fun _ => ⟨_, rfl, fun t => absurd t (by decide), fun _ => ⟨q, h5, h6, S_J15_charAt_208 ⟨h6, S_J9_checkIndex (S_J14_checkIndex ⟨fun t => absurd t (nI_pos (by omega)), fun _ => ⟨fun _ => ⟨_, rfl, rfl, i, zix.eq rfl (by omega) (by omega), _, c1, pk_nc _, _, rfl, ?_, ?_⟩, fun t => absurd (nI_lt (by omega) (by omega)) t⟩⟩)⟩⟩⟩⟩⟩
  · rw [e1]; exact (pk_charN (by omega)).1
  · rw [e1]; exact k
/-- the texts of the parsers -/
def kTx : List (Nat × List Nat) := [(107, []), (108, tFair), (109, tFog), (110, tEcho), (111, tValley), (112, tTested), (113, tPass), (114, tTest), (115, tDismiss), (116, tWage), (117, tFund), (118, tTrain)]
def zKs (G : ZG) (μ : ZM) (lo : Nat) : Prop := ∀ x ∈ kTx, zStr μ lo (zgS G x.1) x.2
/-- the model's text -/
def zTb (G : ZG) (μ : ZM) (m : Nat) (b : List Nat) : Prop := zKs G μ m ∧ zMm μ m ∧ zBu μ m b
/-- the fields of the tokens -/
def zFk (m f b : Nat) : Prop := b = m ∧ 57 ≤ f ∧ f ≤ 61
def zFn (m f b : Nat) : Prop := b = m ∧ 57 ≤ f ∧ f ≤ 59
def zA0 (_ : Nat) : Prop := False
theorem zStr.same (h : zStr μ lo p w) (hW : zW (zFm m) (zAm m) μ ν) (hl : lo ≤ m) : zStr ν lo p w := by
  obtain ⟨h1, h2, h3, h4, q, h5, h6, h7, h8, h9⟩ := h
  refine ⟨h1, h2, (hW.2.2.2.2.2.2.1 _ _ (by unfold zFm; omega)).trans h3, h4, q, by rw [hW.fr]; exact h5, h6, h7, h8, fun j hj => ?_⟩
  rw [hW.ai (show ¬ zAm m q.2.2 by unfold zAm; omega)]
  exact h9 j hj
theorem zKs.same (h : zKs G μ m) (hW : zW (zFm m) (zAm m) μ ν) : zKs G ν m := fun x hx => (h x hx).same hW (Nat.le_refl _)
theorem zW.nk (h : zW (zFn m) zA0 μ ν) : zW (zFk m) (zA1 (m + 1)) μ ν := h.mono (fun f b q => ⟨q.1, q.2.1, by have := q.2.2; omega⟩) (fun b q => q.elim)
theorem zW.kk (h : zW (zFk m) (zA1 (m + 1)) μ ν) : zW (zFs m) (zAs m) μ ν := h.mono (fun f b q => by unfold zFk at q; unfold zFs; omega) (fun b q => by unfold zA1 at q; unfold zAs; omega)
theorem zTb.same (h : zTb G μ m b) (hW : zW (zFs m) (zAs m) μ ν) : zTb G ν m b :=
  ⟨h.1.same hW.m, h.2.1.fr hW.fr, h.2.2.same (hW.2.2.2.2.2.2.1 56 m (by unfold zFs; omega)) (hW.ai (by unfold zAs; omega))⟩
theorem zTb.same2 (h : zTb G μ m b) (hW : zW (zFt m) (zAt m) μ ν) : zTb G ν m b :=
  ⟨h.1.same hW.tm, h.2.1.fr hW.fr, h.2.2.same (hW.2.2.2.2.2.2.1 56 m (by unfold zFt; omega)) (hW.ai (by unfold zAt; omega))⟩
theorem zTb.by (h : zTb G μ m b) : ∀ k, k < b.length → b.getD k 0 < 256 := fun k hk => (h.2.2.2.2 k hk).2
theorem C_byteAt (k : Nat) (h : zTb G μ m b) (hz : z = nI k) (hk : k ≤ 100000) (kk : Q (some (vI (bAt b k))) μ) : Call G Y_X5_byteAt [vP (5, 0, m), vI z] μ Q E := by
  obtain ⟨h1, h2, l1, l2, l3⟩ := h
  subst hz
  unfold bAt at kk
  refine S_X5_byteAt ⟨_, l2, fun hn => ?_, fun hl => ?_⟩
  · rw [if_neg (fun q => hn (nI_lt q (by omega)))] at kk; exact kk
  · have hl' : k < b.length := (nI_ltI (by omega) (by omega)).mp hl
    rw [if_pos hl'] at kk
    exact ⟨_, _, h2.2.2.2.2.2.2.2.2.2.1, k, zix.eq rfl (by omega) (by omega), _, (l3 k hl').1, kk⟩
theorem zFn_set {f : Nat} (hf : 57 ≤ f ∧ f ≤ 59) (μ : ZM) (x : Int32) : zW (zFn m) zA0 μ (zFi μ f m x) := zW_Fi ⟨rfl, hf⟩ μ x
theorem C_next {a : Nat} (h : zTb G μ m b) (h57 : zfi μ 57 m = nI a) (ha : a ≤ b.length) (k : ∀ ν, zTb G ν m b → zfi ν 57 m = nI (pSk b a) → zfi ν 58 m = nI (pSk b a) → zfi ν 59 m = nI (pWd b (pSk b a)).length → zW (zFn m) zA0 μ ν → Q (some (vI (bAt b (pSk b a)))) ν) : Call G Y_X5_next [vP (5, 0, m)] μ Q E := by
  have hl : b.length ≤ 900 := h.2.2.1
  refine S_X5_next ?_
  -- letters
  have l2 : ∀ d j (ν : ZM), j + d = (pWd b (pSk b a)).length → zTb G ν m b → zfi ν 57 m = nI (pSk b a) → zfi ν 58 m = nI (pSk b a) → zfi ν 59 m = nI j → zW (zFn m) zA0 μ ν → Wp G Y_X5_next 39 [(0, vP (5, 0, m))] [] ν Q E := by
    intro d
    induction d with
    | zero =>
      intro j ν hj hb e57 e58 e59 hW
      have hp := pSk_le ha
      have hw := pWd_le hp
      refine B_X5_next_39 ⟨_, e58, _, e59, C_byteAt (pSk b a + j) hb (nI_add _ _) (by omega) ⟨_, rfl, C_in 97 123 (by decide) (by decide) (fun e e1 e2 hz => ?_) (fun hne => ⟨_, rfl, fun _ => ⟨_, e57, C_byteAt (pSk b a) hb rfl (by omega) ⟨_, rfl, k ν hb e57 e58 (by rw [e59, show j = (pWd b (pSk b a)).length by omega]) hW⟩⟩, fun q => absurd rfl q⟩)⟩⟩
      obtain ⟨g1, g2⟩ := bAt_eq hb.by (by omega) hz
      have hj' : j = (pWd b (pSk b a)).length := by omega
      rw [hj'] at g1 g2
      refine absurd ?_ (pTw_end (f := pLet) (b := b) (a := pSk b a) rfl g1)
      show pLet (b.getD (pSk b a + (pWd b (pSk b a)).length) 0) = true
      rw [g2]; unfold pLet; exact decide_eq_true ⟨e1, by omega⟩
    | succ d ih =>
      intro j ν hj hb e57 e58 e59 hW
      obtain ⟨-, g2, g3⟩ := pTw_get (f := pLet) (b := b) (a := pSk b a) (k := j) rfl (show j < (pWd b (pSk b a)).length by omega)
      unfold pLet at g2
      have g2 := of_decide_eq_true g2
      refine B_X5_next_39 ⟨_, e58, _, e59, C_byteAt (pSk b a + j) hb (nI_add _ _) (by omega) ⟨_, rfl, C_in 97 123 (by decide) (by decide) (fun e e1 e2 hz => ⟨_, rfl, fun q => absurd q (by decide), fun _ => ⟨_, e59, ?_⟩⟩) (fun hne => absurd (bAt_lt g3) (hne _ g2.1 (by omega) (by omega)))⟩⟩
      rw [nI_1]
      have hW1 := zFn_set (m := m) (f := 59) (by omega) ν (nI (j + 1))
      exact ih (j + 1) _ (by omega) (hb.same hW1.nk.kk) (by rw [zfi_zFi, if_neg (by omega)]; exact e57) (by rw [zfi_zFi, if_neg (by omega)]; exact e58) (by rw [zfi_zFi, if_pos ⟨rfl, rfl⟩]) (hW.trans hW1)
  -- spaces
  have l1 : ∀ d c (ν : ZM), c + d = b.length → pSk b c = pSk b a → zTb G ν m b → zfi ν 57 m = nI c → zW (zFn m) zA0 μ ν → Wp G Y_X5_next 0 [(0, vP (5, 0, m))] [] ν Q E := by
    intro d
    induction d with
    | zero =>
      intro c ν hc hs hb e57 hW
      refine B_X5_next_0 ⟨_, e57, C_byteAt c hb rfl (by omega) ⟨_, rfl, fun _ => ⟨_, e57, ?_⟩, fun q => ?_⟩⟩
      · have e : pSk b a = c := by rw [← hs]; exact pSk_stop fun q => by omega
        have hW1 := (zFn_set (m := m) (f := 58) (by omega) ν (nI c)).trans (zFn_set (m := m) (f := 59) (by omega) _ 0)
        exact l2 _ 0 _ (Nat.zero_add _) (hb.same hW1.nk.kk) (by rw [zfi_zFi, if_neg (by omega), zfi_zFi, if_neg (by omega), e]; exact e57) (by rw [zfi_zFi, if_neg (by omega), zfi_zFi, if_pos ⟨rfl, rfl⟩, e]) (by rw [zfi_zFi, if_pos ⟨rfl, rfl⟩]; rfl) (hW.trans hW1)
      · obtain ⟨g1, -⟩ := bAt_eq (e := 32) hb.by (by omega) q
        omega
    | succ d ih =>
      intro c ν hc hs hb e57 hW
      refine B_X5_next_0 ⟨_, e57, C_byteAt c hb rfl (by omega) ⟨_, rfl, fun hn => ⟨_, e57, ?_⟩, fun q => ⟨_, e57, ?_⟩⟩⟩
      · have hne : c < b.length → b.getD c 0 ≠ 32 := fun t u => hn (by rw [bAt_lt t, u]; rfl)
        have e : pSk b a = c := by rw [← hs]; exact pSk_stop hne
        have hW1 := (zFn_set (m := m) (f := 58) (by omega) ν (nI c)).trans (zFn_set (m := m) (f := 59) (by omega) _ 0)
        exact l2 _ 0 _ (Nat.zero_add _) (hb.same hW1.nk.kk) (by rw [zfi_zFi, if_neg (by omega), zfi_zFi, if_neg (by omega), e]; exact e57) (by rw [zfi_zFi, if_neg (by omega), zfi_zFi, if_pos ⟨rfl, rfl⟩, e]) (by rw [zfi_zFi, if_pos ⟨rfl, rfl⟩]; rfl) (hW.trans hW1)
      · obtain ⟨g1, g2⟩ := bAt_eq (e := 32) hb.by (by omega) q
        rw [nI_1]
        have hW1 := zFn_set (m := m) (f := 57) (by omega) ν (nI (c + 1))
        exact ih (c + 1) _ (by omega) (by rw [← hs]; exact (pSk_step g1 g2).symm) (hb.same hW1.nk.kk) (by rw [zfi_zFi, if_pos ⟨rfl, rfl⟩]) (hW.trans hW1)
  exact l1 (b.length - a) a μ (by omega) rfl h h57 (zW.rf _ _ _)
theorem C_must1 (k : Q none μ) : Call G Y_X5_must [vP (5, 0, m), vI 1, vI z2] μ Q E := S_X5_must ⟨fun _ => k, fun q => absurd q (by decide)⟩
theorem C_must0 (h : zfi μ 60 m = 0) (k : Q none (zFi (zFi μ 60 m z2) 61 m (zfi μ 58 m))) : Call G Y_X5_must [vP (5, 0, m), vI 0, vI z2] μ Q E := S_X5_must ⟨fun q => absurd rfl q, fun _ => ⟨_, rfl, fun _ => ⟨_, rfl, k⟩, fun q => absurd h q⟩⟩
theorem C_muste (h : ¬ zfi μ 60 m = 0) (k : Q none μ) : Call G Y_X5_must [vP (5, 0, m), vI z1, vI z2] μ Q E := S_X5_must ⟨fun _ => k, fun _ => ⟨_, rfl, fun q => absurd q h, fun _ => k⟩⟩
end ZTK
