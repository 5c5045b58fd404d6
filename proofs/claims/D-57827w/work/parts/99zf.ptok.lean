set_option maxRecDepth 100000
/-! THE COMPONENT, 51: the parser's tokens -/
/-- kind of the token at p; where it ends -/
def pKd (b : List Nat) (p : Nat) : Nat := if p < b.length then (if pLet (b.getD p 0) = true then 3 else if pDgt (b.getD p 0) = true then 4 else 5) else 2
def pEd (b : List Nat) (p : Nat) : Nat := if p < b.length then (if pLet (b.getD p 0) = true then p + (pWd b p).length else if pDgt (b.getD p 0) = true then p + (pDg b p).length else p + 1) else p
/-- what holds where the parser starts -/
def zPc (G : ZG) (μ0 : ZM) (x bf B : Nat) (b : List Nat) : Prop := (x < zsz μ0 ∧ bf < zsz μ0 ∧ zfr μ0 3 x = (202, 900, bf)) ∧ (b.length ≤ 900 ∧ ∀ k, k < b.length → zai μ0 bf k = sB (b.getD k 0) ∧ b.getD k 0 < 256) ∧ (zKs G μ0 B ∧ B ≤ zsz μ0 ∧ zfi μ0 142 (zgS G 107).2.2 = 0 ∧ ¬ zfi μ0 143 (zgS G 107).2.2 = 0) ∧ zKd G
/-- the parser's object -/
def zPo (μ0 ν : ZM) (P x : Nat) (b : List Nat) : Prop := zsz μ0 ≤ P ∧ P < zsz ν ∧ zfr ν 74 P = (1, 0, x) ∧ zfi ν 68 P = nI b.length
/-- a word: the constant, or a String made since M -/
def zWd (G : ZG) (ν : ZM) (M : Nat) (q : ZP) (w : List Nat) : Prop := (q = zgS G 107 ∧ w = []) ∨ ∃ h, q = (23, 0, h) ∧ M ≤ h ∧ M ≤ (zfr ν 140 h).2.2 ∧ zStr ν (zsz ν) q w
/-- its hash is not known yet, or it is the constant -/
def zFh (G : ZG) (ν : ZM) (q : ZP) : Prop := q = zgS G 107 ∨ ∃ h, q = (23, 0, h) ∧ zfi ν 142 h = 0 ∧ zfi ν 143 h = 0 ∧ (zfr ν 140 h).1 = 202
/-- the token behind a -/
def zTn (G : ZG) (ν : ZM) (P : Nat) (b : List Nat) (a M : Nat) : Prop := zfi ν 70 P = nI (pSk b a) ∧ zfi ν 69 P = nI (pEd b (pSk b a)) ∧ zfr ν 73 P = zgS G (pKd b (pSk b a)) ∧ (pKd b (pSk b a) = 4 → zfi ν 71 P = nI (pVal (pDg b (pSk b a)))) ∧ zWd G ν M (zfr ν 72 P) (pWd b (pSk b a))
/-- what has grown till place q -/
def zPg (μ0 ν : ZM) (c e q : Nat) : Prop := zG (fun _ => False) (c + 5 * q) (e + 33 * q) μ0 ν
/-- the parser's state -/
def zPq (G : ZG) (μ0 ν : ZM) (P x : Nat) (b : List Nat) (c e a M : Nat) : Prop := a ≤ b.length ∧ zPo μ0 ν P x b ∧ zTn G ν P b a M ∧ zPg μ0 ν c e (pEd b (pSk b a))
theorem pEd_le {b : List Nat} {p : Nat} (hp : p ≤ b.length) : pEd b p ≤ b.length ∧ p ≤ pEd b p := by
  have h1 := pWd_le hp
  have h2 := pDg_le hp
  unfold pEd
  split
  · split
    · omega
    · split <;> omega
  · omega
section ZJ
variable {G : ZG} {μ ν μ0 : ZM} {Q : Option ZV → ZM → Prop} {E : ZP → ZM → Prop} {P x bf B c e a M : Nat} {b : List Nat} {z z1 z2 : Int32}
theorem zPc.by (h : zPc G μ0 x bf B b) : ∀ k, k < b.length → b.getD k 0 < 256 := fun k hk => (h.2.1.2 k hk).2
theorem C_pByte {c' e' : Nat} (k : Nat) (hc : zPc G μ0 x bf B b) (ho : zPo μ0 ν P x b) (g : zG (fun _ => False) c' e' μ0 ν) (hz : z = nI k) (hk : k ≤ 100000) (kk : Q (some (vI (bAt b k))) ν) : Call G Y_X6_byteAt [vP (6, 0, P), vI z] ν Q E := by
  obtain ⟨⟨c1, c2, c3⟩, ⟨c4, c5⟩, -⟩ := hc
  subst hz
  unfold bAt at kk
  refine S_X6_byteAt ⟨_, ho.2.2.2, fun hn => ?_, fun hl => ?_⟩
  · rw [if_neg (fun q => hn (nI_lt q (by omega)))] at kk; exact kk
  · have hl' : k < b.length := (nI_ltI (by omega) (by omega)).mp hl
    rw [if_pos hl'] at kk
    obtain ⟨s1, s2⟩ := c5 k hl'
    refine ⟨x, ho.2.2.1, 900, bf, ((g.same c1 id).2.1 3).trans c3, k, zix.eq rfl (by omega) (by omega), _, ((g.same c2 id).2.2.1 k).trans s1, ?_⟩
    rw [(sB_and ⟨b.getD k 0, s2⟩).1]
    exact kk
theorem zPo.kp {τ : ZM} (h : zPo μ0 ν P x b) (hs : zsz ν ≤ zsz τ) (h1 : zfr τ 74 P = zfr ν 74 P) (h2 : zfi τ 68 P = zfi ν 68 P) : zPo μ0 τ P x b := ⟨h.1, Nat.lt_of_lt_of_le h.2.1 hs, h1.trans h.2.2.1, h2.trans h.2.2.2⟩
/-- letters -/
theorem L_pWord {c1 e1 p h0 sa : Nat} (hc : zPc G μ0 x bf B b) (hp : p ≤ b.length) (ho : zPo μ0 ν P x b) (g : zG (fun _ => False) c1 e1 μ0 ν) (h69 : zfi ν 69 P = nI p) (hs : zSb ν h0 sa 16 []) (hz : P < h0 ∧ h0 < sa ∧ sa < zsz ν) (hM : zsz μ0 ≤ P)
    (k : ∀ ρ h, zsz ν ≤ h → zStr ρ (zsz ρ) (23, 0, h) (pWd b p) → zsz ν ≤ (zfr ρ 140 h).2.2 → zfi ρ 142 h = 0 → zfi ρ 143 h = 0 ∧ (zfr ρ 140 h).1 = 202 → zfr ρ 72 P = (23, 0, h) → zfi ρ 69 P = nI (p + (pWd b p).length) → (∀ f, f ≠ 72 → zfr ρ f P = zfr ν f P) → (∀ f, f ≠ 69 → zfi ρ f P = zfi ν f P) → zG (fun a => a = P ∨ a = h0 ∨ a = sa) ((pWd b p).length + 2) (5 * (pWd b p).length + 4) ν ρ → Q none ρ) : Wp G Y_X6_advance 93 [(0, vP (6, 0, P)), (2, vP (22, 0, h0))] [] ν Q E := by
  have hl := hc.2.1.1
  have hw := pWd_le hp
  have key : ∀ d j (τ : ZM) (sa' n' : Nat), j + d = (pWd b p).length → zfi τ 69 P = nI (p + j) → zSb τ h0 sa' n' ((pWd b p).take j) → 16 ≤ n' → ((n' = 16 ∧ sa' = sa) ∨ (zsz ν ≤ sa' ∧ n' ≤ 2 * j)) → zG (fun a => a = P ∨ a = h0 ∨ a = sa) j (2 * (n' - 16)) ν τ → (∀ f, zfr τ f P = zfr ν f P) → (∀ f, f ≠ 69 → zfi τ f P = zfi ν f P) → Wp G Y_X6_advance 93 [(0, vP (6, 0, P)), (2, vP (22, 0, h0))] [] τ Q E := by
    intro d
    induction d with
    | zero =>
      intro j τ sa' n' hj e69 hs' hn hsa gτ hfr hfi
      have hj' : j = (pWd b p).length := by omega
      have oτ : zPo μ0 τ P x b := ho.kp gτ.1.1 (hfr 74) (hfi 68 (by decide))
      have gμ : zG (fun _ => False) (c1 + j) (e1 + 2 * (n' - 16)) μ0 τ := zG.trN (W := fun _ => False) g (gτ.mono (fun a _ q => Or.inr (by have := g.1.1; omega)) (Nat.le_refl _) (Nat.le_refl _))
      refine B_X6_advance_93 ⟨_, e69, C_pByte (p + j) hc oτ gμ rfl (by omega) ⟨_, rfl, C_xIn 97 123 (by decide) (by decide) (fun e e1 e2 hz => ?_) (fun hne => ⟨_, rfl, fun _ => ?_, fun q => absurd rfl q⟩)⟩⟩
      · obtain ⟨g1, g2⟩ := bAt_eq hc.by (by omega) hz
        rw [hj'] at g1 g2
        refine absurd ?_ (pTw_end (f := pLet) (b := b) (a := p) rfl g1)
        show pLet (b.getD (p + (pWd b p).length) 0) = true
        rw [g2]; unfold pLet; exact decide_eq_true ⟨e1, by omega⟩
      · have etk : (pWd b p).take j = pWd b p := by rw [hj', List.take_of_length_le (Nat.le_refl _)]
        rw [etk] at hs'
        have gz := gτ.1.1
        refine Call.zo fun okτ _ => C_sbStr okτ (by omega) hs' (okτ.ref hs'.1.1 (by decide) (by decide)).1 fun ρ y1 y2 y3 y4 y5 => ⟨_, rfl, y3.1, ?_⟩
        have hPτ := ho.2.1
        have sP : zsame τ ρ P := y2.same (by omega) id
        have ne : zsz τ ≠ P := by omega
        have gR : zG (fun a => a = P ∨ a = h0 ∨ a = sa) (j + 2) (2 * (n' - 16) + (4 + (pWd b p).length)) ν (zFr ρ 72 P (23, 0, zsz τ)) := (gτ.tr (y2.mono (fun _ _ q => q.elim) (Nat.le_refl _) (Nat.le_refl _))).tr (zG.fr (W := fun a => a = P ∨ a = h0 ∨ a = sa) (f := 72) (v := (23, 0, zsz τ)) (Or.inl rfl))
        refine k _ (zsz τ) gz ?_ ?_ ?_ ?_ ?_ ?_ (fun f hf => ?_) (fun f hf => ?_) (gR.mono (fun _ _ q => q) (by omega) (by omega))
        · exact (zNa.kp (X := fun a => a = P) ⟨y3, ne, by rw [y4]; dsimp only; omega⟩ (fun a _ hx => (zsame_zFr hx _).c)).1
        · rw [zfr_zFr, if_neg (fun q => ne q.2), y4]; dsimp only; omega
        · exact y5.1
        · exact ⟨y5.2, by rw [zfr_zFr, if_neg (fun q => ne q.2), y4]⟩
        · rw [zfr_zFr, if_pos ⟨rfl, rfl⟩]
        · show zfi ρ 69 P = _
          rw [sP.1, e69, hj']
        · rw [zfr_zFr, if_neg (fun q => hf q.1), sP.2.1]; exact hfr f
        · show zfi ρ f P = _
          rw [sP.1]; exact hfi f hf
    | succ d ih =>
      intro j τ sa' n' hj e69 hs' hn hsa gτ hfr hfi
      have oτ : zPo μ0 τ P x b := ho.kp gτ.1.1 (hfr 74) (hfi 68 (by decide))
      have gμ : zG (fun _ => False) (c1 + j) (e1 + 2 * (n' - 16)) μ0 τ := zG.trN (W := fun _ => False) g (gτ.mono (fun a _ q => Or.inr (by have := g.1.1; omega)) (Nat.le_refl _) (Nat.le_refl _))
      have hjl : j < (pWd b p).length := by omega
      obtain ⟨g1, g2, g3⟩ := pTw_get (f := pLet) (b := b) (a := p) (k := j) rfl hjl
      have g1' : (pWd b p).getD j 0 = b.getD (p + j) 0 := g1
      unfold pLet at g2
      have g2 := of_decide_eq_true g2
      have gz := gτ.1.1
      have hPτ := ho.2.1
      refine B_X6_advance_93 ⟨_, e69, C_pByte (p + j) hc oτ gμ rfl (by omega) ⟨_, rfl, C_xIn 97 123 (by decide) (by decide) (fun e e1 e2 hz => ⟨_, rfl, fun q => absurd q (by decide), fun _ => ⟨_, e69, C_pByte (p + j) hc oτ gμ rfl (by omega) ⟨_, rfl, ?_⟩⟩⟩) (fun hne => absurd (bAt_lt g3) (hne _ g2.1 (by omega) (by omega)))⟩⟩
      have ech := ch128 ⟨b.getD (p + j) 0, by omega⟩
      dsimp only at ech
      rw [bAt_lt g3]
      dsimp only
      rw [ech]
      have lj : ((pWd b p).take j).length = j := by rw [List.length_take]; omega
      have tk : (pWd b p).take (j + 1) = (pWd b p).take j ++ [b.getD (p + j) 0] := by
        rw [List.take_succ_eq_append_getElem hjl, ← g1', List.getD_eq_getElem?_getD, List.getElem?_eq_getElem hjl]; rfl
      refine Call.zo fun okτ _ => C_sbApp rfl (by omega) (by omega) (by omega) okτ (by omega) hs' fun ρ sa2 n2 y1 y2 y3 y4 => ⟨_, rfl, _, rfl, ?_⟩
      rw [lj] at y3
      have nP : ¬ (P = h0 ∨ P = sa') := by omega
      have sP : zsame τ ρ P := y4.same (by omega) nP
      refine ⟨_, (sP.1 69).trans e69, ?_⟩
      rw [nI_1]
      have gρ : zG (fun a => a = P ∨ a = h0 ∨ a = sa) (j + 1) (2 * (n2 - 16)) ν (zFi ρ 69 P (nI (p + j + 1))) := ((gτ.trans y4 (fun a ha q => by omega)).tr (zG.fi (W := fun a => a = P ∨ a = h0 ∨ a = sa) (f := 69) (Or.inl rfl))).mono (fun _ _ q => q) (by omega) (by omega)
      have yz := y4.1.1
      refine ih (j + 1) _ sa2 n2 (by omega) (by rw [zfi_zFi, if_pos ⟨rfl, rfl⟩]; rfl) ?_ (by omega) (by omega) gρ (fun f => (sP.2.1 f).trans (hfr f)) (fun f hf => by rw [zfi_zFi, if_neg (fun q => hf q.1), sP.1]; exact hfi f hf)
      rw [tk]
      exact y1.kp (zsame_zFi (by omega) _).c (zsame_zFi (by omega) _).c
  exact key (pWd b p).length 0 ν sa 16 (by omega) h69 (by rw [List.take_zero]; exact hs) (Nat.le_refl _) (Or.inl ⟨rfl, rfl⟩) (zG.rf _ _) (fun _ => rfl) (fun _ _ => rfl)
/-- digits -/
theorem L_pDig {c1 e1 p : Nat} (hc : zPc G μ0 x bf B b) (hp : p ≤ b.length) (ho : zPo μ0 ν P x b) (g : zG (fun _ => False) c1 e1 μ0 ν) (h69 : zfi ν 69 P = nI p) (h70 : zfi ν 70 P = nI p) (h71 : zfi ν 71 P = 0)
    (k : ∀ ρ, zfi ρ 69 P = nI (p + (pDg b p).length) → zfi ρ 71 P = nI (pVal (pDg b p)) → (∀ f, zfr ρ f P = zfr ν f P) → (∀ f, f ≠ 69 → f ≠ 71 → zfi ρ f P = zfi ν f P) → zG (fun a => a = P) 0 0 ν ρ → Q none ρ) : Wp G Y_X6_advance 178 [(0, vP (6, 0, P))] [] ν Q E := by
  have hl := hc.2.1.1
  have hd := pDg_le hp
  have key : ∀ d i (τ : ZM), i + d = (pDg b p).length → zfi τ 69 P = nI (p + i) → zfi τ 71 P = nI (pVal ((pDg b p).take i)) → zG (fun a => a = P) 0 0 ν τ → (∀ f, zfr τ f P = zfr ν f P) → (∀ f, f ≠ 69 → f ≠ 71 → zfi τ f P = zfi ν f P) → Wp G Y_X6_advance 178 [(0, vP (6, 0, P))] [] τ Q E := by
    intro d
    induction d with
    | zero =>
      intro i τ hi e69 e71 gτ hfr hfi
      have hi' : i = (pDg b p).length := by omega
      have oτ : zPo μ0 τ P x b := ho.kp gτ.1.1 (hfr 74) (hfi 68 (by decide) (by decide))
      have gμ : zG (fun _ => False) c1 e1 μ0 τ := zG.trN (W := fun _ => False) g (gτ.mono (fun a _ q => Or.inr (by rw [q]; exact ho.1)) (Nat.le_refl _) (Nat.le_refl _))
      refine B_X6_advance_178 ⟨_, e69, C_pByte (p + i) hc oτ gμ rfl (by omega) ⟨_, rfl, C_xIn 48 58 (by decide) (by decide) (fun e e1 e2 hz => ?_) (fun hne => ⟨_, rfl, fun _ => ?_, fun q => absurd rfl q⟩)⟩⟩
      · obtain ⟨g1, g2⟩ := bAt_eq hc.by (by omega) hz
        rw [hi'] at g1 g2
        refine absurd ?_ (pTw_end (f := pDgt) (b := b) (a := p) rfl g1)
        show pDgt (b.getD (p + (pDg b p).length) 0) = true
        rw [g2]; unfold pDgt; exact decide_eq_true ⟨e1, by omega⟩
      · rw [hi', List.take_of_length_le (Nat.le_refl _)] at e71
        exact k τ (by rw [e69, hi']) e71 hfr hfi gτ
    | succ d ih =>
      intro i τ hi e69 e71 gτ hfr hfi
      have oτ : zPo μ0 τ P x b := ho.kp gτ.1.1 (hfr 74) (hfi 68 (by decide) (by decide))
      have gμ : zG (fun _ => False) c1 e1 μ0 τ := zG.trN (W := fun _ => False) g (gτ.mono (fun a _ q => Or.inr (by rw [q]; exact ho.1)) (Nat.le_refl _) (Nat.le_refl _))
      have ed : nI (p + i) - nI p = nI i := by rw [pk_sub (by omega)]; congr 1; omega
      have hil : i < (pDg b p).length := by omega
      obtain ⟨g1, g2, g3⟩ := pTw_get (f := pDgt) (b := b) (a := p) (k := i) rfl hil
      unfold pDgt at g2
      have g2 := of_decide_eq_true g2
      have e70 := (hfi 70 (by decide) (by decide)).trans h70
      have go : ∀ (y : Int32), y = nI (pVal ((pDg b p).take (i + 1))) → Wp G Y_X6_advance 178 [(0, vP (6, 0, P))] [] (zFi (zFi τ 71 P y) 69 P (nI (p + i + 1))) Q E := fun y hy => by
        refine ih (i + 1) _ (by omega) (by rw [zfi_zFi, if_pos ⟨rfl, rfl⟩]; rfl) (by rw [zfi_zFi, if_neg (by omega), zfi_zFi, if_pos ⟨rfl, rfl⟩]; exact hy) ((gτ.tr (zG.fi (W := fun a => a = P) (f := 71) rfl)).tr (zG.fi (W := fun a => a = P) (f := 69) rfl)) (fun f => hfr f) (fun f hf hf2 => by rw [zfi_zFi, if_neg (fun q => hf q.1), zfi_zFi, if_neg (fun q => hf2 q.1)]; exact hfi f hf hf2)
      refine B_X6_advance_178 ⟨_, e69, C_pByte (p + i) hc oτ gμ rfl (by omega) ⟨_, rfl, C_xIn 48 58 (by decide) (by decide) (fun e e1 e2 hz => ⟨_, rfl, fun q => absurd q (by decide), fun _ => ⟨_, e69, _, e70, fun h4 => ⟨_, e71, ?_⟩, fun h4 => ⟨_, e71, C_pByte (p + i) hc oτ gμ rfl (by omega) ⟨_, rfl, _, e69, ?_⟩⟩⟩⟩) (fun hne => absurd (bAt_lt g3) (hne _ g2.1 (by omega) (by omega)))⟩⟩
      · rw [ed] at h4
        have h4' : ¬ i < 4 := fun t => h4 (nI_lt (b := 4) t (by omega))
        rw [nI_1]
        refine go _ ?_
        rw [pVal_over (by omega), ← pVal_over (i := i + 1) (by omega)]
      · rw [ed] at h4
        have h4' : i < 4 := (nI_ltI (b := 4) (by omega) (by omega)).mp h4
        rw [nI_1]
        refine go _ ?_
        have hlt := pVal_lt (b := b) (p := p) i (by omega) (by omega)
        have g1' : (pDg b p).getD i 0 = b.getD (p + i) 0 := g1
        rw [pVal_step (by omega) h4', g1', bAt_lt g3]
        show (nI 10 * nI _ + nI _) - nI 48 = _
        rw [pk_mul, nI_add, pk_sub (by omega)]
        congr 1; omega
  exact key (pDg b p).length 0 ν (by omega) h69 (by rw [h71]; rfl) (zG.rf _ _) (fun _ => rfl) (fun _ _ _ => rfl)
/-- the next token is read -/
theorem C_pAdv (hc : zPc G μ0 x bf B b) (ha : a ≤ b.length) (ho : zPo μ0 ν P x b) (h69 : zfi ν 69 P = nI a) (g : zPg μ0 ν c e a) (k : ∀ τ c' e', zPq G μ0 τ P x b c e a (zsz ν) → zFh G τ (zfr τ 72 P) → zG (fun h => h = P) c' e' ν τ → Q none τ) : Call G Y_X6_advance [vP (6, 0, P)] ν Q E := by
  have hl := hc.2.1.1
  have hp := pSk_le ha
  have hge := pSk_ge b a
  have hw := pWd_le hp
  have hd := pDg_le hp
  have hPv := ho.2.1
  have hK := hc.2.2.1
  refine S_X6_advance ?_
  -- what is known of a memory on the way
  have G0 : ∀ {c' e' τ}, zG (fun h => h = P) c' e' ν τ → zG (fun _ => False) (c + 5 * a + c') (e + 33 * a + e') μ0 τ := fun gτ => zG.trN (W := fun _ => False) g (gτ.mono (fun a _ q => Or.inr (by rw [q]; exact ho.1)) (Nat.le_refl _) (Nat.le_refl _))
  have fin : ∀ (τ : ZM) (c' e' : Nat), zPo μ0 τ P x b → zG (fun h => h = P) c' e' ν τ → zfi τ 70 P = nI (pSk b a) → zfi τ 69 P = nI (pEd b (pSk b a)) → zfr τ 73 P = zgS G (pKd b (pSk b a)) → (pKd b (pSk b a) = 4 → zfi τ 71 P = nI (pVal (pDg b (pSk b a)))) → zWd G τ (zsz ν) (zfr τ 72 P) (pWd b (pSk b a)) → zFh G τ (zfr τ 72 P) → c' ≤ 5 * (pEd b (pSk b a) - a) → e' ≤ 33 * (pEd b (pSk b a) - a) → Q none τ := fun τ c' e' o1 gτ t1 t2 t3 t4 t5 t6 hc' he' => by
    have hE := pEd_le hp
    exact k τ c' e' ⟨ha, o1, ⟨t1, t2, t3, t4, t5⟩, (G0 gτ).mono (fun _ _ q => q) (by omega) (by omega)⟩ t6 gτ
  -- no word
  have w0 : ∀ τ, ¬ (pSk b a < b.length ∧ pLet (b.getD (pSk b a) 0) = true) → zfr τ 72 P = zgS G 107 → zWd G τ (zsz ν) (zfr τ 72 P) (pWd b (pSk b a)) ∧ zFh G τ (zfr τ 72 P) := fun τ hn h72 => by
    have : pWd b (pSk b a) = [] := pTw_stop (fun q t => hn ⟨q, t⟩)
    exact ⟨Or.inl ⟨h72, this⟩, Or.inl h72⟩
  -- behind the spaces
  have tok : ∀ (τ : ZM), zPo μ0 τ P x b → zG (fun h => h = P) 0 0 ν τ → zfi τ 69 P = nI (pSk b a) → zfi τ 70 P = nI (pSk b a) → zfr τ 72 P = zgS G 107 → Call G Y_X6_byteAt [vP (6, 0, P), vI (nI (pSk b a))] τ (rI fun x4 ν2 => (¬ x4 = (-1) → (Call G Y_X1_inRange [vL x4.toInt64, vL 97, vL 122] ν2 (rI fun x5 ν3 => (x5 = 0 → (Call G Y_X1_inRange [vL x4.toInt64, vL 48, vL 57] ν3 (rI fun x6 ν4 => (x6 = 0 → (∃ x7, zfi ν4 69 P = x7 ∧ Q none (zFi (zFr ν4 73 P (zgS G 5)) 69 P (x7 + 1)))) ∧ (¬ x6 = 0 → Wp G Y_X6_advance 178 [(0, vP (6, 0, P))] [] (zFi (zFr ν4 73 P (zgS G 4)) 71 P 0) Q E)) (fun q ν => zkc q.1 = true ∧ E q ν))) ∧ (¬ x5 = 0 → (Call G Y_J8_init [vP (22, 0, zsz ν3)] (zNew (zFr ν3 73 P (zgS G 3)) 22 0 4) (rV fun ν5 => Wp G Y_X6_advance 93 [(0, vP (6, 0, P)), (2, vP (22, 0, zsz ν3))] [] ν5 Q E) (fun q ν => zkc q.1 = true ∧ E q ν)))) (fun q ν => zkc q.1 = true ∧ E q ν))) ∧ (x4 = (-1) → Q none (zFr ν2 73 P (zgS G 2)))) (fun q ν => zkc q.1 = true ∧ E q ν) := by
    intro τ o1 gτ e69 e70 e72
    have gz := gτ.1.1
    refine Call.zo fun okτ _ => C_pByte (pSk b a) hc o1 (G0 gτ) rfl (by omega) ⟨_, rfl, fun hne => ?_, fun heq => ?_⟩
    · have hlt : pSk b a < b.length := by
        apply Decidable.byContradiction
        intro t
        exact hne (if_neg t)
      have hby := hc.by _ hlt
      refine C_xIn 97 123 (by decide) (by decide) (fun ch h1 h2 hz => ⟨_, rfl, fun q => absurd q (by decide), fun _ => ?_⟩) (fun hn => ⟨_, rfl, fun _ => ?_, fun q => absurd rfl q⟩)
      · -- a word
        obtain ⟨-, hch⟩ := bAt_eq hc.by (by omega) hz
        have hLet : pLet (b.getD (pSk b a) 0) = true := by rw [hch]; unfold pLet; exact decide_eq_true ⟨h1, by omega⟩
        have hkd : pKd b (pSk b a) = 3 := by unfold pKd; rw [if_pos hlt, if_pos hLet]
        have hed : pEd b (pSk b a) = pSk b a + (pWd b (pSk b a)).length := by unfold pEd; rw [if_pos hlt, if_pos hLet]
        have h1w : 1 ≤ (pWd b (pSk b a)).length := by unfold pWd; rw [pTw_step hlt hLet, List.length_cons]; omega
        have gS : zG (fun h => h = P) 1 4 ν (zNew (zFr τ 73 P (zgS G 3)) 22 0 4) := (gτ.tr (zG.fr rfl)).tr zG.nw
        have eS : zsz (zNew (zFr τ 73 P (zgS G 3)) 22 0 4) = zsz τ + 1 := rfl
        refine Call.zo fun okS _ => C_sbInit okS (by rw [eS]; exact Nat.lt_succ_self _) (by show zfi τ 139 (zsz τ) = 0; exact okτ.1 139 (zsz τ) (Nat.le_refl _)) fun ν0 z0 g0 s0 => ⟨rfl, ?_⟩
        rw [eS] at s0 z0
        have gS0 : zG (fun h => h = P) (1 + 1) (4 + 16) ν ν0 := zG.trN (W := fun h => h = P) gS (g0.mono (fun a _ q => Or.inr (by rw [q]; exact gz)) (Nat.le_refl _) (Nat.le_refl _))
        have sP : zsame (zNew (zFr τ 73 P (zgS G 3)) 22 0 4) ν0 P := g0.same (by rw [eS]; omega) (by omega)
        have f0 : ∀ f, zfr ν0 f P = zfr (zFr τ 73 P (zgS G 3)) f P := fun f => sP.2.1 f
        have i0 : ∀ f, zfi ν0 f P = zfi τ f P := fun f => sP.1 f
        have o0 : zPo μ0 ν0 P x b := o1.kp (by omega) (by rw [f0, zfr_zFr, if_neg (fun q => by cases q.1)]) (i0 68)
        refine L_pWord hc hp o0 (G0 gS0) ((i0 69).trans e69) s0 ⟨by omega, by omega, by omega⟩ ho.1 fun ρ h y1 y2 y3 y4 y5 y6 y7 y8 y9 y10 => ?_
        have gR : zG (fun h => h = P) (1 + 1 + ((pWd b (pSk b a)).length + 2)) (4 + 16 + (5 * (pWd b (pSk b a)).length + 4)) ν ρ := zG.trN (W := fun h => h = P) gS0 (y10.mono (fun a _ q => by omega) (Nat.le_refl _) (Nat.le_refl _))
        refine fin ρ _ _ (o0.kp y10.1.1 (y8 74 (by decide)) (y9 68 (by decide))) gR ((y9 70 (by decide)).trans ((i0 70).trans e70)) (by rw [y7, hed]) ?_ (fun q => by rw [hkd] at q; cases q) (Or.inr ⟨h, y6, by omega, by omega, by rw [y6]; exact y2⟩) (Or.inr ⟨h, y6, y4, y5⟩) (by omega) (by omega)
        rw [y8 73 (by decide), f0, zfr_zFr, if_pos ⟨rfl, rfl⟩, hkd]
      · -- no letter
        have hNo : ¬ pLet (b.getD (pSk b a) 0) = true := by
          unfold pLet
          rw [decide_eq_true_eq]
          intro t
          exact hn _ t.1 (by omega) (by omega) (bAt_lt hlt)
        refine C_xIn 48 58 (by decide) (by decide) (fun ch h1 h2 hz => ⟨_, rfl, fun q => absurd q (by decide), fun _ => ?_⟩) (fun hn2 => ⟨_, rfl, fun _ => ⟨_, e69, ?_⟩, fun q => absurd rfl q⟩)
        · -- a number
          obtain ⟨-, hch⟩ := bAt_eq hc.by (by omega) hz
          have hDgt : pDgt (b.getD (pSk b a) 0) = true := by rw [hch]; unfold pDgt; exact decide_eq_true ⟨h1, by omega⟩
          have hkd : pKd b (pSk b a) = 4 := by unfold pKd; rw [if_pos hlt, if_neg hNo, if_pos hDgt]
          have hed : pEd b (pSk b a) = pSk b a + (pDg b (pSk b a)).length := by unfold pEd; rw [if_pos hlt, if_neg hNo, if_pos hDgt]
          have gS : zG (fun h => h = P) 0 0 ν (zFi (zFr τ 73 P (zgS G 4)) 71 P 0) := (gτ.tr (zG.fr (W := fun h => h = P) (f := 73) (v := zgS G 4) rfl)).tr (zG.fi (W := fun h => h = P) (f := 71) rfl)
          have o0 : zPo μ0 (zFi (zFr τ 73 P (zgS G 4)) 71 P 0) P x b := o1.kp (Nat.le_refl _) (by rw [zfr_zFi, zfr_zFr, if_neg (fun q => by cases q.1)]) (by rw [zfi_zFi, if_neg (fun q => by cases q.1)]; rfl)
          refine L_pDig hc hp o0 (G0 gS) (by rw [zfi_zFi, if_neg (fun q => by cases q.1)]; exact e69) (by rw [zfi_zFi, if_neg (fun q => by cases q.1)]; exact e70) (by rw [zfi_zFi, if_pos ⟨rfl, rfl⟩]) fun ρ y1 y2 y3 y4 y5 => ?_
          obtain ⟨u1, u2⟩ := w0 ρ (fun t => hNo t.2) (by rw [y3, zfr_zFi, zfr_zFr, if_neg (fun q => by cases q.1)]; exact e72)
          refine fin ρ _ _ (o0.kp y5.1.1 (y3 74) (y4 68 (by decide) (by decide))) (gS.tr y5) ?_ (by rw [y1, hed]) ?_ (fun _ => y2) u1 u2 (by omega) (by omega)
          · rw [y4 70 (by decide) (by decide), zfi_zFi, if_neg (fun q => by cases q.1)]; exact e70
          · rw [y3, zfr_zFi, zfr_zFr, if_pos ⟨rfl, rfl⟩, hkd]
        · -- another sign
          have hNo2 : ¬ pDgt (b.getD (pSk b a) 0) = true := by
            unfold pDgt
            rw [decide_eq_true_eq]
            intro t
            exact hn2 _ t.1 (by omega) (by omega) (bAt_lt hlt)
          have hkd : pKd b (pSk b a) = 5 := by unfold pKd; rw [if_pos hlt, if_neg hNo, if_neg hNo2]
          have hed : pEd b (pSk b a) = pSk b a + 1 := by unfold pEd; rw [if_pos hlt, if_neg hNo, if_neg hNo2]
          rw [nI_1]
          have gS : zG (fun h => h = P) 0 0 ν (zFi (zFr τ 73 P (zgS G 5)) 69 P (nI (pSk b a + 1))) := (gτ.tr (zG.fr (W := fun h => h = P) (f := 73) (v := zgS G 5) rfl)).tr (zG.fi (W := fun h => h = P) (f := 69) rfl)
          obtain ⟨u1, u2⟩ := w0 (zFi (zFr τ 73 P (zgS G 5)) 69 P (nI (pSk b a + 1))) (fun t => hNo t.2) (by rw [zfr_zFi, zfr_zFr, if_neg (fun q => by cases q.1)]; exact e72)
          refine fin _ 0 0 (o1.kp (Nat.le_refl _) (by rw [zfr_zFi, zfr_zFr, if_neg (fun q => by cases q.1)]) (by rw [zfi_zFi, if_neg (fun q => by cases q.1)]; rfl)) gS (by rw [zfi_zFi, if_neg (fun q => by cases q.1)]; exact e70) (by rw [zfi_zFi, if_pos ⟨rfl, rfl⟩, hed]) (by rw [zfr_zFi, zfr_zFr, if_pos ⟨rfl, rfl⟩, hkd]) (fun q => by rw [hkd] at q; cases q) u1 u2 (by omega) (by omega)
    · -- the end
      have hnl : ¬ pSk b a < b.length := by
        intro t
        rw [bAt_lt t] at heq
        exact nI_nm1 (by have := hc.by _ t; omega) heq
      have hkd : pKd b (pSk b a) = 2 := by unfold pKd; rw [if_neg hnl]
      have hed : pEd b (pSk b a) = pSk b a := by unfold pEd; rw [if_neg hnl]
      have gS : zG (fun h => h = P) 0 0 ν (zFr τ 73 P (zgS G 2)) := gτ.tr (zG.fr (W := fun h => h = P) (f := 73) (v := zgS G 2) rfl)
      obtain ⟨u1, u2⟩ := w0 (zFr τ 73 P (zgS G 2)) (fun t => hnl t.1) (by rw [zfr_zFr, if_neg (fun q => by cases q.1)]; exact e72)
      exact fin _ 0 0 (o1.kp (Nat.le_refl _) (by rw [zfr_zFr, if_neg (fun q => by cases q.1)]) rfl) gS e70 (by rw [hed]; exact e69) (by rw [zfr_zFr, if_pos ⟨rfl, rfl⟩, hkd]) (fun q => by rw [hkd] at q; cases q) u1 u2 (by omega) (by omega)
  -- spaces
  have l1 : ∀ dd cc (τ : ZM), cc + dd = b.length → pSk b cc = pSk b a → zPo μ0 τ P x b → zG (fun h => h = P) 0 0 ν τ → zfi τ 69 P = nI cc → Wp G Y_X6_advance 0 [(0, vP (6, 0, P))] [] τ Q E := by
    intro dd
    have nosp : ∀ cc (τ : ZM), pSk b a = cc → zPo μ0 τ P x b → zG (fun h => h = P) 0 0 ν τ → zfi τ 69 P = nI cc → ∃ x3, zfi τ 69 P = x3 ∧ Call G Y_X6_byteAt [vP (6, 0, P), vI x3] (zFr (zFi τ 70 P x3) 72 P (zgS G 107)) (rI fun x4 ν2 => (¬ x4 = (-1) → (Call G Y_X1_inRange [vL x4.toInt64, vL 97, vL 122] ν2 (rI fun x5 ν3 => (x5 = 0 → (Call G Y_X1_inRange [vL x4.toInt64, vL 48, vL 57] ν3 (rI fun x6 ν4 => (x6 = 0 → (∃ x7, zfi ν4 69 P = x7 ∧ Q none (zFi (zFr ν4 73 P (zgS G 5)) 69 P (x7 + 1)))) ∧ (¬ x6 = 0 → Wp G Y_X6_advance 178 [(0, vP (6, 0, P))] [] (zFi (zFr ν4 73 P (zgS G 4)) 71 P 0) Q E)) (fun q ν => zkc q.1 = true ∧ E q ν))) ∧ (¬ x5 = 0 → (Call G Y_J8_init [vP (22, 0, zsz ν3)] (zNew (zFr ν3 73 P (zgS G 3)) 22 0 4) (rV fun ν5 => Wp G Y_X6_advance 93 [(0, vP (6, 0, P)), (2, vP (22, 0, zsz ν3))] [] ν5 Q E) (fun q ν => zkc q.1 = true ∧ E q ν)))) (fun q ν => zkc q.1 = true ∧ E q ν))) ∧ (x4 = (-1) → Q none (zFr ν2 73 P (zgS G 2)))) (fun q ν => zkc q.1 = true ∧ E q ν) := by
      intro cc τ hcc o1 gτ e69
      subst hcc
      refine ⟨_, e69, tok _ (o1.kp (Nat.le_refl _) (by rw [zfr_zFr, if_neg (fun q => by cases q.1)]; rfl) (by rw [zfi_zFr, zfi_zFi, if_neg (fun q => by cases q.1)])) ((gτ.tr (zG.fi (W := fun h => h = P) (f := 70) rfl)).tr (zG.fr (W := fun h => h = P) (f := 72) (v := zgS G 107) rfl)) ?_ ?_ ?_⟩
      · rw [zfi_zFr, zfi_zFi, if_neg (fun q => by cases q.1)]; exact e69
      · rw [zfi_zFr, zfi_zFi, if_pos ⟨rfl, rfl⟩]
      · rw [zfr_zFr, if_pos ⟨rfl, rfl⟩]
    induction dd with
    | zero =>
      intro cc τ hcc hs o1 gτ e69
      have e : pSk b a = cc := by rw [← hs]; exact pSk_stop fun q => by omega
      refine B_X6_advance_0 ⟨_, e69, C_pByte cc hc o1 (G0 gτ) rfl (by omega) ⟨_, rfl, fun _ => nosp cc τ e o1 gτ e69, fun q => ?_⟩⟩
      obtain ⟨g1, -⟩ := bAt_eq (e := 32) hc.by (by omega) q
      omega
    | succ dd ih =>
      intro cc τ hcc hs o1 gτ e69
      refine B_X6_advance_0 ⟨_, e69, C_pByte cc hc o1 (G0 gτ) rfl (by omega) ⟨_, rfl, fun hn => ?_, fun q => ⟨_, e69, ?_⟩⟩⟩
      · have hne : cc < b.length → b.getD cc 0 ≠ 32 := fun t u => hn (by rw [bAt_lt t, u]; rfl)
        have e : pSk b a = cc := by rw [← hs]; exact pSk_stop hne
        exact nosp cc τ e o1 gτ e69
      · obtain ⟨g1, g2⟩ := bAt_eq (e := 32) hc.by (by omega) q
        rw [nI_1]
        exact ih (cc + 1) _ (by omega) (by rw [← hs]; exact (pSk_step g1 g2).symm) (o1.kp (Nat.le_refl _) rfl (by rw [zfi_zFi, if_neg (fun q => by cases q.1)])) (gτ.tr (zG.fi (W := fun h => h = P) (f := 69) rfl)) (by rw [zfi_zFi, if_pos ⟨rfl, rfl⟩])
  exact l1 (b.length - a) a ν (by omega) rfl ho (zG.rf _ _) h69
end ZJ
