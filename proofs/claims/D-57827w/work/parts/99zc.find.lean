set_option maxRecDepth 100000
/-! THE COMPONENT, 48: names found -/
/-- the constants' texts lie ahead of all own objects -/
def zKx (G : ZG) (μ : ZM) (B : Nat) (X : Nat → Prop) : Prop := zKs G μ B ∧ B ≤ zsz μ ∧ (∀ a, X a → B ≤ a) ∧ zfi μ 142 (zgS G 107).2.2 = 0 ∧ ¬ zfi μ 143 (zgS G 107).2.2 = 0
theorem zStr.kpB {μ ν : ZM} {B : Nat} {p : ZP} {w : List Nat} (h : zStr μ B p w) (k : ∀ a, a < B → zsmC μ ν a) : zStr ν B p w :=
  (zNa.kp (X := fun _ => False) ⟨h, id, id⟩ (fun a ha _ => k a ha)).1
theorem zKx.old {G : ZG} {μ ν : ZM} {B : Nat} {X Y : Nat → Prop} (h : zKx G μ B X) (k : zOld Y μ ν) (hY : ∀ a, a < B → ¬ Y a) : zKx G ν B X :=
  have k7 := k.2.1 _ (Nat.lt_of_lt_of_le (h.1 (107, []) (by unfold kTx; simp)).2.1 h.2.1) (hY _ (h.1 (107, []) (by unfold kTx; simp)).2.1)
  ⟨fun x hx => (h.1 x hx).kpB fun a ha => k.2.1 a (Nat.lt_of_lt_of_le ha h.2.1) (hY a ha), Nat.le_trans h.2.1 k.1.1, h.2.2.1, (k7.1 _).trans h.2.2.2.1, by rw [k7.1]; exact h.2.2.2.2⟩
theorem sIs_iff {r : Nat → Int32} {q : Nat} {w : List Nat} (h : sNm r q) (hl : w.length < 100000) (hw : ∀ j, j < w.length → w.getD j 0 < 128) : sIs r q w = true ↔ sName r q = w := by
  obtain ⟨a1, a2, a3⟩ := sName_ok h
  unfold sIs
  rw [Bool.and_eq_true, decide_eq_true_eq, List.all_eq_true]
  constructor
  · rintro ⟨h1, h2⟩
    have el : (sName r q).length = w.length := (nI_eq (by omega) (by omega)).mp (a1.symm.trans h1)
    refine getD_ex2 el fun j hj => ?_
    have := h2 j (List.mem_range.mpr (by omega))
    rw [decide_eq_true_eq] at this
    exact (nI_eq (by have := (a3 j hj).2; omega) (by have := hw j (by omega); omega)).mp ((a3 j hj).1.symm.trans this)
  · intro e
    subst e
    exact ⟨a1, fun j hj => by rw [decide_eq_true_eq]; exact (a3 j (List.mem_range.mp hj)).1⟩
theorem sIs_no {r : Nat → Int32} {q : Nat} {w : List Nat} (h : sNm r q) (hw : w.length = 0 ∨ 7 ≤ w.length) (hl : w.length < 100000) : ¬ sIs r q w = true := by
  obtain ⟨n, h1, h2, h3, -⟩ := h
  unfold sIs
  rw [Bool.and_eq_true, decide_eq_true_eq]
  rintro ⟨q1, -⟩
  rw [h1] at q1
  have := (nI_eq (by omega) (by omega)).mp q1
  omega
theorem sFind_no {r : Nat → Int32} {q d : Nat} {w : List Nat} : ∀ n k, (∀ j, k ≤ j → j < k + n → ¬ sIs r (q + d * j) w = true) → sFind r q d w n k = none := by
  intro n
  induction n with
  | zero => intro k _; rfl
  | succ n ih =>
    intro k h
    have e : sFind r q d w (n + 1) k = if sIs r (q + d * k) w = true then some k else sFind r q d w n (k + 1) := rfl
    rw [e, if_neg (h k (Nat.le_refl _) (by omega))]
    exact ih (k + 1) fun j h1 h2 => h j (by omega) (by omega)
/-- the name that the buffer is, or none -/
def aName (b : List Nat) : List Nat := if (b.take 7).all pLet = true then b.take 7 else []
theorem pWd_all {b : List Nat} (h : b.all pLet = true) : pWd b 0 = b := by
  unfold pWd
  rw [List.drop_zero]
  induction b with
  | nil => rfl
  | cons c b ih =>
    rw [List.all_cons, Bool.and_eq_true] at h
    rw [List.takeWhile_cons, if_pos h.1, ih h.2]
theorem all_pWd {b : List Nat} (h : (pWd b 0).length = b.length) : b.all pLet = true := by
  unfold pWd at h
  rw [List.drop_zero] at h
  induction b with
  | nil => rfl
  | cons c b ih =>
    rw [List.takeWhile_cons] at h
    by_cases q : pLet c = true
    · rw [if_pos q] at h
      rw [List.all_cons, q, ih (by simpa using h)]; rfl
    · rw [if_neg q] at h; simp at h
theorem sFind_nm {r : Nat → Int32} {q d N : Nat} {b : List Nat} (hb : b.length ≤ 900) (hn : ∀ j, j < N → sNm r (q + d * j)) :
    o2i (sFind r q d (aName b) N 0) = if pSk b 0 = 0 ∧ (pWd b 0).length = b.length ∧ 0 < b.length then o2i (sFind r q d (pWd b 0) N 0) else -1 := by
  have none0 : ∀ w : List Nat, (w.length = 0 ∨ 7 ≤ w.length) → w.length < 100000 → sFind r q d w N 0 = none := fun w h1 h2 => sFind_no N 0 fun j _ hj => sIs_no (hn j (by omega)) h1 h2
  have l7 : (b.take 7).length = min 7 b.length := List.length_take
  by_cases C : pSk b 0 = 0 ∧ (pWd b 0).length = b.length ∧ 0 < b.length
  · rw [if_pos C]
    have ha := all_pWd C.2.1
    rw [pWd_all ha]
    by_cases h7 : b.length ≤ 7
    · unfold aName
      rw [List.take_of_length_le h7, if_pos ha]
    · have e1 : sFind r q d b N 0 = none := none0 _ (by omega) (by omega)
      have e2 : sFind r q d (aName b) N 0 = none := by
        unfold aName
        split
        · exact none0 _ (by omega) (by omega)
        · exact none0 _ (Or.inl rfl) (by decide)
      rw [e1, e2]
  · rw [if_neg C]
    have e2 : sFind r q d (aName b) N 0 = none := by
      unfold aName
      split
      · next h =>
        refine none0 _ ?_ (by omega)
        apply Decidable.byContradiction
        intro hc
        have hlt : b.length < 7 ∧ 0 < b.length := by omega
        rw [List.take_of_length_le (by omega)] at h
        refine C ⟨?_, by rw [pWd_all h], hlt.2⟩
        cases b with
        | nil => exact absurd hlt.2 (by decide)
        | cons c b =>
          rw [List.all_cons, Bool.and_eq_true] at h
          have hc : ¬ (c == 32) = true := by
            intro q
            have := h.1
            unfold pLet at this
            rw [decide_eq_true_eq] at this
            rw [beq_iff_eq] at q
            omega
          unfold pSk
          rw [List.drop_zero, List.takeWhile_cons, if_neg hc]; rfl
      · exact none0 _ (Or.inl rfl) (by decide)
    rw [e2]; rfl
theorem sB_let : ∀ c : Fin 256, (c.val < 128 → sB c.val = nI c.val) ∧ (128 ≤ c.val → (sB c.val).toInt < 0) := by decide
theorem ch128 : ∀ c : Fin 128, ((nI c.val).toUInt32 % 65536).toInt32 = nI c.val := by decide
section ZJ
variable {G : ZG} {μ ν : ZM} {Q : Option ZV → ZM → Prop} {E : ZP → ZM → Prop} {x d da bf sb sba n K V D B : Nat} {po : Nat → Nat} {Z : Nat → Prop} {σ : ZS} {z z1 z2 z3 z4 z5 : Int32} {w : List Nat} {lo hi s F fg el ear vl var ds dm sm : Nat} {ea va ta sa : Nat → Nat} {r : Nat → Int32} {p : ZP}
theorem C_sNamedE (hp : zStr μ B p w) (h : zSta μ lo hi s r K V F fg el ear vl var ds dm sm ea va ta sa) (hn : ∀ e, e < K → ∃ C, zStr μ C (zfr μ 21 (ea e)) (sName r (23 + 15 * e))) (hm : ∀ e, e < K → sNm r (23 + 15 * e)) (k : Q (some (vI (o2i (sFind r 23 15 w K 0)))) μ) : Call G Y_X2_echoNamed [vP (2, 0, s), vP p] μ Q E := by
  have hK := h.1.2.1.2.2.2.1
  obtain ⟨hp1, -, -, hp4, q0, -, -, -, -, hp9⟩ := id hp
  have key : ∀ d i, i + d = K → o2i (sFind r 23 15 w d i) = o2i (sFind r 23 15 w K 0) → Wp G Y_X2_echoNamed 2 [(0, vP (2, 0, s)), (1, vP p), (2, vI (nI i))] [] μ Q E := by
    intro d
    induction d with
    | zero =>
      intro i hi hk
      refine B_X2_echoNamed_2 ⟨hp1, el, h.1.2.2.2.1.2.1, C_alSize h.2.1.2.1 ⟨_, rfl, fun _ => ?_, fun q => absurd q (nI_nlt (by omega) (by omega))⟩⟩
      rw [← hk] at k; exact k
    | succ d ih =>
      intro i hi hk
      have e : sFind r 23 15 w (d + 1) i = if sIs r (23 + 15 * i) w = true then some i else sFind r 23 15 w d (i + 1) := rfl
      have hiff := sIs_iff (hm i (by omega)) hp4 (fun j hj => (hp9 j hj).2)
      obtain ⟨C, hC⟩ := hn i (by omega)
      refine B_X2_echoNamed_2 ⟨hp1, el, h.1.2.2.2.1.2.1, C_alSize h.2.1.2.1 ⟨_, rfl, fun q => absurd (nI_lt (by omega) (by omega)) q, fun _ => C_sEcho i rfl (by omega) h ⟨_, rfl, _, rfl, _, rfl, hC.1, C_strEq hC hp (fun t => ⟨_, rfl, fun q => absurd q (by decide), fun _ => ?_⟩) (fun t => ⟨_, rfl, fun _ => ?_, fun q => absurd rfl q⟩)⟩⟩⟩
      · rw [e, if_pos (hiff.mpr t)] at hk
        rw [← hk] at k; exact k
      · rw [nI_1]
        rw [e, if_neg (fun q => t (hiff.mp q))] at hk
        exact ih (i + 1) (by omega) hk
  exact S_X2_echoNamed ⟨hp1, key K 0 (by omega) rfl⟩
theorem C_sNamedV (hp : zStr μ B p w) (h : zSta μ lo hi s r K V F fg el ear vl var ds dm sm ea va ta sa) (hn : ∀ v, v < V → ∃ C, zStr μ C (zfr μ 30 (va v)) (sName r (203 + 17 * v))) (hm : ∀ v, v < V → sNm r (203 + 17 * v)) (k : Q (some (vI (o2i (sFind r 203 17 w V 0)))) μ) : Call G Y_X2_valleyNamed [vP (2, 0, s), vP p] μ Q E := by
  have hV := h.1.2.1.2.2.2.2.1
  obtain ⟨hp1, -, -, hp4, q0, -, -, -, -, hp9⟩ := id hp
  have key : ∀ d i, i + d = V → o2i (sFind r 203 17 w d i) = o2i (sFind r 203 17 w V 0) → Wp G Y_X2_valleyNamed 2 [(0, vP (2, 0, s)), (1, vP p), (2, vI (nI i))] [] μ Q E := by
    intro d
    induction d with
    | zero =>
      intro i hi hk
      refine B_X2_valleyNamed_2 ⟨hp1, vl, h.1.2.2.2.1.2.2.1, C_alSize h.2.2.1.2.1 ⟨_, rfl, fun _ => ?_, fun q => absurd q (nI_nlt (by omega) (by omega))⟩⟩
      rw [← hk] at k; exact k
    | succ d ih =>
      intro i hi hk
      have e : sFind r 203 17 w (d + 1) i = if sIs r (203 + 17 * i) w = true then some i else sFind r 203 17 w d (i + 1) := rfl
      have hiff := sIs_iff (hm i (by omega)) hp4 (fun j hj => (hp9 j hj).2)
      obtain ⟨C, hC⟩ := hn i (by omega)
      refine B_X2_valleyNamed_2 ⟨hp1, vl, h.1.2.2.2.1.2.2.1, C_alSize h.2.2.1.2.1 ⟨_, rfl, fun q => absurd (nI_lt (by omega) (by omega)) q, fun _ => C_sValley i rfl (by omega) h ⟨_, rfl, _, rfl, _, rfl, hC.1, C_strEq hC hp (fun t => ⟨_, rfl, fun q => absurd q (by decide), fun _ => ?_⟩) (fun t => ⟨_, rfl, fun _ => ?_, fun q => absurd rfl q⟩)⟩⟩⟩
      · rw [e, if_pos (hiff.mpr t)] at hk
        rw [← hk] at k; exact k
      · rw [nI_1]
        rw [e, if_neg (fun q => t (hiff.mp q))] at hk
        exact ih (i + 1) (by omega) hk
  exact S_X2_valleyNamed ⟨hp1, key V 0 (by omega) rfl⟩
theorem C_xBufName (hk : zKx G μ B (zXo x d da bf sb sba Z)) (h : zXs G μ x d da bf sb sba n Z σ) (k : ∀ ν p C, zStr ν C p (aName (aBu σ)) → zG (fun _ => False) 12 60 μ ν → Q (some (vP p)) ν) : Call G Y_X1_bufferName [vP (1, 0, x)] μ Q E := by
  refine Call.zo fun hok _ => ?_
  obtain ⟨⟨h1, h2, h3, h4, h5, h6, h7⟩, -, -, -, -, ⟨b1, b2, b3⟩, -⟩ := id h
  obtain ⟨t1, t2, t3, t4, t5⟩ := h.tg hok
  have gS : zG (fun _ => False) 1 4 μ (zNew μ 22 0 4) := zG.nw
  refine S_X1_bufferName (Call.zo fun okS _ => C_sbInit okS (Nat.lt_succ_self _) (by rw [zfi_zNew]; exact hok.1 139 _ (Nat.le_refl _)) fun ν0 z0 g0 s0 => ⟨rfl, ?_⟩)
  have e0 : zsz (zNew μ 22 0 4) = zsz μ + 1 := rfl
  rw [e0] at s0 z0
  have g0' : zG (fun _ => False) (1 + 1) (4 + 16) μ ν0 := zG.trN (W := fun _ => False) gS (g0.mono (fun a _ q => Or.inr (by rw [q]; exact Nat.le_refl _)) (Nat.le_refl _) (Nat.le_refl _))
  -- the end: the letters' String
  have fin : ∀ (i : Nat) (ν : ZM), i ≤ 7 → (i = (aBu σ).length ∨ i = 7) → i ≤ (aBu σ).length → zG (fun _ => False) (2 + i) 20 μ ν → zsz ν0 ≤ zsz ν → zSb ν (zsz μ) (zsz μ + 1) 16 ((aBu σ).take i) → ((aBu σ).take i).all pLet = true → Call G Y_J8_toString [vP (22, 0, zsz μ)] ν (rP fun q1 ν1 => zis 23 q1 ∧ Q (some (vP q1)) ν1) (fun q ν => zkc q.1 = true ∧ E q ν) := by
    intro i ν hi7 hi hil g hz hs hall
    have e7 : (aBu σ).take i = (aBu σ).take 7 := by
      rcases hi with q | q
      · rw [q, List.take_of_length_le (Nat.le_refl _), List.take_of_length_le (by omega)]
      · rw [q]
    have en : aName (aBu σ) = (aBu σ).take i := by unfold aName; rw [← e7, if_pos hall]
    have hl : ((aBu σ).take i).length ≤ 7 := by rw [List.length_take]; omega
    refine Call.zo fun okν _ => C_sbStr okν (by omega) hs (by omega) fun ρ y1 y2 y3 _ _ => ⟨_, rfl, y3.1, k ρ _ _ (by rw [en]; exact y3) ((g.tr y2).mono (fun _ _ q => q) (by omega) (by omega))⟩
  have key : ∀ (dd i : Nat) (ν : ZM), i + dd = 7 → i ≤ (aBu σ).length → zG (fun _ => False) (2 + i) 20 μ ν → zsz ν0 ≤ zsz ν → zSb ν (zsz μ) (zsz μ + 1) 16 ((aBu σ).take i) → ((aBu σ).take i).all pLet = true → Wp G Y_X1_bufferName 10 [(0, vP (1, 0, x)), (1, vP (22, 0, zsz μ)), (2, vI (nI i))] [] ν Q E := by
    intro dd
    induction dd with
    | zero =>
      intro i ν hi hil g hz hs hall
      have hν := h.kp hok (zOld.nw g hok)
      have hi' : i = 7 := by omega
      subst hi'
      exact B_X1_bufferName_10 ⟨_, hν.2.2.2.2.2.1.2.1, fun _ => fin 7 ν (Nat.le_refl _) (Or.inr rfl) hil g hz hs hall, fun _ => ⟨fun _ => fin 7 ν (Nat.le_refl _) (Or.inr rfl) hil g hz hs hall, fun q => absurd (by decide) q⟩⟩
    | succ dd ih =>
      intro i ν hi hil g hz hs hall
      have hν := h.kp hok (zOld.nw g hok)
      obtain ⟨⟨-, -, -, u4, -⟩, -, -, -, -, ⟨c1, c2, c3⟩, -⟩ := id hν
      refine B_X1_bufferName_10 ⟨_, c2, fun q => ?_, fun q => ⟨fun q2 => absurd q2 (nI_nlt (a := 6) (b := i) (by omega) (by omega)), fun _ => ?_⟩⟩
      · have : i = (aBu σ).length := by
          apply Decidable.byContradiction
          intro t
          exact q (nI_lt (by omega) (by omega))
        exact fin i ν (by omega) (Or.inl this) hil g hz hs hall
      · have hlt : i < (aBu σ).length := (nI_ltI (by omega) (by omega)).mp q
        obtain ⟨m1, m2⟩ := c3 i hlt
        obtain ⟨f1, f2⟩ := sB_let ⟨(aBu σ).getD i 0, m2⟩
        dsimp only at f1 f2
        have hge : (aBu σ).getD i 0 = (aBu σ)[i] := by rw [List.getD_eq_getElem?_getD, List.getElem?_eq_getElem hlt]; rfl
        have tk : (aBu σ).take (i + 1) = (aBu σ).take i ++ [(aBu σ).getD i 0] := by rw [hge, List.take_succ_eq_append_getElem hlt]
        refine ⟨900, bf, u4, i, zix.eq rfl (by omega) (by omega), _, m1, C_xIn 97 123 (by decide) (by decide) (fun e e1 e2 hz2 => ⟨_, rfl, fun _ => ⟨900, bf, u4, i, zix.eq rfl (by omega) (by omega), _, m1, ?_⟩, fun t => absurd t (by decide)⟩) (fun hne => ⟨_, rfl, fun t => absurd rfl t, fun _ => ?_⟩)⟩
        · have hc : (aBu σ).getD i 0 < 128 := by
            apply Decidable.byContradiction
            intro t
            have := f2 (by omega)
            rw [hz2, nI_toInt (by omega)] at this
            omega
          have hec : (aBu σ).getD i 0 = e := by
            have := f1 hc
            rw [hz2] at this
            exact ((nI_eq (by omega) (by omega)).mp this).symm
          have ech := ch128 ⟨(aBu σ).getD i 0, hc⟩
          dsimp only at ech
          rw [f1 hc, ech]
          have li : ((aBu σ).take i).length = i := by rw [List.length_take]; omega
          refine Call.zo fun okν _ => C_sbApp rfl hc (by omega) (Or.inl (by decide)) okν (by omega) hs fun ρ sa' n' y1 y2 y3 y4 => ⟨_, rfl, _, rfl, ?_⟩
          rw [li] at y3
          have hn' : n' = 16 ∧ sa' = zsz μ + 1 := by omega
          obtain ⟨rfl, rfl⟩ := hn'
          rw [nI_1]
          have gρ : zG (fun _ => False) (2 + (i + 1)) 20 μ ρ := (zG.trN (W := fun _ => False) g (y4.mono (fun a _ q => Or.inr (by omega)) (Nat.le_refl _) (Nat.le_refl _))).mono (fun _ _ q => q) (by omega) (by omega)
          refine ih (i + 1) ρ (by omega) hlt gρ (by have := y4.1.1; omega) (by rw [tk]; exact y1) ?_
          rw [tk, List.all_append, hall]
          show (true && (pLet ((aBu σ).getD i 0) && true)) = true
          unfold pLet
          simp only [Bool.and_true, Bool.true_and, decide_eq_true_eq]
          omega
        · have hno : ¬ pLet ((aBu σ).getD i 0) = true := by
            unfold pLet
            rw [decide_eq_true_eq]
            intro t
            exact hne _ t.1 (by omega) (by omega) (f1 (by omega))
          have en : aName (aBu σ) = [] := by
            unfold aName
            rw [if_neg]
            intro t
            rw [List.all_eq_true] at t
            refine hno (t _ ?_)
            have h7 : i < ((aBu σ).take 7).length := by rw [List.length_take]; omega
            have : ((aBu σ).take 7)[i] = (aBu σ).getD i 0 := by rw [List.getElem_take, hge]
            rw [← this]
            exact List.getElem_mem h7
          have hK : zStr ν B (zgS G 107) [] := (hk.1 (107, []) (by unfold kTx; simp)).kpB fun a ha => (g.same (Nat.lt_of_lt_of_le ha hk.2.1) id).c
          refine k ν _ B (by rw [en]; exact hK) (g.mono (fun _ _ q => q) (by omega) (by omega))
  exact key 7 0 ν0 (by omega) (Nat.zero_le _) (g0'.mono (fun _ _ q => q) (by omega) (by omega)) (Nat.le_refl _) (by rw [List.take_zero]; exact s0) rfl
theorem C_xfindEcho (hk : zKx G μ B (zXo x d da bf sb sba Z)) (h : zXs G μ x d da bf sb sba n Z σ) (hg : sGd (aR σ) K V po D) (k : zXe G x d da bf sb Z σ μ Q σ (vI (sFindB (aR σ) (aBu σ) false))) : Call G Y_X1_findEcho [vP (1, 0, x)] μ Q E := by
  refine Call.zo fun hok _ => ?_
  obtain ⟨s, lo, hi, F, fg, el, ear, vl, var, ds, dm, sm, ea, va, ta, sa, hs0, b1, b2, b3, b4⟩ := h.st hg
  have gb := hg.1.1
  have hK := hg.1.2.1.1
  refine S_X1_findEcho ⟨s, hs0, C_xBufName hk h fun ν p C y1 g => ⟨_, rfl, y1.1, ?_⟩⟩
  have bν := b1.nw hok b2 g
  have fE : ∀ e, e < K → zfr ν 21 (ea e) = zfr μ 21 (ea e) := fun e he => (g.same (by have := (b1.2.1.2.2.1 e he).2; omega) id).2.1 21
  refine C_sNamedE y1 bν (fun e he => ⟨hi, ?_⟩) (fun e he => (hg.2.1.1 e he).2.2) ⟨_, rfl, ?_⟩
  · rw [fE e he]
    exact (b3.1 e he).1.kpB fun a ha => (g.same (by omega) id).c
  · have e1 : sFindB (aR σ) (aBu σ) false = o2i (sFind (aR σ) 23 15 (aName (aBu σ)) K 0) := by
      rw [sFind_nm (q := 23) (d := 15) (N := K) h.2.2.2.2.2.1.1 (fun j hj => (hg.2.1.1 j hj).2.2)]
      unfold sFindB sThing
      rw [if_neg (show ¬ (false = true) by decide), hK, nI_clamp (by omega)]
    rw [← e1]
    exact k ν (zXd.nw h hok g (by decide) (by decide))
theorem C_xfindValley (hk : zKx G μ B (zXo x d da bf sb sba Z)) (h : zXs G μ x d da bf sb sba n Z σ) (hg : sGd (aR σ) K V po D) (k : zXe G x d da bf sb Z σ μ Q σ (vI (sFindB (aR σ) (aBu σ) true))) : Call G Y_X1_findValley [vP (1, 0, x)] μ Q E := by
  refine Call.zo fun hok _ => ?_
  obtain ⟨s, lo, hi, F, fg, el, ear, vl, var, ds, dm, sm, ea, va, ta, sa, hs0, b1, b2, b3, b4⟩ := h.st hg
  have gb := hg.1.1
  have hV := hg.1.2.1.2
  refine S_X1_findValley ⟨s, hs0, C_xBufName hk h fun ν p C y1 g => ⟨_, rfl, y1.1, ?_⟩⟩
  have bν := b1.nw hok b2 g
  have fV : ∀ v, v < V → zfr ν 30 (va v) = zfr μ 30 (va v) := fun v hv => (g.same (by have := (b1.2.2.1.2.2.1 v hv).1.2; omega) id).2.1 30
  refine C_sNamedV y1 bν (fun v hv => ⟨hi, ?_⟩) (fun v hv => (hg.2.1.2.1 v hv).2.2) ⟨_, rfl, ?_⟩
  · rw [fV v hv]
    exact (b3.2 v hv).1.kpB fun a ha => (g.same (by omega) id).c
  · have e1 : sFindB (aR σ) (aBu σ) true = o2i (sFind (aR σ) 203 17 (aName (aBu σ)) V 0) := by
      rw [sFind_nm (q := 203) (d := 17) (N := V) h.2.2.2.2.2.1.1 (fun j hj => (hg.2.1.2.1 j hj).2.2)]
      unfold sFindB sThing
      rw [if_pos rfl, hV, nI_clamp (by omega)]
    rw [← e1]
    exact k ν (zXd.nw h hok g (by decide) (by decide))
end ZJ
