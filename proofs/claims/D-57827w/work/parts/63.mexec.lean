/-! CONTRACTS, 25: the model executes commands, 2 -/
section ZEX
variable {G : ZG} {μ ν : ZM} {Q : Option ZV → ZM → Prop} {E : ZP → ZM → Prop} {m a p q K V D : Nat} {z z1 z2 : Int32} {b w : List Nat} {r : Nat → Int32} {e : Int32 × Nat} {po : Nat → Nat} {σ : ZS}
theorem C_doesOne {l : List (Nat × Nat × Nat)} (i : Nat) (hi : i < l.length) (hl : l.length ≤ 30) (hz : z1 = nI (3 * i)) (h : zMm μ m) (hg : sGd (zai μ (m + 1)) K V po D) (hD : D < 1000000) (ht : zTl μ m l) (hc : cOk K V (l.getD i (0, 0, 0)))
    (kt : ∀ r', sDo K V (l.getD i (0, 0, 0)) (zai μ (m + 1)) = some r' → ∀ ν, zai ν (m + 1) = r' → zW (zFs m) (zAs m) μ ν → Q (some (vI 1)) ν)
    (kf : sDo K V (l.getD i (0, 0, 0)) (zai μ (m + 1)) = none → Q (some (vI 0)) μ) : Call G Y_X5_doesOne [vP (5, 0, m), vI z1] μ Q E := by
  subst hz
  obtain ⟨t1, t2, t3⟩ := ht i hi
  obtain ⟨c, hcc⟩ : ∃ c, c = l.getD i (0, 0, 0) := ⟨_, rfl⟩
  rw [← hcc] at t1 t2 t3 hc kt kf
  obtain ⟨k, x, y⟩ := c
  obtain ⟨c0, c1, c2, c3, c4, c5, c6⟩ := hc
  dsimp only at t1 t2 t3 c0 c1 c2 c3 c4 c5 c6
  obtain ⟨hw, -, -, d, hd1, hd2⟩ := id hg
  have bb := hw.1
  have i1 : zix (nI (3 * i) + 1) (3 * i + 1) 90 := zix.eq (nI_1 _) (by omega) (by omega)
  have i2 : zix (nI (3 * i) + 2) (3 * i + 2) 90 := zix.eq (nI_add _ 2) (by omega) (by omega)
  have i3 : zix (nI (3 * i)) (3 * i) 90 := zix.eq rfl (by omega) (by omega)
  have ha := h.2.2.2.2.2.2.2.2.2.2.1
  have cases7 : k = 0 ∨ k = 1 ∨ k = 2 ∨ k = 3 ∨ k = 4 ∨ k = 5 ∨ k = 6 := by omega
  unfold sDo at kt kf
  dsimp only at kt kf
  rcases cases7 with rfl | rfl | rfl | rfl | rfl | rfl | rfl
  · rw [if_pos rfl] at kt
    have t2 := t2 (by omega)
    have c1 := c1 rfl
    exact S_X5_doesOne ⟨_, _, ha, _, i1, _, rfl, _, i2, _, rfl, _, i3, _, t1, fun _ => C_passNow (K := K) (V := V) (po := po) (B := 24 * D) x d t2 (by omega) h hw (by omega) hd1 (by omega) (fun ν hs _ hν => ⟨_, rfl, rfl, kt _ rfl ν hs hν⟩), fun u => absurd u (by decide), fun u => absurd u (by decide), fun u => absurd u (by decide), fun u => absurd u (by decide), fun u => absurd u (by decide), fun u => absurd u (by decide)⟩
  · rw [if_neg (by decide), if_pos rfl] at kt
    exact S_X5_doesOne ⟨_, _, ha, _, i1, _, rfl, _, i2, _, rfl, _, i3, _, t1, fun u => absurd u (by decide), fun _ => C_holdNow (K := K) (V := V) (po := po) (B := 24 * D) h hw (fun ν hs _ hν => ⟨_, rfl, rfl, kt _ rfl ν hs hν⟩), fun u => absurd u (by decide), fun u => absurd u (by decide), fun u => absurd u (by decide), fun u => absurd u (by decide), fun u => absurd u (by decide)⟩
  · rw [if_neg (by decide), if_neg (by decide), if_pos rfl] at kt kf
    have t2 := t2 (by omega)
    have t3 := t3 (Or.inl rfl)
    have c2 := c2 (Or.inl rfl)
    have c4 := c4 rfl
    exact S_X5_doesOne ⟨_, _, ha, _, i1, _, rfl, _, i2, _, rfl, _, i3, _, t1, fun u => absurd u (by decide), fun u => absurd u (by decide), fun _ => C_testNow x y t2 t3 (by omega) (by omega) h (fun ok ν hs _ hν => ⟨_, rfl, rfl, kt _ (if_pos ok) ν hs hν⟩) (fun nok => ⟨_, rfl, rfl, kf (if_neg nok)⟩), fun u => absurd u (by decide), fun u => absurd u (by decide), fun u => absurd u (by decide), fun u => absurd u (by decide)⟩
  · rw [if_neg (by decide), if_neg (by decide), if_neg (by decide), if_pos rfl] at kt kf
    have t2 := t2 (by omega)
    have c3 := c3 (Or.inl rfl)
    exact S_X5_doesOne ⟨_, _, ha, _, i1, _, rfl, _, i2, _, rfl, _, i3, _, t1, fun u => absurd u (by decide), fun u => absurd u (by decide), fun u => absurd u (by decide), fun _ => C_dismissNow (K := K) (V := V) (po := po) (B := 24 * D) x t2 (by omega) h hw (fun ok ν hs _ hν => ⟨_, rfl, rfl, kt _ (if_pos ok) ν hs hν⟩) (fun nok => ⟨_, rfl, rfl, kf (if_neg nok)⟩), fun u => absurd u (by decide), fun u => absurd u (by decide), fun u => absurd u (by decide)⟩
  · rw [if_neg (by decide), if_neg (by decide), if_neg (by decide), if_neg (by decide), if_pos rfl] at kt
    have t2 := t2 (by omega)
    have t3 := t3 (Or.inr (Or.inl rfl))
    have c2 := c2 (Or.inr (Or.inl rfl))
    exact S_X5_doesOne ⟨_, _, ha, _, i1, _, rfl, _, i2, _, rfl, _, i3, _, t1, fun u => absurd u (by decide), fun u => absurd u (by decide), fun u => absurd u (by decide), fun u => absurd u (by decide), fun _ => C_wageNow x t2 (by omega) h (fun ν hs _ hν => ⟨_, rfl, rfl, kt _ rfl ν (by rw [hs, t3]) hν⟩), fun u => absurd u (by decide), fun u => absurd u (by decide)⟩
  · rw [if_neg (by decide), if_neg (by decide), if_neg (by decide), if_neg (by decide), if_neg (by decide), if_pos rfl] at kt
    have t2 := t2 (by omega)
    have t3 := t3 (Or.inr (Or.inr rfl))
    have c2 := c2 (Or.inr (Or.inr rfl))
    exact S_X5_doesOne ⟨_, _, ha, _, i1, _, rfl, _, i2, _, rfl, _, i3, _, t1, fun u => absurd u (by decide), fun u => absurd u (by decide), fun u => absurd u (by decide), fun u => absurd u (by decide), fun u => absurd u (by decide), fun _ => C_fundNow x t2 (by omega) h (fun ν hs _ hν => ⟨_, rfl, rfl, kt _ rfl ν (by rw [hs, t3]) hν⟩), fun u => absurd u (by decide)⟩
  · rw [if_neg (by decide), if_neg (by decide), if_neg (by decide), if_neg (by decide), if_neg (by decide), if_neg (by decide)] at kt kf
    have t2 := t2 (by omega)
    have c3 := c3 (Or.inr rfl)
    exact S_X5_doesOne ⟨_, _, ha, _, i1, _, rfl, _, i2, _, rfl, _, i3, _, t1, fun u => absurd u (by decide), fun u => absurd u (by decide), fun u => absurd u (by decide), fun u => absurd u (by decide), fun u => absurd u (by decide), fun u => absurd u (by decide), fun _ => C_trainNow x t2 (by omega) h (fun ok ν hs _ hν => ⟨_, rfl, rfl, kt _ (if_pos ok) ν hs hν⟩) (fun nok => ⟨_, rfl, rfl, kf (if_neg nok)⟩)⟩
/-- commands that were executed -/
def aExec (σ : ZS) (r : Nat → Int32) : ZS := (r, aSv σ, sKeep (aPa σ) (aR σ), [], 0, -1, aOu σ)
/-- commands done one by one -/
theorem C_doAll {l : List (Nat × Nat × Nat)} (hl : l.length ≤ 30) (hc : ∀ c, c ∈ l → cOk K V c) : ∀ (suf pre : List (Nat × Nat × Nat)) (ν : ZM) (ri : Nat → Int32) (D : Nat), l = pre ++ suf → sGd ri K V po D → D + 60 * suf.length < 1000000 → zMs ν m (ri, σ.2) → zfi ν 46 m = 0 → zfi ν 65 m = nI l.length → zTl ν m l → zW (zFm m) (zAm m) μ ν → (∀ ρ, zMs ρ m ((sExec K V suf ri).1, σ.2) → zfi ρ 46 m = 0 → zW (zFm m) (zAm m) μ ρ → Q (some (vI (nI (pre.length + (sExec K V suf ri).2)))) ρ) → Wp G Y_X5_executeCommands 54 [(0, vP (5, 0, m)), (1, vI (nI pre.length))] [] ν Q E := by
  intro suf
  induction suf with
  | nil =>
    intro pre ν ri D hpre hg hD hm h46 h65 ht hW k
    rw [List.append_nil] at hpre
    subst hpre
    exact B_X5_executeCommands_54 ⟨_, h65, fun _ => k ν hm h46 hW, fun t => absurd t (nI_nlt (Nat.le_refl _) (by omega))⟩
  | cons c suf ih =>
    intro pre ν ri D hpre hg hD hm h46 h65 ht hW k
    have hlen : l.length = pre.length + (suf.length + 1) := by rw [hpre, List.length_append, List.length_cons]
    have hget : l.getD pre.length (0, 0, 0) = c := by rw [hpre]; simp
    have hrow : zai ν (m + 1) = ri := hm.2.1
    have hmem : c ∈ l := by rw [hpre]; simp
    rw [List.length_cons] at hD
    unfold sExec at k
    refine B_X5_executeCommands_54 ⟨_, h65, fun t => absurd (nI_lt (by omega) (by omega)) t, fun _ => C_doesOne (K := K) (V := V) (po := po) (D := D) pre.length (by omega) hl (pk_mul 3 _) hm.1 (by rw [hrow]; exact hg) (by omega) ht (by rw [hget]; exact hc c hmem) (fun r' hd ρ hs hρ => ⟨_, rfl, fun t => absurd t (by decide), fun _ => ?_⟩) (fun hd => ⟨_, rfl, fun _ => ?_, fun t => absurd rfl t⟩)⟩
    · rw [hget, hrow] at hd
      rw [hd] at k
      dsimp only at k
      rw [nI_1]
      have hpl : nI (pre.length + 1) = nI (pre ++ [c]).length := by rw [List.length_append]; rfl
      rw [hpl]
      refine ih (pre ++ [c]) ρ r' (D + 60) (by rw [hpre]; simp) (sDo_ok hg (by omega) (hc c hmem) hd) (by omega) (hm.go hρ.t hs) (by rw [hρ.2.2.2.2.2.2.1 46 m (by unfold zFs; omega)]; exact h46) (by rw [hρ.2.2.2.2.2.2.1 65 m (by unfold zFs; omega)]; exact h65) (fun j hj => by rw [hρ.ai (show ¬ zAs m (m + 11) by unfold zAs; omega)]; exact ht j hj) (hW.trans hρ.m) fun τ hτ h46' hWτ => ?_
      have := k τ hτ h46' hWτ
      rw [List.length_append, List.length_cons, List.length_nil, show pre.length + (0 + 1) + (sExec K V suf r').2 = pre.length + ((sExec K V suf r').2 + 1) by omega]
      exact this
    · rw [hget, hrow] at hd
      rw [hd] at k
      exact k ν hm h46 hW
theorem C_executeCommands (hk : zKs G μ m) (h : zMs μ m σ) (hg : sGd (aR σ) K V po D) (hD : D < 900000)
    (kt : ∀ l, pCmds (aBu σ) (aR σ) 1000 [] 0 = .ok l → zEd μ m Q (aExec σ (sExec K V l (aR σ)).1) 0 (nI (sExec K V l (aR σ)).2))
    (k1 : ∀ e, pCmds (aBu σ) (aR σ) 1000 [] 0 = .error e → zEd μ m Q (aBad σ e.1 (nI e.2)) 1 0) : Call G Y_X5_executeCommands [vP (5, 0, m)] μ Q E := by
  obtain ⟨h1, h2, h3, h4, h5, ⟨h6, h7⟩, h8⟩ := id h
  have hl : (aBu σ).length ≤ 900 := h5.1
  have hz := hg.2.2.1
  have hr : sKV (aR σ) K V := ⟨hg.1.2.1.1, hg.1.2.1.2, hg.1.1.1, hg.1.1.2.1⟩
  -- frames: what the parser wrote
  have parts : ∀ {ν : ZM}, zW (zFc m) (zA2 m) μ ν → (∀ f, f ≠ 57 → f ≠ 58 → f ≠ 59 → f ≠ 60 → f ≠ 61 → f ≠ 65 → zfi ν f m = zfi μ f m) ∧ ∀ c, c ≠ m + 1 → c ≠ m + 11 → zai ν c = zai μ c := fun hW => ⟨fun f q1 q2 q3 q4 q5 q6 => hW.2.2.2.2.2.2.1 f m (by unfold zFc; omega), fun c q1 q2 => hW.ai (by unfold zA2; omega)⟩
  have bad : ∀ (ν : ZM) (e : Int32 × Nat), pCmds (aBu σ) (aR σ) 1000 [] 0 = .error e → pEr G ν m (aBu σ) e → zai ν (m + 1) = aR σ → zW (zFc m) (zA2 m) μ ν → Wp G Y_X5_executeCommands 9 [(0, vP (5, 0, m))] [] ν Q E := by
    intro ν e hp hν hrow hW
    obtain ⟨oth, oa⟩ := parts hW
    refine B_X5_executeCommands_9 ⟨_, hν.2.1, fun _ => C_endsText hν.2.1 hν.2.2.2.1 (fun hc => absurd hc hν.2.2.1) (fun _ => ⟨_, rfl, C_passes0 ⟨_, rfl, fun t => absurd rfl t, fun _ => ?_⟩⟩), fun t => absurd t hν.2.2.1⟩
    refine k1 e hp _ ⟨hν.1.2.1, hrow, h3.same ?_ (oa _ (by omega) (by omega)), h4.same ?_ (oa _ (by omega) (by omega)), ⟨by show ([] : List Nat).length ≤ 900; simp, ?_, fun i hi => absurd hi (Nat.not_lt_zero _)⟩, ⟨?_, ?_⟩, h8.same ?_ (oa _ (by omega) (by omega))⟩ ?_ ?_
    · rw [zfi_zFi, if_neg (by omega), zfi_zFi, if_neg (by omega), zfi_zFi, if_neg (by omega), zfi_zFi, if_neg (by omega)]; exact oth 47 (by omega) (by omega) (by omega) (by omega) (by omega) (by omega)
    · rw [zfi_zFi, if_neg (by omega), zfi_zFi, if_neg (by omega), zfi_zFi, if_neg (by omega), zfi_zFi, if_neg (by omega)]; exact oth 45 (by omega) (by omega) (by omega) (by omega) (by omega) (by omega)
    · rw [zfi_zFi, if_neg (by omega), zfi_zFi, if_neg (by omega), zfi_zFi, if_neg (by omega), zfi_zFi, if_pos ⟨rfl, rfl⟩]; rfl
    · rw [zfi_zFi, if_neg (by omega), zfi_zFi, if_neg (by omega), zfi_zFi, if_pos ⟨rfl, rfl⟩]; rfl
    · rw [zfi_zFi, if_neg (by omega), zfi_zFi, if_pos ⟨rfl, rfl⟩]; rfl
    · rw [zfi_zFi, if_neg (by omega), zfi_zFi, if_neg (by omega), zfi_zFi, if_neg (by omega), zfi_zFi, if_neg (by omega)]; exact oth 67 (by omega) (by omega) (by omega) (by omega) (by omega) (by omega)
    · rw [zfi_zFi, if_pos ⟨rfl, rfl⟩]
    · exact (((hW.ct.tm.trans (zW_Fi (F := zFm m) rfl _ _)).trans (zW_Fi (F := zFm m) rfl _ _)).trans (zW_Fi (F := zFm m) rfl _ _)).trans (zW_Fi (F := zFm m) rfl _ _)
  -- the commands are read
  have loop : ∀ (n : Nat) (l : List (Nat × Nat × Nat)) (a : Nat) (ν : ZM), (aBu σ).length < a + n → l.length ≤ 30 → (∀ c, c ∈ l → cOk K V c) → pCmds (aBu σ) (aR σ) n l a = pCmds (aBu σ) (aR σ) 1000 [] 0 → pOk G ν m (aBu σ) a (aR σ) → zfi ν 65 m = nI l.length → zTl ν m l → zW (zFc m) (zA2 m) μ ν → Wp G Y_X5_executeCommands 9 [(0, vP (5, 0, m))] [] ν Q E := by
    intro n
    induction n with
    | zero => intro l a ν hn _ _ _ hν; have := hν.2.2.1; omega
    | succ n ih =>
      intro l a ν hn hl30 hcs hp hν h65 ht hW
      unfold pCmds at hp
      refine B_X5_executeCommands_9 ⟨_, hν.2.2.2.1.1, fun t => absurd rfl t, fun _ => C_nextOk hν fun ρ hρ hWρ => ⟨_, rfl, fun hm => ?_, fun hm => ?_⟩⟩
      · have hlen : (aBu σ).length ≤ pSk (aBu σ) a := by
          apply Decidable.byContradiction
          intro t
          rw [bAt_lt (by omega)] at hm
          exact o2i_neg (by have := hν.1.by (pSk (aBu σ) a) (by omega); omega) hm
        rw [if_pos hlen] at hp
        have hW2 := hW.trans hWρ.kc
        obtain ⟨oth, oa⟩ := parts hW2
        have e65 : zfi ρ 65 m = nI l.length := by rw [hWρ.2.2.2.2.2.2.1 65 m (by unfold zFk; omega)]; exact h65
        refine C_endsText hρ.1.2.2.2.1.1 hρ.1.2.2.2.1.2 (fun _ => ⟨_, rfl, C_passes1 ⟨_, rfl, fun _ => ⟨_, _, hρ.1.1.2.1.1, ?_⟩, fun t => absurd t (by decide)⟩⟩) (fun t => absurd rfl t)
        obtain ⟨τ, hτ⟩ : ∃ x, x = zFi (zFi (zFi (zFi ρ 56 m 0) 62 m 0) 63 m (-1)) 46 m 0 := ⟨_, rfl⟩
        rw [← hτ]
        have o4 : ∀ f, f ≠ 56 → f ≠ 62 → f ≠ 63 → f ≠ 46 → zfi τ f m = zfi ρ f m := fun f q1 q2 q3 q4 => by rw [hτ, zfi_zFi, if_neg (by omega), zfi_zFi, if_neg (by omega), zfi_zFi, if_neg (by omega), zfi_zFi, if_neg (by omega)]
        have oaτ : ∀ c, zai τ c = zai ρ c := fun c => by rw [hτ]; rfl
        have frτ : zfr τ = zfr ρ := by rw [hτ]; rfl
        have hWτ : zW (zFm m) (zAm m) μ τ := by
          rw [hτ]
          exact (((hW2.ct.tm.trans (zW_Fi (F := zFm m) rfl _ _)).trans (zW_Fi (F := zFm m) rfl _ _)).trans (zW_Fi (F := zFm m) rfl _ _)).trans (zW_Fi (F := zFm m) rfl _ _)
        have hpa : zPa τ m (aPa σ) := h4.same ((o4 45 (by omega) (by omega) (by omega) (by omega)).trans (oth 45 (by omega) (by omega) (by omega) (by omega) (by omega) (by omega))) ((oaτ _).trans (oa _ (by omega) (by omega)))
        have hmτ := hρ.1.1.2.1.fr frτ
        have hrow : zai τ (m + 1) = aR σ := (oaτ _).trans hρ.1.2.2.2.2
        refine C_keeps (f := m + 1) (r := aR σ) ⟨by omega, by omega⟩ hmτ hpa (fun j _ => by rw [hrow]) fun π hπ hWπ => ⟨rfl, ?_⟩
        have o5 : ∀ f, f ≠ 45 → zfi π f m = zfi τ f m := fun f q => hWπ.2.2.2.2.2.2.1 f m (by unfold zFp; omega)
        have oaπ : ∀ c, c ≠ m + 5 → zai π c = zai τ c := fun c q => hWπ.ai q
        have hWπm : zW (zFm m) (zAm m) μ π := hWτ.trans (hWπ.mono (fun f c t => t.1) (fun c t => by unfold zA1 at t; unfold zAm; omega))
        have hms : zMs π m (aR σ, (aExec σ (aR σ)).2) := by
          refine ⟨hmτ.fr hWπ.fr, (oaπ _ (by omega)).trans hrow, h3.same ?_ ?_, hπ, ⟨by show ([] : List Nat).length ≤ 900; simp, ?_, fun i hi => absurd hi (Nat.not_lt_zero _)⟩, ⟨?_, ?_⟩, h8.same ?_ ?_⟩
          · exact ((o5 47 (by omega)).trans (o4 47 (by omega) (by omega) (by omega) (by omega))).trans (oth 47 (by omega) (by omega) (by omega) (by omega) (by omega) (by omega))
          · exact ((oaπ _ (by omega)).trans (oaτ _)).trans (oa _ (by omega) (by omega))
          · rw [o5 56 (by omega), hτ, zfi_zFi, if_neg (by omega), zfi_zFi, if_neg (by omega), zfi_zFi, if_neg (by omega), zfi_zFi, if_pos ⟨rfl, rfl⟩]; rfl
          · rw [o5 62 (by omega), hτ, zfi_zFi, if_neg (by omega), zfi_zFi, if_neg (by omega), zfi_zFi, if_pos ⟨rfl, rfl⟩]; rfl
          · rw [o5 63 (by omega), hτ, zfi_zFi, if_neg (by omega), zfi_zFi, if_pos ⟨rfl, rfl⟩]; rfl
          · exact ((o5 67 (by omega)).trans (o4 67 (by omega) (by omega) (by omega) (by omega))).trans (oth 67 (by omega) (by omega) (by omega) (by omega) (by omega) (by omega))
          · exact ((oaπ _ (by omega)).trans (oaτ _)).trans (oa _ (by omega) (by omega))
        refine C_doAll (K := K) (V := V) (po := po) (μ := μ) (σ := aExec σ (aR σ)) hl30 hcs l [] π (aR σ) D rfl hg (by omega) hms (by rw [o5 46 (by omega), hτ, zfi_zFi, if_pos ⟨rfl, rfl⟩]) (by rw [o5 65 (by omega), o4 65 (by omega) (by omega) (by omega) (by omega)]; exact e65) (fun j hj => by rw [oaπ _ (by omega), oaτ, told_same hWρ]; exact ht j hj) hWπm fun χ hχ h46 hWχ => ?_
        rw [List.length_nil, Nat.zero_add]
        exact kt l hp.symm χ hχ h46 hWχ
      · have hlen : ¬ (aBu σ).length ≤ pSk (aBu σ) a := fun t => hm (by unfold bAt; rw [if_neg (by omega)])
        rw [if_neg hlen] at hp
        have e65 : zfi ρ 65 m = nI l.length := by rw [hWρ.2.2.2.2.2.2.1 65 m (by unfold zFk; omega)]; exact h65
        have hsk : pCmd (aBu σ) (aR σ) l.length (pSk (aBu σ) a) = pCmd (aBu σ) (aR σ) l.length a := by unfold pCmd; rw [pSk_sk]
        refine C_readsOne (K := K) (V := V) hl30 hρ.1 hz hr e65 (fun j hj => by rw [told_same hWρ]; exact ht j hj) (fun c a' hc τ hτ hWτ e65' ht' => ⟨rfl, ?_⟩) (fun e hc τ hτ hrow hWτ => ⟨rfl, ?_⟩)
        · rw [hsk] at hc
          rw [hc] at hp
          obtain ⟨g1, g2, g3⟩ := pCmd_ok hr hc
          refine ih (l ++ [c]) a' τ (by omega) (by rw [List.length_append]; simp; omega) (fun c' hc' => ?_) hp hτ e65' ht' ((hW.trans hWρ.kc).trans hWτ)
          rcases List.mem_append.mp hc' with q | q
          · exact hcs c' q
          · rw [List.mem_singleton.mp q]; exact g1
        · rw [hsk] at hc
          rw [hc] at hp
          exact bad τ e hp.symm hτ hrow ((hW.trans hWρ.kc).trans hWτ)
  refine S_X5_executeCommands (S_X5_startsText ⟨rfl, ?_⟩)
  obtain ⟨μ1, hμ1⟩ : ∃ x, x = zFi (zFi (zFi (zFi (zFi μ 57 m 0) 58 m 0) 60 m 0) 61 m (-1)) 65 m 0 := ⟨_, rfl⟩
  rw [← hμ1]
  have hW1 : zW (zFc m) (zA2 m) μ μ1 := by
    rw [hμ1]
    exact ((((zW_Fi (F := zFc m) ⟨rfl, Or.inl (by omega)⟩ μ _).trans (zW_Fi (F := zFc m) ⟨rfl, Or.inl (by omega)⟩ _ _)).trans (zW_Fi (F := zFc m) ⟨rfl, Or.inl (by omega)⟩ _ _)).trans (zW_Fi (F := zFc m) ⟨rfl, Or.inl (by omega)⟩ _ _)).trans (zW_65 _ _)
  have tb : zTb G μ m (aBu σ) := ⟨hk, h1, h5⟩
  refine loop 1000 [] 0 μ1 (by omega) (by simp) (fun c hc => (List.not_mem_nil hc).elim) rfl ⟨tb.same2 hW1.ct, by rw [hμ1, zfi_zFi, if_neg (by omega), zfi_zFi, if_neg (by omega), zfi_zFi, if_neg (by omega), zfi_zFi, if_neg (by omega), zfi_zFi, if_pos ⟨rfl, rfl⟩]; rfl, Nat.zero_le _, ⟨by rw [hμ1, zfi_zFi, if_neg (by omega), zfi_zFi, if_neg (by omega), zfi_zFi, if_pos ⟨rfl, rfl⟩], by rw [hμ1, zfi_zFi, if_neg (by omega), zfi_zFi, if_pos ⟨rfl, rfl⟩]⟩, by rw [hμ1]; exact h2⟩ (by rw [hμ1, zfi_zFi, if_pos ⟨rfl, rfl⟩]; rfl) (fun i hi => absurd hi (Nat.not_lt_zero _)) hW1
end ZEX
