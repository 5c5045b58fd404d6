/-! LAWS OF ROWS, 5: a configuration that is read is a good row -/
/-- a row while it is read -/
def sLd (r : Nat → Int32) (K V : Nat) (po : Nat → Nat) : Prop := sKV r K V ∧ sZ r ∧ (r 2 = 0 ∧ (∃ S, r 3 = nI S ∧ 1 ≤ S ∧ S ≤ 30) ∧ ∃ f, r 4 = nI f ∧ 1 ≤ f ∧ f ≤ 12) ∧ ((∀ v, v < 8 → wV r v 13 = 0 ∧ wV r v 8 = nI (po v) ∧ po v ≤ 3) ∧ ∀ e, e < 12 → wE r e 13 = 0 ∧ wE r e 12 = 0) ∧ sRg r K V
theorem sLd.good {r : Nat → Int32} {K V : Nat} {po : Nat → Nat} (h : sLd r K V po) (hK : ¬ r 0 = 0) (hV : ¬ r 1 = 0) : sGd r K V po 0 := by
  obtain ⟨⟨a1, a2, a3, a4⟩, b, ⟨c1, ⟨S, c2⟩, f, c3⟩, ⟨d1, d2⟩, e⟩ := h
  have k0 : 0 < K := by
    rcases Nat.eq_zero_or_pos K with q | q
    · rw [q] at a1; exact absurd a1 hK
    · exact q
  have v0 : 0 < V := by
    rcases Nat.eq_zero_or_pos V with q | q
    · rw [q] at a2; exact absurd a2 hV
    · exact q
  refine ⟨⟨⟨a3, a4, k0, v0⟩, ⟨a1, a2⟩, ⟨S, c2.1, by omega, by omega⟩, ⟨f, c3.1, by omega, by omega⟩, ⟨fun _ => [], fun v hv => ⟨(d1 v hv).1, (d1 v hv).2.1, Nat.zero_le _, (d1 v hv).2.2, List.nodup_nil, fun k hk => absurd hk (Nat.not_lt_zero _), fun e he => (List.not_mem_nil he).elim, fun _ => rfl⟩, fun e he _ => (d2 e he).1⟩, fun e he => ⟨0, (d2 e he).2, Nat.zero_le _⟩⟩, e, b, 0, c1, Nat.le_refl _⟩
theorem pFogs_ok {b : List Nat} : ∀ {n : Nat} {r r' : Nat → Int32} {a a' f : Nat}, r 4 = nI f → f ≤ 12 → pFogs b n r a = .ok (r', a') → (∀ j, j ≠ 4 → (j < 11 ∨ 23 ≤ j) → r' j = r j) ∧ (∃ f', r' 4 = nI f' ∧ 1 ≤ f' ∧ f' ≤ 12) ∧ a < a' := by
  intro n
  induction n with
  | zero => intro r r' a a' f _ _ h; cases h
  | succ n ih =>
    intro r r' a a' f h4 hf h
    have hf4 : (r 4).toNatClampNeg = f := by rw [h4]; exact nI_clamp (by omega)
    unfold pFogs at h
    split at h
    · cases h
    · rename_i v a1 hn
      have hge := (pNum_ge hn).1
      rw [hf4] at h
      split at h
      · cases h
      · split at h
        · split at h
          · cases h
          · rename_i a2 hs
            cases h
            have := pSemi_gt hs
            refine ⟨fun j h1 h2 => ?_, ⟨f + 1, ?_, by omega, by omega⟩, by omega⟩
            · unfold wU; rw [if_neg h1, if_neg (by omega)]
            · unfold wU; rw [if_pos rfl]
        · obtain ⟨i1, i2, i3⟩ := ih (f := f + 1) (by unfold wU; rw [if_pos rfl]) (by omega) h
          refine ⟨fun j h1 h2 => ?_, i2, by omega⟩
          rw [i1 j h1 h2]
          unfold wU; rw [if_neg h1, if_neg (by omega)]
/-- a line of numbers behind a name -/
theorem sNamed_at {r : Nat → Int32} {q : Nat} {w : List Nat} : sNamed r q w q = nI w.length ∧ ∀ k, k < w.length → sNamed r q w (q + 1 + k) = nI (w.getD k 0) := by
  refine ⟨?_, fun k hk => ?_⟩
  · unfold sNamed; rw [if_pos rfl]
  · unfold sNamed
    rw [if_neg (by omega), if_pos (by omega)]
    congr 2; omega
theorem sNm_of {r : Nat → Int32} {q : Nat} {w : List Nat} (h0 : r q = nI w.length) (h1 : ∀ k, k < w.length → r (q + 1 + k) = nI (w.getD k 0)) (w1 : 1 ≤ w.length) (w6 : w.length ≤ 6) (hw : ∀ k, k < w.length → 97 ≤ w.getD k 0 ∧ w.getD k 0 ≤ 122) : sNm r q :=
  ⟨w.length, h0, w1, w6, fun k hk => ⟨w.getD k 0, h1 k hk, hw k hk⟩⟩
theorem sNm.same {r r' : Nat → Int32} {q : Nat} (h : sNm r q) (e : ∀ j, q ≤ j → j < q + 7 → r' j = r j) : sNm r' q := by
  obtain ⟨n, h1, h2, h3, h4⟩ := h
  refine ⟨n, by rw [e q (by omega) (by omega)]; exact h1, h2, h3, fun k hk => ?_⟩
  rw [e (q + 1 + k) (by omega) (by omega)]
  exact h4 k hk
theorem pEcho_ok {b : List Nat} {r r' : Nat → Int32} {p a' K V : Nat} {po : Nat → Nat} (h : sLd r K V po) (hp : pEcho b r p = .ok (r', a')) : sLd r' (K + 1) V po ∧ p < a' := by
  obtain ⟨⟨a1, a2, a3, a4⟩, hz, ⟨c1, c2, c3⟩, ⟨d1, d2⟩, e1, e2, e3⟩ := h
  have hK : (r 0).toNatClampNeg = K := by rw [a1]; exact nI_clamp (by omega)
  unfold pEcho at hp
  rw [hK] at hp
  split at hp
  · cases hp
  · rename_i h12
    split at hp
    · cases hp
    · rename_i rr b1 hn
      obtain ⟨g0, w, hrr, w1, w6, hw⟩ := pNew_ok hn
      split at hp
      · cases hp
      · rename_i x7 b2 h7
        split at hp
        · cases hp
        · rename_i x8 b3 h8
          split at hp
          · cases hp
          · rename_i x9 b4 h9
            split at hp
            · cases hp
            · rename_i x10 b5 h10
              cases hp
              have g7 := pNum_ge h7
              have g8 := pNum_ge h8
              have g9 := pNum_ge h9
              have g10 := pNum_ge h10
              obtain ⟨r', hr'⟩ : ∃ x, x = wU (wU (wU (wU (wU rr (23 + 15 * K + 7) (nI x7)) (23 + 15 * K + 8) (nI x8)) (23 + 15 * K + 9) (nI x9)) (23 + 15 * K + 10) (nI x10)) 0 (nI (K + 1)) := ⟨_, rfl⟩
              rw [← hr']
              have out : ∀ j, j ≠ 0 → (j < 23 + 15 * K ∨ 23 + 15 * K + 11 ≤ j) → r' j = r j := fun j h0 hj => by
                rw [hr', hrr]
                unfold wU
                rw [if_neg h0, if_neg (by omega), if_neg (by omega), if_neg (by omega), if_neg (by omega), sNamed_out w6 (by omega)]
              have nm : ∀ j, 23 + 15 * K ≤ j → j < 23 + 15 * K + 7 → r' j = sNamed r (23 + 15 * K) w j := fun j j1 j2 => by
                rw [hr', hrr]
                unfold wU
                rw [if_neg (by omega), if_neg (by omega), if_neg (by omega), if_neg (by omega), if_neg (by omega)]
              have i7 : r' (23 + 15 * K + 7) = nI x7 := by
                rw [hr']; unfold wU
                rw [if_neg (by omega), if_neg (by omega), if_neg (by omega), if_neg (by omega), if_pos rfl]
              have i8 : r' (23 + 15 * K + 8) = nI x8 := by
                rw [hr']; unfold wU
                rw [if_neg (by omega), if_neg (by omega), if_neg (by omega), if_pos rfl]
              have i0 : r' 0 = nI (K + 1) := by rw [hr']; unfold wU; rw [if_pos rfl]
              have oE : ∀ e u, e < 12 → u < 15 → (e ≠ K ∨ 11 ≤ u) → wE r' e u = wE r e u := fun e u he hu hx => out _ (by omega) (by omega)
              have oV : ∀ v u, v < 8 → u < 17 → wV r' v u = wV r v u := fun v u hv hu => out _ (by omega) (by omega)
              refine ⟨⟨⟨i0, by rw [out 1 (by omega) (by omega)]; exact a2, by omega, a4⟩, fun j hj => by rw [out j (by omega) (by omega)]; exact hz j hj, ⟨by rw [out 2 (by omega) (by omega)]; exact c1, by rw [out 3 (by omega) (by omega)]; exact c2, by rw [out 4 (by omega) (by omega)]; exact c3⟩, ⟨fun v hv => by rw [oV v 13 hv (by omega), oV v 8 hv (by omega)]; exact d1 v hv, fun e he => by rw [oE e 13 he (by omega) (by omega), oE e 12 he (by omega) (by omega)]; exact d2 e he⟩, fun e he => ?_, fun v hv => ?_, fun v e hv he => ?_⟩, by omega⟩
              · by_cases heK : e = K
                · subst heK
                  refine ⟨⟨x7, i7, g7.2.1, g7.2.2⟩, ⟨x8, i8, g8.2.1, g8.2.2⟩, sNm_of (w := w) ?_ (fun k hk => ?_) w1 w6 hw⟩
                  · rw [nm _ (by omega) (by omega)]; exact sNamed_at.1
                  · rw [nm _ (by omega) (by omega)]; exact sNamed_at.2 k hk
                · obtain ⟨f1, f2, f3⟩ := e1 e (by omega)
                  exact ⟨by rw [oE e 7 (by omega) (by omega) (Or.inl heK)]; exact f1, by rw [oE e 8 (by omega) (by omega) (Or.inl heK)]; exact f2, f3.same fun j j1 j2 => out j (by omega) (by omega)⟩
              · obtain ⟨f1, f2, f3⟩ := e2 v hv
                exact ⟨by rw [oV v 7 (by omega) (by omega)]; exact f1, by rw [oV v 9 (by omega) (by omega)]; exact f2, f3.same fun j j1 j2 => out j (by omega) (by omega)⟩
              · have : wP r' v e 0 = wP r v e 0 := out _ (by omega) (by omega)
                rw [this]; exact e3 v e hv he
theorem pValley_ok {b : List Nat} {r r' : Nat → Int32} {p a' K V : Nat} {po : Nat → Nat} (h : sLd r K V po) (hp : pValley b r p = .ok (r', a')) : (∃ po', sLd r' K (V + 1) po') ∧ p < a' := by
  obtain ⟨⟨a1, a2, a3, a4⟩, hz, ⟨c1, c2, c3⟩, ⟨d1, d2⟩, e1, e2, e3⟩ := h
  have hV : (r 1).toNatClampNeg = V := by rw [a2]; exact nI_clamp (by omega)
  unfold pValley at hp
  rw [hV] at hp
  split at hp
  · cases hp
  · rename_i h8
    split at hp
    · cases hp
    · rename_i rr b1 hn
      obtain ⟨g0, w, hrr, w1, w6, hw⟩ := pNew_ok hn
      split at hp
      · cases hp
      · rename_i x7 b2 h7
        split at hp
        · cases hp
        · rename_i x8 b3 h8'
          split at hp
          · cases hp
          · rename_i x9 b4 h9
            split at hp
            · cases hp
            · rename_i x10 b5 h10
              cases hp
              have g7 := pNum_ge h7
              have g8 := pNum_ge h8'
              have g9 := pNum_ge h9
              have g10 := pNum_ge h10
              obtain ⟨r', hr'⟩ : ∃ x, x = wU (wU (wU (wU (wU (wU rr (203 + 17 * V + 7) (nI x7)) (203 + 17 * V + 8) (nI x8)) (203 + 17 * V + 9) (nI x9)) (203 + 17 * V + 10) (nI x10)) 7 (r 7 + nI x10)) 1 (nI (V + 1)) := ⟨_, rfl⟩
              rw [← hr']
              have out : ∀ j, j ≠ 1 → j ≠ 7 → (j < 203 + 17 * V ∨ 203 + 17 * V + 11 ≤ j) → r' j = r j := fun j h0 h1 hj => by
                rw [hr', hrr]
                unfold wU
                rw [if_neg h0, if_neg h1, if_neg (by omega), if_neg (by omega), if_neg (by omega), if_neg (by omega), sNamed_out w6 (by omega)]
              have nm : ∀ j, 203 + 17 * V ≤ j → j < 203 + 17 * V + 7 → r' j = sNamed r (203 + 17 * V) w j := fun j j1 j2 => by
                rw [hr', hrr]
                unfold wU
                rw [if_neg (by omega), if_neg (by omega), if_neg (by omega), if_neg (by omega), if_neg (by omega), if_neg (by omega)]
              have i7 : r' (203 + 17 * V + 7) = nI x7 := by
                rw [hr']; unfold wU
                rw [if_neg (by omega), if_neg (by omega), if_neg (by omega), if_neg (by omega), if_neg (by omega), if_pos rfl]
              have i8 : r' (203 + 17 * V + 8) = nI x8 := by
                rw [hr']; unfold wU
                rw [if_neg (by omega), if_neg (by omega), if_neg (by omega), if_neg (by omega), if_pos rfl]
              have i9 : r' (203 + 17 * V + 9) = nI x9 := by
                rw [hr']; unfold wU
                rw [if_neg (by omega), if_neg (by omega), if_neg (by omega), if_pos rfl]
              have i1 : r' 1 = nI (V + 1) := by rw [hr']; unfold wU; rw [if_pos rfl]
              have oE : ∀ e u, e < 12 → u < 15 → wE r' e u = wE r e u := fun e u he hu => out _ (by omega) (by omega) (by omega)
              have oV : ∀ v u, v < 8 → u < 17 → (v ≠ V ∨ 11 ≤ u) → wV r' v u = wV r v u := fun v u hv hu hx => out _ (by omega) (by omega) (by omega)
              refine ⟨⟨fun v => if v = V then x8 else po v, ⟨by rw [out 0 (by omega) (by omega) (by omega)]; exact a1, i1, a3, by omega⟩, fun j hj => by rw [out j (by omega) (by omega) (by omega)]; exact hz j hj, ⟨by rw [out 2 (by omega) (by omega) (by omega)]; exact c1, by rw [out 3 (by omega) (by omega) (by omega)]; exact c2, by rw [out 4 (by omega) (by omega) (by omega)]; exact c3⟩, ⟨fun v hv => ⟨by rw [oV v 13 hv (by omega) (by omega)]; exact (d1 v hv).1, ?_, ?_⟩, fun e he => by rw [oE e 13 he (by omega), oE e 12 he (by omega)]; exact d2 e he⟩, fun e he => ?_, fun v hv => ?_, fun v e hv he => ?_⟩, by omega⟩
              · by_cases hvV : v = V
                · dsimp only; rw [if_pos hvV, hvV]; exact i8
                · dsimp only; rw [if_neg hvV, oV v 8 hv (by omega) (Or.inl hvV)]; exact (d1 v hv).2.1
              · dsimp only
                split
                · omega
                · exact (d1 v hv).2.2
              · obtain ⟨f1, f2, f3⟩ := e1 e he
                exact ⟨by rw [oE e 7 (by omega) (by omega)]; exact f1, by rw [oE e 8 (by omega) (by omega)]; exact f2, f3.same fun j j1 j2 => out j (by omega) (by omega) (by omega)⟩
              · by_cases hvV : v = V
                · subst hvV
                  refine ⟨⟨x7, i7, g7.2.1, g7.2.2⟩, ⟨x9, i9, g9.2.1, g9.2.2⟩, sNm_of (w := w) ?_ (fun k hk => ?_) w1 w6 hw⟩
                  · rw [nm _ (by omega) (by omega)]; exact sNamed_at.1
                  · rw [nm _ (by omega) (by omega)]; exact sNamed_at.2 k hk
                · obtain ⟨f1, f2, f3⟩ := e2 v (by omega)
                  exact ⟨by rw [oV v 7 (by omega) (by omega) (Or.inl hvV)]; exact f1, by rw [oV v 9 (by omega) (by omega) (Or.inl hvV)]; exact f2, f3.same fun j j1 j2 => out j (by omega) (by omega) (by omega)⟩
              · have : wP r' v e 0 = wP r v e 0 := out _ (by omega) (by omega) (by omega)
                rw [this]; exact e3 v e hv he
theorem pTested_ok {b : List Nat} {r r' : Nat → Int32} {p a' K V : Nat} {po : Nat → Nat} (h : sLd r K V po) (hp : pTested b r p = .ok (r', a')) : sLd r' K V po ∧ p < a' := by
  obtain ⟨hkv, hz, ⟨c1, c2, c3⟩, ⟨d1, d2⟩, e1, e2, e3⟩ := h
  obtain ⟨a1, a2, a3, a4⟩ := id hkv
  unfold pTested at hp
  split at hp
  · cases hp
  · rename_i v b1 hv
    obtain ⟨g1, t1⟩ := pMust_ok hv
    split at hp
    · cases hp
    · rename_i e b2 he
      obtain ⟨g2, t2⟩ := pMust_ok he
      cases hp
      have v8 := sThing_lt hkv t1
      have e12 := sThing_lt hkv t2
      rw [if_pos rfl] at v8
      rw [if_neg (by decide)] at e12
      have out : ∀ j, j ≠ iP v e 0 → wU r (iP v e 0) 1 j = r j := fun j hj => by unfold wU; rw [if_neg hj]
      have lo : ∀ j, j < 339 → wU r (iP v e 0) 1 j = r j := fun j hj => out j (by unfold iP; omega)
      refine ⟨⟨⟨by rw [lo 0 (by omega)]; exact a1, by rw [lo 1 (by omega)]; exact a2, a3, a4⟩, fun j hj => by rw [out j (by unfold iP; omega)]; exact hz j hj, ⟨by rw [lo 2 (by omega)]; exact c1, by rw [lo 3 (by omega)]; exact c2, by rw [lo 4 (by omega)]; exact c3⟩, ⟨fun v' hv' => ?_, fun e' he' => ?_⟩, fun e' he' => ?_, fun v' hv' => ?_, fun v' e' hv' he' => ?_⟩, by omega⟩
      · have o : ∀ u, u < 17 → wV (wU r (iP v e 0) 1) v' u = wV r v' u := fun u hu => lo _ (by omega)
        rw [o 13 (by omega), o 8 (by omega)]; exact d1 v' hv'
      · have o : ∀ u, u < 15 → wE (wU r (iP v e 0) 1) e' u = wE r e' u := fun u hu => lo _ (by omega)
        rw [o 13 (by omega), o 12 (by omega)]; exact d2 e' he'
      · have o : ∀ u, u < 15 → wE (wU r (iP v e 0) 1) e' u = wE r e' u := fun u hu => lo _ (by omega)
        obtain ⟨f1, f2, f3⟩ := e1 e' he'
        exact ⟨by rw [o 7 (by omega)]; exact f1, by rw [o 8 (by omega)]; exact f2, f3.same fun j j1 j2 => lo j (by omega)⟩
      · have o : ∀ u, u < 17 → wV (wU r (iP v e 0) 1) v' u = wV r v' u := fun u hu => lo _ (by omega)
        obtain ⟨f1, f2, f3⟩ := e2 v' hv'
        exact ⟨by rw [o 7 (by omega)]; exact f1, by rw [o 9 (by omega)]; exact f2, f3.same fun j j1 j2 => lo j (by omega)⟩
      · by_cases hh : iP v' e' 0 = iP v e 0
        · refine Or.inr ?_
          show wU r (iP v e 0) 1 (iP v' e' 0) = 1
          unfold wU; rw [if_pos hh]
        · have : wP (wU r (iP v e 0) 1) v' e' 0 = wP r v' e' 0 := out _ hh
          rw [this]; exact e3 v' e' hv' he'
theorem pLine_ok {b : List Nat} {r r' : Nat → Int32} {a a' K V : Nat} {po : Nat → Nat} (h : sLd r K V po) (hp : pLine b r a = .ok (r', a')) : (∃ K' V' po', sLd r' K' V' po') ∧ a < a' := by
  have hg := pSk_ge b a
  unfold pLine at hp
  split at hp
  · obtain ⟨h1, h2⟩ := pEcho_ok h hp
    exact ⟨⟨_, _, _, h1⟩, by omega⟩
  · split at hp
    · obtain ⟨⟨po', h1⟩, h2⟩ := pValley_ok h hp
      exact ⟨⟨_, _, po', h1⟩, by omega⟩
    · split at hp
      · obtain ⟨h1, h2⟩ := pTested_ok h hp
        exact ⟨⟨_, _, _, h1⟩, by omega⟩
      · cases hp
theorem pStm_ok {b : List Nat} {r r' : Nat → Int32} {a a' K V : Nat} {po : Nat → Nat} (h : sLd r K V po) (hp : pStm b r a = .ok (r', a')) : (∃ K' V' po', sLd r' K' V' po') ∧ a < a' := by
  unfold pStm at hp
  split at hp
  · cases hp
  · rename_i r1 a1 h1
    split at hp
    · cases hp
    · rename_i a2 h2
      cases hp
      obtain ⟨g1, g2⟩ := pLine_ok h h1
      have := pSemi_gt h2
      exact ⟨g1, by omega⟩
theorem pStms_ok {b : List Nat} : ∀ {n : Nat} {r r' : Nat → Int32} {a K V : Nat} {po : Nat → Nat}, sLd r K V po → pStms b n r a = .ok r' → ∃ K' V' po', sGd r' K' V' po' 0 := by
  intro n
  induction n with
  | zero => intro r r' a K V po _ h; cases h
  | succ n ih =>
    intro r r' a K V po h hp
    unfold pStms at hp
    split at hp
    · rename_i hc
      cases hp
      exact ⟨K, V, po, h.good hc.1 hc.2.1⟩
    · split at hp
      · cases hp
      · rename_i r1 a1 h1
        obtain ⟨⟨K', V', po', g⟩, -⟩ := pStm_ok h h1
        exact ih g hp
theorem pFogs_ld {b : List Nat} {s a4 a5 : Nat} {r : Nat → Int32} (s1 : 1 ≤ s) (s2 : s ≤ 30) (h : pFogs b 13 (wU (fun _ => 0) 3 (nI s)) a4 = .ok (r, a5)) : sLd r 0 0 (fun _ => 0) ∧ a4 < a5 := by
  obtain ⟨g1, ⟨f, g2, g3, g4⟩, g5⟩ := pFogs_ok (f := 0) (by unfold wU; rw [if_neg (by omega)]; rfl) (by omega) h
  have z : ∀ j, j ≠ 4 → j ≠ 3 → (j < 11 ∨ 23 ≤ j) → r j = 0 := fun j h4 h3 hj => by rw [g1 j h4 hj]; unfold wU; rw [if_neg h3]
  refine ⟨⟨⟨z 0 (by omega) (by omega) (by omega), z 1 (by omega) (by omega) (by omega), by omega, by omega⟩, fun j hj => z j (by omega) (by omega) (by omega), ⟨z 2 (by omega) (by omega) (by omega), ⟨s, by rw [g1 3 (by omega) (by omega)]; unfold wU; rw [if_pos rfl], s1, s2⟩, f, g2, g3, g4⟩, ⟨fun v hv => ⟨z _ (by omega) (by omega) (by omega), z _ (by omega) (by omega) (by omega), Nat.zero_le _⟩, fun e he => ⟨z _ (by omega) (by omega) (by omega), z _ (by omega) (by omega) (by omega)⟩⟩, fun e he => by omega, fun v hv => by omega, fun v e hv he => Or.inl (z _ (by omega) (by omega) (by omega))⟩, g5⟩
theorem pLoad_ok {b : List Nat} {r : Nat → Int32} (h : pLoad b = .ok r) : ∃ K V po, sGd r K V po 0 := by
  unfold pLoad at h
  split at h
  · cases h
  · split at h
    · cases h
    · rename_i s a2 h2
      have g2 := pNum_ge h2
      split at h
      · cases h
      · split at h
        · cases h
        · split at h
          · cases h
          · rename_i r1 a5 h5
            exact pStms_ok (pFogs_ld g2.2.1 g2.2.2 h5).1 h
