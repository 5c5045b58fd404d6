set_option maxRecDepth 100000
/-! THE COMPONENT, 62: a configuration, whole -/
section ZJ
variable {G : ZG} {μ ν τ μ0 : ZM} {Q : Option ZV → ZM → Prop} {E : ZP → ZM → Prop} {P x bf B c e a M K V s lo hi F fg el ear vl var ds dm sm c' e' h n C f c0 e0 : Nat} {ea va ta sa : Nat → Nat} {r : Nat → Int32} {po : Nat → Nat} {b w : List Nat} {y z1 z2 : Int32} {q : ZP} {z : Nat}
theorem C_pConfig (hc : zPc G μ0 x bf B b) (h : zPq G μ0 ν P x b c e 0 M)
    (kok : ∀ r, pLoad b = .ok r → ∀ τ s, zCf G μ0 τ P s (c + 60 + 5 * b.length) (e + 490 + 33 * b.length) r → Q (some (vP (2, 0, s))) τ) (ker : ∀ er, pLoad b = .error er → zPx E μ0 b (c + 60) (e + 490) er) : Call G Y_X6_configuration [vP (6, 0, P)] ν Q E := by
  have hPo := h.2.1
  have hl := hc.2.1.1
  refine S_X6_configuration (C_pKeyw (n := 108) (w := tFair) hc (by unfold kTx; simp) (by decide) h (fun a1 k1 ν1 c1 e1 q1 f1 g1 => ⟨rfl, C_pNum hc (lo := 1) (hi := 30) rfl rfl (by decide) (by decide) q1 (fun sx a2 n1 ν2 c2 e2 q2 f2 g2 => ⟨_, rfl, Call.zq <| C_pSemi hc q2 (fun a3 s1 ν3 c3 e3 q3 f3 g3 ok3 _ => ⟨rfl, ?_⟩) (fun er he => ((ker er (by unfold pLoad; simp only [k1, n1, he])).le (by omega) (by omega)).zk)⟩) (fun er he => ((ker er (by unfold pLoad; simp only [k1, he])).le (by omega) (by omega)).zk)⟩) (fun er he => ((ker er (by unfold pLoad; simp only [he])).le (by omega) (by omega)).zk))
  have gS : zG (fun _ => False) 1 13 ν3 (zNew ν3 2 0 13) := zG.nw
  have P3 : P < zsz ν3 := q3.2.1.2.1
  have m0 : zsz μ0 ≤ P := hPo.1
  have qS : zPq G μ0 (zNew ν3 2 0 13) P x b (c + 1) (e + 13) a3 (zsz ν2) := q3.kp (W := fun _ => False) gS.1 (fun a ha _ => gS.same ha id) (fun _ w => w.elim) ((zG.tr q3.2.2.2 gS).mono (fun _ _ q => q) (by omega) (by omega))
  have hsx := pNum_ge n1
  refine C_pFogs (r0 := wU (fun _ => 0) 3 (nI sx)) hc qS (by rw [wU_n (by decide)]) (fun a4 r a5 k4 hF τ F fg M' q5 hPM f5 ⟨ft, fl, fh⟩ r4 hF12 har hx hs => ⟨_, rfl, F, fg, rfl, ?_⟩) (fun er he => ((ker er (by unfold pLoad; simp only [k1, n1, s1, he])).le (by omega) (by omega)).zk) (fun a4 er k4 he => ((ker er (by unfold pLoad; simp only [k1, n1, s1, k4, he])).le (by omega) (by omega)).zk)
  have eS : zsz (zNew ν3 2 0 13) = zsz ν3 + 1 := rfl
  rw [eS] at fl hs
  have zτ : zsz ν3 + 1 ≤ zsz τ := hx.1
  refine Call.zo fun okτ _ => C_sInit (by omega) fun ν5 z5 g5 f5' hi5 => ⟨rfl, ?_⟩
  obtain ⟨o1, -, o3⟩ := pFogs_ok (f := 0) (by rw [wU_n (by decide)]; rfl) (by omega) hF
  obtain ⟨hld, -⟩ := pFogs_ld hsx.2.1 hsx.2.2 hF
  have r0 : ∀ j, j ≠ 3 → j ≠ 4 → (j < 11 ∨ 23 ≤ j) → r j = 0 := fun j j3 j4 jj => by rw [o1 j j4 jj, wU_n j3]
  have hz : zPz r 0 := ⟨fun j hj => r0 j (by omega) (by omega) (by omega), fun v e hv hv8 he => r0 _ (by omega) (by omega) (by omega), r0 7 (by decide) (by decide) (by decide)⟩
  have sfg : zsame τ ν5 fg := g5.same fh (by omega)
  have fz : ∀ f, zfi (zNew ν3 2 0 13) f (zsz ν3) = 0 := fun f => by rw [zfi_zNew]; exact ok3.1 f _ (Nat.le_refl _)
  have ss := hs (zsz ν3) (Nat.lt_succ_self _) (by omega)
  have fzτ : ∀ f, zfi τ f (zsz ν3) = 0 := fun f => by rw [ss.1]; exact fz f
  have S5 := zSta.ini (r := wU r 7 0) hi5 ⟨by omega, by omega, by omega⟩ ⟨by rw [wU_n (by decide)]; exact r4, hF12⟩ ⟨by rw [wU_n (by decide)]; exact r0 0 (by decide) (by decide) (by decide), by rw [wU_n (by decide)]; exact r0 1 (by decide) (by decide) (by decide)⟩ (by rw [wU_n (by decide), o1 3 (by decide) (by decide), wU_s]) (fun j hj => by
      have hj' : j = 2 ∨ j = 5 ∨ j = 6 ∨ j = 7 ∨ j = 8 ∨ j = 9 ∨ j = 10 := by simpa using hj
      refine ⟨?_, ?_⟩
      · by_cases t : j = 7
        · rw [t, wU_s]
        · rw [wU_n t]; exact r0 j (by omega) (by omega) (by omega)
      · rw [f5' (fS j) (by rcases hj' with rfl | rfl | rfl | rfl | rfl | rfl | rfl <;> decide)]; exact fzτ _) (fun i hi => by rw [sfg.2.2.1, har i hi, wU_n (by omega)]) (fun _ => 0) (fun _ => 0) (fun _ => 0) (fun _ => 0)
  have tS : (ztg τ (zsz ν3)).1 = 2 := by
    rw [hx.2.2 (zsz ν3) (Nat.lt_succ_self _), ztg_zNew, if_pos rfl]
  have B5 : zBd ν5 P r 0 0 (zsz ν3) (zsz ν3) (zsz ν5) F fg (zsz τ) (zsz τ + 1) (zsz τ + 2) (zsz τ + 3) (zsz τ + 4) (zsz τ + 5) (zsz τ + 6) (fun _ => 0) (fun _ => 0) (fun _ => 0) (fun _ => 0) := ⟨S5, ⟨Nat.le_refl _, P3, by rw [g5.1.2.2 (zsz ν3) (by omega)]; exact tS, by omega, by omega, by omega⟩, fun i hi => absurd hi (Nat.not_lt_zero _), fun i hi => absurd hi (Nat.not_lt_zero _)⟩
  have q6 : zPq G μ0 ν5 P x b (c + 10 + 0 + 3 * 0) (e + 84 + 9 * 0 + 25 * 0) a5 M' := q5.kpT (W := fun a => a = zsz ν3) okτ g5.1 (fun a ha hn => g5.same ha hn) (fun h _ w => by rw [w, tS]; omega) ((zG.trN (W := fun _ => False) q5.2.2.2 (g5.mono (fun a _ q => Or.inr (by omega)) (Nat.le_refl _) (Nat.le_refl _))).mono (fun _ _ q => q) (by omega) (by omega))
  have f6 : zFh G ν5 (zfr ν5 72 P) := by
    have sP : zsame τ ν5 P := g5.same q5.2.1.2.1 (by omega)
    rw [sP.2.1]
    rcases f5 with t | ⟨h0, t1, t2, t3, t4⟩
    · exact Or.inl t
    · have hp : zpk τ (zfr τ 72 P) := okτ.2.2.2.2.2.1 72 P
      have hlt := hp.lt (by rw [t1]; show (23 : Nat) ≠ 0; decide) (by rw [t1]; show (23 : Nat) ≠ 251; decide)
      rw [t1] at hlt
      have th : (ztg τ h0).1 = 23 := congrArg Prod.fst hlt.2
      have sh : zsame τ ν5 h0 := g5.same hlt.1 (fun t => by rw [t, tS] at th; cases th)
      exact Or.inr ⟨h0, t1, (sh.1 _).trans t2, (sh.1 _).trans t3, by rw [sh.2.1]; exact t4⟩
  have eL : pLoad b = pStms b 1000 r a5 := by unfold pLoad; simp only [k1, n1, s1, k4, hF]
  refine C_pStms hc 1000 r a5 0 0 (fun _ => 0) (zsz ν5) _ _ _ _ ν5 M' (by omega) q6 f6 hPM (by omega) B5 hld hz (fun r' hr τ2 hcf => kok r' (eL.trans hr) τ2 _ ?_) (fun er he => (ker er (eL.trans he)).le (by omega) (by omega))
  obtain ⟨K, V, lo, hi, F', fg', el, ear, vl, var, ds, dm, sm, ea, va, ta, sa, y1, y2, y3, y4, y5, y6, y7, y8⟩ := hcf
  exact ⟨K, V, lo, hi, F', fg', el, ear, vl, var, ds, dm, sm, ea, va, ta, sa, y1, y2, y3, y4, y5, y6, y7, y8.mono (fun _ _ q => q) (by omega) (by omega)⟩
end ZJ
