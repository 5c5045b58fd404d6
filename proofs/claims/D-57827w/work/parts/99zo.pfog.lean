set_option maxRecDepth 100000
/-! THE COMPONENT, 60: the fogs -/
section ZJ
variable {G : ZG} {μ ν τ μ0 : ZM} {Q : Option ZV → ZM → Prop} {E : ZP → ZM → Prop} {P x bf B c e a M K V s lo hi F fg el ear vl var ds dm sm c' e' h n C f c0 e0 : Nat} {ea va ta sa : Nat → Nat} {r : Nat → Int32} {po : Nat → Nat} {b w : List Nat} {y z z1 z2 : Int32} {q : ZP}
theorem zPq.kpT {W : Nat → Prop} {c2 e2 : Nat} (h : zPq G μ0 ν P x b c e a M) (hok : zok ν) (hx : zext ν τ) (hs : ∀ a, a < zsz ν → ¬ W a → zsame ν τ a) (hW : ∀ h, h < zsz ν → W h → h ≠ P ∧ ¬ ((ztg ν h).1 = 23 ∨ (ztg ν h).1 = 123 ∨ (ztg ν h).1 = 202 ∨ (ztg ν h).1 = 208)) (hg : zPg μ0 τ c2 e2 (pEd b (pSk b a))) : zPq G μ0 τ P x b c2 e2 a M := by
  obtain ⟨h1, h2, ⟨t1, t2, t3, t4, t5⟩, h4⟩ := h
  have sP : zsame ν τ P := hs P h2.2.1 (fun w => (hW _ h2.2.1 w).1 rfl)
  refine ⟨h1, h2.kp hx.1 (sP.2.1 _) (sP.1 _), ⟨(sP.1 _).trans t1, (sP.1 _).trans t2, (sP.2.1 _).trans t3, fun q => (sP.1 _).trans (t4 q), ?_⟩, hg⟩
  rw [sP.2.1]
  rcases t5 with q | ⟨h, q1, q2, q3, q4⟩
  · exact Or.inl q
  · have hz := q4.2.1
    rw [q1] at hz
    have hp : zpk ν (zfr ν 72 P) := hok.2.2.2.2.2.1 72 P
    have th : (ztg ν h).1 = 23 := by
      have := hp.lt (by rw [q1]; show (23 : Nat) ≠ 0; decide) (by rw [q1]; show (23 : Nat) ≠ 251; decide)
      rw [q1] at this
      exact congrArg Prod.fst this.2
    have sh : zsame ν τ h := hs h hz (fun w => (hW h hz w).2 (Or.inl th))
    refine Or.inr ⟨h, q1, q2, by rw [sh.2.1]; exact q3, ?_⟩
    have hn : zNa ν (fun _ => False) (zsz ν) (zfr ν 72 P) (pWd b (pSk b a)) := ⟨q4, id, id⟩
    exact ((hn.kpT (τ := τ) hok hp (fun a ha _ ht => (hs a ha (fun w => (hW a ha w).2 ht)).c)).up hx.1).1
/-- the fogs read -/
theorem C_pFogs {r0 : Nat → Int32} (hc : zPc G μ0 x bf B b) (h : zPq G μ0 ν P x b c e a M) (hr0 : r0 4 = 0)
    (kok : ∀ a4 r' a', pKey b tFog a = .ok a4 → pFogs b 13 r0 a4 = .ok (r', a') → ∀ τ F fg M', zPq G μ0 τ P x b (c + 2) (e + 24) a' M' → P < M' → zFh G τ (zfr τ 72 P) → (ztg τ fg).1 = 200 ∧ zsz ν ≤ fg ∧ fg < zsz τ → r' 4 = nI F → 1 ≤ F ∧ F ≤ 12 → (∀ i, i < F → zai τ fg i = r' (11 + i)) → zext ν τ → (∀ a, a < zsz ν → a ≠ P → zsame ν τ a) → Q (some (vP (200, F, fg))) τ)
    (ker1 : ∀ er, pKey b tFog a = .error er → zPx E μ0 b (c + 2) (e + 24) er) (ker2 : ∀ a4 er, pKey b tFog a = .ok a4 → pFogs b 13 r0 a4 = .error er → zPx E μ0 b (c + 2) (e + 24) er) : Call G Y_X6_fogs [vP (6, 0, P)] ν Q E := by
  have hK := hc.2.2.2
  have hPo := h.2.1
  have m0 : zsz μ0 ≤ P := hPo.1
  refine Call.zo fun hok0 hargs0 => ?_
  obtain ⟨hPt0, hPz0⟩ := tg_arg hargs0 (by decide) (by decide)
  refine S_X6_fogs (Call.zq <| C_pKeyw (n := 109) (w := tFog) hc (by unfold kTx; simp) (by decide) h (fun a4 hk ν1 c1 e1 q1 f1 g1 ok1 _ => ⟨rfl, ?_⟩) (fun er he => ((ker1 er he).le (by omega) (by omega)).zk))
  have P1z : P < zsz ν1 := q1.2.1.2.1
  have z01 := g1.1.1
  have M1 : P < zsz ν := hPo.2.1
  -- the loop
  have key : ∀ d n (r : Nat → Int32) (a : Nat) (τ : ZM) (M : Nat), n + d = 12 → (∀ y, pFogs b 13 r0 a4 = y ↔ pFogs b (d + 1) r a = y) → r 4 = nI n → zPq G μ0 τ P x b (c + 1) (e + 12) a M → P < M → (zext ν1 τ ∧ zsz ν1 < zsz τ ∧ (ztg τ (zsz ν1)).1 = 200 ∧ ∀ a, a < zsz ν1 → a ≠ P → zsame ν1 τ a) → (∀ i, i < n → zai τ (zsz ν1) i = r (11 + i)) → Wp G Y_X6_fogs 13 [(0, vP (6, 0, P)), (1, vP (200, 12, zsz ν1)), (2, vI (nI n))] [] τ Q E := by
    intro d
    induction d with
    | zero =>
      intro n r a τ M hn hF h4 hq hM hfr har
      have hn' : n = 12 := by omega
      subst hn'
      have e4 : (r 4).toNatClampNeg = 12 := by rw [h4]; rfl
      refine B_X6_fogs_13 (C_pPeek hc (lo := 0) (hi := 9) rfl rfl (by decide) (by decide) hq (fun v a' hv ha' => ⟨_, rfl, fun _ => B_X6_fogs_33 (hq.req rfl ((ker2 a4 (4, pSk b a) hk ((hF _).mpr ?_)).le (by omega) (by omega)).zk), fun t => absurd t (by decide)⟩) (fun er he => ((ker2 a4 er hk ((hF _).mpr ?_)).le (by omega) (by omega)).zk))
      · unfold pFogs; simp only [hv]; rw [e4, if_pos (Nat.le_refl _)]
      · unfold pFogs; simp only [he]
    | succ d ih =>
      intro n r a τ M hn hF h4 hq hM hfr har
      obtain ⟨x1, x2, x3, x4⟩ := hfr
      have e4 : (r 4).toNatClampNeg = n := by rw [h4]; exact nI_clamp (by omega)
      have n12 : ¬ 12 ≤ n := by omega
      refine Wp.zo fun okτ => B_X6_fogs_13 (C_pPeek hc (lo := 0) (hi := 9) rfl rfl (by decide) (by decide) hq (fun v a' hv ha' => ⟨_, rfl, fun t => absurd (nI_lt (b := 12) (by omega) (by omega)) t, fun _ => B_X6_fogs_33 (C_pReq1 (by decide) ⟨rfl, n, zix.eq rfl (by omega) (by omega), ?_⟩)⟩) (fun er he => ((ker2 a4 er hk ((hF _).mpr ?_)).le (by omega) (by omega)).zk))
      · -- the array is written, the next token read
        have qA : zPq G μ0 (zAi τ (zsz ν1) n (nI v)) P x b (c + 1) (e + 12) a M := hq.kpT (W := fun h => h = zsz ν1) okτ (zext_zAi _ _ _ _) (fun a _ hn => zsame_zAi hn _) (fun h _ w => by rw [w, x3]; omega) ((zG.trN (W := fun _ => False) hq.2.2.2 (zG.ai (Or.inr (by omega)))).mono (fun _ _ q => q) (by omega) (by omega))
        refine Call.zo fun okA hargs => ?_
        obtain ⟨hPt, hPz⟩ := tg_arg hargs (by decide) (by decide)
        refine Call.zq <| C_pNext hc qA fun τ2 c2 e2 q2 f2 g2 ok2 _ => ⟨rfl, ?_⟩
        rw [← ha'] at q2
        have y2 : zext ν1 τ2 := (x1.trans (zext_zAi _ _ _ _)).trans g2.1
        have y3 : (ztg τ2 (zsz ν1)).1 = 200 := by rw [g2.1.2.2 (zsz ν1) x2]; exact x3
        have y4 : ∀ a, a < zsz ν1 → a ≠ P → zsame ν1 τ2 a := fun a ha hp => ((x4 a ha hp).trans (zsame_zAi (by omega) _)).trans (g2.same (show a < zsz τ by omega) hp)
        have sA : zsame (zAi τ (zsz ν1) n (nI v)) τ2 (zsz ν1) := g2.same x2 (by omega)
        have har2 : ∀ i, i < n + 1 → zai τ2 (zsz ν1) i = (wU (wU r (11 + n) (nI v)) 4 (nI (n + 1))) (11 + i) := fun i hi => by
          rw [sA.2.2.1, zai_zAi, wU_n (by omega)]
          by_cases t : i = n
          · rw [if_pos ⟨rfl, t⟩, t, wU_s]
          · rw [if_neg (fun u => t u.2), wU_n (by omega)]; exact har i (by omega)
        obtain ⟨u1, u2, ⟨u3, u4, u5, u6, u7⟩, u8⟩ := id q2
        refine ⟨_, u5, hK.no (pKd_in _ _), hK.no (by omega), fun heq => ?_, fun hne => ?_⟩
        · -- another number
          have hD := pKd_4.mp (hK.eq (pKd_in _ _) (by omega) heq)
          rw [nI_1]
          refine ih (n + 1) _ a' τ2 _ (by omega) (fun y => ?_) wU_s q2 (show P < zsz τ by omega) ⟨y2, Nat.lt_of_lt_of_le x2 g2.1.1, y3, y4⟩ har2
          rw [hF]
          have : pFogs b (d + 1 + 1) r a = pFogs b (d + 1) (wU (wU r (11 + n) (nI v)) 4 (nI (n + 1))) a' := by
            rw [show pFogs b (d + 1 + 1) r a = (match pNum b 0 9 a with
              | .error e => .error e
              | .ok (v, a') => if 12 ≤ (r 4).toNatClampNeg then .error (4, pSk b a) else if (pDg b (pSk b a')).length = 0 then (match pSemi b a' with
                | .error e => .error e
                | .ok a'' => .ok (wU (wU r (11 + (r 4).toNatClampNeg) (nI v)) 4 (nI ((r 4).toNatClampNeg + 1)), a'')) else pFogs b (d + 1) (wU (wU r (11 + (r 4).toNatClampNeg) (nI v)) 4 (nI ((r 4).toNatClampNeg + 1))) a') from rfl]
            simp only [hv]
            rw [e4, if_neg n12, if_neg hD]
          rw [this]
        · -- the end
          have hD : (pDg b (pSk b a')).length = 0 := by
            apply Decidable.byContradiction
            intro t
            exact hne (by rw [pKd_4.mpr t])
          have hE : ∀ y, pFogs b 13 r0 a4 = y ↔ (match pSemi b a' with
              | .error e => .error e
              | .ok a'' => .ok (wU (wU r (11 + n) (nI v)) 4 (nI (n + 1)), a'') : PE ((Nat → Int32) × Nat)) = y := fun y => by
            rw [hF]
            rw [show pFogs b (d + 1 + 1) r a = (match pNum b 0 9 a with
              | .error e => .error e
              | .ok (v, a') => if 12 ≤ (r 4).toNatClampNeg then .error (4, pSk b a) else if (pDg b (pSk b a')).length = 0 then (match pSemi b a' with
                | .error e => .error e
                | .ok a'' => .ok (wU (wU r (11 + (r 4).toNatClampNeg) (nI v)) 4 (nI ((r 4).toNatClampNeg + 1)), a'')) else pFogs b (d + 1) (wU (wU r (11 + (r 4).toNatClampNeg) (nI v)) 4 (nI ((r 4).toNatClampNeg + 1))) a') from rfl]
            simp only [hv]
            rw [e4, if_neg n12, if_pos hD]
          refine Call.zo fun _ hargs2 => ?_
          obtain ⟨hPt2, hPz2⟩ := tg_arg hargs2 (by decide) (by decide)
          refine C_pSemi hc q2 (fun a'' hs τ3 c3 e3 q3 f3 g3 => ⟨rfl, n + 1, nI_1 n, by omega, 0, 0, n + 1, rfl, rfl, nI_1 n, ⟨by omega, by omega, by omega, by omega, by omega⟩, fun o _ => znr_int _, ?_⟩) (fun er he => ((ker2 a4 er hk ((hE _).mpr (by simp only [he]))).le (by omega) (by omega)).zk)
          have gN : zG (fun _ => False) 1 (n + 1) τ3 (zCi (zNew τ3 200 (n + 1) (n + 1)) (zsz ν1) 0 (zsz τ3) 0 (n + 1)) := zG.nci zG.nw (Nat.le_refl _)
          have s3 : zsame τ2 τ3 (zsz ν1) := g3.same (by have := g2.1.1; exact Nat.lt_of_lt_of_le x2 this) (by omega)
          have P2 : zsz ν1 < zsz τ2 := Nat.lt_of_lt_of_le x2 g2.1.1
          refine kok a4 (wU (wU r (11 + n) (nI v)) 4 (nI (n + 1))) a'' hk ((hE _).mpr (by simp only [hs])) _ (n + 1) (zsz τ3) (zsz τ2) (q3.kp (W := fun _ => False) gN.1 (fun a ha _ => gN.same ha id) (fun _ w => w.elim) ((zG.tr q3.2.2.2 gN).mono (fun _ _ q => q) (by omega) (by omega))) (by omega) ?_ ⟨?_, ?_, ?_⟩ wU_s ⟨by omega, by omega⟩ (fun i hi => ?_) ?_ (fun a ha hp => ?_)
          · rcases f3 with t | ⟨h, t1, t2, t3, t4⟩
            · exact Or.inl t
            · refine Or.inr ⟨h, t1, t2, t3, ?_⟩
              exact t4
          · show (ztg (zNew τ3 200 (n + 1) (n + 1)) (zsz τ3)).1 = 200
            rw [ztg_zNew, if_pos rfl]
          · have := g3.1.1; omega
          · exact Nat.lt_succ_self _
          · rw [zai_zCi, if_pos ⟨rfl, by omega, by omega⟩, Nat.zero_add, Nat.sub_zero]
            show zai τ3 (zsz ν1) i = _
            rw [s3.2.2.1]; exact har2 i hi
          · exact ((g1.1.trans y2).trans g3.1).trans gN.1
          · exact (((g1.same ha hp).trans (y4 a (by omega) hp)).trans (g3.same (by omega) hp)).trans (gN.same (by have := g3.1.1; omega) id)
      · unfold pFogs; simp only [he]
  have gN1 : zG (fun _ => False) 1 12 ν1 (zNew ν1 200 12 12) := zG.nw
  refine key 12 0 r0 a4 _ (zsz ν) (by omega) (fun _ => Iff.rfl) hr0 (q1.kp (W := fun _ => False) gN1.1 (fun a ha _ => gN1.same ha id) (fun _ w => w.elim) ((zG.tr q1.2.2.2 gN1).mono (fun _ _ q => q) (by omega) (by omega))) M1 ⟨gN1.1, Nat.lt_succ_self _, by rw [ztg_zNew, if_pos rfl], fun a ha _ => gN1.same ha id⟩ (fun i hi => absurd hi (Nat.not_lt_zero _))
end ZJ
