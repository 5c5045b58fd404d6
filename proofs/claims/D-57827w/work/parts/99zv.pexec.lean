set_option maxRecDepth 100000
/-! THE COMPONENT, 67: commands executed -/
theorem H_X1_execute {G : ZG} {ν : ZM} {Q : Option ZV → ZM → Prop} {E : ZP → ZM → Prop} {s h t1 A : Nat} {z : Int32} (k : Q (some (vI z)) ν) : Wx G Y_X1_execute 12 [(0, vP (2, 0, s)), (1, vP (206, t1, A)), (2, vI z)] (25, 0, h) ν Q E := by
  refine Wx.catch [] (2, 24, 27, 10) [] rfl rfl (fun y hy => by cases hy) (by decide) (Or.inr ⟨"java/lang/IllegalStateException", by decide, q3045, rfl, Or.inl rfl⟩) ?_
  refine Wp_astore_n [0, 1, 2, 3] (ls' := [(3, vP (25, 0, h)), (0, vP (2, 0, s)), (1, vP (206, t1, A)), (2, vI z)]) dX1_execute_27 rfl (zlt rfl) rfl ?_
  refine Wp_iload_n 3 dX1_execute_28 rfl rfl ?_
  exact Wp_ireturn dX1_execute_29 rfl rfl k
theorem nmK.trans {r r' r'' : Nat → Int32} (h : nmK r r') (k : nmK r' r'') : nmK r r'' := ⟨fun e u he hu => (k.1 e u he hu).trans (h.1 e u he hu), fun e u he hu => (k.2 e u he hu).trans (h.2 e u he hu)⟩
theorem nmK.rf (r : Nat → Int32) : nmK r r := ⟨fun _ _ _ _ => rfl, fun _ _ _ _ => rfl⟩
theorem nmK.of {r r' : Nat → Int32} (h : ∀ j, (∃ e u, e < 12 ∧ u < 7 ∧ j = 23 + 15 * e + u) ∨ (∃ v u, v < 8 ∧ u < 7 ∧ j = 203 + 17 * v + u) → r' j = r j) : nmK r r' := ⟨fun e u he hu => h _ (Or.inl ⟨e, u, he, hu, rfl⟩), fun e u he hu => h _ (Or.inr ⟨e, u, he, hu, rfl⟩)⟩
theorem sDo_nm {r r' : Nat → Int32} {K V D : Nat} {po : Nat → Nat} {c : Nat × Nat × Nat} (h : sGd r K V po D) (hD : D < 1000000) (hc : cOk K V c) (hd : sDo K V c r = some r') : nmK r r' := by
  obtain ⟨c0, c1, c2, c3, c4, c5, c6⟩ := hc
  obtain ⟨g1, -⟩ := id h
  have b := g1.1
  unfold sDo at hd
  split at hd
  · cases hd
    exact (sDays_ok g1 (by omega) _ (by have := c1 (by assumption); omega)).1.nm
  · split at hd
    · cases hd; exact (sFair_ok g1).1.kd.nm
    · split at hd
      · split at hd
        · cases hd
          exact nmK.of fun j hj => by unfold sTest wU iP; rw [if_neg (by rcases hj with ⟨e, u, h1, h2, h3⟩ | ⟨e, u, h1, h2, h3⟩ <;> omega)]
        · cases hd
      · split at hd
        · split at hd
          · cases hd; exact (sEnd_ok g1 (by have := c3 (by omega); omega) (by assumption)).1.kd.nm
          · cases hd
        · split at hd
          · cases hd; exact nmK.of fun j hj => by unfold sWage wU; rw [if_neg (by have := c2 (by omega); rcases hj with ⟨e, u, h1, h2, h3⟩ | ⟨e, u, h1, h2, h3⟩ <;> omega)]
          · split at hd
            · cases hd
              have hv : c.2.1 < V := c2 (Or.inr (Or.inr (by assumption)))
              exact nmK.of fun j hj => by
                unfold sFund wU; rw [if_neg (by rcases hj with ⟨e, u, h1, h2, h3⟩ | ⟨e, u, h1, h2, h3⟩ <;> omega), if_neg (by rcases hj with ⟨e, u, h1, h2, h3⟩ | ⟨e, u, h1, h2, h3⟩ <;> omega)]
            · split at hd
              · cases hd
                have hv : c.2.1 < K := c3 (Or.inr (by omega))
                exact nmK.of fun j hj => by
                  unfold sTrain wU; rw [if_neg (by rcases hj with ⟨e, u, h1, h2, h3⟩ | ⟨e, u, h1, h2, h3⟩ <;> omega), if_neg (by rcases hj with ⟨e, u, h1, h2, h3⟩ | ⟨e, u, h1, h2, h3⟩ <;> omega), if_neg (by rcases hj with ⟨e, u, h1, h2, h3⟩ | ⟨e, u, h1, h2, h3⟩ <;> omega)]
              · cases hd
theorem sExec_nm {K V : Nat} {po : Nat → Nat} : ∀ {l : List (Nat × Nat × Nat)} {r : Nat → Int32} {D : Nat}, sGd r K V po D → D + 60 * l.length < 1000000 → (∀ c, c ∈ l → cOk K V c) → nmK r (sExec K V l r).1 := by
  intro l
  induction l with
  | nil => intro r D _ _ _; exact nmK.rf r
  | cons c l ih =>
    intro r D h hD hc
    rw [List.length_cons] at hD
    unfold sExec
    split
    · exact nmK.rf r
    · rename_i r1 h1
      have h2 := sDo_ok h (by omega) (hc c List.mem_cons_self) h1
      exact (sDo_nm h (by omega) (hc c List.mem_cons_self) h1).trans (ih h2 (by omega) (fun c' hc' => hc c' (List.mem_cons_of_mem _ hc')))
section ZJ
variable {G : ZG} {μ ν τ ρ μ0 : ZM} {Q : Option ZV → ZM → Prop} {E : ZP → ZM → Prop} {P x bf B c e a M K V s lo hi F fg el ear vl var ds dm sm c' e' h n C f c0 e0 d da sb sba D k A : Nat} {ea va ta sa : Nat → Nat} {r : Nat → Int32} {po : Nat → Nat} {b w : List Nat} {y z z1 z2 : Int32} {q : ZP} {Z : Nat → Prop} {σ : ZS}
theorem L_xDo {cm : Nat × Nat × Nat} {Q' : Option ZV → ZM → Prop} {E' : ZP → ZM → Prop} (hG : zGk G) (hq : zCd ρ q cm) (hc : cOk K V cm) (hg : sGd r K V po D) (hD : D < 1000000) (okρ : zok ρ) (I : zIc G ρ) (st : zSta ρ lo (zsz ρ) s r K V F fg el ear vl var ds dm sm ea va ta sa)
    (kk : ∀ r', sDo K V cm r = some r' → ∀ τ z, zSta τ lo (zsz τ) s r' K V F fg el ear vl var ds dm sm ea va ta sa → zGt lo 10682 41168 sm dm ρ τ → zIc G τ → Q' (some (vI z)) τ) (kx : sDo K V cm r = none → zIse ρ E') : CallLam G q (2, 0, s) 15 ρ Q' E' := by
  obtain ⟨k, x', y'⟩ := cm
  obtain ⟨g1, g2, -, D', g4, g5⟩ := id hg
  obtain ⟨a, h1, h2, h3⟩ := hq
  obtain ⟨c0, c1, c2, c3, c4, c5, c6⟩ := hc
  dsimp only at h1 h2 h3 c0 c1 c2 c3 c4 c5 c6
  have z2' : (2 : Nat) ≠ 0 := by decide
  have : k = 0 ∨ k = 1 ∨ k = 2 ∨ k = 3 ∨ k = 4 ∨ k = 5 ∨ k = 6 := by omega
  rcases this with rfl | rfl | rfl | rfl | rfl | rfl | rfl
  · have := c1 rfl
    refine ⟨1, _, 1, a, rfl, h1, z2', by decide, by decide, ?_⟩
    show Call G _ [vI (zai ρ a 0), vP (2, 0, s)] ρ Q' E'
    rw [(h2 (by decide)).2.2]
    exact S_X6_lambda_passCommand_1 (C_sPassDays x' D' rfl (by omega) g1 (by omega) g4 (by omega) g2.sm hG.1 (Nat.le_refl _) I st fun τ q1 q2 q3 => ⟨_, rfl, kk _ rfl τ _ q1 (q2.mo (by omega) (by omega)) q3⟩)
  · refine ⟨2, _, 0, a, rfl, h1, z2', by decide, by decide, ?_⟩
    exact S_X6_lambda_command_0 (C_sFair 1 (Or.inl rfl) g1 g2.sm (Nat.le_refl _) I st fun τ q1 q2 q3 => ⟨_, rfl, kk _ rfl τ _ (q1.up q2.1.1.1) (q2.mo (by omega) (by omega)) q3⟩)
  · have := c2 (by omega)
    have := c4 rfl
    refine ⟨3, _, 2, a, rfl, h1, z2', by decide, by decide, ?_⟩
    show Call G _ [vI (zai ρ a 0), vI (zai ρ a 1), vP (2, 0, s)] ρ Q' E'
    rw [(h2 (by decide)).2.2, h3 (by omega)]
    exact S_X6_lambda_testCommand_2 (C_sTest x' y' rfl rfl (by omega) (by omega) (Nat.le_refl _) (g1.mem (by omega)) st (fun t τ q1 q2 q3 => ⟨_, rfl, kk (sTest r x' y') (if_pos t) τ _ (q1.up q2.1.1) ((zGt.of q2 q3).mo (by omega) (by omega)) (I.wl okρ q2)⟩) (fun t => ⟨rfl, kx (if_neg t)⟩))
  · have := c3 (by omega)
    refine ⟨4, _, 1, a, rfl, h1, z2', by decide, by decide, ?_⟩
    show Call G _ [vI (zai ρ a 0), vP (2, 0, s)] ρ Q' E'
    rw [(h2 (by decide)).2.2]
    exact S_X6_lambda_dismissCommand_3 (C_sDismiss x' rfl (by omega) g1 (Nat.le_refl _) st (fun t τ q1 q2 q3 => ⟨_, rfl, kk (sEnd r x') (if_pos t) τ _ (q1.up q2.1.1) ((zGt.of q2 q3).mo (by omega) (by omega)) (I.wl okρ q2)⟩) (fun t => ⟨rfl, kx (if_neg t)⟩))
  · have := c2 (by omega)
    refine ⟨5, _, 2, a, rfl, h1, z2', by decide, by decide, ?_⟩
    show Call G _ [vI (zai ρ a 0), vI (zai ρ a 1), vP (2, 0, s)] ρ Q' E'
    rw [(h2 (by decide)).2.2, h3 (by omega)]
    exact S_X6_lambda_wageCommand_4 (C_sSetWage x' rfl (by omega) (Nat.le_refl _) st (fun τ q1 q2 q3 => ⟨_, rfl, kk _ rfl τ _ (q1.up q2.1.1) ((zGt.of q2 q3).mo (by omega) (by omega)) (I.wl okρ q2)⟩))
  · have := c2 (by omega)
    refine ⟨6, _, 2, a, rfl, h1, z2', by decide, by decide, ?_⟩
    show Call G _ [vI (zai ρ a 0), vI (zai ρ a 1), vP (2, 0, s)] ρ Q' E'
    rw [(h2 (by decide)).2.2, h3 (by omega)]
    exact S_X6_lambda_fundCommand_5 (C_sFund x' rfl (by omega) (Nat.le_refl _) st (fun τ q1 q2 q3 => ⟨_, rfl, kk _ rfl τ _ (q1.up q2.1.1) ((zGt.of q2 q3).mo (by omega) (by omega)) (I.wl okρ q2)⟩))
  · have := c3 (by omega)
    refine ⟨7, _, 1, a, rfl, h1, z2', by decide, by decide, ?_⟩
    show Call G _ [vI (zai ρ a 0), vP (2, 0, s)] ρ Q' E'
    rw [(h2 (by decide)).2.2]
    exact S_X6_lambda_trainCommand_6 (C_sTrain x' rfl (by omega) (Nat.le_refl _) st (fun t τ q1 q2 q3 => ⟨_, rfl, kk (sTrain r x') (if_pos t) τ _ (q1.up q2.1.1) ((zGt.of q2 q3).mo (by omega) (by omega)) (I.wl okρ q2)⟩) (fun t => ⟨rfl, kx (if_neg t)⟩))
/-- the loop over the operations -/
theorem L_xExec {l : List (Nat × Nat × Nat)} (hG : zGk G) (hl : l.length ≤ 30) (hc : ∀ c, c ∈ l → cOk K V c) (hC : zCds μ A l) (hlo : zsz μ ≤ lo) : ∀ (suf pre : List (Nat × Nat × Nat)) (ρ : ZM) (r : Nat → Int32) (D : Nat), l = pre ++ suf → sGd r K V po D → D + 60 * suf.length < 1000000 → zSta ρ lo (zsz ρ) s r K V F fg el ear vl var ds dm sm ea va ta sa → zIc G ρ → zext μ ρ → (∀ a, a < zsz μ → zsmC μ ρ a) → (∀ τ, zSta τ lo (zsz τ) s (sExec K V suf r).1 K V F fg el ear vl var ds dm sm ea va ta sa → zGt lo (10682 * suf.length + 1) (41168 * suf.length + 6) sm dm ρ τ → zIc G τ → Q (some (vI (nI (pre.length + (sExec K V suf r).2)))) τ) → Wp G Y_X1_execute 2 [(0, vP (2, 0, s)), (1, vP (206, 31, A)), (2, vI (nI pre.length))] [] ρ Q E := by
  intro suf
  induction suf with
  | nil =>
    intro pre ρ r D hpre hg hD st I hx hs k
    rw [List.append_nil] at hpre
    subst hpre
    have eA : zar ρ A l.length = zN := by rw [(hs A hC.1.2).2.2.2]; exact hC.2.2 _ (Nat.le_refl _) (by omega)
    exact nB_X1_execute_2 ⟨l.length, zix.eq rfl (by omega) (by omega), _, eA, fun _ => k ρ st ((zGt.rf lo sm dm ρ).mo (by omega) (by omega)) I, fun t => absurd rfl t⟩
  | cons c suf ih =>
    intro pre ρ r D hpre hg hD st I hx hs k
    have hlen : l.length = pre.length + (suf.length + 1) := by rw [hpre, List.length_append, List.length_cons]
    have hget : l.getD pre.length (0, 0, 0) = c := by rw [hpre]; simp
    have hmem : c ∈ l := by rw [hpre]; simp
    rw [List.length_cons] at hD k
    have hq : zCd ρ (zar ρ A pre.length) c := by
      rw [(hs A hC.1.2).2.2.2, ← hget]
      exact (hC.2.1 pre.length (by omega)).kp hx (fun a ha _ => (hs a ha).2.2.1)
    unfold sExec at k
    refine Wp.zo fun okρ => nB_X1_execute_2 ⟨pre.length, zix.eq rfl (by omega) (by omega), _, rfl, fun t => ?_, fun _ => ?_⟩
    · obtain ⟨a, h1, -⟩ := hq
      rw [h1] at t
      exact absurd t (by show ¬ 301 + c.1 = 0; omega)
    · refine L_xDo hG hq (hc c hmem) hg (by omega) okρ I st (fun r' hd τ z q1 q2 q3 => ⟨_, rfl, ?_⟩) (fun hd => ⟨rfl, H_X1_execute ?_⟩)
      · rw [hd] at k
        dsimp only at k
        rw [nI_1]
        have hpl : nI (pre.length + 1) = nI (pre ++ [c]).length := by rw [List.length_append]; rfl
        rw [hpl]
        have sl : ∀ a, a < zsz μ → zsame ρ τ a := fun a ha => q2.1.same (Nat.lt_of_lt_of_le ha hx.1) (fun w => by have := w.1; omega)
        refine ih (pre ++ [c]) τ r' (D + 60) (by rw [hpre]; simp) (sDo_ok hg (by omega) (hc c hmem) hd) (by omega) q1 q3 (hx.trans q2.1.1) (fun a ha => (hs a ha).trans (sl a ha).c) fun τ2 j1 j2 j3 => ?_
        have := k τ2 j1 ((q2.tr j2).mo (by omega) (by omega)) j3
        rw [List.length_append, List.length_cons, List.length_nil, show pre.length + (0 + 1) + (sExec K V suf r').2 = pre.length + ((sExec K V suf r').2 + 1) by omega]
        exact this
      · rw [hd] at k
        have gN : zG (fun _ => False) 1 6 ρ (zNew ρ 25 0 6) := zG.nw
        obtain ⟨t1, t2, t3, -⟩ := st.tg okρ
        have hS := st.2.2.2.2.1.1
        have hD2 := st.2.2.2.1
        have dmt := (okρ.ref hD2.2.1 (by decide) (by decide)).1
        refine k _ ((st.nw okρ (Nat.le_refl _) gN).up gN.1.1) ((zGt.no gN (by omega) dmt).mo (by omega) (by omega)) (I.nw okρ gN)
end ZJ
