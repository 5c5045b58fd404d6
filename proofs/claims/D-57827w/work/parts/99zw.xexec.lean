set_option maxRecDepth 100000
/-! THE COMPONENT, 68: executeCommands -/
theorem H_X1_executeCommands {G : ZG} {ν : ZM} {Q : Option ZV → ZM → Prop} {E : ZP → ZM → Prop} {x h : Nat} {c p : Int32} (he : zPe ν h c p) (k : E (26, 0, zsz ν) (zFi (zNew (zFi (zFi ν 5 x c) 6 x p) 26 0 6) 4 x 0)) : Wx G Y_X1_executeCommands 8 [(0, vP (1, 0, x))] (7, 0, h) ν Q E := by
  refine Wx.catch [] (0, 12, 20, 167) [(0, 12, 27, 0), (20, 28, 27, 0)] rfl rfl (fun y hy => by cases hy) (by decide) (Or.inr ⟨"EchoFair$ParseError", by decide, q3083, rfl, Or.inl rfl⟩) ?_
  refine Wp_astore_n [0, 1] (ls' := [(2, vP (7, 0, h)), (0, vP (1, 0, x))]) dX1_executeCommands_20 rfl (zlt rfl) rfl ?_
  refine Wp_aload_n 1 dX1_executeCommands_21 rfl rfl ?_
  refine Wp_aload_n 0 dX1_executeCommands_22 rfl rfl ?_
  refine Wp_vown Y_X1_report (1, 0, x) [vP (7, 0, h)] K_X1_report KI_X1_report qs52 rfl rfl rfl q3261 dX1_executeCommands_23 KS_X1_report (zlt rfl) (Nat.le_of_ble_eq_true rfl) rfl (Call.toPx (K := fun q ρ => q = (26, 0, zsz ν) ∧ ρ = zNew (zFi (zFi ν 5 x c) 6 x p) 26 0 6) (S_X1_report ⟨c, he.1, p, he.2, _, rfl, rfl, rfl⟩) fun q ρ hh => ?_)
  obtain ⟨rfl, rfl⟩ := hh
  refine Wp_athrow dX1_executeCommands_26 (by show (26 : Nat) ≠ 0; decide) ?_
  refine Wx.catch [(0, 12, 20, 167), (0, 12, 27, 0)] (20, 28, 27, 0) [] rfl rfl (fun y hy => Or.inl ?_) (by decide) (Or.inl rfl) ?_
  · rcases List.mem_cons.mp hy with rfl | hy
    · decide
    · rw [List.mem_singleton.mp hy]; decide
  · refine Wp_astore_n [0, 2] (ls' := [(3, vP (26, 0, zsz ν)), (0, vP (1, 0, x))]) dX1_executeCommands_27 rfl (zlt rfl) rfl ?_
    refine Wp_aload_n 1 dX1_executeCommands_28 rfl rfl ?_
    refine Wp_iconst dX1_executeCommands_29 (v := 0) rfl ?_
    refine Wg_putI 4 q1466 dX1_executeCommands_30 rfl sp_4 rfl (by decide) rfl (by decide) (znr_int _) ?_
    refine Wp_aload_n 0 dX1_executeCommands_33 rfl rfl ?_
    refine Wp_athrow dX1_executeCommands_34 (by show (26 : Nat) ≠ 0; decide) ?_
    exact Wx.out rfl (fun y hy => Or.inl (by
      rcases List.mem_cons.mp hy with rfl | hy
      · decide
      · rcases List.mem_cons.mp hy with rfl | hy
        · decide
        · rw [List.mem_singleton.mp hy]; decide)) k
section ZJ
variable {G : ZG} {μ ν τ ρ μ0 : ZM} {Q : Option ZV → ZM → Prop} {E E1 E2 E3 E4 : ZP → ZM → Prop} {P x bf B c e a M K V s lo hi F fg el ear vl var ds dm sm c' e' h n C f c0 e0 d da sb sba D k A : Nat} {ea va ta sa : Nat → Nat} {r : Nat → Int32} {po : Nat → Nat} {b w : List Nat} {y z z1 z2 : Int32} {q : ZP} {Z : Nat → Prop} {σ : ZS}
/-- the commands done on a copy -/
theorem C_xRun {l : List (Nat × Nat × Nat)} (hG : zGk G) (h : zXs G μ x d da bf sb sba n Z σ) (hg : sGd (aR σ) K V po D) (hD : D < 900000) (hl : l.length ≤ 30) (hcl : ∀ c, c ∈ l → cOk K V c) (hC : zCds μ A l)
    (k : ∀ ν, zXs G ν x d da bf sb sba n Z (aOp σ (sExec K V l (aR σ)).1) → zOld (zXw x d da bf sb sba) μ ν → zsz ν ≤ zsz μ + (631 + 10682 * l.length) → zsl ν ≤ zsl μ + (2066 + 41168 * l.length) → Q (some (vI (nI (sExec K V l (aR σ)).2))) ν) : ∃ a1, zfr μ 0 x = (2, 0, a1) ∧ Call G Y_X2_copy [vP (2, 0, a1)] μ (rP fun q2 ν4 => ∃ b2, q2 = (2, 0, b2) ∧ Call G Y_X1_execute [vP (2, 0, b2), vP (206, 31, A)] ν4 (rI fun x1 ν5 => Call G Y_X1_record [vP (1, 0, x), vP (2, 0, b2)] ν5 (rV fun ν6 => Q (some (vI x1)) ν6) (fun q ν => Wx G Y_X1_executeCommands 55 [(3, vI x1), (2, vP (2, 0, b2)), (0, vP (1, 0, x))] q ν Q E)) (fun q ν => Wx G Y_X1_executeCommands 49 [(2, vP (2, 0, b2)), (1, vP (206, 31, A)), (0, vP (1, 0, x))] q ν Q E)) (fun q ν => Wx G Y_X1_executeCommands 43 [(1, vP (206, 31, A)), (0, vP (1, 0, x))] q ν Q E) := by
  obtain ⟨s0, lo, hi, F, fg, el, ear, vl, var, ds, dm, sm, ea, va, ta, sa, hs0, b1, b2, b3, b4⟩ := h.st hg
  refine ⟨s0, hs0, Call.zo fun hok _ => ?_⟩
  have hlt := h.lt hok
  have hI := h.2.1
  obtain ⟨gb, ⟨hK, hV⟩, -⟩ := id hg.1
  have hrg := hg.2.1
  obtain ⟨t1, t2, t3, -⟩ := b1.tg hok
  have hdt : (ztg μ dm).1 = 15 := by rw [(hok.ref b1.2.2.2.1.2.1 (by decide) (by decide)).2]
  refine Call.zq (C_sCopy b2 hG.1 b1 (fun e he => (b3.1 e he).1.1) (fun v hv => (b3.2 v hv).1.1) fun σ1 el' ear' vl' var' ds' dm' sm' eb vb tb sb' c1 c2 c3 c4 c5 okσ _ => ⟨_, rfl, _, rfl, ?_⟩)
  have o1 : zOld (fun _ => False) μ σ1 := zOld.cp c4 c5 hok hdt t3
  have I1 := hI.old hok (X := fun _ => False) (fun _ _ q => q.elim) o1
  have T1 := c1.tls
  refine nS_X1_execute (L_xExec (μ := μ) (l := l) hG hl hcl hC (Nat.le_refl _) l [] σ1 (aR σ) D rfl hg (by omega) c1 I1 o1.1 (fun a ha => o1.2.1 a ha id) fun ρ r1 r2 r3 => ⟨_, rfl, ?_⟩)
  rw [List.length_nil, Nat.zero_add]
  have T2 := r1.tls
  have o2 : zOld (fun _ => False) μ ρ := o1.op okσ (Nat.le_refl _) r2.1
  have x2 := h.kp hok (o2.mono (fun _ _ q => q.elim))
  have hnm := sExec_nm hg (by omega) hcl
  refine Call.zo fun okρ _ => C_xRecord x2 (⟨zsz μ, zsz ρ, K, V, F, fg, el', ear', vl', var', ds', dm', sm', eb, vb, tb, sb', r1, Nat.le_refl _, ⟨fun e he => ?_, fun v hv => ?_⟩, fun a ha => ⟨Or.inl (hlt a ha), (b4 a ha).2⟩⟩ : zHs ρ (zXo x d da bf sb sba Z) (zsz μ) _) fun τ y1 y2 => ⟨rfl, k τ y1 ?_ ?_ ?_⟩
  · have q := ((b3.1 e he).kp (ν := ρ) (fun a ha hx => o2.2.1 a (by omega) id)).up (C := zsz ρ) (by have := o2.1.1; omega)
    rw [r2.1.2.2.2.2 21 (eb e) (Or.inl rfl) (c1.2.1.2.2.1 e he).2, c2 e he, sName_cg (fun u hu => hnm.1 e u (by omega) hu) (hrg.1 e he).2.2]; exact q
  · have q := ((b3.2 v hv).kp (ν := ρ) (fun a ha hx => o2.2.1 a (by omega) id)).up (C := zsz ρ) (by have := o2.1.1; omega)
    rw [r2.1.2.2.2.2 30 (vb v) (Or.inr rfl) (c1.2.2.1.2.2.1 v hv).1.2, c3 v hv, sName_cg (fun u hu => hnm.2 v u (by omega) hu) (hrg.2.1 v hv).2.2]; exact q
  · exact (o2.mono (Y := zXw x d da bf sb sba) (fun _ _ q => q.elim)).trans (zOld.of y2 okρ (fun a ha q => x2.xt okρ a ha q.le) (fun _ _ q => q)) (fun _ _ q => q)
  · have := y2.2.1; have := r2.1.2.1; have := c5.2.1; omega
  · have := y2.2.2.1; have := r2.1.2.2.1; have := c5.2.2.1; have := r2.2; omega
theorem C_xexecuteCommands (hG : zGk G) (hk : zKx G μ B (zXo x d da bf sb sba Z)) (h : zXs G μ x d da bf sb sba n Z σ) (hg : sGd (aR σ) K V po D) (hD : D < 900000)
    (kt : ∀ l, pCmds (aBu σ) (aR σ) 1000 [] 0 = .ok l → zXe G x d da bf sb Z σ μ Q (aExec σ (sExec K V l (aR σ)).1) (vI (nI (sExec K V l (aR σ)).2)))
    (k1 : ∀ e, pCmds (aBu σ) (aR σ) 1000 [] 0 = .error e → zXt G x d da bf sb Z σ μ E (aBad σ e.1 (nI e.2)) 26) : Call G Y_X1_executeCommands [vP (1, 0, x)] μ Q E := by
  refine Call.zo fun hok _ => ?_
  have hc := h.pc hG hk hok
  have hlb := hc.2.1.1
  have hr : sKV (aR σ) K V := ⟨hg.1.2.1.1, hg.1.2.1.2, hg.1.1.1, hg.1.1.2.1⟩
  obtain ⟨s, hs0, hN⟩ := h.nmd hg hok
  refine S_X1_executeCommands (C_pInit hc h.2.2.2.2.2.1.2.1 hok fun ν1 M q1 hM f1 hP => ⟨rfl, ?_⟩)
  refine Call.zo fun ok1 _ => Call.zq (nS_X6_commands ?_)
  have zP := q1.2.1.2.1
  have z1 : zsz μ ≤ zsz ν1 := q1.2.2.2.1.1
  have gN : zG (fun _ => False) 1 31 ν1 (zNew ν1 206 31 31) := zG.nw
  have q2 := q1.nw gN
  have sP := gN.same zP id
  have f2 : zFh G (zNew ν1 206 31 31) (zfr (zNew ν1 206 31 31) 72 (zsz μ)) := by
    rw [sP.2.1]; exact f1.kp (ok1.2.2.2.2.2.1 72 _) fun a ha _ => gN.same ha id
  have C0 : zCds (zNew ν1 206 31 31) (zsz ν1) [] := ⟨⟨by rw [ztg_zNew, if_pos rfl], Nat.lt_succ_self _⟩, fun j hj => absurd hj (Nat.not_lt_zero _), fun j _ _ => by
    show zar ν1 (zsz ν1) j = zN
    exact ok1.2.2.2.1 (zsz ν1) j (Nat.le_refl _)⟩
  refine C_pCmds (c0 := 2) (e0 := 38) hG hc hs0 hN hr z1 zP 1000 [] 0 _ M (by omega) q2 (by omega) f2 (by rw [gN.1.2.2 _ zP]; exact hP) (Nat.zero_le _) (Nat.zero_le _) (fun c hc => by cases hc) C0 (fun l hl τ Cl l30 l5 hcl g okτ _ => ⟨_, rfl, _, _, rfl, ?_⟩) (fun er he τ p hpe g => ?_)
  · have g' : zG (fun _ => False) _ _ μ τ := g
    have xτ := h.kp hok (zOld.nw g' hok)
    have oτ : zOld (zXw x d da bf sb sba) μ τ := zOld.nw g' hok
    refine S_X1_clearError ⟨rfl, ?_⟩
    have hne := xτ.ne okτ
    obtain ⟨⟨h1, h2, h3, h4, h5, h6, h7⟩, -, ⟨s1, hs1, hs2⟩, -, ⟨⟨hh, ps, hq, hp⟩, hl8⟩, -⟩ := id xτ
    have s3 : ∀ a, a ≠ x → zsame τ (zFi (zFi (zFi τ 4 x 0) 5 x 0) 6 x (-1)) a := fun a ha => ((zsame_zFi ha _).trans (zsame_zFi ha _)).trans (zsame_zFi ha _)
    have g3 : zG (fun a => a = x ∨ a = d ∨ a = da) 0 0 τ (zFi (zFi (zFi τ 4 x 0) 5 x 0) 6 x (-1)) := ((zG.fi (W := fun a => a = x ∨ a = d ∨ a = da) (Or.inl rfl)).tr (zG.fi (Or.inl rfl))).tr (zG.fi (Or.inl rfl))
    obtain ⟨x3, o3⟩ := xτ.text (r := aR σ) (pa := aPa σ) (c := 0) (p := -1) okτ ⟨g3.mono (fun _ _ q => q) (by omega) (by omega), by simp [zfi_zFi], by simp [zfi_zFi], by simp [zfi_zFi], fun f hf => rfl⟩ ⟨hs1, hs2⟩ ⟨hq.kp (s3 d (by omega)) (s3 da (by omega)), hp, hl8⟩
    refine C_xRun hG x3 hg hD l30 hcl (Cl.kp (zext.rf _) (fun j => rfl) (fun a _ _ j => rfl)) fun ν y1 y2 y3 y4 => kt l hl ν (zXd.gen h hok y1 ((oτ.trans o3 (fun _ _ q => q)).trans y2 (fun _ _ q => q)) ?_ ?_)
    · show _ + 2200 * 0 ≤ _
      have e1 : zsz (zFi (zFi (zFi τ 4 x 0) 5 x 0) 6 x (-1)) = zsz τ := rfl
      rw [e1] at y3
      have := g'.2.1; omega
    · show _ + 8400 * 0 ≤ _
      have e1 : zsl (zFi (zFi (zFi τ 4 x 0) 5 x 0) 6 x (-1)) = zsl τ := rfl
      rw [e1] at y4
      have := g'.2.2.1; omega
  · refine Wx.zo fun okτ => H_X1_executeCommands hpe (k1 er he _ _ ?_)
    have g' : zG (fun _ => False) _ _ μ τ := g
    have xτ := h.kp hok (zOld.nw g' hok)
    have oτ : zOld (zXw x d da bf sb sba) μ τ := zOld.nw g' hok
    obtain ⟨z1, z2⟩ := xτ.bad (c := er.1) (p := nI er.2) okτ
    refine zXd.gen h hok z1 (oτ.trans z2 (fun _ _ q => q)) ?_ ?_
    · show zsz τ + 1 + 2200 * 0 ≤ _; have := g'.2.1; omega
    · show zsl τ + 6 + 8400 * 0 ≤ _; have := g'.2.2.1; omega
end ZJ
