set_option maxRecDepth 100000
/-! THE COMPONENT, 63: load -/
theorem Wx.zo {G : ZG} {Y : ZY} {pc : Nat} {ls : List (Nat × ZV)} {q : ZP} {μ : ZM} {Q : Option ZV → ZM → Prop} {E : ZP → ZM → Prop} (k : zok μ → Wx G Y pc ls q μ Q E) : Wx G Y pc ls q μ Q E := fun h1 h2 => k h2.1 h1 h2
theorem H_X1_load {G : ZG} {ν : ZM} {Q : Option ZV → ZM → Prop} {E : ZP → ZM → Prop} {x h : Nat} {c p : Int32} (he : zPe ν h c p) (k : E (26, 0, zsz ν) (zFi (zNew (zFi (zFi ν 5 x c) 6 x p) 26 0 6) 4 x 0)) : Wx G Y_X1_load 8 [(0, vP (1, 0, x))] (7, 0, h) ν Q E := by
  refine Wx.catch [] (0, 12, 20, 167) [(0, 12, 27, 0), (20, 28, 27, 0)] rfl rfl (fun y hy => by cases hy) (by decide) (Or.inr ⟨"EchoFair$ParseError", by decide, q3083, rfl, Or.inl rfl⟩) ?_
  refine Wp_astore_n [0, 1] (ls' := [(2, vP (7, 0, h)), (0, vP (1, 0, x))]) dX1_load_20 rfl (zlt rfl) rfl ?_
  refine Wp_aload_n 1 dX1_load_21 rfl rfl ?_
  refine Wp_aload_n 0 dX1_load_22 rfl rfl ?_
  refine Wp_vown Y_X1_report (1, 0, x) [vP (7, 0, h)] K_X1_report KI_X1_report qs52 rfl rfl rfl q3261 dX1_load_23 KS_X1_report (zlt rfl) (Nat.le_of_ble_eq_true rfl) rfl (Call.toPx (K := fun q ρ => q = (26, 0, zsz ν) ∧ ρ = zNew (zFi (zFi ν 5 x c) 6 x p) 26 0 6) (S_X1_report ⟨c, he.1, p, he.2, _, rfl, rfl, rfl⟩) fun q ρ hh => ?_)
  obtain ⟨rfl, rfl⟩ := hh
  refine Wp_athrow dX1_load_26 (by show (26 : Nat) ≠ 0; decide) ?_
  refine Wx.catch [(0, 12, 20, 167), (0, 12, 27, 0)] (20, 28, 27, 0) [] rfl rfl (fun y hy => Or.inl ?_) (by decide) (Or.inl rfl) ?_
  · rcases List.mem_cons.mp hy with rfl | hy
    · decide
    · rw [List.mem_singleton.mp hy]; decide
  · refine Wp_astore_n [0, 2] (ls' := [(3, vP (26, 0, zsz ν)), (0, vP (1, 0, x))]) dX1_load_27 rfl (zlt rfl) rfl ?_
    refine Wp_aload_n 1 dX1_load_28 rfl rfl ?_
    refine Wp_iconst dX1_load_29 (v := 0) rfl ?_
    refine Wg_putI 4 q1466 dX1_load_30 rfl sp_4 rfl (by decide) rfl (by decide) (znr_int _) ?_
    refine Wp_aload_n 0 dX1_load_33 rfl rfl ?_
    refine Wp_athrow dX1_load_34 (by show (26 : Nat) ≠ 0; decide) ?_
    exact Wx.out rfl (fun y hy => Or.inl (by
      rcases List.mem_cons.mp hy with rfl | hy
      · decide
      · rcases List.mem_cons.mp hy with rfl | hy
        · decide
        · rw [List.mem_singleton.mp hy]; decide)) k
section ZJ
variable {G : ZG} {μ ν τ : ZM} {Q : Option ZV → ZM → Prop} {E : ZP → ZM → Prop} {x d da bf sb sba n K V D B : Nat} {po : Nat → Nat} {Z : Nat → Prop} {σ : ZS} {z z1 z2 z3 z4 z5 : Int32} {c e : Nat}
/-- what the parser needs -/
theorem zXs.pc (hG : zGk G) (hk : zKx G μ B (zXo x d da bf sb sba Z)) (h : zXs G μ x d da bf sb sba n Z σ) (hok : zok μ) : zPc G μ x bf B (aBu σ) := by
  obtain ⟨t1, t2, t3, t4, t5⟩ := h.tg hok
  obtain ⟨⟨h1, h2, h3, h4, h5, h6, h7⟩, -, -, -, -, ⟨b1, b2, b3⟩, -⟩ := h
  exact ⟨⟨h2, t3.2, h4⟩, ⟨b1, b3⟩, ⟨hk.1, hk.2.1, hk.2.2.2⟩, hG.2.2.2⟩
/-- the parser's object, made -/
theorem C_pInit (hc : zPc G μ x bf B (aBu σ)) (h4 : zfi μ 4 x = nI (aBu σ).length) (hok : zok μ) (k : ∀ ν1 M, zPq G μ ν1 (zsz μ) x (aBu σ) 1 7 0 M → zsz μ < M → zFh G ν1 (zfr ν1 72 (zsz μ)) → (ztg ν1 (zsz μ)).1 = 6 → Q none ν1) : Call G Y_X6_init [vP (6, 0, zsz μ), vP (1, 0, x)] (zNew μ 6 0 7) Q E := by
  refine S_X6_init ⟨nI (aBu σ).length, by rw [zfi_zNew]; exact h4, ?_⟩
  have z0 := Nat.le_refl (zsz μ)
  have g0 : zG (fun _ => False) 1 7 μ (zFr (zFi (zFr (zNew μ 6 0 7) 74 (zsz μ) (1, 0, x)) 68 (zsz μ) (nI (aBu σ).length)) 72 (zsz μ) (zgS G 107)) := zG.nfr (zG.nfi (zG.nfr zG.nw z0) z0) z0
  refine C_pAdv (c := 1) (e := 7) (a := 0) hc (Nat.zero_le _) ⟨z0, Nat.lt_succ_self _, ?_, ?_⟩ ?_ (g0.mono (fun _ _ q => q) (by omega) (by omega)) fun ν1 c' e' y1 y2 y3 => ⟨rfl, k ν1 _ y1 (Nat.lt_succ_self _) y2 ?_⟩
  · rw [zfr_zFr, if_neg (fun q => by cases q.1), zfr_zFi, zfr_zFr, if_pos ⟨rfl, rfl⟩]
  · rw [zfi_zFr, zfi_zFi, if_pos ⟨rfl, rfl⟩]
  · rw [zfi_zFr, zfi_zFi, if_neg (fun q => by cases q.1), zfi_zFr, zfi_zNew]; exact hok.1 69 _ z0
  · rw [y3.1.2.2 (zsz μ) (Nat.lt_succ_self _)]
    show (ztg (zNew μ 6 0 7) (zsz μ)).1 = 6
    rw [ztg_zNew, if_pos rfl]
/-- the own fields behind a text read -/
def zTx (τ ν : ZM) (x d da : Nat) (c p : Int32) : Prop := (zG (fun a => a = x ∨ a = d ∨ a = da) 1 6 τ ν) ∧ zfi ν 4 x = 0 ∧ zfi ν 5 x = c ∧ zfi ν 6 x = p ∧ ∀ f, f ≠ 0 → zfr ν f x = zfr τ f x
theorem zXs.text {c p : Int32} {s hh : Nat} {ps : List ZP} {pa : List (Nat → Int32)} {r : Nat → Int32} (h : zXs G τ x d da bf sb sba n Z σ) (hok : zok τ) (t : zTx τ ν x d da c p) (hr : zfr ν 0 x = (2, 0, s) ∧ zHs τ (zXo x d da bf sb sba Z) s r) (hq : zDq ν d da 10 hh ps ∧ zPs τ (zXo x d da bf sb sba Z) ps pa ∧ pa.length ≤ 8) : zXs G ν x d da bf sb sba n Z (r, aSv σ, pa, [], c, p, aOu σ) ∧ zOld (zXw x d da bf sb sba) τ ν := by
  obtain ⟨gT, f4, f5, f6, fr⟩ := t
  have hne := h.ne hok
  have hxt := h.xt hok
  obtain ⟨t1, t2, t3, t4, t5⟩ := h.tg hok
  obtain ⟨⟨h1, h2, h3, h4, h5, h6, h7⟩, hI, -, hv, -, -, -, ho⟩ := id h
  have kO : zOld (zXw x d da bf sb sba) τ ν := zOld.of gT hok (fun a ha q => hxt a ha q.le) (fun a _ q => q.imp id (fun q => q.imp id Or.inl))
  have KH := h.hk hok kO
  have ssb : zsame τ ν sb := gT.same t4.2 (by omega)
  have ssba : zsame τ ν sba := gT.same t5.2 (by omega)
  exact ⟨h.go hok kO (fun f hf => fr f (by omega)) ⟨s, hr.1, KH s r hr.2⟩ (hv.kp (fr 1 (by decide)) KH) ⟨⟨hh, ps, hq.1, hq.2.1.kp KH⟩, hq.2.2⟩ ⟨Nat.zero_le _, f4, fun j hj => absurd hj (Nat.not_lt_zero _)⟩ ⟨f5, f6⟩ (ho.kp ssb.c ssba.c), kO⟩
/-- a State read is taken -/
theorem C_xLoaded {s : Nat} {r : Nat → Int32} (h : zXs G τ x d da bf sb sba n Z σ) (hs : zHs τ (zXo x d da bf sb sba Z) s r) (hok : zok τ)
    (k : ∀ ν, zXs G ν x d da bf sb sba n Z (aLoad σ r) → zOld (zXw x d da bf sb sba) τ ν → zsz ν ≤ zsz τ + 1 → zsl ν ≤ zsl τ + 6 → Q (some (vI (r 0))) ν) : Call G Y_X1_clearError [vP (1, 0, x)] (zFi τ 4 x 0) (rV fun ν3 => ∃ a1, zfr ν3 2 x = (12, 0, a1) ∧ Call G Y_J31_clear [vP (12, 0, a1)] (zFr ν3 0 x (2, 0, s)) (rV fun ν4 => ∃ a2, zfr ν4 10 s = (10, 0, a2) ∧ Call G Y_J2_size [vP (10, 0, a2)] ν4 (rI fun x1 ν5 => Q (some (vI x1)) ν5) (fun q ν => Wx G Y_X1_load 55 [(1, vP (2, 0, s)), (0, vP (1, 0, x))] q ν Q E)) (fun q ν => Wx G Y_X1_load 48 [(1, vP (2, 0, s)), (0, vP (1, 0, x))] q ν Q E)) (fun q ν => Wx G Y_X1_load 36 [(1, vP (2, 0, s)), (0, vP (1, 0, x))] q ν Q E) := by
  have hne := h.ne hok
  obtain ⟨t1, t2, t3, t4, t5⟩ := h.tg hok
  obtain ⟨⟨h1, h2, h3, h4, h5, h6, h7⟩, -, -, -, ⟨⟨hh, ps, hq, hp⟩, hl⟩, -⟩ := id h
  refine S_X1_clearError ⟨rfl, d, h3, ?_⟩
  have s3 : ∀ a, a ≠ x → zsame τ (zFr (zFi (zFi (zFi τ 4 x 0) 5 x 0) 6 x (-1)) 0 x (2, 0, s)) a := fun a ha => (((zsame_zFi ha _).trans (zsame_zFi ha _)).trans (zsame_zFi ha _)).trans (zsame_zFr ha _)
  have g3 : zG (fun a => a = x ∨ a = d ∨ a = da) 0 0 τ (zFr (zFi (zFi (zFi τ 4 x 0) 5 x 0) 6 x (-1)) 0 x (2, 0, s)) := (((zG.fi (W := fun a => a = x ∨ a = d ∨ a = da) (Or.inl rfl)).tr (zG.fi (Or.inl rfl))).tr (zG.fi (Or.inl rfl))).tr (zG.fr (f := 0) (Or.inl rfl))
  have i4 : zfi (zFr (zFi (zFi (zFi τ 4 x 0) 5 x 0) 6 x (-1)) 0 x (2, 0, s)) 4 x = 0 := by simp [zfi_zFi, zfi_zFr]
  have i5 : zfi (zFr (zFi (zFi (zFi τ 4 x 0) 5 x 0) 6 x (-1)) 0 x (2, 0, s)) 5 x = 0 := by simp [zfi_zFi, zfi_zFr]
  have i6 : zfi (zFr (zFi (zFi (zFi τ 4 x 0) 5 x 0) 6 x (-1)) 0 x (2, 0, s)) 6 x = -1 := by simp [zfi_zFi, zfi_zFr]
  have r0 : zfr (zFr (zFi (zFi (zFi τ 4 x 0) 5 x 0) 6 x (-1)) 0 x (2, 0, s)) 0 x = (2, 0, s) := by simp [zfr_zFr]
  have rf : ∀ f, f ≠ 0 → zfr (zFr (zFi (zFi (zFi τ 4 x 0) 5 x 0) 6 x (-1)) 0 x (2, 0, s)) f x = zfr τ f x := fun f hf => by rw [zfr_zFr, if_neg (fun q => hf q.1)]; rfl
  generalize zFr (zFi (zFi (zFi τ 4 x 0) 5 x 0) 6 x (-1)) 0 x (2, 0, s) = τ3 at s3 g3 i4 i5 i6 r0 rf ⊢
  refine C_dqClear (hq.kp (s3 d (by omega)) (s3 da (by omega))) (by omega) (fun ν g4 hq4 => ⟨rfl, ?_⟩) (by have := g3.1.1; omega)
  have sx : zsame τ3 ν x := g4.same (by have := g3.1.1; omega) (by omega)
  have gT : zG (fun a => a = x ∨ a = d ∨ a = da) 0 0 τ ν := g3.tr (g4.mono (fun a _ q => Or.inr q) (Nat.le_refl _) (Nat.le_refl _))
  obtain ⟨y8, kO⟩ := h.text (r := r) (pa := []) (hh := 0) (ps := []) hok ⟨gT.mono (fun _ _ q => q) (by omega) (by omega), (sx.1 4).trans i4, (sx.1 5).trans i5, (sx.1 6).trans i6, fun f hf => (sx.2.1 f).trans (rf f hf)⟩ ⟨(sx.2.1 0).trans r0, hs⟩ ⟨hq4, trivial, Nat.zero_le _⟩
  obtain ⟨-, -, ⟨s', e0, lo', hi', K', V', F', fg', el', ear', vl', var', ds', dm', sm', ea', va', ta', sa', w1, -⟩, -⟩ := id y8
  have es : s' = s := by
    rw [sx.2.1, r0] at e0; cases e0; rfl
  rw [es] at w1
  have hr0 : r 0 = nI K' := w1.1.2.1.1
  refine ⟨_, w1.1.2.2.2.1.2.1, C_alSize w1.2.1.2.1 ⟨_, rfl, ?_⟩⟩
  rw [← hr0]
  exact k ν y8 kO (by have := gT.2.1; omega) (by have := gT.2.2.1; omega)
/-- an error is reported -/
theorem zXs.bad {c p : Int32} (h : zXs G τ x d da bf sb sba n Z σ) (hok : zok τ) : zXs G (zFi (zNew (zFi (zFi τ 5 x c) 6 x p) 26 0 6) 4 x 0) x d da bf sb sba n Z (aBad σ c p) ∧ zOld (zXw x d da bf sb sba) τ (zFi (zNew (zFi (zFi τ 5 x c) 6 x p) 26 0 6) 4 x 0) := by
  have hne := h.ne hok
  obtain ⟨t1, t2, t3, t4, t5⟩ := h.tg hok
  obtain ⟨⟨h1, h2, h3, h4, h5, h6, h7⟩, -, ⟨s0, hs0, hs1⟩, -, ⟨⟨hh, ps, hq, hp⟩, hl⟩, -⟩ := id h
  have s3 : ∀ a, a ≠ x → zsame τ (zFi (zNew (zFi (zFi τ 5 x c) 6 x p) 26 0 6) 4 x 0) a := fun a ha => (((zsame_zFi ha _).trans (zsame_zFi ha _)).trans zsame_zNew).trans (zsame_zFi ha _)
  have g3 : zG (fun a => a = x ∨ a = d ∨ a = da) 1 6 τ (zFi (zNew (zFi (zFi τ 5 x c) 6 x p) 26 0 6) 4 x 0) := (((zG.fi (W := fun a => a = x ∨ a = d ∨ a = da) (Or.inl rfl)).tr (zG.fi (Or.inl rfl))).tr (zG.nw (k := 6))).tr (zG.fi (Or.inl rfl))
  refine h.text (s := s0) hok ⟨g3, ?_, ?_, ?_, fun f hf => rfl⟩ ⟨hs0, hs1⟩ ⟨hq.kp (s3 d (by omega)) (s3 da (by omega)), hp, hl⟩
  · simp [zfi_zFi, zfi_zNew]
  · simp [zfi_zFi, zfi_zNew]
  · simp [zfi_zFi, zfi_zNew]
theorem C_xload (hG : zGk G) (hk : zKx G μ B (zXo x d da bf sb sba Z)) (h : zXs G μ x d da bf sb sba n Z σ) (kt : ∀ r, pLoad (aBu σ) = .ok r → zXe G x d da bf sb Z σ μ Q (aLoad σ r) (vI (r 0))) (k1 : ∀ e, pLoad (aBu σ) = .error e → zXt G x d da bf sb Z σ μ E (aBad σ e.1 (nI e.2)) 26) : Call G Y_X1_load [vP (1, 0, x)] μ Q E := by
  refine Call.zo fun hok _ => ?_
  have hc := h.pc hG hk hok
  have hl := hc.2.1.1
  have hlt := h.lt hok
  refine S_X1_load (C_pInit hc h.2.2.2.2.2.1.2.1 hok fun ν1 M q1 hM f1 hP => ⟨rfl, Call.zq <| C_pConfig hc q1 (fun r hr τ s hcf okτ _ => ⟨_, rfl, s, rfl, ?_⟩) (fun er he τ hh hpe g => ?_)⟩)
  · obtain ⟨K, V, lo, hi, F, fg, el, ear, vl, var, ds, dm, sm, ea, va, ta, sa, y1, y2, y3, y4, y5, y6, y7, g⟩ := hcf
    have xτ := h.kp hok (zOld.nw g hok)
    have oτ : zOld (zXw x d da bf sb sba) μ τ := zOld.nw g hok
    have hs : zHs τ (zXo x d da bf sb sba Z) s r := ⟨lo, hi, K, V, F, fg, el, ear, vl, var, ds, dm, sm, ea, va, ta, sa, y1, y2, ⟨fun i hi' => by
      obtain ⟨n1, n2, n3⟩ := y7.1 i hi'
      exact ⟨n1, fun t => n2 (by have := hlt _ t; omega), fun t => n3 (by have := hlt _ t; omega)⟩, fun v hv => by
      obtain ⟨n1, n2, n3⟩ := y7.2 v hv
      exact ⟨n1, fun t => n2 (by have := hlt _ t; omega), fun t => n3 (by have := hlt _ t; omega)⟩⟩, fun a ha => by
      have := hlt a ha
      exact ⟨Or.inl (by omega), by omega⟩⟩
    refine C_xLoaded xτ hs okτ fun ν z1 z2 z3 z4 => kt r hr ν (zXd.gen h hok z1 (oτ.trans z2 (fun _ _ q => q)) ?_ ?_)
    · show _ + 2200 * 0 ≤ _; have := g.2.1; omega
    · show _ + 8400 * 0 ≤ _; have := g.2.2.1; omega
  · refine Wx.zo fun okτ => H_X1_load hpe (k1 er he _ _ ?_)
    have g' : zG (fun _ => False) _ _ μ τ := g
    have xτ := h.kp hok (zOld.nw g' hok)
    have oτ : zOld (zXw x d da bf sb sba) μ τ := zOld.nw g' hok
    obtain ⟨z1, z2⟩ := xτ.bad (c := er.1) (p := nI er.2) okτ
    refine zXd.gen h hok z1 (oτ.trans z2 (fun _ _ q => q)) ?_ ?_
    · show zsz τ + 1 + 2200 * 0 ≤ _; have := g'.2.1; omega
    · show zsl τ + 6 + 8400 * 0 ≤ _; have := g'.2.2.1; omega
end ZJ
