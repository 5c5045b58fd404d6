set_option maxRecDepth 100000
/-! THE COMPONENT, 65: one command -/
/-- captured numbers of a command's lambda -/
def zCn (k : Nat) : Nat := if k = 2 ∨ k = 4 ∨ k = 5 then 2 else if k = 1 then 0 else 1
/-- a command as an Operation -/
def zCd (τ : ZM) (q : ZP) (c : Nat × Nat × Nat) : Prop := ∃ a, q = (301 + c.1, zCn c.1, a) ∧ (c.1 ≠ 1 → a < zsz τ ∧ 300 < (ztg τ a).1 ∧ zai τ a 0 = nI c.2.1) ∧ (c.1 = 2 ∨ c.1 = 4 ∨ c.1 = 5 → zai τ a 1 = nI c.2.2)
theorem pKind_is {w : List Nat} {k : Nat} (h : pKind w = some k) : (w = tPass ∧ k = 0) ∨ (w = tFair ∧ k = 1) ∨ (w = tTest ∧ k = 2) ∨ (w = tDismiss ∧ k = 3) ∨ (w = tWage ∧ k = 4) ∨ (w = tFund ∧ k = 5) ∨ (w = tTrain ∧ k = 6) := by
  unfold pKind at h
  split at h
  · cases h; exact Or.inl ⟨by assumption, rfl⟩
  · split at h
    · cases h; exact Or.inr (Or.inl ⟨by assumption, rfl⟩)
    · split at h
      · cases h; exact Or.inr (Or.inr (Or.inl ⟨by assumption, rfl⟩))
      · split at h
        · cases h; exact Or.inr (Or.inr (Or.inr (Or.inl ⟨by assumption, rfl⟩)))
        · split at h
          · cases h; exact Or.inr (Or.inr (Or.inr (Or.inr (Or.inl ⟨by assumption, rfl⟩))))
          · split at h
            · cases h; exact Or.inr (Or.inr (Or.inr (Or.inr (Or.inr (Or.inl ⟨by assumption, rfl⟩)))))
            · split at h
              · cases h; exact Or.inr (Or.inr (Or.inr (Or.inr (Or.inr (Or.inr ⟨by assumption, rfl⟩)))))
              · cases h
section ZJ
variable {G : ZG} {μ ν τ ρ μ0 : ZM} {Q : Option ZV → ZM → Prop} {E : ZP → ZM → Prop} {P x bf B c e a M K V s lo hi F fg el ear vl var ds dm sm c' e' h n C f c0 e0 d da sb sba D k : Nat} {ea va ta sa : Nat → Nat} {r : Nat → Int32} {po : Nat → Nat} {b w : List Nat} {y z z1 z2 : Int32} {q : ZP} {Z : Nat → Prop} {σ : ZS}
theorem zFh.kp (hf : zFh G τ q) (hp : zpk τ q) (hs : ∀ a, a < zsz τ → (ztg τ a).1 = 23 → zsame τ ρ a) : zFh G ρ q := by
  rcases hf with t | ⟨h0, t1, t2, t3, t4⟩
  · exact Or.inl t
  · have hlt := hp.lt (by rw [t1]; show (23 : Nat) ≠ 0; decide) (by rw [t1]; show (23 : Nat) ≠ 251; decide)
    rw [t1] at hlt
    have sh : zsame τ ρ h0 := hs h0 hlt.1 (congrArg Prod.fst hlt.2)
    exact Or.inr ⟨h0, t1, (sh.1 _).trans t2, (sh.1 _).trans t3, by rw [sh.2.1]; exact t4⟩
theorem zPq.nw {c2 e2 : Nat} (h : zPq G μ0 τ P x b c e a M) (g : zG (fun _ => False) c2 e2 τ ρ) : zPq G μ0 ρ P x b (c + c2) (e + e2) a M :=
  h.kp (W := fun _ => False) g.1 (fun a ha _ => g.same ha id) (fun _ w => w.elim) ((zG.tr h.2.2.2 g).mono (fun _ _ q => q) (by omega) (by omega))
theorem zPq.mo {c2 e2 : Nat} (h : zPq G μ0 τ P x b c e a M) (hc : c ≤ c2) (he : e ≤ e2) : zPq G μ0 τ P x b c2 e2 a M := ⟨h.1, h.2.1, h.2.2.1, zG.mono h.2.2.2 (fun _ _ q => q) (by omega) (by omega)⟩
theorem C_pCommand (hG : zGk G) (hc : zPc G μ0 x bf B b) (h : zPq G μ0 ν P x b c e a M) (hwc : zWc ν (zfr ν 72 P) (pWd b (pSk b a)) (zsz ν)) (hx0 : zfr μ0 0 x = (2, 0, s)) (hN : zNmd G μ0 s K V r) (hK : K ≤ 12) (hV : V ≤ 8) (hk : pKind (pWd b (pSk b a)) = some k)
    (kok : ∀ x' y a', pParts b r k (pSk b a + (pWd b (pSk b a)).length) = .ok ((x', y), a') → ∀ τ q c' e' M', zPq G μ0 τ P x b (c + 1) (e + 2) a' M' → zsz μ0 ≤ M' → zFh G τ (zfr τ 72 P) → zG (fun h => h = P) c' e' ν τ → zCd τ q (k, x', y) → Q (some (vP q)) τ)
    (ker : ∀ er, pParts b r k (pSk b a + (pWd b (pSk b a)).length) = .error er → zPx E μ0 b (c + 1) (e + 2) er) : Call G Y_X6_command [vP (6, 0, P)] ν Q E := by
  refine Call.zo fun hok hargs => ?_
  obtain ⟨hPt, hPz⟩ := tg_arg hargs (by decide) (by decide)
  have hz0 : zsz μ0 ≤ zsz ν := h.2.2.2.1.1
  have hKd := hc.2.2.2
  have hw0 : pWd b (pSk b a) ≠ [] := fun t => by rw [t] at hk; cases (show (none : Option Nat) = some k from hk)
  have hst : zStr ν (zsz ν) (zfr ν 72 P) (pWd b (pSk b a)) := by
    rcases h.2.2.1.2.2.2.2 with ⟨-, t⟩ | ⟨h0, t1, t2, t3, t4⟩
    · exact absurd t hw0
    · exact t4
  have hp : zpk ν (zfr ν 72 P) := hok.2.2.2.2.2.1 72 P
  have er' : ∀ er, pParts b r k (pSk b a + (pWd b (pSk b a)).length) = .error er → zPx E μ0 b c e er := fun er he => (ker er he).le (by omega) (by omega)
  refine nS_X6_command ⟨_, rfl, hst.1, C_pNext hc h fun ν1 c1 e1 q1 f1 g1 => ⟨rfl, ?_⟩⟩
  rw [pEd_3 hw0] at q1
  have hn : zNa ν (fun _ => False) (zsz ν) (zfr ν 72 P) (pWd b (pSk b a)) := ⟨hst, id, id⟩
  have hs1 : zStr ν1 (zsz ν) (zfr ν 72 P) (pWd b (pSk b a)) := (hn.kpT (τ := ν1) hok hp (fun a ha _ ht => (g1.same ha (fun t => by rw [t, hPt] at ht; omega)).c)).1
  have hw1 : zWc ν1 (zfr ν 72 P) (pWd b (pSk b a)) (zsz ν) := by
    obtain ⟨h0, t1, ⟨t2, t3⟩, t4⟩ := hwc
    have sh : zsame ν ν1 h0 := g1.same t2 (fun t => by rw [t, hPt] at t3; cases t3)
    exact ⟨h0, t1, ⟨t2, by rw [g1.1.2.2 h0 t2]; exact t3⟩, by rw [sh.1, sh.1]; exact t4⟩
  refine C_hashC hs1.1 hw1 ⟨_, rfl, ?_⟩
  have h74 : zfr ν1 74 P = (1, 0, x) := q1.2.1.2.2.1
  have h0x : zfr ν1 0 x = (2, 0, s) := ((q1.2.2.2.same hc.1.1 id).2.1 0).trans hx0
  -- the ends
  have fin1 : ∀ (x' a' : Nat) (t : Nat) (τ : ZM) (c' e' M' : Nat), pParts b r k (pSk b a + (pWd b (pSk b a)).length) = .ok ((x', 0), a') → k = 0 ∨ k = 3 ∨ k = 6 → t = 301 + k → zPq G μ0 τ P x b c e a' M' → zsz μ0 ≤ M' → zFh G τ (zfr τ 72 P) → zG (fun h => h = P) c' e' ν τ → zok τ → Q (some (vP (t, 1, zsz τ))) (zAi (zNew τ t 1 1) (zsz τ) 0 (nI x')) := by
    intro x' a' t τ c' e' M' hp' hk' ht q2 hM' f2 g2 okτ
    have g := gLam1 τ t 1 1 (nI x')
    have sP := g.same q2.2.1.2.1 id
    refine kok x' 0 a' hp' _ _ _ _ M' ((q2.nw g).mo (Nat.le_refl _) (by omega)) hM' ?_ (g2.tr (g.mono (fun _ _ q => q.elim) (Nat.le_refl _) (Nat.le_refl _))) ⟨zsz τ, ?_, fun _ => ⟨Nat.lt_succ_self _, ?_, ?_⟩, fun t => by dsimp only at t; omega⟩
    · rw [sP.2.1]; exact f2.kp (okτ.2.2.2.2.2.1 72 P) fun a ha _ => g.same ha id
    · subst ht; unfold zCn; dsimp only; rw [if_neg (by omega), if_neg (by omega)]
    · show 300 < (ztg (zNew τ t 1 1) (zsz τ)).1
      rw [ztg_zNew, if_pos rfl]; dsimp only; omega
    · rw [zai_zAi, if_pos ⟨rfl, rfl⟩]
  have fin2 : ∀ (x' y' a' : Nat) (t : Nat) (τ : ZM) (c' e' M' : Nat), pParts b r k (pSk b a + (pWd b (pSk b a)).length) = .ok ((x', y'), a') → k = 2 ∨ k = 4 ∨ k = 5 → t = 301 + k → zPq G μ0 τ P x b c e a' M' → zsz μ0 ≤ M' → zFh G τ (zfr τ 72 P) → zG (fun h => h = P) c' e' ν τ → zok τ → Q (some (vP (t, 2, zsz τ))) (zAi (zAi (zNew τ t 2 2) (zsz τ) 0 (nI x')) (zsz τ) 1 (nI y')) := by
    intro x' y' a' t τ c' e' M' hp' hk' ht q2 hM' f2 g2 okτ
    have g := gLam2 τ t 2 2 (nI x') (nI y')
    have sP := g.same q2.2.1.2.1 id
    refine kok x' y' a' hp' _ _ _ _ M' (q2.nw g) hM' ?_ (g2.tr (g.mono (fun _ _ q => q.elim) (Nat.le_refl _) (Nat.le_refl _))) ⟨zsz τ, ?_, fun _ => ⟨Nat.lt_succ_self _, ?_, ?_⟩, fun _ => ?_⟩
    · rw [sP.2.1]; exact f2.kp (okτ.2.2.2.2.2.1 72 P) fun a ha _ => g.same ha id
    · subst ht; unfold zCn; dsimp only; rw [if_pos hk']
    · show 300 < (ztg (zNew τ t 2 2) (zsz τ)).1
      rw [ztg_zNew, if_pos rfl]; dsimp only; omega
    · rw [zai_zAi, if_neg (by omega), zai_zAi, if_pos ⟨rfl, rfl⟩]
    · rw [zai_zAi, if_pos ⟨rfl, rfl⟩]
  have z1 : zsz ν ≤ zsz ν1 := g1.1.1
  have mV := fun {τ : ZM} {c e a M : Nat} (q2 : zPq G μ0 τ P x b c e a M) q w (Q' : Option ZV → ZM → Prop) (E' : ZP → ZM → Prop) (hs : ∃ C, zStr τ C q w) => (hN τ _ _ q2.2.2.2 q w hs Q' E').1
  have mE := fun {τ : ZM} {c e a M : Nat} (q2 : zPq G μ0 τ P x b c e a M) q w (Q' : Option ZV → ZM → Prop) (E' : ZP → ZM → Prop) (hs : ∃ C, zStr τ C q w) => (hN τ _ _ q2.2.2.2 q w hs Q' E').2
  have go : ∀ (i : Nat) (t : List Nat) (z : Int32), (i, t) ∈ kTx → pWd b (pSk b a) = t → Wp G Y_X6_command 157 [(0, vP (6, 0, P)), (3, vI z)] [] ν1 Q E → Call G Y_J9_equals [vP (zfr ν 72 P), vP (zgS G i)] ν1 (rI fun x2 ν3 => (x2 = 0 → Wp G Y_X6_command 157 [(0, vP (6, 0, P)), (3, vI (-1))] [] ν3 Q E) ∧ (¬ x2 = 0 → Wp G Y_X6_command 157 [(0, vP (6, 0, P)), (3, vI z)] [] ν3 Q E)) (fun q ν => zkc q.1 = true ∧ E q ν) := fun i t z hi hw K =>
    C_strEq hs1 (hc.str q1.2.2.2 hi) (fun u => ⟨_, rfl, fun v => absurd v (by decide), fun _ => K⟩) (fun u => absurd hw u)
  have nx : ∀ (y : Int32), ∀ t, pWd b (pSk b a) = t → sHash t ≠ y → ¬ sHash (pWd b (pSk b a)) = y := fun y t h1 h2 h3 => h2 (by rw [← h1]; exact h3)
  generalize hA : pSk b a + (pWd b (pSk b a)).length = A at q1 kok ker er' fin1 fin2
  rcases pKind_is hk with ⟨hw, rfl⟩ | ⟨hw, rfl⟩ | ⟨hw, rfl⟩ | ⟨hw, rfl⟩ | ⟨hw, rfl⟩ | ⟨hw, rfl⟩ | ⟨hw, rfl⟩
  · refine ⟨fun t => absurd t (nx _ _ hw (by decide)), fun t => absurd t (nx _ _ hw (by decide)), fun _ => go 113 tPass 0 (by unfold kTx; simp) hw ?_, fun t => absurd t (nx _ _ hw (by decide)), fun t => absurd t (nx _ _ hw (by decide)), fun t => absurd t (nx _ _ hw (by decide)), fun _ _ n3 _ _ _ => absurd (by rw [hw]; decide) n3⟩
    rw [pParts_0] at er' fin1
    refine nB_X6_command_157 ⟨fun _ => C_pNum hc (lo := 1) (hi := 60) rfl rfl (by decide) (by decide) q1 (fun v a' hv τ c2 e2 q2 f2 g2 => ⟨_, rfl, Call.zo fun okτ _ => nS_X6_passCommand ⟨_, rfl, fin1 v a' 301 τ _ _ _ (by rw [hv]) (by decide) rfl q2 (by omega) f2 (g1.tr g2) okτ⟩⟩) (fun er he => (er' er (by rw [he])).zk), fun t => absurd t (by decide), fun t => absurd t (by decide), fun t => absurd t (by decide), fun t => absurd t (by decide), fun t => absurd t (by decide), fun t => absurd t (by decide)⟩
  · refine ⟨fun _ => go 108 tFair 1 (by unfold kTx; simp) hw ?_, fun t => absurd t (nx _ _ hw (by decide)), fun t => absurd t (nx _ _ hw (by decide)), fun t => absurd t (nx _ _ hw (by decide)), fun t => absurd t (nx _ _ hw (by decide)), fun t => absurd t (nx _ _ hw (by decide)), fun n1 _ _ _ _ _ => absurd (by rw [hw]; decide) n1⟩
    obtain ⟨a1, hF⟩ := hG.2.2.1
    refine nB_X6_command_157 ⟨fun t => absurd t (by decide), fun _ => ⟨a1, hF, kok 0 0 A rfl ν1 _ _ _ (zsz ν) (q1.mo (by omega) (by omega)) hz0 f1 g1 ⟨a1, rfl, fun t => absurd rfl t, fun t => by dsimp only at t; omega⟩⟩, fun t => absurd t (by decide), fun t => absurd t (by decide), fun t => absurd t (by decide), fun t => absurd t (by decide), fun t => absurd t (by decide)⟩
  · refine ⟨fun t => absurd t (nx _ _ hw (by decide)), fun t => absurd t (nx _ _ hw (by decide)), fun t => absurd t (nx _ _ hw (by decide)), fun _ => go 114 tTest 2 (by unfold kTx; simp) hw ?_, fun t => absurd t (nx _ _ hw (by decide)), fun t => absurd t (nx _ _ hw (by decide)), fun _ _ _ n4 _ _ => absurd (by rw [hw]; decide) n4⟩
    rw [pParts_2] at er' fin2
    refine nB_X6_command_157 ⟨fun t => absurd t (by decide), fun t => absurd t (by decide), fun _ => ⟨x, h74, s, h0x, C_pMustV (r := r) (V := V) hc q1 (fun q w Q' E' hs kt kf => mV q1 q w Q' E' hs kt kf) hV (fun v a1 hv hvV τ c2 e2 q2 f2 g2 => ⟨_, rfl, nS_X6_testCommand ⟨x, q2.2.1.2.2.1, s, ((q2.2.2.2.same hc.1.1 id).2.1 0).trans hx0, Call.zq <| C_pMustE (r := r) (K := K) hc q2 (fun q w Q' E' hs kt kf => mE q2 q w Q' E' hs kt kf) hK (fun u a2 hu huK τ3 c3 e3 q3 f3 g3 ok3 _ => ⟨_, rfl, _, rfl, fin2 v u a2 303 τ3 _ _ _ (by rw [hv]; dsimp only; rw [hu]) (by decide) rfl q3 (by have := q2.2.2.2.1.1; omega) f3 ((g1.tr g2).tr g3) ok3⟩) (fun er he => (er' er (by rw [hv]; dsimp only; rw [he])).zk.zk)⟩⟩) (fun er he => (er' er (by rw [he])).zk)⟩, fun t => absurd t (by decide), fun t => absurd t (by decide), fun t => absurd t (by decide), fun t => absurd t (by decide)⟩
  · refine ⟨fun t => absurd t (nx _ _ hw (by decide)), fun t => absurd t (nx _ _ hw (by decide)), fun t => absurd t (nx _ _ hw (by decide)), fun t => absurd t (nx _ _ hw (by decide)), fun t => absurd t (nx _ _ hw (by decide)), fun _ => go 115 tDismiss 3 (by unfold kTx; simp) hw ?_, fun _ _ _ _ _ n6 => absurd (by rw [hw]; decide) n6⟩
    rw [pParts_3] at er' fin1
    refine nB_X6_command_157 ⟨fun t => absurd t (by decide), fun t => absurd t (by decide), fun t => absurd t (by decide), fun _ => ⟨x, h74, s, h0x, C_pMustE (r := r) (K := K) hc q1 (fun q w Q' E' hs kt kf => mE q1 q w Q' E' hs kt kf) hK (fun v a' hv hvV τ c2 e2 q2 f2 g2 => ⟨_, rfl, Call.zo fun okτ _ => nS_X6_dismissCommand ⟨_, rfl, fin1 v a' 304 τ _ _ _ (by rw [hv]) (by decide) rfl q2 (by have := q1.2.2.2.1.1; omega) f2 (g1.tr g2) okτ⟩⟩) (fun er he => (er' er (by rw [he])).zk)⟩, fun t => absurd t (by decide), fun t => absurd t (by decide), fun t => absurd t (by decide)⟩
  · refine ⟨fun t => absurd t (nx _ _ hw (by decide)), fun t => absurd t (nx _ _ hw (by decide)), fun t => absurd t (nx _ _ hw (by decide)), fun t => absurd t (nx _ _ hw (by decide)), fun _ => go 116 tWage 4 (by unfold kTx; simp) hw ?_, fun t => absurd t (nx _ _ hw (by decide)), fun _ _ _ _ n5 _ => absurd (by rw [hw]; decide) n5⟩
    rw [pParts_4] at er' fin2
    refine nB_X6_command_157 ⟨fun t => absurd t (by decide), fun t => absurd t (by decide), fun t => absurd t (by decide), fun t => absurd t (by decide), fun _ => ⟨x, h74, s, h0x, C_pMustV (r := r) (V := V) hc q1 (fun q w Q' E' hs kt kf => mV q1 q w Q' E' hs kt kf) hV (fun v a1 hv hvV τ c2 e2 q2 f2 g2 => ⟨_, rfl, nS_X6_wageCommand (Call.zq <| C_pNum hc (lo := 1) (hi := 99) rfl rfl (by decide) (by decide) q2 (fun u a2 hu τ3 c3 e3 q3 f3 g3 ok3 _ => ⟨_, rfl, _, rfl, fin2 v u a2 305 τ3 _ _ _ (by rw [hv]; dsimp only; rw [hu]) (by decide) rfl q3 (by have := q2.2.2.2.1.1; omega) f3 ((g1.tr g2).tr g3) ok3⟩) (fun er he => (er' er (by rw [hv]; dsimp only; rw [he])).zk.zk))⟩) (fun er he => (er' er (by rw [he])).zk)⟩, fun t => absurd t (by decide), fun t => absurd t (by decide)⟩
  · refine ⟨fun t => absurd t (nx _ _ hw (by decide)), fun _ => go 117 tFund 5 (by unfold kTx; simp) hw ?_, fun t => absurd t (nx _ _ hw (by decide)), fun t => absurd t (nx _ _ hw (by decide)), fun t => absurd t (nx _ _ hw (by decide)), fun t => absurd t (nx _ _ hw (by decide)), fun _ n2 _ _ _ _ => absurd (by rw [hw]; decide) n2⟩
    rw [pParts_5] at er' fin2
    refine nB_X6_command_157 ⟨fun t => absurd t (by decide), fun t => absurd t (by decide), fun t => absurd t (by decide), fun t => absurd t (by decide), fun t => absurd t (by decide), fun _ => ⟨x, h74, s, h0x, C_pMustV (r := r) (V := V) hc q1 (fun q w Q' E' hs kt kf => mV q1 q w Q' E' hs kt kf) hV (fun v a1 hv hvV τ c2 e2 q2 f2 g2 => ⟨_, rfl, nS_X6_fundCommand (Call.zq <| C_pNum hc (lo := 1) (hi := 999) rfl rfl (by decide) (by decide) q2 (fun u a2 hu τ3 c3 e3 q3 f3 g3 ok3 _ => ⟨_, rfl, _, rfl, fin2 v u a2 306 τ3 _ _ _ (by rw [hv]; dsimp only; rw [hu]) (by decide) rfl q3 (by have := q2.2.2.2.1.1; omega) f3 ((g1.tr g2).tr g3) ok3⟩) (fun er he => (er' er (by rw [hv]; dsimp only; rw [he])).zk.zk))⟩) (fun er he => (er' er (by rw [he])).zk)⟩, fun t => absurd t (by decide)⟩
  · refine ⟨fun t => absurd t (nx _ _ hw (by decide)), fun t => absurd t (nx _ _ hw (by decide)), fun t => absurd t (nx _ _ hw (by decide)), fun t => absurd t (nx _ _ hw (by decide)), fun t => absurd t (nx _ _ hw (by decide)), fun t => absurd t (nx _ _ hw (by decide)), fun _ _ _ _ _ _ => ?_⟩
    rw [pParts_6] at er' fin1
    refine nB_X6_command_157 ⟨fun t => absurd t (by decide), fun t => absurd t (by decide), fun t => absurd t (by decide), fun t => absurd t (by decide), fun t => absurd t (by decide), fun t => absurd t (by decide), fun _ => ⟨x, h74, s, h0x, C_pMustE (r := r) (K := K) hc q1 (fun q w Q' E' hs kt kf => mE q1 q w Q' E' hs kt kf) hK (fun v a' hv hvV τ c2 e2 q2 f2 g2 => ⟨_, rfl, Call.zo fun okτ _ => nS_X6_trainCommand ⟨_, rfl, fin1 v a' 307 τ _ _ _ (by rw [hv]) (by decide) rfl q2 (by have := q1.2.2.2.1.1; omega) f2 (g1.tr g2) okτ⟩⟩) (fun er he => (er' er (by rw [he])).zk)⟩⟩
end ZJ
