set_option maxRecDepth 100000
/-! THE COMPONENT, 27: a fair -/
theorem zSm.cg {r r' : Nat → Int32} {K V : Nat} (h : zSm K V r) (k : sKp r r') (hK : K ≤ 12) (hV : V ≤ 8) : zSm K V r' := by
  obtain ⟨h1, h2⟩ := h
  have sE : ∀ v e, v < V → e < K → sSeen r' v e = sSeen r v e := fun v e hv he => by
    unfold sSeen sTrue
    rw [k.P (by omega) (by omega), k.E (u := 8) (by decide) (by omega), k.E (u := 7) (by decide) (by omega), k.V (w := 7) (by decide) (by omega)]
  refine ⟨fun v o hv ho => ?_, fun v e o hv he ho => ?_⟩
  · rw [k.V (w := 9) (by decide) (by omega), k.V (w := 9) (by decide) (by omega)]; exact h1 v o hv ho
  · rw [sE v e hv he, sE v o hv ho]; exact h2 v e o hv he ho
section ZJ
variable {G : ZG} {μ : ZM} {Q : Option ZV → ZM → Prop} {E : ZP → ZM → Prop} {lo hi s K V F fg el ear vl var ds dm sm : Nat} {ea va ta sa : Nat → Nat} {r : Nat → Int32} {z1 z2 z3 : Int32}
theorem C_sSign (v e n : Nat) (h1 : z1 = nI v) (h2 : z2 = nI e) (hv : v < V) (he : e < K) (hn : wV r v 13 = nI n) (hn3 : n < 3) (hh : hi ≤ zsz μ) (h : zSta μ lo hi s r K V F fg el ear vl var ds dm sm ea va ta sa)
    (k : ∀ ν, zSta ν lo hi s (sComes r v e n) K V F fg el ear vl var ds dm sm ea va ta sa → zG (zWl lo μ) 0 0 μ ν → zsz ν = zsz μ → zfr ν = zfr μ → (∀ a i, hi ≤ a → zai ν a i = zai μ a i) → Q none ν) : Call G Y_X2_sign [vP (2, 0, s), vI z1, vI z2] μ Q E := by
  subst h1; subst h2
  have hK := h.1.2.1.2.2.2.1
  have hV := h.1.2.1.2.2.2.2.1
  refine Call.zo fun hok hargs => ?_
  obtain ⟨hs2, hsz⟩ := tg_arg hargs (by decide) (by decide)
  obtain ⟨w1, w2⟩ := h.ow hok
  have hsa : sa v < zsz μ := by have := (h.2.2.1.2.2.1 v hv).2.2.1.2; omega
  have hva : va v < zsz μ := by have := (h.2.2.1.2.2.1 v hv).1.2; omega
  have hea : ea e < zsz μ := by have := (h.2.1.2.2.1 e he).2; omega
  have c13 := (h.eV hv 13 (by decide)).trans hn
  have a1 := h.stK hok hh hv n hn3 (x := nI e)
  have k1 := hok.zAi hsa n (nI e)
  have st : ∀ i, i < 3 → nI i < nI (n + 1) → zai (zAi μ (sa v) n (nI e)) (sa v) i = wV (wU r (203 + 17 * v + (14 + n)) (nI e)) v (14 + i) := fun i hi hlt => by
    have hin : i < n + 1 := (nI_ltI (by omega) (by omega)).mp hlt
    rw [zai_zAi]
    by_cases q : i = n
    · subst q; rw [if_pos ⟨rfl, rfl⟩]; exact wU_s.symm
    · rw [if_neg (fun q2 => q q2.2)]
      have := h.2.2.1.2.2.2.2.2.2.2 v i hv hi (by rw [hn]; exact nI_lt (by omega) (by omega))
      rw [this]
      show r (203 + 17 * v + (14 + i)) = wU r _ _ (203 + 17 * v + (14 + i))
      exact (wU_n (by omega)).symm
  have a2 := a1.stV k1 hh hv 13 (by decide) (x := nI (n + 1)) (fun _ => st)
  have k2 := k1.zFi (fV 13) hva (nI (n + 1))
  have a3 := a2.stE k2 hh he 13 (by decide) (x := nI v) (y := nI (v + 1)) (by rw [show oE 13 = 1 from rfl, nI_pred])
  have k3 := k2.zFi (fE 13) hea (nI v)
  have e5 : zfi (zFi (zFi (zAi μ (sa v) n (nI e)) 37 (va v) (nI (n + 1))) 28 (ea e) (nI v)) 19 s = r 5 := h.1.2.2.1 5 (by decide)
  have a4 := a3.stS k3 hh hs2 5 (by decide) (x := r 5 + 1)
  have hwS : zWl lo μ s := ⟨h.1.1.1, by rw [hs2]; unfold zim; omega⟩
  have g : zG (zWl lo μ) 0 0 μ (zFi (zFi (zFi (zAi μ (sa v) n (nI e)) 37 (va v) (nI (n + 1))) 28 (ea e) (nI v)) 19 s (r 5 + 1)) := (((zG.ai (w2 v hv).2.2).tr (zG.fi (w2 v hv).1)).tr (zG.fi (w1 e he))).tr (zG.fi hwS)
  refine S_X2_sign (C_sValley v rfl hv h ⟨_, rfl, _, rfl, S_X4_hire ⟨_, _, (h.2.2.1.2.2.2.2.2.1 v hv).2, _, c13, n, zix.eq rfl (by omega) (by omega), ⟨rfl, ?_⟩⟩⟩)
  rw [nI_1]
  exact C_sEcho e rfl he a2 ⟨_, rfl, _, rfl, _, h.1.2.2.1 5 (by decide), k _ a4 g rfl rfl (fun a i ha => by
    show zai (zAi μ (sa v) n (nI e)) a i = _
    have := (h.2.2.1.2.2.1 v hv).2.2.1.2
    rw [zai_zAi, if_neg (fun q => by have := q.1; omega)])⟩
/-- the kept echoes sign -/
theorem L_sign {rz po : Nat} {sl kl : Nat → List Nat} {pp : Nat → Nat} {B : Nat} (hs : sStaff r K V sl pp) (hu : sUn r B)
    (h1 : ∀ w, w < 8 → ∀ x, x ∈ kl w → x < K ∧ ¬ 0 < wE r x 13) (h2 : ∀ v w x, v < 8 → w < 8 → x ∈ kl v → x ∈ kl w → v = w) (h3 : ∀ v, v < V → (sl v).length + (kl v).length ≤ pp v)
    (hrz : hi ≤ rz ∧ rz < zsz μ ∧ (ztg μ rz).1 = 200) (hlh : hi ≤ zsz μ) {x0 : Int32}
    (hres : zRes μ rz K V r kl)
    (Kc : ∀ ρ, zSta ρ lo hi s (sSignV kl K V r) K V F fg el ear vl var ds dm sm ea va ta sa → zG (zWl lo μ) 0 0 μ ρ → zsz ρ = zsz μ → zfr ρ = zfr μ → Q (some (vI (sSignV kl K V r 5 - x0))) ρ) :
    ∀ (c v : Nat) (ν : ZM), v + c = V → zSta ν lo hi s (sSignV kl K v r) K V F fg el ear vl var ds dm sm ea va ta sa → zG (zWl lo μ) 0 0 μ ν → zsz ν = zsz μ → zfr ν = zfr μ → (∀ i, zai ν rz i = zai μ rz i) →
      Wp G Y_X2_fair 19 [(0, vP (2, 0, s)), (1, vI x0), (2, vP (200, K, rz)), (3, vI (nI v))] [] ν Q E := by
  intro c
  induction c with
  | zero =>
    intro v ν hvc h hg hz hf hr
    have : v = V := by omega
    subst this
    have hV := h.1.2.1.2.2.2.2.1
    exact B_X2_fair_19 ⟨_, h.1.2.2.2.1.2.2.1, C_alSize h.2.2.1.2.1 ⟨_, rfl, fun _ => ⟨_, h.1.2.2.1 5 (by decide), Kc ν h hg hz hf⟩, fun q => absurd q (nI_nlt (Nat.le_refl _) (by omega))⟩⟩
  | succ c ih =>
    intro v ν hvc h hg hz hf hr
    have hV := h.1.2.1.2.2.2.2.1
    have hK := h.1.2.1.2.2.2.1
    have hvV : v < V := by omega
    refine B_X2_fair_19 ⟨_, h.1.2.2.2.1.2.2.1, C_alSize h.2.2.1.2.1 ⟨_, rfl, fun q => absurd (nI_lt hvV (by omega)) q, fun _ => ?_⟩⟩
    have S0 := sSg.all hs hu hK hV h1 h2 h3 v (by omega)
    have row : ∀ (d e : Nat) (τ : ZM), e + d = K → zSta τ lo hi s (sSignE kl v e (sSignV kl K v r)) K V F fg el ear vl var ds dm sm ea va ta sa → zG (zWl lo μ) 0 0 μ τ → zsz τ = zsz μ → zfr τ = zfr μ → (∀ i, zai τ rz i = zai μ rz i) →
        Wp G Y_X2_fair 35 [(0, vP (2, 0, s)), (1, vI x0), (2, vP (200, K, rz)), (3, vI (nI v)), (4, vI (nI e))] [] τ Q E := by
      intro d
      induction d with
      | zero =>
        intro e τ hed h' hg' hz' hf' hr'
        have : e = K := by omega
        subst this
        refine B_X2_fair_35 ⟨_, h'.1.2.2.2.1.2.1, C_alSize h'.2.1.2.1 ⟨_, rfl, fun _ => ?_, fun q => absurd q (nI_nlt (Nat.le_refl _) (by omega))⟩⟩
        rw [nI_1]
        exact ih (v + 1) τ (by omega) h' hg' hz' hf' hr'
      | succ d ihe =>
        intro e τ hed h' hg' hz' hf' hr'
        have heK : e < K := by omega
        have S1 := S0.row hs hK hV hvV h1 h2 (h3 v hvV) e (by omega)
        obtain ⟨a1, a2, sl', a3, a4, a5, a6⟩ := id S1
        -- who the echo serves now
        have hemp : e ∈ kl v → wE (sSignE kl v e (sSignV kl K v r)) e 13 = 0 := fun hm => by
          rcases a3.emp (e := e) (by omega) with ⟨q, -⟩ | ⟨w, hw, hwV, hmw, -⟩
          · exact q
          · rcases (a4 w e hw).mp hmw with q | ⟨q1, q2⟩
            · have e1 := ((hs.1 w hw).2.2.2.2.2.2.1 e q).2
              exact absurd (by rw [e1]; exact nI_lt (a := 0) (by omega) (by omega)) (h1 v (by omega) e hm).2
            · have := h2 v w e (by omega) hw hm q1
              omega
        have hstep : sSignE kl v (e + 1) (sSignV kl K v r) = if e ∈ kl v then sComes (sSignE kl v e (sSignV kl K v r)) v e (wV (sSignE kl v e (sSignV kl K v r)) v 13).toNatClampNeg else sSignE kl v e (sSignV kl K v r) := rfl
        have skip : e ∉ kl v → ∀ τ', zSta τ' lo hi s (sSignE kl v e (sSignV kl K v r)) K V F fg el ear vl var ds dm sm ea va ta sa → τ' = τ → Wp G Y_X2_fair 35 [(0, vP (2, 0, s)), (1, vI x0), (2, vP (200, K, rz)), (3, vI (nI v)), (4, vI (nI (e + 1)))] [] τ' Q E := fun hm τ' ht et => by
          subst et
          rw [if_neg hm] at hstep
          exact ihe (e + 1) _ (by omega) (by rw [hstep]; exact ht) hg' hz' hf' hr'
        refine B_X2_fair_35 ⟨_, h'.1.2.2.2.1.2.1, C_alSize h'.2.1.2.1 ⟨_, rfl, fun q => absurd (nI_lt heK (by omega)) q, fun _ => ⟨e, zix.eq rfl heK (by omega), _, hr' e, fun q => ?_, fun q => ?_⟩⟩⟩
        · rw [nI_1]
          exact skip (fun hm => q ((hres e heK).1 v hvV hm)) τ h' rfl
        · refine C_sEcho e rfl heK h' ⟨_, rfl, _, rfl, _, h'.eE heK 13 (by decide), fun q2 => ?_, fun q2 => ?_⟩
          · rw [nI_1]
            exact skip (fun hm => q2 (by rw [hemp hm]; rfl)) τ h' rfl
          · rw [nI_1]
            have hm : e ∈ kl v := by
              apply Decidable.byContradiction
              intro hm
              by_cases hx : ∃ w, w < V ∧ e ∈ kl w
              · obtain ⟨w, hw, hmw⟩ := hx
                have := (hres e heK).1 w hw hmw
                rw [q] at this
                have := (nI_eq (by omega) (by omega)).mp this
                subst this
                exact hm hmw
              · have := (hres e heK).2 (fun w hw hmw => hx ⟨w, hw, hmw⟩)
                rw [q] at this
                -- it serves v from the start
                have h13 : wE r e 13 = nI (v + 1) := by rw [← nI_1, this, Int32.sub_add_cancel]
                rcases hs.emp (e := e) (by omega) with ⟨q3, -⟩ | ⟨w, hw, hwV, hmw, q3⟩
                · rw [q3] at h13
                  have := (nI_eq (a := 0) (b := v + 1) (by omega) (by omega)).mp h13
                  omega
                · rcases a3.emp (e := e) (by omega) with ⟨-, q4⟩ | ⟨w', hw', hwV', hmw', q4⟩
                  · exact q4 w hw ((a4 w e hw).mpr (Or.inl hmw))
                  · rw [q4, show oE 13 = 1 from rfl, nI_pred] at q2
                    exact nI_pos (n := w') (by omega) (by rw [q2]; decide)
            obtain ⟨b1, b2, b3, b4, -⟩ := a3.1 v (by omega)
            have a6' := a6 (by omega)
            have hle := sHas_le (kl v) (e + 1)
            rw [sHas_succ, if_pos hm] at hle
            have h3' := h3 v hvV
            have hn3 : (sl' v).length < 3 := by
              have := (hs.1 v (by omega)).2.2.2.1
              omega
            rw [if_pos hm, b1, nI_clamp (by omega)] at hstep
            refine C_sSign v e (sl' v).length rfl rfl hvV heK b1 hn3 (by omega) h' fun σ j1 j2 j3 j4 j5 => ⟨rfl, ?_⟩
            rw [← hstep] at j1
            refine ihe (e + 1) σ (by omega) j1 (zG.wl hg' j2) (j3.trans hz') (j4.trans hf') (fun i => ?_)
            rw [← hr' i]; exact j5 rz i hrz.1
    exact row K 0 ν (by omega) h hg hz hf hr
theorem C_sFair (p : Nat) {po : Nat → Nat} {B : Nat} (hp : p = 1 ∨ (p = 0 ∧ ∀ v e, v < V → e < K → ¬ wP r v e 1 = 1)) (hw : sW r K V po B) (hsm : zSm K V r) (hh : hi ≤ zsz μ) (hI : zIc G μ) (h : zSta μ lo hi s r K V F fg el ear vl var ds dm sm ea va ta sa)
    (k : ∀ ρ, zSta ρ lo hi s (sFair r K V) K V F fg el ear vl var ds dm sm ea va ta sa → zGt lo (10 + 96 * p) (374 + 192 * p) sm dm μ ρ → zIc G ρ → Q (some (vI (sFair r K V 5 - r 5))) ρ) : Call G Y_X2_fair [vP (2, 0, s)] μ Q E := by
  have hK := h.1.2.1.2.2.2.1
  have hV := h.1.2.1.2.2.2.2.1
  obtain ⟨sl, hs⟩ := hw.2.2.2.2.1
  obtain ⟨c1, c2⟩ := sKept_in r K hV
  obtain ⟨n1, n2⟩ := sRun_len r V 300 (sFree r K) (fun _ _ => false) (fun _ => []) (fun v _ => by simp) (fun v _ => rfl)
  have hpo : ∀ v, v < 8 → wV r v 8 - wV r v 13 = nI (po v - (sl v).length) ∧ sPosts r v = po v - (sl v).length ∧ (sl v).length ≤ po v ∧ po v ≤ 3 := fun v hv => by
    obtain ⟨b1, b2, b3, b4, -⟩ := hs.1 v hv
    have e0 : wV r v 8 - wV r v 13 = nI (po v - (sl v).length) := by rw [b1, b2, pk_sub b3]
    refine ⟨e0, ?_, b3, b4⟩
    unfold sPosts
    rw [e0]; exact nI_clamp (by omega)
  have h3 : ∀ v, v < V → (sl v).length + (sKept r K V v).length ≤ po v := fun v hv => by
    obtain ⟨a1, a2, a3, a4⟩ := hpo v (by omega)
    have hn := n1 v hv
    rw [a2] at hn
    have : (sKept r K V v).length ≤ po v - (sl v).length := hn
    omega
  refine Call.zo fun hok hargs => ?_
  obtain ⟨hs2, hsz⟩ := tg_arg hargs (by decide) (by decide)
  refine S_X2_fair ⟨_, h.1.2.2.1 5 (by decide), ?_⟩
  have gM : zG (fun _ => False) 1 9 μ (zNew μ 8 0 9) := zG.nw
  have eM : zsz (zNew μ 8 0 9) = zsz μ + 1 := rfl
  refine Call.zo fun hokM _ => ?_
  refine Call.zq (C_mInit (M := zsz μ) (hi := hi) p hp rfl (by rw [ztg_zNew, if_pos rfl]) hh hokM (h.nw hok hh gM) (hI.nw hok gM) fun ν hν hmt hIν gν zν hokν _ => ⟨rfl, ?_⟩)
  have hzν := gν.1.1
  refine Call.zq (C_mResult (M := zsz μ) (rr := r) (fun _ _ => rfl) hsm (fun v hv => ?_) (fun e he => ?_) (fun e v w hv hw q1 q2 => c2 v w e (by omega) (by omega) q1 q2) ?_ hh ?_ ?_ hν hmt hIν fun ρ rz hρ _ hIρ hres gρ z1 z2 z3 hokρ _ => ?_)
  · obtain ⟨a1, a2, a3, a4⟩ := hpo v (by omega)
    rw [a2]; exact ⟨a1, by omega⟩
  · rcases hs.emp (e := e) (by omega) with ⟨q, -⟩ | ⟨v, hv, -, -, q⟩
    · exact Or.inl q
    · exact Or.inr (by rw [q]; exact nI_lt (a := 0) (by omega) (by omega))
  · unfold zAd; omega
  · omega
  · omega
  have gA : zG (fun _ => False) (1 + (6 + 96 * p)) (9 + (336 + 192 * p)) μ ν := zG.trN (W := fun _ => False) gM (gν.mono (fun a _ q => Or.inr (by rw [q]; exact Nat.le_refl _)) (Nat.le_refl _) (Nat.le_refl _))
  have gB : zG (fun _ => False) (1 + (6 + 96 * p) + 3) (9 + (336 + 192 * p) + 29) μ ρ := zG.trN (W := fun _ => False) gA (gρ.mono (fun a _ q => Or.inr (by omega)) (Nat.le_refl _) (Nat.le_refl _))
  have hzρ := gρ.1.1
  refine ⟨_, rfl, _, _, rfl, L_sign (μ := ρ) (kl := sKept r K V) (rz := rz) (pp := po) (po := 0) (B := B) hs hw.2.2.2.2.2 (fun w hw => (c1 w hw).2) c2 h3 ⟨by omega, z2, z3⟩ (by omega) hres (fun τ hτ gτ zτ fτ => ?_) V 0 ρ (by omega) hρ ((zG.rf _ _).mono (fun _ _ q => q) (Nat.le_refl _) (Nat.le_refl _)) rfl rfl (fun _ => rfl)⟩
  refine k τ hτ (((zGt.no (lo := lo) gB (h.dsm hh).1 (h.dsm hh).2).tr (zGt.of gτ fτ)).mo (by omega) (by omega)) (hIρ.wl hokρ gτ)
end ZJ
