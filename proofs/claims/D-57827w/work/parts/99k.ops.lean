set_option maxRecDepth 100000
/-! THE COMPONENT, 30: operations on a State -/
section ZJ
variable {G : ZG} {μ : ZM} {Q : Option ZV → ZM → Prop} {E : ZP → ZM → Prop} {lo hi s K V F fg el ear vl var ds dm sm : Nat} {ea va ta sa : Nat → Nat} {r : Nat → Int32} {z1 z2 z3 : Int32}
/-- an operation throws: an exception is made -/
def zIse (μ : ZM) (E : ZP → ZM → Prop) : Prop := E (25, 0, zsz μ) (zNew μ 25 0 6)
theorem C_sTest (v e : Nat) (h1 : z1 = nI v) (h2 : z2 = nI e) (hv : v < V) (he : e < K) (hh : hi ≤ zsz μ) (hm : zMem r V e) (h : zSta μ lo hi s r K V F fg el ear vl var ds dm sm ea va ta sa)
    (k : sTestOk r v e → ∀ ν, zSta ν lo hi s (sTest r v e) K V F fg el ear vl var ds dm sm ea va ta sa → zG (zWl lo μ) 0 0 μ ν → zfr ν = zfr μ → Q (some (vI (sTrue r v e))) ν) (kx : ¬ sTestOk r v e → zIse μ E) : Call G Y_X2_test [vP (2, 0, s), vI z1, vI z2] μ Q E := by
  subst h1; subst h2
  have hK := h.1.2.1.2.2.2.1
  have hV := h.1.2.1.2.2.2.2.1
  have ht := h.2.2.1.2.2.2.2.2.2.1 v e hv (by omega)
  have bad : ¬ sTestOk r v e → Wp G Y_X2_test 30 [(0, vP (2, 0, s)), (1, vI (nI v)), (2, vI (nI e))] [vI 0] μ Q E := fun hn => B_X2_test_30 (S_X1_checkState ⟨fun q => absurd rfl q, fun _ => ⟨rfl, kx hn⟩⟩)
  refine Call.zo fun hok hargs => S_X2_test (C_sValley v rfl hv h ⟨_, rfl, _, rfl, _, _, (h.2.2.1.2.2.2.2.2.1 v hv).1, e, zix.eq rfl (by omega) (by omega), _, ht.1, fun q => ?_, fun q => ?_⟩)
  · exact bad (fun ok => q ok.1)
  · refine C_sEcho e rfl he h ⟨_, rfl, _, rfl, _, h.eE he 13 (by decide), fun q2 => bad (fun ok => ?_), fun q2 => ?_⟩
    · rcases hm with q3 | ⟨w, n, hw, q3, -⟩
      · exact q2 (by rw [q3]; rfl)
      · exact ok.2 (by rw [q3]; exact nI_lt (a := 0) (by omega) (by omega))
    · have ok : sTestOk r v e := ⟨q, by
        rcases hm with q3 | ⟨w, n, hw, q3, -⟩
        · rw [q3]; decide
        · rw [q3, show oE 13 = 1 from rfl, nI_pred] at q2
          exact absurd (by rw [q2]; decide) (nI_pos (n := w) (by omega))⟩
      have a := h.stT hok hh hv (e := e) (by omega) (x := 1) (Or.inr rfl)
      have g : zG (zWl lo μ) 0 0 μ (zAi μ (ta v) e 1) := zG.ai ((h.ow hok).2 v hv).2.1
      have et : sTrue (wU r (iP v e 0) 1) v e = sTrue r v e := by
        have e1 : ∀ u, u < 15 → wE (wU r (iP v e 0) 1) e u = wE r e u := fun u hu => wU_n (by unfold iP; omega)
        have e2 : wV (wU r (iP v e 0) 1) v 7 = wV r v 7 := wU_n (by unfold iP; omega)
        unfold sTrue
        rw [e1 8 (by decide), e1 7 (by decide), e2]
      refine B_X2_test_30 (S_X1_checkState ⟨fun _ => ⟨rfl, C_sValley v rfl hv h ⟨_, rfl, _, rfl, _, _, (h.2.2.1.2.2.2.2.2.1 v hv).1, e, zix.eq rfl (by omega) (by omega), C_sValley v rfl hv a ⟨_, rfl, _, rfl, C_sEcho e rfl he a ⟨_, rfl, _, rfl, C_sTrue v e hv he a ⟨_, rfl, ?_⟩⟩⟩⟩⟩, fun q => absurd q (by decide)⟩)
      rw [et]
      exact k ok _ a g rfl
theorem C_sDismiss (e : Nat) {po : Nat → Nat} {B : Nat} (h1 : z1 = nI e) (he : e < K) (hw : sW r K V po B) (hh : hi ≤ zsz μ) (h : zSta μ lo hi s r K V F fg el ear vl var ds dm sm ea va ta sa)
    (k : 0 < wE r e 13 → ∀ ν, zSta ν lo hi s (sEnd r e) K V F fg el ear vl var ds dm sm ea va ta sa → zG (zWl lo μ) 0 0 μ ν → zfr ν = zfr μ → Q (some (vI (wE r e 13 - 1))) ν) (kx : ¬ 0 < wE r e 13 → zIse μ E) : Call G Y_X2_dismiss [vP (2, 0, s), vI z1] μ Q E := by
  subst h1
  refine S_X2_dismiss (C_sEcho e rfl he h ⟨_, rfl, _, rfl, _, h.eE he 13 (by decide), fun q => S_X1_checkState ⟨fun q => absurd rfl q, fun _ => ⟨rfl, kx ?_⟩⟩, fun q => S_X1_checkState ⟨fun _ => ⟨rfl, C_sEndW e rfl he hw ?_ hh h fun ν k1 k2 k3 k4 => ⟨_, rfl, k ?_ ν k1 k2 k4⟩⟩, fun q => absurd q (by decide)⟩⟩)
  · rcases hw.mem he with q3 | ⟨w, n, hw, q3, -⟩
    · rw [q3]; decide
    · have hV := h.1.2.1.2.2.2.2.1
      rw [q3, show oE 13 = 1 from rfl, nI_pred] at q
      exact absurd (by rw [q]; decide) (nI_pos (n := w) (by omega))
  all_goals
    rcases hw.mem he with q3 | ⟨w, n, hw, q3, -⟩
    · exact absurd (by rw [q3]; rfl) q
    · have hV := h.1.2.1.2.2.2.2.1
      rw [q3]; exact nI_lt (a := 0) (by omega) (by omega)
theorem C_sSetWage (v : Nat) (h1 : z1 = nI v) (hv : v < V) (hh : hi ≤ zsz μ) (h : zSta μ lo hi s r K V F fg el ear vl var ds dm sm ea va ta sa)
    (k : ∀ ν, zSta ν lo hi s (sWage r v z2) K V F fg el ear vl var ds dm sm ea va ta sa → zG (zWl lo μ) 0 0 μ ν → zfr ν = zfr μ → Q (some (vI (wV r v 9))) ν) : Call G Y_X2_setWage [vP (2, 0, s), vI z1, vI z2] μ Q E := by
  subst h1
  refine Call.zo fun hok _ => S_X2_setWage (C_sValley v rfl hv h ⟨_, rfl, _, rfl, _, h.eV hv 9 (by decide), C_sValley v rfl hv h ⟨_, rfl, _, rfl, ?_⟩⟩)
  exact k _ (h.stV hok hh hv 9 (by decide) (x := z2) (fun e => by cases e)) (zG.fi ((h.ow hok).2 v hv).1) rfl
theorem C_sFund (v : Nat) (h1 : z1 = nI v) (hv : v < V) (hh : hi ≤ zsz μ) (h : zSta μ lo hi s r K V F fg el ear vl var ds dm sm ea va ta sa)
    (k : ∀ ν, zSta ν lo hi s (sFund r v z2) K V F fg el ear vl var ds dm sm ea va ta sa → zG (zWl lo μ) 0 0 μ ν → zfr ν = zfr μ → Q (some (vI (wV r v 10 + z2))) ν) : Call G Y_X2_fund [vP (2, 0, s), vI z1, vI z2] μ Q E := by
  subst h1
  have hV := h.1.2.1.2.2.2.2.1
  refine Call.zo fun hok hargs => ?_
  obtain ⟨hs2, hsz⟩ := tg_arg hargs (by decide) (by decide)
  have hva : va v < zsz μ := by have := (h.2.2.1.2.2.1 v hv).1.2; omega
  have a1 := h.stV hok hh hv 10 (by decide) (x := wV r v 10 + z2) (fun e => by cases e)
  have k1 := hok.zFi (fV 10) hva (wV r v 10 + z2)
  have a2 := a1.stS k1 hh hs2 9 (by decide) (x := r 9 + z2)
  have hwS : zWl lo μ s := ⟨h.1.1.1, by rw [hs2]; unfold zim; omega⟩
  have g : zG (zWl lo μ) 0 0 μ (zFi (zFi μ 36 (va v) (wV r v 10 + z2)) 17 s (r 9 + z2)) := (zG.fi ((h.ow hok).2 v hv).1).tr (zG.fi hwS)
  have e10 : wV (wU (wU r (203 + 17 * v + 10) (wV r v 10 + z2)) 9 (r 9 + z2)) v 10 = wV r v 10 + z2 := by
    show wU (wU r _ _) _ _ (203 + 17 * v + 10) = _
    rw [wU_n (by omega), wU_s]
  have x10 := a2.eV hv 10 (by decide)
  rw [e10] at x10
  refine S_X2_fund (C_sValley v rfl hv h ⟨_, rfl, _, rfl, _, h.eV hv 10 (by decide), _, h.1.2.2.1 9 (by decide), C_sValley v rfl hv a2 ⟨_, rfl, _, rfl, _, x10, k _ a2 g rfl⟩⟩)
theorem C_sTrain (e : Nat) (h1 : z1 = nI e) (he : e < K) (hh : hi ≤ zsz μ) (h : zSta μ lo hi s r K V F fg el ear vl var ds dm sm ea va ta sa)
    (k : sTrainOk r e → ∀ ν, zSta ν lo hi s (sTrain r e) K V F fg el ear vl var ds dm sm ea va ta sa → zG (zWl lo μ) 0 0 μ ν → zfr ν = zfr μ → Q (some (vI (wE r e 8 + 1))) ν) (kx : ¬ sTrainOk r e → zIse μ E) : Call G Y_X2_train [vP (2, 0, s), vI z1] μ Q E := by
  subst h1
  have hK := h.1.2.1.2.2.2.1
  refine Call.zo fun hok hargs => ?_
  obtain ⟨hs2, hsz⟩ := tg_arg hargs (by decide) (by decide)
  have e8 := h.eE he 8 (by decide)
  have e11 := h.eE he 11 (by decide)
  rw [show oE 8 = 0 from rfl, i32_s0] at e8
  rw [show oE 11 = 0 from rfl, i32_s0] at e11
  have bad : ¬ sTrainOk r e → Wp G Y_X2_train 33 [(0, vP (2, 0, s)), (2, vP (3, 0, ea e)), (3, vI (10 * wE r e 8))] [vI 0] μ Q E := fun hn => B_X2_train_33 (S_X1_checkState ⟨fun q => absurd rfl q, fun _ => ⟨rfl, kx hn⟩⟩)
  refine S_X2_train (C_sEcho e rfl he h ⟨_, rfl, _, rfl, S_X3_trainingCost ⟨_, e8, _, rfl, _, e8, fun q => bad (fun ok => q ok.1), fun q => ⟨_, e11, fun q2 => bad (fun ok => ok.2 q2), fun q2 => ?_⟩⟩⟩)
  have ok : sTrainOk r e := ⟨q, q2⟩
  have hea : ea e < zsz μ := by have := (h.2.1.2.2.1 e he).2; omega
  have a1 := h.stE hok hh he 11 (by decide) (x := wE r e 11 - 10 * wE r e 8) (y := wE r e 11 - 10 * wE r e 8) (by rw [show oE 11 = 0 from rfl, i32_s0])
  have k1 := hok.zFi (fE 11) hea (wE r e 11 - 10 * wE r e 8)
  have a2 := a1.stS k1 hh hs2 10 (by decide) (x := r 10 + 10 * wE r e 8)
  have k2 := k1.zFi (fS 10) hsz (r 10 + 10 * wE r e 8)
  have a3 := a2.stE k2 hh he 8 (by decide) (x := wE r e 8 + 1) (y := wE r e 8 + 1) (by rw [show oE 8 = 0 from rfl, i32_s0])
  have hrow : wU (wU (wU r (23 + 15 * e + 11) (wE r e 11 - 10 * wE r e 8)) 10 (r 10 + 10 * wE r e 8)) (23 + 15 * e + 8) (wE r e 8 + 1) = sTrain r e := by
    unfold sTrain
    rw [wU_comm (i := 10) (j := 23 + 15 * e + 8) (by omega)]
  rw [hrow] at a3
  have hwS : zWl lo μ s := ⟨h.1.1.1, by rw [hs2]; unfold zim; omega⟩
  have wE' := (h.ow hok).1 e he
  refine B_X2_train_33 (S_X1_checkState ⟨fun _ => ⟨rfl, _, e11, _, h.1.2.2.1 10 (by decide), _, e8, k ok _ a3 ((((zG.fi wE').tr (zG.fi hwS))).tr (zG.fi wE')) rfl⟩, fun q => absurd q (by decide)⟩)
end ZJ
