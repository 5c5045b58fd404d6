set_option maxRecDepth 100000
/-! THE COMPONENT, 55: an echo's line -/
/-- a State that is being read -/
def zBd (ν : ZM) (P : Nat) (r : Nat → Int32) (K V s lo hi F fg el ear vl var ds dm sm : Nat) (ea va ta sa : Nat → Nat) : Prop := zSta ν lo hi s (wU r 7 0) K V F fg el ear vl var ds dm sm ea va ta sa ∧ (hi ≤ zsz ν ∧ P < lo ∧ (ztg ν s).1 = 2 ∧ el ≠ vl ∧ ear ≠ var ∧ P ≠ fg) ∧ zNs ν (fun a => a ≤ P) hi K V ea va r
section ZJ
variable {G : ZG} {μ ν τ μ0 : ZM} {Q : Option ZV → ZM → Prop} {E : ZP → ZM → Prop} {P x bf B c e a M K V s lo hi F fg el ear vl var ds dm sm c' e' : Nat} {ea va ta sa : Nat → Nat} {r : Nat → Int32} {po : Nat → Nat} {b w : List Nat} {z z1 z2 : Int32} {q : ZP}
theorem zBd.kp {W : Nat → Prop} (h : zBd ν P r K V s lo hi F fg el ear vl var ds dm sm ea va ta sa) (hok : zok ν) (hP : (ztg ν P).1 = 6) (g : zG W c' e' ν τ) (hW : ∀ a, a < zsz ν → W a → a = P ∨ (hi ≤ a ∧ ¬ zim (ztg ν a).1)) : zBd τ P r K V s lo hi F fg el ear vl var ds dm sm ea va ta sa := by
  obtain ⟨h1, ⟨h2, h3, h4, h5, h6, h7⟩, h8, h9⟩ := h
  have sfg := h1.1.1.2.2
  have ss := h1.1.1
  refine ⟨h1.fa2 hok h2 g fun a ha w => ?_, ⟨Nat.le_trans h2 g.1.1, h3, by rw [g.1.2.2 s (by omega)]; exact h4, h5, h6, h7⟩, fun i hi' => ?_, fun v hv => ?_⟩
  · rcases hW a ha w with q | ⟨q1, q2⟩
    · rw [q]; exact ⟨Or.inl h3, h7, by rw [hP]; unfold zim; omega⟩
    · exact ⟨Or.inr q1, by omega, q2⟩
  · have := h1.2.1.2.2.1 i hi'
    rw [(g.same (a := ea i) (by omega) (fun w => by have := hW _ (by omega) w; omega)).2.1 21]
    exact (h8 i hi').kp (fun a ha hx => (g.same (by omega) (fun w => by have := hW _ (by omega) w; omega)).c)
  · have := (h1.2.2.1.2.2.1 v hv).1
    rw [(g.same (a := va v) (by omega) (fun w => by have := hW _ (by omega) w; omega)).2.1 30]
    exact (h9 v hv).kp (fun a ha hx => (g.same (by omega) (fun w => by have := hW _ (by omega) w; omega)).c)
theorem zWd.le {M' : Nat} (h : zWd G ν M q w) (k : M' ≤ M) : zWd G ν M' q w := h.imp id fun ⟨h, h1, h2, h3, h4⟩ => ⟨h, h1, by omega, by omega, h4⟩
theorem zPq.le {M' : Nat} (h : zPq G μ0 ν P x b c e a M) (k : M' ≤ M) : zPq G μ0 ν P x b c e a M' := ⟨h.1, h.2.1, ⟨h.2.2.1.1, h.2.2.1.2.1, h.2.2.1.2.2.1, h.2.2.1.2.2.2.1, h.2.2.1.2.2.2.2.le k⟩, h.2.2.2⟩
/-- a name stays where Strings and their bytes stay -/
theorem zNa.kpT {X : Nat → Prop} {D : Nat} (h : zNa ν X D q w) (hok : zok ν) (hp : zpk ν q) (k : ∀ a, a < D → ¬ X a → ((ztg ν a).1 = 23 ∨ (ztg ν a).1 = 123 ∨ (ztg ν a).1 = 202 ∨ (ztg ν a).1 = 208) → zsmC ν τ a) : zNa τ X D q w := by
  obtain ⟨⟨a1, a2, a3, a4, q', a5, a6, a7, a8, a9⟩, h2, h3⟩ := h
  have z1 : q.1 = 23 ∨ q.1 = 123 := a1
  have t1 : (ztg ν q.2.2).1 = q.1 := congrArg Prod.fst (hp.lt (by omega) (by omega)).2
  have k1 := k _ a2 h2 (by omega)
  have e : zfr τ 140 q.2.2 = zfr ν 140 q.2.2 := k1.2.1 140 (by decide) (by decide)
  have z2 : q'.1 = 202 ∨ q'.1 = 208 := a6
  have hp2 : zpk ν q' := by rw [← a5]; exact hok.2.2.2.2.2.1 140 q.2.2
  have t2 : (ztg ν q'.2.2).1 = q'.1 := congrArg Prod.fst (hp2.lt (by omega) (by omega)).2
  have k2 := k q'.2.2 a7 (by rw [← a5]; exact h3) (by omega)
  exact ⟨⟨a1, a2, (k1.1 _).trans a3, a4, q', e.trans a5, a6, a7, a8, fun j hj => ⟨(k2.2.2.1 j).trans (a9 j hj).1, (a9 j hj).2⟩⟩, h2, by rw [e]; exact h3⟩
/-- writes to what is new -/
theorem zG.Nfr {W : Nat → Prop} {c d f a : Nat} {v : ZP} (h : zG W c d μ ν) (ha : zsz μ ≤ a) : zG W c d μ (zFr ν f a v) :=
  ⟨h.1, h.2.1, h.2.2.1, fun b hb hn => (h.2.2.2.1 b hb hn).trans (zsame_zFr (by omega) v), fun g b hg hb => by rw [zfr_zFr, if_neg (fun q => by have := q.2; omega)]; exact h.2.2.2.2 g b hg hb⟩
theorem zG.Nfi {W : Nat → Prop} {c d f a : Nat} {v : Int32} (h : zG W c d μ ν) (ha : zsz μ ≤ a) : zG W c d μ (zFi ν f a v) :=
  ⟨h.1, h.2.1, h.2.2.1, fun b hb hn => (h.2.2.2.1 b hb hn).trans (zsame_zFi (by omega) v), h.2.2.2.2⟩
/-- the parser's state behind writes to what is older than its word -/
theorem zPq.kp {W : Nat → Prop} {c2 e2 : Nat} (h : zPq G μ0 ν P x b c e a M) (hx : zext ν τ) (hs : ∀ a, a < zsz ν → ¬ W a → zsame ν τ a) (hW : ∀ h, W h → h < M ∧ h ≠ P) (hg : zPg μ0 τ c2 e2 (pEd b (pSk b a))) : zPq G μ0 τ P x b c2 e2 a M := by
  obtain ⟨h1, h2, ⟨t1, t2, t3, t4, t5⟩, h4⟩ := h
  have sP : zsame ν τ P := hs P h2.2.1 (fun w => (hW _ w).2 rfl)
  refine ⟨h1, h2.kp hx.1 (sP.2.1 _) (sP.1 _), ⟨(sP.1 _).trans t1, (sP.1 _).trans t2, (sP.2.1 _).trans t3, fun q => (sP.1 _).trans (t4 q), ?_⟩, hg⟩
  rw [sP.2.1]
  rcases t5 with q | ⟨h, q1, q2, q3, q4⟩
  · exact Or.inl q
  · have hz := q4.2.1
    rw [q1] at hz
    have hh : ¬ W h := fun w => by have := (hW _ w).1; omega
    have sh : zsame ν τ h := hs h hz hh
    refine Or.inr ⟨h, q1, q2, by rw [sh.2.1]; exact q3, ?_⟩
    have hn : zNa ν W (zsz ν) (zfr ν 72 P) (pWd b (pSk b a)) := ⟨q4, by rw [q1]; exact hh, by rw [q1]; intro w; have := (hW _ w).1; dsimp only at this; omega⟩
    exact ((hn.kp (ν := τ) (fun a ha hx => (hs a ha hx).c)).up hx.1).1
theorem zPx.le {c2 e2 : Nat} {er : Int32 × Nat} (h : zPx E μ0 b c2 e2 er) (hc : c ≤ c2) (he : e ≤ e2) : zPx E μ0 b c e er := fun τ p h1 h2 => h τ p h1 (h2.mono (fun _ _ q => q) (by omega) (by omega))
/-- names of a row whose start is not known yet -/
theorem sNm.w7 {q : Nat} (h : sNm r q) (hq : 8 ≤ q) : sNm (wU r 7 0) q := h.same fun j h1 h2 => wU_n (by omega)
theorem sName_w7 {q : Nat} (h : sNm r q) (hq : 8 ≤ q) : sName (wU r 7 0) q = sName r q := sName_cg (fun u hu => wU_n (by omega)) h
theorem sFind_w7 {q d n k : Nat} (hq : 8 ≤ q) : sFind (wU r 7 0) q d w n k = sFind r q d w n k := sFind_cg (fun j hj => wU_n (by omega)) hq n k
theorem C_pEchoN (hp : zStr ν M q w) (h : zBd ν P r K V s lo hi F fg el ear vl var ds dm sm ea va ta sa) (hl : sLd r K V po) (kt : ∀ k, sThing r false w = some k → k < K → Q (some (vI (nI k))) ν) (kf : sThing r false w = none → Q (some (vI (-1))) ν) : Call G Y_X2_echoNamed [vP (2, 0, s), vP q] ν Q E := by
  obtain ⟨⟨a1, a2, a3, a4⟩, -, -, -, e1, e2, -⟩ := hl
  have es : sThing r false w = sFind r 23 15 w K 0 := by unfold sThing; rw [if_neg (by decide), a1, nI_clamp (by omega)]
  refine C_sNamedE hp h.1 (fun i hi' => ⟨hi, ?_⟩) (fun i hi' => (e1 i hi').2.2.w7 (by omega)) ?_
  · rw [sName_w7 (e1 i hi').2.2 (by omega)]; exact (h.2.2.1 i hi').1
  · rw [sFind_w7 (by decide), ← es]
    cases hs : sThing r false w with
    | none => exact kf hs
    | some k =>
      rw [es] at hs
      have := sFind_lt hs
      exact kt k (es.trans hs) (by omega)
theorem C_pValleyN (hp : zStr ν M q w) (h : zBd ν P r K V s lo hi F fg el ear vl var ds dm sm ea va ta sa) (hl : sLd r K V po) (kt : ∀ k, sThing r true w = some k → k < V → Q (some (vI (nI k))) ν) (kf : sThing r true w = none → Q (some (vI (-1))) ν) : Call G Y_X2_valleyNamed [vP (2, 0, s), vP q] ν Q E := by
  obtain ⟨⟨a1, a2, a3, a4⟩, -, -, -, e1, e2, -⟩ := hl
  have es : sThing r true w = sFind r 203 17 w V 0 := by unfold sThing; rw [if_pos rfl, a2, nI_clamp (by omega)]
  refine C_sNamedV hp h.1 (fun i hi' => ⟨hi, ?_⟩) (fun i hi' => (e2 i hi').2.2.w7 (by omega)) ?_
  · rw [sName_w7 (e2 i hi').2.2 (by omega)]; exact (h.2.2.2 i hi').1
  · rw [sFind_w7 (by decide), ← es]
    cases hs : sThing r true w with
    | none => exact kf hs
    | some k =>
      rw [es] at hs
      have := sFind_lt hs
      exact kt k (es.trans hs) (by omega)
/-- a new name is read: of an echo -/
theorem C_pNewName {v : Bool} {q0 : Nat} {zs : Int32} (hc : zPc G μ0 x bf B b) (h : zPq G μ0 ν P x b c e a M) {p : Nat} (hn : pName b a = .ok (w, p)) (hp : p = pSk b a) (hw : w = pWd b p) (hw0 : w ≠ []) (hq : zis 23 q) (hz : (sThing r v w = none ∧ zs = 0) ∨ ((∃ k, sThing r v w = some k) ∧ zs = 1))
    (kok : ∀ a1, pNew b r v q0 a = .ok (sNamed r q0 w, a1) → ∀ τ c' e', zPq G μ0 τ P x b c e a1 (zsz ν) → zG (fun h => h = P) c' e' ν τ → Q (some (vP q)) τ) (ker : ∀ er, pNew b r v q0 a = .error er → zPx E μ0 b c e er) : Call G Y_X6_newName [vP (6, 0, P), vI zs, vP q] ν Q E := by
  subst hp
  rcases hz with ⟨h1, rfl⟩ | ⟨⟨k, h1⟩, rfl⟩
  · have en : pNew b r v q0 a = .ok (sNamed r q0 w, pSk b a + w.length) := by unfold pNew; rw [hn]; simp only [h1]
    refine S_X6_newName ⟨hq, fun t => absurd rfl t, fun _ => C_pReq1 (by decide) ⟨rfl, C_pNext hc h fun τ c' e' y1 y2 y3 => ⟨rfl, kok _ en τ c' e' ?_ y3⟩⟩⟩
    rw [hw, ← pEd_3 (by rw [← hw]; exact hw0)]; exact y1
  · have en : pNew b r v q0 a = .error (3, pSk b a) := by unfold pNew; rw [hn]; simp only [h1]
    exact S_X6_newName ⟨hq, fun _ => h.req rfl (ker _ en).zk, fun t => absurd t (by decide)⟩
theorem wE_w7 {e0 u : Nat} : wE (wU r 7 0) e0 u = wE r e0 u := wU_n (by omega)
theorem wV_w7 {v u : Nat} : wV (wU r 7 0) v u = wV r v u := wU_n (by omega)
/-! the roads through a line -/
section RD
variable {p a1 a2 a3 a4 a5 x7 x8 x9 x10 : Nat} {er : Int32 × Nat}
theorem pEc_n (hK : (r 0).toNatClampNeg = K) (h12 : K < 12) (hn : pNew b r false (23 + 15 * K) (p + 4) = .error er) : pEcho b r p = .error er := by
  unfold pEcho; rw [hK, if_neg (by omega)]; simp only [hn]
theorem pEc_7 (hK : (r 0).toNatClampNeg = K) (h12 : K < 12) (hn : pNew b r false (23 + 15 * K) (p + 4) = .ok (sNamed r (23 + 15 * K) w, a1)) (h7 : pNum b 1 9 a1 = .error er) : pEcho b r p = .error er := by
  unfold pEcho; rw [hK, if_neg (by omega)]; simp only [hn, h7]
theorem pEc_8 (hK : (r 0).toNatClampNeg = K) (h12 : K < 12) (hn : pNew b r false (23 + 15 * K) (p + 4) = .ok (sNamed r (23 + 15 * K) w, a1)) (h7 : pNum b 1 9 a1 = .ok (x7, a2)) (h8 : pNum b 1 9 a2 = .error er) : pEcho b r p = .error er := by
  unfold pEcho; rw [hK, if_neg (by omega)]; simp only [hn, h7, h8]
theorem pEc_9 (hK : (r 0).toNatClampNeg = K) (h12 : K < 12) (hn : pNew b r false (23 + 15 * K) (p + 4) = .ok (sNamed r (23 + 15 * K) w, a1)) (h7 : pNum b 1 9 a1 = .ok (x7, a2)) (h8 : pNum b 1 9 a2 = .ok (x8, a3)) (h9 : pNum b 1 99 a3 = .error er) : pEcho b r p = .error er := by
  unfold pEcho; rw [hK, if_neg (by omega)]; simp only [hn, h7, h8, h9]
theorem pEc_10 (hK : (r 0).toNatClampNeg = K) (h12 : K < 12) (hn : pNew b r false (23 + 15 * K) (p + 4) = .ok (sNamed r (23 + 15 * K) w, a1)) (h7 : pNum b 1 9 a1 = .ok (x7, a2)) (h8 : pNum b 1 9 a2 = .ok (x8, a3)) (h9 : pNum b 1 99 a3 = .ok (x9, a4)) (h10 : pNum b 0 9 a4 = .error er) : pEcho b r p = .error er := by
  unfold pEcho; rw [hK, if_neg (by omega)]; simp only [hn, h7, h8, h9, h10]
theorem pEc_ok (hK : (r 0).toNatClampNeg = K) (h12 : K < 12) (hn : pNew b r false (23 + 15 * K) (p + 4) = .ok (sNamed r (23 + 15 * K) w, a1)) (h7 : pNum b 1 9 a1 = .ok (x7, a2)) (h8 : pNum b 1 9 a2 = .ok (x8, a3)) (h9 : pNum b 1 99 a3 = .ok (x9, a4)) (h10 : pNum b 0 9 a4 = .ok (x10, a5)) : pEcho b r p = .ok (rEc r K w x7 x8 x9 x10, a5) := by
  unfold pEcho; rw [hK, if_neg (by omega)]; simp only [hn, h7, h8, h9, h10]; rfl
theorem pVa_n (hV : (r 1).toNatClampNeg = V) (h8' : V < 8) (hn : pNew b r true (203 + 17 * V) (p + 6) = .error er) : pValley b r p = .error er := by
  unfold pValley; rw [hV, if_neg (by omega)]; simp only [hn]
theorem pVa_7 (hV : (r 1).toNatClampNeg = V) (h8' : V < 8) (hn : pNew b r true (203 + 17 * V) (p + 6) = .ok (sNamed r (203 + 17 * V) w, a1)) (h7 : pNum b 1 9 a1 = .error er) : pValley b r p = .error er := by
  unfold pValley; rw [hV, if_neg (by omega)]; simp only [hn, h7]
theorem pVa_8 (hV : (r 1).toNatClampNeg = V) (h8' : V < 8) (hn : pNew b r true (203 + 17 * V) (p + 6) = .ok (sNamed r (203 + 17 * V) w, a1)) (h7 : pNum b 1 9 a1 = .ok (x7, a2)) (h8 : pNum b 1 3 a2 = .error er) : pValley b r p = .error er := by
  unfold pValley; rw [hV, if_neg (by omega)]; simp only [hn, h7, h8]
theorem pVa_9 (hV : (r 1).toNatClampNeg = V) (h8' : V < 8) (hn : pNew b r true (203 + 17 * V) (p + 6) = .ok (sNamed r (203 + 17 * V) w, a1)) (h7 : pNum b 1 9 a1 = .ok (x7, a2)) (h8 : pNum b 1 3 a2 = .ok (x8, a3)) (h9 : pNum b 1 99 a3 = .error er) : pValley b r p = .error er := by
  unfold pValley; rw [hV, if_neg (by omega)]; simp only [hn, h7, h8, h9]
theorem pVa_10 (hV : (r 1).toNatClampNeg = V) (h8' : V < 8) (hn : pNew b r true (203 + 17 * V) (p + 6) = .ok (sNamed r (203 + 17 * V) w, a1)) (h7 : pNum b 1 9 a1 = .ok (x7, a2)) (h8 : pNum b 1 3 a2 = .ok (x8, a3)) (h9 : pNum b 1 99 a3 = .ok (x9, a4)) (h10 : pNum b 0 9999 a4 = .error er) : pValley b r p = .error er := by
  unfold pValley; rw [hV, if_neg (by omega)]; simp only [hn, h7, h8, h9, h10]
theorem pVa_ok (hV : (r 1).toNatClampNeg = V) (h8' : V < 8) (hn : pNew b r true (203 + 17 * V) (p + 6) = .ok (sNamed r (203 + 17 * V) w, a1)) (h7 : pNum b 1 9 a1 = .ok (x7, a2)) (h8 : pNum b 1 3 a2 = .ok (x8, a3)) (h9 : pNum b 1 99 a3 = .ok (x9, a4)) (h10 : pNum b 0 9999 a4 = .ok (x10, a5)) : pValley b r p = .ok (rVa r V w x7 x8 x9 x10, a5) := by
  unfold pValley; rw [hV, if_neg (by omega)]; simp only [hn, h7, h8, h9, h10]; rfl
end RD
theorem C_pNewEcho (hc : zPc G μ0 x bf B b) (h : zPq G μ0 ν P x b c e a M) (hB : zBd ν P r K V s lo hi F fg el ear vl var ds dm sm ea va ta sa) (hld : sLd r K V po) (hz : zPz r V) (hw : pWd b (pSk b a) = tEcho)
    (kok : ∀ r' a', pEcho b r (pSk b a) = .ok (r', a') → ∀ τ hi' ea', zPq G μ0 τ P x b (c + 1) (e + 9) a' (P + 1) → zBd τ P r' (K + 1) V s lo hi' F fg el ear vl var ds dm sm ea' va ta sa → zPz r' V → Q none τ) (ker : ∀ er, pEcho b r (pSk b a) = .error er → zPx E μ0 b (c + 1) (e + 9) er) : Call G Y_X6_newEcho [vP (6, 0, P), vP (2, 0, s)] ν Q E := by
  have hKV := hld.1
  obtain ⟨a1, a2, a3, a4⟩ := hKV
  have hK : (r 0).toNatClampNeg = K := by rw [a1]; exact nI_clamp (by omega)
  refine Call.zo fun hok hargs => ?_
  obtain ⟨hPt, hPz⟩ := tg_arg hargs (by decide) (by decide)
  refine S_X6_newEcho ⟨el, hB.1.1.2.2.2.1.2.1, C_alSize hB.1.2.1.2.1 ⟨_, rfl, fun hge => ?_, fun hlt => ?_⟩⟩
  · have h12 : 12 ≤ K := by
      apply Decidable.byContradiction
      intro t
      exact hge (nI_lt (b := 12) (by omega) (by omega))
    refine B_X6_newEcho_20 (h.req rfl ((ker (4, pSk b a) ?_).le (Nat.le_add_right _ _) (Nat.le_add_right _ _)).zk)
    unfold pEcho; rw [hK, if_pos h12]
  · have h12 : K < 12 := (nI_ltI (b := 12) (by omega) (by omega)).mp hlt
    have le : ∀ {er}, zPx E μ0 b (c + 1) (e + 9) er → zPx (fun q ν => zkc q.1 = true ∧ E q ν) μ0 b c e er := fun k => (k.le (Nat.le_add_right _ _) (Nat.le_add_right _ _)).zk
    have ep : pEd b (pSk b a) = pSk b a + 4 := by rw [pEd_3 (by rw [hw]; decide), hw]; rfl
    refine B_X6_newEcho_20 (C_pReq1 (by decide) ⟨rfl, C_pNext hc h fun ν1 c1 e1 q1 f1 g1 => ⟨rfl, ?_⟩⟩)
    rw [ep] at q1
    have B1 := hB.kp hok hPt g1 (fun a _ t => Or.inl t)
    have P1z : P < zsz ν1 := q1.2.1.2.1
    refine C_pPeekN hc q1 (fun w p1 q hn hp1 hw1 hw0 h72 hwd => ?_) (fun er he => le (ker er (pEc_n hK h12 (by unfold pNew; rw [he]))))
    obtain ⟨C, hstr⟩ := zWd.str hc q1.2.2.2 hwd
    obtain ⟨-, -, w1, w6, wl⟩ := pName_ok hn
    have hna : ∃ C, zNa ν1 (fun a => a < zsz ν) C q w ∧ C ≤ zsz ν1 := by
      rcases hwd with ⟨-, t⟩ | ⟨h0, t1, t2, t3, t4⟩
      · exact absurd t hw0
      · refine ⟨zsz ν1, ⟨t4, ?_, ?_⟩, Nat.le_refl _⟩ <;> rw [t1] <;> dsimp only <;> omega
    obtain ⟨C1, hna, hC1⟩ := hna
    refine ⟨_, rfl, hstr.1, ?_⟩
    have rest : ∀ zs, ((sThing r false w = none ∧ zs = 0) ∨ ((∃ k, sThing r false w = some k) ∧ zs = 1)) → Wp G Y_X6_newEcho 48 [(0, vP (6, 0, P)), (1, vP (2, 0, s)), (2, vP q)] [vI zs, vP (6, 0, P)] ν1 Q E := by
      intro zs hzs
      refine B_X6_newEcho_48 ⟨hstr.1, C_pNewName (q0 := 23 + 15 * K) hc q1 hn hp1 hw1 hw0 hstr.1 hzs (fun b1 en ν2 c2 e2 q2 g2 => ⟨_, rfl, hstr.1, ?_⟩) (fun er he => le (ker er (pEc_n hK h12 he)))⟩
      refine C_pNum hc (lo := 1) (hi := 9) rfl rfl (by decide) (by decide) q2 (fun x7 b2 n7 ν3 c3 e3 q3 _ g3 => ⟨_, rfl, C_pNum hc (lo := 1) (hi := 9) rfl rfl (by decide) (by decide) q3 (fun x8 b3 n8 ν4 c4 e4 q4 _ g4 => ⟨_, rfl, Call.zq <| C_pNum hc (lo := 1) (hi := 99) rfl rfl (by decide) (by decide) q4 (fun x9 b4 n9 ν5 c5 e5 q5 _ g5 ok5 _ => ⟨_, rfl, el, ?_, ?_⟩) (fun er he => le (ker er (pEc_9 hK h12 en n7 n8 he)))⟩) (fun er he => le (ker er (pEc_8 hK h12 en n7 he)))⟩) (fun er he => le (ker er (pEc_7 hK h12 en he)))
      · have gA := (((g1.tr g2).tr g3).tr g4).tr g5
        exact (hB.kp hok hPt gA (fun a _ t => Or.inl t)).1.1.2.2.2.1.2.1
      · have gA := (((g1.tr g2).tr g3).tr g4).tr g5
        have gA1 := ((g2.tr g3).tr g4).tr g5
        have gN : zG (fun h => h = P) 1 9 ν5 (zNew ν5 3 0 9) := zG.nw
        have P5z : P < zsz ν5 := q5.2.1.2.1
        have q5' : zPq G μ0 (zNew ν5 3 0 9) P x b (c + 1) (e + 9) b4 (zsz ν4) := q5.kp (W := fun _ => False) (zext_zNew _ _ _ _) (fun _ _ _ => zsame_zNew) (fun _ t => t.elim) ((zG.tr q5.2.2.2 (zG.nw (t := 3) (n := 0) (k := 9))).mono (fun _ _ q => q) (by omega) (by omega))
        refine Call.zq <| C_pNum hc (lo := 0) (hi := 9) rfl rfl (by decide) (by decide) q5' (fun x10 b5 n10 ν6 c6 e6 q6 _ g6 ok6 _ => ⟨_, rfl, ?_⟩) (fun er he => (ker er (pEc_10 hK h12 en n7 n8 n9 he)).zk)
        have hEc := pEc_ok hK h12 en n7 n8 n9 n10
        have gB := (gA.tr gN).tr g6
        have gB1 := (gA1.tr gN).tr g6
        have b0n : zsz ν ≤ zsz ν5 := gA.1.1
        have B6 := hB.kp hok hPt gB (fun a _ t => Or.inl t)
        obtain ⟨S6, ⟨h1, h2, h3, h4, h5, h6⟩, N6⟩ := id B6
        have hhi : hi ≤ zsz ν := hB.2.1.1
        -- the echo's object
        have s6 : zsame (zNew ν5 3 0 9) ν6 (zsz ν5) := g6.same (Nat.lt_succ_self _) (by omega)
        have fresh : ∀ f, zfi ν6 f (zsz ν5) = 0 := fun f => by rw [s6.1, zfi_zNew]; exact ok5.1 f (zsz ν5) (Nat.le_refl _)
        have z6 : zsz ν5 < zsz ν6 := Nat.lt_of_lt_of_le (Nat.lt_succ_self _) g6.1.1
        have tb : (ztg ν6 (zsz ν5)).1 = 3 := by rw [g6.1.2.2 (zsz ν5) (Nat.lt_succ_self _), ztg_zNew, if_pos rfl]
        have hE1 := S6.2.1.1
        have hfg := S6.1.1.2.2
        refine S_X3_init ⟨hstr.1, rfl, ?_⟩
        -- the echo made
        have hx7 : zext ν6 (zFi (zFi (zFi (zFi (zFr (zFi ν6 28 (zsz ν5) (-1)) 21 (zsz ν5) q) 22 (zsz ν5) (nI x7)) 25 (zsz ν5) (nI x8)) 23 (zsz ν5) (nI x9)) 24 (zsz ν5) (nI x10)) := (((((zext_zFi _ _ _ _).trans (zext_zFr _ _ _ _)).trans (zext_zFi _ _ _ _)).trans (zext_zFi _ _ _ _)).trans (zext_zFi _ _ _ _)).trans (zext_zFi _ _ _ _)
        have s7 : ∀ a, a ≠ zsz ν5 → zsame ν6 (zFi (zFi (zFi (zFi (zFr (zFi ν6 28 (zsz ν5) (-1)) 21 (zsz ν5) q) 22 (zsz ν5) (nI x7)) 25 (zsz ν5) (nI x8)) 23 (zsz ν5) (nI x9)) 24 (zsz ν5) (nI x10)) a := fun a hn => ((((((zsame_zFi hn _).trans (zsame_zFr hn _)).trans (zsame_zFi hn _)).trans (zsame_zFi hn _)).trans (zsame_zFi hn _)).trans (zsame_zFi hn _))
        have m0 : zsz μ0 ≤ zsz ν5 := by have := q5.2.1.1; omega
        have g7 : zG (fun _ => False) _ _ μ0 (zFi (zFi (zFi (zFi (zFr (zFi ν6 28 (zsz ν5) (-1)) 21 (zsz ν5) q) 22 (zsz ν5) (nI x7)) 25 (zsz ν5) (nI x8)) 23 (zsz ν5) (nI x9)) 24 (zsz ν5) (nI x10)) := zG.Nfi (zG.Nfi (zG.Nfi (zG.Nfi (zG.Nfr (zG.Nfi q6.2.2.2 m0) m0) m0) m0) m0) m0
        have hz' := rEc_z (x7 := x7) (x8 := x8) (x9 := x9) (x10 := x10) w6 h12 a4 hz
        have f7 : ∀ u, 7 ≤ u → u < 15 → zfi (zFi (zFi (zFi (zFi (zFr (zFi ν6 28 (zsz ν5) (-1)) 21 (zsz ν5) q) 22 (zsz ν5) (nI x7)) 25 (zsz ν5) (nI x8)) 23 (zsz ν5) (nI x9)) 24 (zsz ν5) (nI x10)) (fE u) (zsz ν5) = wE (wU (rEc r K w x7 x8 x9 x10) 7 0) K u - oE u := by
          intro u u1 u2
          rw [wE_w7]
          have z0 : ∀ y, 11 ≤ y → y < 15 → wE (rEc r K w x7 x8 x9 x10) K y = 0 := fun y y1 y2 => hz'.1 (23 + 15 * K + y) (by omega)
          have hu : u = 7 ∨ u = 8 ∨ u = 9 ∨ u = 10 ∨ u = 11 ∨ u = 12 ∨ u = 13 ∨ u = 14 := by omega
          rcases hu with rfl | rfl | rfl | rfl | rfl | rfl | rfl | rfl
          · rw [rEc_7]; simp [fE, oE, zfi_zFi, zfi_zFr]
          · rw [rEc_8]; simp [fE, oE, zfi_zFi, zfi_zFr]
          · rw [rEc_9]; simp [fE, oE, zfi_zFi, zfi_zFr]
          · rw [rEc_10]; simp [fE, oE, zfi_zFi, zfi_zFr]
          · rw [z0 11 (by decide) (by decide)]; simp [fE, oE, zfi_zFi, zfi_zFr, fresh]
          · rw [z0 12 (by decide) (by decide)]; simp [fE, oE, zfi_zFi, zfi_zFr, fresh]
          · rw [z0 13 (by decide) (by decide)]; simp [fE, oE, zfi_zFi, zfi_zFr]
          · rw [z0 14 (by decide) (by decide)]; simp [fE, oE, zfi_zFi, zfi_zFr, fresh]
        have f21 : zfr (zFi (zFi (zFi (zFi (zFr (zFi ν6 28 (zsz ν5) (-1)) 21 (zsz ν5) q) 22 (zsz ν5) (nI x7)) 25 (zsz ν5) (nI x8)) 23 (zsz ν5) (nI x9)) 24 (zsz ν5) (nI x10)) 21 (zsz ν5) = q := by simp [zfr_zFi, zfr_zFr]
        have z7 : zsz (zFi (zFi (zFi (zFi (zFr (zFi ν6 28 (zsz ν5) (-1)) 21 (zsz ν5) q) 22 (zsz ν5) (nI x7)) 25 (zsz ν5) (nI x8)) 23 (zsz ν5) (nI x9)) 24 (zsz ν5) (nI x10)) = zsz ν6 := rfl
        generalize (zFi (zFi (zFi (zFi (zFr (zFi ν6 28 (zsz ν5) (-1)) 21 (zsz ν5) q) 22 (zsz ν5) (nI x7)) 25 (zsz ν5) (nI x8)) 23 (zsz ν5) (nI x9)) 24 (zsz ν5) (nI x10)) = m7 at hx7 s7 g7 f7 f21 z7 ⊢
        obtain ⟨y1, y2, y3, y4, y5, y6, y7, y8, y9⟩ := S6.tg ok6
        have hV1 := S6.2.2.1.1
        have hS1 := S6.1.1
        have hlo : P < lo := h2
        have hhi5 : hi ≤ zsz ν5 := Nat.le_trans hhi b0n
        have l7 := S6.2.1.2.1.kp (s7 el (by omega)) (s7 ear (by omega))
        refine C_alAdd l7 h12 rfl (fun t => by rw [t, y8] at y6; cases y6) fun m8 g8 l8 => ⟨_, rfl, ?_⟩
        have s8 : ∀ a, a < zsz ν6 → a ≠ zsz ν5 → a ≠ el → a ≠ ear → zsame ν6 m8 a := fun a ha n1 n2 n3 => (s7 a n1).trans (g8.same (by omega) (by omega))
        have hx8 : zext ν6 m8 := hx7.trans g8.1
        have sb0 : zsame m7 m8 (zsz ν5) := g8.same (by omega) (by omega)
        have fb : fg ≠ zsz ν5 ∧ fg ≠ el ∧ fg ≠ ear := ⟨by omega, fun t => (by rw [← t, y1] at y6; cases y6), fun t => (by rw [← t, y1] at y8; cases y8)⟩
        have ko : ∀ j, j ≠ 0 → (j < 23 + 15 * K ∨ 23 + 15 * K + 15 ≤ j) → wU (rEc r K w x7 x8 x9 x10) 7 0 j = wU r 7 0 j := fun j j0 j1 => by
          unfold wU
          by_cases t : j = 7
          · rw [if_pos t, if_pos t]
          · rw [if_neg t, if_neg t, rEc_out w6 j0 (by omega)]
        have S8 := S6.addE (b := zsz ν5) (hi' := zsz m8) (r' := wU (rEc r K w x7 x8 x9 x10) 7 0) ok6 h1 h3 ⟨h4, h5⟩ hx8 h12 (fun a ha q1 q2 q3 q4 => s8 a ha (by omega) q3 q4) (s8 fg (by omega) fb.1 fb.2.1 fb.2.2) (fun a ha hz => s8 a ha (fun t => by rw [t, tb] at hz; unfold zmp at hz; omega) (fun t => by rw [t, y6] at hz; unfold zmp at hz; omega) (fun t => by rw [t, y8] at hz; unfold zmp at hz; omega)) l8 ⟨hhi5, by have := g8.1.1; omega⟩ (fun u u1 u2 => by rw [sb0.1]; exact f7 u u1 u2) (by rw [wU_n (by decide)]; exact rEc_0) ko (fun y q1 q2 => ⟨by rw [wU_n (by omega)]; exact hz.1 _ (by omega), by rw [wU_n (by omega)]; exact hz.1 _ (by omega)⟩)
        have g8' : zG (fun _ => False) _ _ μ0 m8 := zG.trN (W := fun _ => False) g7 (g8.mono (fun a _ q => Or.inr (by have := q5.2.1.1; omega)) (Nat.le_refl _) (Nat.le_refl _))
        refine kok _ _ hEc m8 (zsz m8) (fun i => if i = K then zsz ν5 else ea i) ?_ ⟨S8, ⟨Nat.le_refl _, h2, by rw [hx8.2.2 s (by omega)]; exact h3, h4, h5, h6⟩, fun i hi' => ?_, fun v hv => ?_⟩ hz'
        · exact (q6.kp (W := fun h => h = zsz ν5 ∨ h = el ∨ h = ear) hx8 (fun a ha hn => s8 a ha (fun t => hn (Or.inl t)) (fun t => hn (Or.inr (Or.inl t))) (fun t => hn (Or.inr (Or.inr t)))) (fun h t => by show h < zsz ν5 + 1 ∧ _; omega) (g8'.mono (fun _ _ q => q) (by omega) (by omega))).le (by show P + 1 ≤ zsz ν5 + 1; omega)
        · dsimp only
          by_cases t : i = K
          · rw [if_pos t, sb0.2.1, f21, t, rEc_nm w1 w6 wl]
            have k1 : ∀ a, a < C1 → ¬ a < zsz ν → zsmC ν1 m8 a := fun a ha hp => ((gB1.same (by omega) (by omega)).trans (s8 a (by have := gB1.1.1; omega) (by have := gA1.1.1; omega) (by omega) (by omega))).c
            obtain ⟨n1, n2, n3⟩ := (hna.kp k1).up (C := zsz m8) (by have := gB1.1.1; have := g8.1.1; omega)
            exact ⟨n1, by omega, by omega⟩
          · rw [if_neg t]
            have he := S6.2.1.2.2.1 i (by omega)
            have ti := y4 i (by omega)
            rw [(s8 (ea i) (by omega) (by omega) (fun u => by rw [u, y6] at ti; cases ti) (fun u => by rw [u, y8] at ti; cases ti)).2.1 21, sName_cg (r := r) (fun u hu => rEc_out w6 (by omega) (by omega)) (hld.2.2.2.2.1 i (by omega)).2.2]
            refine ((N6.1 i (by omega)).kpT ok6 (ok6.2.2.2.2.2.1 21 (ea i)) fun a ha _ ht => (s8 a (by omega) (by omega) (fun u => ?_) (fun u => ?_)).c).up (by have := g8.1.1; omega)
            · rw [u, y6] at ht; omega
            · rw [u, y8] at ht; omega
        · have he := (S6.2.2.1.2.2.1 v hv).1
          have ti := (y5 v hv).1
          rw [(s8 (va v) (by omega) (by omega) (fun u => by rw [u, y6] at ti; cases ti) (fun u => by rw [u, y8] at ti; cases ti)).2.1 30, sName_cg (r := r) (fun u hu => rEc_out w6 (by omega) (by omega)) (hld.2.2.2.2.2.1 v hv).2.2]
          refine ((N6.2 v hv).kpT ok6 (ok6.2.2.2.2.2.1 30 (va v)) fun a ha _ ht => (s8 a (by omega) (by omega) (fun u => ?_) (fun u => ?_)).c).up (by have := g8.1.1; omega)
          · rw [u, y6] at ht; omega
          · rw [u, y8] at ht; omega
    refine C_pEchoN hstr B1 hld (fun k hk1 hk2 => ⟨_, rfl, fun t => absurd t (nI_nm1 (by omega)), fun _ => rest 1 (Or.inr ⟨⟨k, hk1⟩, rfl⟩)⟩) (fun hk => ⟨_, rfl, fun _ => rest 0 (Or.inl ⟨hk, rfl⟩), fun t => absurd rfl t⟩)
end ZJ
