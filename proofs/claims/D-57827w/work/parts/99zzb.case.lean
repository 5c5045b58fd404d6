set_option maxRecDepth 100000
/-! THE LAW, 4: its cases (printed by tools/gen_cases.py) -/
section ZJ
variable {G : ZG} {μ ν ρ : ZM} {x d da bf sb m o t0 r0 B : Nat} {σ σ' : ZS} {Q : Option ZV → ZM → Prop} {E : ZP → ZM → Prop} {z4 : Int32} {D i : Nat}
theorem L_c0 (hG : zGk G) (hL : zLv G x d da bf sb m o r0 B σ σ μ) (hs : zGs D σ) (hD : D < 800000) (hi : z4 = nI i) (hi6 : i + 6 ≤ t0) (ht : t0 ≤ 144) (nx : zNx G x d da bf sb m o t0 r0 B σ D z4 μ Q E) : Wp G Y_L_law 304 [(0, vP (209, t0, r0)), (1, vP (1, 0, x)), (2, vP (5, 0, m)), (3, vP (203, 1, o)), (4, vI z4)] [] μ Q E := by
  obtain ⟨⟨sba, n, hX⟩, hM, hK, hB, ho, hr0⟩ := id hL
  obtain ⟨K, V, po, hg⟩ := hs.1
  have gb := hg.1.1
  have hs' := hs.le (show D ≤ D + 2000 by omega)
  have hlb : (aBu σ).length ≤ 900 := hM.2.2.2.2.1.1
  refine Wp.zo fun hok => ?_
  have ix1 : zix (z4 + 1) (i + 1) t0 := zix.eq (by rw [hi, show (1 : Int32) = nI 1 from rfl, nI_add]) (by omega) (by omega)
  have ix2 : zix (z4 + 2) (i + 2) t0 := zix.eq (by rw [hi, show (2 : Int32) = nI 2 from rfl, nI_add]) (by omega) (by omega)
  have ix3 : zix (z4 + 3) (i + 3) t0 := zix.eq (by rw [hi, show (3 : Int32) = nI 3 from rfl, nI_add]) (by omega) (by omega)
  have ix4 : zix (z4 + 4) (i + 4) t0 := zix.eq (by rw [hi, show (4 : Int32) = nI 4 from rfl, nI_add]) (by omega) (by omega)
  have ix5 : zix (z4 + 5) (i + 5) t0 := zix.eq (by rw [hi, show (5 : Int32) = nI 5 from rfl, nI_add]) (by omega) (by omega)
  exact B_L_law_304 ⟨i + 1, ix1, _, rfl, i + 2, ix2, _, rfl, i + 3, ix3, _, rfl, i + 4, ix4, _, rfl, i + 5, ix5, _, rfl, T_X0_append (Call.zq (C_xappend hX (fun hb ν hd okν _ => ⟨_, rfl, Nat.one_pos, _, rfl, i + 1, ix1, _, (hL.cx hd).2 (i + 1), i + 2, ix2, _, (hL.cx hd).2 (i + 2), i + 3, ix3, _, (hL.cx hd).2 (i + 3), i + 4, ix4, _, (hL.cx hd).2 (i + 4), i + 5, ix5, _, (hL.cx hd).2 (i + 5), Call.zo fun ok1 _ => C_append ((hL.cx hd).1.al okν).2.1 (fun _ => L_t0 hL hd okν hs' nx ok1) (fun hb' => absurd hb hb')⟩) (fun hb ν a hd => ⟨a, rfl, _, rfl, i + 1, ix1, _, (hL.cx hd).2 (i + 1), i + 2, ix2, _, (hL.cx hd).2 (i + 2), i + 3, ix3, _, (hL.cx hd).2 (i + 3), i + 4, ix4, _, (hL.cx hd).2 (i + 4), i + 5, ix5, _, (hL.cx hd).2 (i + 5), Call.zo fun okν _ => C_append (hL.cx hd).1.2.1 (fun hb' => absurd hb' hb) (fun _ => L_t1 (by decide) hL hd okν hs' nx)⟩)))⟩
theorem L_c1 (hG : zGk G) (hL : zLv G x d da bf sb m o r0 B σ σ μ) (hs : zGs D σ) (hD : D < 800000) (hi : z4 = nI i) (hi6 : i + 6 ≤ t0) (ht : t0 ≤ 144) (nx : zNx G x d da bf sb m o t0 r0 B σ D z4 μ Q E) : Wp G Y_L_law 408 [(0, vP (209, t0, r0)), (1, vP (1, 0, x)), (2, vP (5, 0, m)), (3, vP (203, 1, o)), (4, vI z4)] [] μ Q E := by
  obtain ⟨⟨sba, n, hX⟩, hM, hK, hB, ho, hr0⟩ := id hL
  obtain ⟨K, V, po, hg⟩ := hs.1
  have gb := hg.1.1
  have hs' := hs.le (show D ≤ D + 2000 by omega)
  have hlb : (aBu σ).length ≤ 900 := hM.2.2.2.2.1.1
  refine Wp.zo fun hok => ?_
  have ix1 : zix (z4 + 1) (i + 1) t0 := zix.eq (by rw [hi, show (1 : Int32) = nI 1 from rfl, nI_add]) (by omega) (by omega)
  exact B_L_law_408 ⟨i + 1, ix1, _, rfl, T_X0_truncate (Call.zq (C_xtruncate hX (fun w hw h1 ν hd okν _ => ⟨_, rfl, Nat.one_pos, _, rfl, i + 1, ix1, _, (hL.cx hd).2 (i + 1), Call.zo fun ok1 _ => C_truncate ((hL.cx hd).1.al okν).2.1 (fun w' hw' h1' => by have hu0 := nI_un h1 h1' (by omega) (by omega); subst hu0; exact L_t0 hL hd okν hs' nx ok1) (fun q' => absurd h1 (q' w hw))⟩) (fun q ν a hd => ⟨a, rfl, _, rfl, i + 1, ix1, _, (hL.cx hd).2 (i + 1), Call.zo fun okν _ => C_truncate (hL.cx hd).1.2.1 (fun w' hw' h1' => absurd h1' (q w' hw')) (fun _ => L_t1 (by decide) hL hd okν hs' nx)⟩)))⟩
theorem L_c2 (hG : zGk G) (hL : zLv G x d da bf sb m o r0 B σ σ μ) (hs : zGs D σ) (hD : D < 800000) (hi : z4 = nI i) (hi6 : i + 6 ≤ t0) (ht : t0 ≤ 144) (nx : zNx G x d da bf sb m o t0 r0 B σ D z4 μ Q E) : Wp G Y_L_law 464 [(0, vP (209, t0, r0)), (1, vP (1, 0, x)), (2, vP (5, 0, m)), (3, vP (203, 1, o)), (4, vI z4)] [] μ Q E := by
  obtain ⟨⟨sba, n, hX⟩, hM, hK, hB, ho, hr0⟩ := id hL
  obtain ⟨K, V, po, hg⟩ := hs.1
  have gb := hg.1.1
  have hs' := hs.le (show D ≤ D + 2000 by omega)
  have hlb : (aBu σ).length ≤ 900 := hM.2.2.2.2.1.1
  refine Wp.zo fun hok => ?_
  exact B_L_law_464 (T_X0_load (Call.zq (C_xload hG (hK.kx hX hok hB) hX (fun r hr ν hd okν _ => ⟨_, rfl, Nat.one_pos, _, rfl, Call.zo fun ok1 _ => C_load (((hL.cx hd).1.al okν).2.2.1.ks hB) ((hL.cx hd).1.al okν).2.1 hg.2.2.1 (fun r' hr' => by cases hr.symm.trans hr'; exact L_t0 hL hd okν (zGs.load hs hr) nx ok1) (fun er' he' => by cases hr.symm.trans he')⟩) (fun er he ν a hd => ⟨a, rfl, _, rfl, Call.zo fun okν _ => C_load ((hL.cx hd).1.2.2.1.ks hB) (hL.cx hd).1.2.1 hg.2.2.1 (fun r' hr' => by cases he.symm.trans hr') (fun er' he' => by cases he.symm.trans he'; exact L_t1 (by decide) hL hd okν hs' nx)⟩))))
theorem L_c3 (hG : zGk G) (hL : zLv G x d da bf sb m o r0 B σ σ μ) (hs : zGs D σ) (hD : D < 800000) (hi : z4 = nI i) (hi6 : i + 6 ≤ t0) (ht : t0 ≤ 144) (nx : zNx G x d da bf sb m o t0 r0 B σ D z4 μ Q E) : Wp G Y_L_law 508 [(0, vP (209, t0, r0)), (1, vP (1, 0, x)), (2, vP (5, 0, m)), (3, vP (203, 1, o)), (4, vI z4)] [] μ Q E := by
  obtain ⟨⟨sba, n, hX⟩, hM, hK, hB, ho, hr0⟩ := id hL
  obtain ⟨K, V, po, hg⟩ := hs.1
  have gb := hg.1.1
  have hs' := hs.le (show D ≤ D + 2000 by omega)
  have hlb : (aBu σ).length ≤ 900 := hM.2.2.2.2.1.1
  refine Wp.zo fun hok => ?_
  exact B_L_law_508 (T_X0_executeCommands (Call.zq (C_xexecuteCommands hG (hK.kx hX hok hB) hX hg (by omega) (fun r hr ν hd okν _ => ⟨_, rfl, Nat.one_pos, _, rfl, Call.zo fun ok1 _ => C_executeCommands (((hL.cx hd).1.al okν).2.2.1.ks hB) ((hL.cx hd).1.al okν).2.1 hg (by omega) (fun r' hr' => by cases hr.symm.trans hr'; exact L_t0 hL hd okν (hs.exec (zGr.cmds hg (by omega) hr)) nx ok1) (fun er' he' => by cases hr.symm.trans he')⟩) (fun er he ν a hd => ⟨a, rfl, _, rfl, Call.zo fun okν _ => C_executeCommands ((hL.cx hd).1.2.2.1.ks hB) (hL.cx hd).1.2.1 hg (by omega) (fun r' hr' => by cases he.symm.trans hr') (fun er' he' => by cases he.symm.trans he'; exact L_t1 (by decide) hL hd okν hs' nx)⟩))))
theorem L_c4 (hG : zGk G) (hL : zLv G x d da bf sb m o r0 B σ σ μ) (hs : zGs D σ) (hD : D < 800000) (hi : z4 = nI i) (hi6 : i + 6 ≤ t0) (ht : t0 ≤ 144) (nx : zNx G x d da bf sb m o t0 r0 B σ D z4 μ Q E) : Wp G Y_L_law 552 [(0, vP (209, t0, r0)), (1, vP (1, 0, x)), (2, vP (5, 0, m)), (3, vP (203, 1, o)), (4, vI z4)] [] μ Q E := by
  obtain ⟨⟨sba, n, hX⟩, hM, hK, hB, ho, hr0⟩ := id hL
  obtain ⟨K, V, po, hg⟩ := hs.1
  have gb := hg.1.1
  have hs' := hs.le (show D ≤ D + 2000 by omega)
  have hlb : (aBu σ).length ≤ 900 := hM.2.2.2.2.1.1
  refine Wp.zo fun hok => ?_
  exact B_L_law_552 (C_xerrorCode hX (fun ν hd => ⟨_, rfl, Call.zo fun okν _ => C_errorCode (hL.cx hd).1.2.1 (L_n0 hL hd okν hs' nx)⟩))
theorem L_c5 (hG : zGk G) (hL : zLv G x d da bf sb m o r0 B σ σ μ) (hs : zGs D σ) (hD : D < 800000) (hi : z4 = nI i) (hi6 : i + 6 ≤ t0) (ht : t0 ≤ 144) (nx : zNx G x d da bf sb m o t0 r0 B σ D z4 μ Q E) : Wp G Y_L_law 565 [(0, vP (209, t0, r0)), (1, vP (1, 0, x)), (2, vP (5, 0, m)), (3, vP (203, 1, o)), (4, vI z4)] [] μ Q E := by
  obtain ⟨⟨sba, n, hX⟩, hM, hK, hB, ho, hr0⟩ := id hL
  obtain ⟨K, V, po, hg⟩ := hs.1
  have gb := hg.1.1
  have hs' := hs.le (show D ≤ D + 2000 by omega)
  have hlb : (aBu σ).length ≤ 900 := hM.2.2.2.2.1.1
  refine Wp.zo fun hok => ?_
  exact B_L_law_565 (C_xerrorPosition hX (fun ν hd => ⟨_, rfl, Call.zo fun okν _ => C_errorPosition (hL.cx hd).1.2.1 (L_n0 hL hd okν hs' nx)⟩))
theorem L_c6 (hG : zGk G) (hL : zLv G x d da bf sb m o r0 B σ σ μ) (hs : zGs D σ) (hD : D < 800000) (hi : z4 = nI i) (hi6 : i + 6 ≤ t0) (ht : t0 ≤ 144) (nx : zNx G x d da bf sb m o t0 r0 B σ D z4 μ Q E) : Wp G Y_L_law 578 [(0, vP (209, t0, r0)), (1, vP (1, 0, x)), (2, vP (5, 0, m)), (3, vP (203, 1, o)), (4, vI z4)] [] μ Q E := by
  obtain ⟨⟨sba, n, hX⟩, hM, hK, hB, ho, hr0⟩ := id hL
  obtain ⟨K, V, po, hg⟩ := hs.1
  have gb := hg.1.1
  have hs' := hs.le (show D ≤ D + 2000 by omega)
  have hlb : (aBu σ).length ≤ 900 := hM.2.2.2.2.1.1
  refine Wp.zo fun hok => ?_
  exact B_L_law_578 (C_xechoCount hX hg (fun ν hd => ⟨_, rfl, Call.zo fun okν _ => C_echoCount (hL.cx hd).1.2.1 (L_n0 hL hd okν hs' nx)⟩))
theorem L_c7 (hG : zGk G) (hL : zLv G x d da bf sb m o r0 B σ σ μ) (hs : zGs D σ) (hD : D < 800000) (hi : z4 = nI i) (hi6 : i + 6 ≤ t0) (ht : t0 ≤ 144) (nx : zNx G x d da bf sb m o t0 r0 B σ D z4 μ Q E) : Wp G Y_L_law 591 [(0, vP (209, t0, r0)), (1, vP (1, 0, x)), (2, vP (5, 0, m)), (3, vP (203, 1, o)), (4, vI z4)] [] μ Q E := by
  obtain ⟨⟨sba, n, hX⟩, hM, hK, hB, ho, hr0⟩ := id hL
  obtain ⟨K, V, po, hg⟩ := hs.1
  have gb := hg.1.1
  have hs' := hs.le (show D ≤ D + 2000 by omega)
  have hlb : (aBu σ).length ≤ 900 := hM.2.2.2.2.1.1
  refine Wp.zo fun hok => ?_
  exact B_L_law_591 (C_xvalleyCount hX hg (fun ν hd => ⟨_, rfl, Call.zo fun okν _ => C_valleyCount (hL.cx hd).1.2.1 (L_n0 hL hd okν hs' nx)⟩))
theorem L_c8 (hG : zGk G) (hL : zLv G x d da bf sb m o r0 B σ σ μ) (hs : zGs D σ) (hD : D < 800000) (hi : z4 = nI i) (hi6 : i + 6 ≤ t0) (ht : t0 ≤ 144) (nx : zNx G x d da bf sb m o t0 r0 B σ D z4 μ Q E) : Wp G Y_L_law 604 [(0, vP (209, t0, r0)), (1, vP (1, 0, x)), (2, vP (5, 0, m)), (3, vP (203, 1, o)), (4, vI z4)] [] μ Q E := by
  obtain ⟨⟨sba, n, hX⟩, hM, hK, hB, ho, hr0⟩ := id hL
  obtain ⟨K, V, po, hg⟩ := hs.1
  have gb := hg.1.1
  have hs' := hs.le (show D ≤ D + 2000 by omega)
  have hlb : (aBu σ).length ≤ 900 := hM.2.2.2.2.1.1
  refine Wp.zo fun hok => ?_
  exact B_L_law_604 (C_xday hX (fun ν hd => ⟨_, rfl, Call.zo fun okν _ => C_day (hL.cx hd).1.2.1 (L_n0 hL hd okν hs' nx)⟩))
theorem L_c9 (hG : zGk G) (hL : zLv G x d da bf sb m o r0 B σ σ μ) (hs : zGs D σ) (hD : D < 800000) (hi : z4 = nI i) (hi6 : i + 6 ≤ t0) (ht : t0 ≤ 144) (nx : zNx G x d da bf sb m o t0 r0 B σ D z4 μ Q E) : Wp G Y_L_law 617 [(0, vP (209, t0, r0)), (1, vP (1, 0, x)), (2, vP (5, 0, m)), (3, vP (203, 1, o)), (4, vI z4)] [] μ Q E := by
  obtain ⟨⟨sba, n, hX⟩, hM, hK, hB, ho, hr0⟩ := id hL
  obtain ⟨K, V, po, hg⟩ := hs.1
  have gb := hg.1.1
  have hs' := hs.le (show D ≤ D + 2000 by omega)
  have hlb : (aBu σ).length ≤ 900 := hM.2.2.2.2.1.1
  refine Wp.zo fun hok => ?_
  exact B_L_law_617 (C_xseasonLength hX (fun ν hd => ⟨_, rfl, Call.zo fun okν _ => C_seasonLength (hL.cx hd).1.2.1 (L_n0 hL hd okν hs' nx)⟩))
theorem L_c10 (hG : zGk G) (hL : zLv G x d da bf sb m o r0 B σ σ μ) (hs : zGs D σ) (hD : D < 800000) (hi : z4 = nI i) (hi6 : i + 6 ≤ t0) (ht : t0 ≤ 144) (nx : zNx G x d da bf sb m o t0 r0 B σ D z4 μ Q E) : Wp G Y_L_law 630 [(0, vP (209, t0, r0)), (1, vP (1, 0, x)), (2, vP (5, 0, m)), (3, vP (203, 1, o)), (4, vI z4)] [] μ Q E := by
  obtain ⟨⟨sba, n, hX⟩, hM, hK, hB, ho, hr0⟩ := id hL
  obtain ⟨K, V, po, hg⟩ := hs.1
  have gb := hg.1.1
  have hs' := hs.le (show D ≤ D + 2000 by omega)
  have hlb : (aBu σ).length ≤ 900 := hM.2.2.2.2.1.1
  refine Wp.zo fun hok => ?_
  have ix1 : zix (z4 + 1) (i + 1) t0 := zix.eq (by rw [hi, show (1 : Int32) = nI 1 from rfl, nI_add]) (by omega) (by omega)
  exact B_L_law_630 ⟨i + 1, ix1, _, rfl, T_X0_fogOf (Call.zq (C_xfogOf hX hg (fun w hw h1 ν hd okν _ => ⟨_, rfl, Nat.one_pos, _, rfl, i + 1, ix1, _, (hL.cx hd).2 (i + 1), Call.zo fun ok1 _ => C_fogOf ((hL.cx hd).1.al okν).2.1 hg.1 (fun w' hw' h1' => by have hu0 := nI_un h1 h1' (by omega) (by omega); subst hu0; exact L_t0 hL hd okν hs' nx ok1) (fun q' => absurd h1 (q' w hw))⟩) (fun q ν a hd => ⟨a, rfl, _, rfl, i + 1, ix1, _, (hL.cx hd).2 (i + 1), Call.zo fun okν _ => C_fogOf (hL.cx hd).1.2.1 hg.1 (fun w' hw' h1' => absurd h1' (q w' hw')) (fun _ => L_t1 (by decide) hL hd okν hs' nx)⟩)))⟩
theorem L_c11 (hG : zGk G) (hL : zLv G x d da bf sb m o r0 B σ σ μ) (hs : zGs D σ) (hD : D < 800000) (hi : z4 = nI i) (hi6 : i + 6 ≤ t0) (ht : t0 ≤ 144) (nx : zNx G x d da bf sb m o t0 r0 B σ D z4 μ Q E) : Wp G Y_L_law 686 [(0, vP (209, t0, r0)), (1, vP (1, 0, x)), (2, vP (5, 0, m)), (3, vP (203, 1, o)), (4, vI z4)] [] μ Q E := by
  obtain ⟨⟨sba, n, hX⟩, hM, hK, hB, ho, hr0⟩ := id hL
  obtain ⟨K, V, po, hg⟩ := hs.1
  have gb := hg.1.1
  have hs' := hs.le (show D ≤ D + 2000 by omega)
  have hlb : (aBu σ).length ≤ 900 := hM.2.2.2.2.1.1
  refine Wp.zo fun hok => ?_
  exact B_L_law_686 (C_xfindEcho (hK.kx hX hok hB) hX hg (fun ν hd => ⟨_, rfl, Call.zo fun okν _ => C_findEcho ((hL.cx hd).1.2.2.1.ks hB) (hL.cx hd).1.2.1 hg (L_n0 hL hd okν hs' nx)⟩))
theorem L_c12 (hG : zGk G) (hL : zLv G x d da bf sb m o r0 B σ σ μ) (hs : zGs D σ) (hD : D < 800000) (hi : z4 = nI i) (hi6 : i + 6 ≤ t0) (ht : t0 ≤ 144) (nx : zNx G x d da bf sb m o t0 r0 B σ D z4 μ Q E) : Wp G Y_L_law 699 [(0, vP (209, t0, r0)), (1, vP (1, 0, x)), (2, vP (5, 0, m)), (3, vP (203, 1, o)), (4, vI z4)] [] μ Q E := by
  obtain ⟨⟨sba, n, hX⟩, hM, hK, hB, ho, hr0⟩ := id hL
  obtain ⟨K, V, po, hg⟩ := hs.1
  have gb := hg.1.1
  have hs' := hs.le (show D ≤ D + 2000 by omega)
  have hlb : (aBu σ).length ≤ 900 := hM.2.2.2.2.1.1
  refine Wp.zo fun hok => ?_
  exact B_L_law_699 (C_xfindValley (hK.kx hX hok hB) hX hg (fun ν hd => ⟨_, rfl, Call.zo fun okν _ => C_findValley ((hL.cx hd).1.2.2.1.ks hB) (hL.cx hd).1.2.1 hg (L_n0 hL hd okν hs' nx)⟩))
theorem L_c13 (hG : zGk G) (hL : zLv G x d da bf sb m o r0 B σ σ μ) (hs : zGs D σ) (hD : D < 800000) (hi : z4 = nI i) (hi6 : i + 6 ≤ t0) (ht : t0 ≤ 144) (nx : zNx G x d da bf sb m o t0 r0 B σ D z4 μ Q E) : Wp G Y_L_law 712 [(0, vP (209, t0, r0)), (1, vP (1, 0, x)), (2, vP (5, 0, m)), (3, vP (203, 1, o)), (4, vI z4)] [] μ Q E := by
  obtain ⟨⟨sba, n, hX⟩, hM, hK, hB, ho, hr0⟩ := id hL
  obtain ⟨K, V, po, hg⟩ := hs.1
  have gb := hg.1.1
  have hs' := hs.le (show D ≤ D + 2000 by omega)
  have hlb : (aBu σ).length ≤ 900 := hM.2.2.2.2.1.1
  refine Wp.zo fun hok => ?_
  have ix1 : zix (z4 + 1) (i + 1) t0 := zix.eq (by rw [hi, show (1 : Int32) = nI 1 from rfl, nI_add]) (by omega) (by omega)
  exact B_L_law_712 ⟨i + 1, ix1, _, rfl, T_X0_delayOf (Call.zq (C_xdelayOf hX hg (fun x1 hx1 h1 ν hd okν _ => ⟨_, rfl, Nat.one_pos, _, rfl, i + 1, ix1, _, (hL.cx hd).2 (i + 1), Call.zo fun ok1 _ => C_delayOf ((hL.cx hd).1.al okν).2.1 hg.1 (fun x1' hx1' h1' => by have hu0 := nI_un h1 h1' (by omega) (by omega); subst hu0; exact L_t0 hL hd okν hs' nx ok1) (fun q' => absurd h1 (q' x1 hx1))⟩) (fun q ν a hd => ⟨a, rfl, _, rfl, i + 1, ix1, _, (hL.cx hd).2 (i + 1), Call.zo fun okν _ => C_delayOf (hL.cx hd).1.2.1 hg.1 (fun x1' hx1' h1' => absurd h1' (q x1' hx1')) (fun _ => L_t1 (by decide) hL hd okν hs' nx)⟩)))⟩
theorem L_c14 (hG : zGk G) (hL : zLv G x d da bf sb m o r0 B σ σ μ) (hs : zGs D σ) (hD : D < 800000) (hi : z4 = nI i) (hi6 : i + 6 ≤ t0) (ht : t0 ≤ 144) (nx : zNx G x d da bf sb m o t0 r0 B σ D z4 μ Q E) : Wp G Y_L_law 768 [(0, vP (209, t0, r0)), (1, vP (1, 0, x)), (2, vP (5, 0, m)), (3, vP (203, 1, o)), (4, vI z4)] [] μ Q E := by
  obtain ⟨⟨sba, n, hX⟩, hM, hK, hB, ho, hr0⟩ := id hL
  obtain ⟨K, V, po, hg⟩ := hs.1
  have gb := hg.1.1
  have hs' := hs.le (show D ≤ D + 2000 by omega)
  have hlb : (aBu σ).length ≤ 900 := hM.2.2.2.2.1.1
  refine Wp.zo fun hok => ?_
  have ix1 : zix (z4 + 1) (i + 1) t0 := zix.eq (by rw [hi, show (1 : Int32) = nI 1 from rfl, nI_add]) (by omega) (by omega)
  exact B_L_law_768 ⟨i + 1, ix1, _, rfl, T_X0_repeatsOf (Call.zq (C_xrepeatsOf hX hg (fun x1 hx1 h1 ν hd okν _ => ⟨_, rfl, Nat.one_pos, _, rfl, i + 1, ix1, _, (hL.cx hd).2 (i + 1), Call.zo fun ok1 _ => C_repeatsOf ((hL.cx hd).1.al okν).2.1 hg.1 (fun x1' hx1' h1' => by have hu0 := nI_un h1 h1' (by omega) (by omega); subst hu0; exact L_t0 hL hd okν hs' nx ok1) (fun q' => absurd h1 (q' x1 hx1))⟩) (fun q ν a hd => ⟨a, rfl, _, rfl, i + 1, ix1, _, (hL.cx hd).2 (i + 1), Call.zo fun okν _ => C_repeatsOf (hL.cx hd).1.2.1 hg.1 (fun x1' hx1' h1' => absurd h1' (q x1' hx1')) (fun _ => L_t1 (by decide) hL hd okν hs' nx)⟩)))⟩
theorem L_c15 (hG : zGk G) (hL : zLv G x d da bf sb m o r0 B σ σ μ) (hs : zGs D σ) (hD : D < 800000) (hi : z4 = nI i) (hi6 : i + 6 ≤ t0) (ht : t0 ≤ 144) (nx : zNx G x d da bf sb m o t0 r0 B σ D z4 μ Q E) : Wp G Y_L_law 824 [(0, vP (209, t0, r0)), (1, vP (1, 0, x)), (2, vP (5, 0, m)), (3, vP (203, 1, o)), (4, vI z4)] [] μ Q E := by
  obtain ⟨⟨sba, n, hX⟩, hM, hK, hB, ho, hr0⟩ := id hL
  obtain ⟨K, V, po, hg⟩ := hs.1
  have gb := hg.1.1
  have hs' := hs.le (show D ≤ D + 2000 by omega)
  have hlb : (aBu σ).length ≤ 900 := hM.2.2.2.2.1.1
  refine Wp.zo fun hok => ?_
  have ix1 : zix (z4 + 1) (i + 1) t0 := zix.eq (by rw [hi, show (1 : Int32) = nI 1 from rfl, nI_add]) (by omega) (by omega)
  exact B_L_law_824 ⟨i + 1, ix1, _, rfl, T_X0_reserveWage (Call.zq (C_xreserveWage hX hg (fun x1 hx1 h1 ν hd okν _ => ⟨_, rfl, Nat.one_pos, _, rfl, i + 1, ix1, _, (hL.cx hd).2 (i + 1), Call.zo fun ok1 _ => C_reserveWage ((hL.cx hd).1.al okν).2.1 hg.1 (fun x1' hx1' h1' => by have hu0 := nI_un h1 h1' (by omega) (by omega); subst hu0; exact L_t0 hL hd okν hs' nx ok1) (fun q' => absurd h1 (q' x1 hx1))⟩) (fun q ν a hd => ⟨a, rfl, _, rfl, i + 1, ix1, _, (hL.cx hd).2 (i + 1), Call.zo fun okν _ => C_reserveWage (hL.cx hd).1.2.1 hg.1 (fun x1' hx1' h1' => absurd h1' (q x1' hx1')) (fun _ => L_t1 (by decide) hL hd okν hs' nx)⟩)))⟩
theorem L_c16 (hG : zGk G) (hL : zLv G x d da bf sb m o r0 B σ σ μ) (hs : zGs D σ) (hD : D < 800000) (hi : z4 = nI i) (hi6 : i + 6 ≤ t0) (ht : t0 ≤ 144) (nx : zNx G x d da bf sb m o t0 r0 B σ D z4 μ Q E) : Wp G Y_L_law 880 [(0, vP (209, t0, r0)), (1, vP (1, 0, x)), (2, vP (5, 0, m)), (3, vP (203, 1, o)), (4, vI z4)] [] μ Q E := by
  obtain ⟨⟨sba, n, hX⟩, hM, hK, hB, ho, hr0⟩ := id hL
  obtain ⟨K, V, po, hg⟩ := hs.1
  have gb := hg.1.1
  have hs' := hs.le (show D ≤ D + 2000 by omega)
  have hlb : (aBu σ).length ≤ 900 := hM.2.2.2.2.1.1
  refine Wp.zo fun hok => ?_
  have ix1 : zix (z4 + 1) (i + 1) t0 := zix.eq (by rw [hi, show (1 : Int32) = nI 1 from rfl, nI_add]) (by omega) (by omega)
  exact B_L_law_880 ⟨i + 1, ix1, _, rfl, T_X0_resistanceOf (Call.zq (C_xresistanceOf hX hg (fun x1 hx1 h1 ν hd okν _ => ⟨_, rfl, Nat.one_pos, _, rfl, i + 1, ix1, _, (hL.cx hd).2 (i + 1), Call.zo fun ok1 _ => C_resistanceOf ((hL.cx hd).1.al okν).2.1 hg.1 (fun x1' hx1' h1' => by have hu0 := nI_un h1 h1' (by omega) (by omega); subst hu0; exact L_t0 hL hd okν hs' nx ok1) (fun q' => absurd h1 (q' x1 hx1))⟩) (fun q ν a hd => ⟨a, rfl, _, rfl, i + 1, ix1, _, (hL.cx hd).2 (i + 1), Call.zo fun okν _ => C_resistanceOf (hL.cx hd).1.2.1 hg.1 (fun x1' hx1' h1' => absurd h1' (q x1' hx1')) (fun _ => L_t1 (by decide) hL hd okν hs' nx)⟩)))⟩
theorem L_c17 (hG : zGk G) (hL : zLv G x d da bf sb m o r0 B σ σ μ) (hs : zGs D σ) (hD : D < 800000) (hi : z4 = nI i) (hi6 : i + 6 ≤ t0) (ht : t0 ≤ 144) (nx : zNx G x d da bf sb m o t0 r0 B σ D z4 μ Q E) : Wp G Y_L_law 936 [(0, vP (209, t0, r0)), (1, vP (1, 0, x)), (2, vP (5, 0, m)), (3, vP (203, 1, o)), (4, vI z4)] [] μ Q E := by
  obtain ⟨⟨sba, n, hX⟩, hM, hK, hB, ho, hr0⟩ := id hL
  obtain ⟨K, V, po, hg⟩ := hs.1
  have gb := hg.1.1
  have hs' := hs.le (show D ≤ D + 2000 by omega)
  have hlb : (aBu σ).length ≤ 900 := hM.2.2.2.2.1.1
  refine Wp.zo fun hok => ?_
  have ix1 : zix (z4 + 1) (i + 1) t0 := zix.eq (by rw [hi, show (1 : Int32) = nI 1 from rfl, nI_add]) (by omega) (by omega)
  exact B_L_law_936 ⟨i + 1, ix1, _, rfl, T_X0_savingsOf (Call.zq (C_xsavingsOf hX hg (fun x1 hx1 h1 ν hd okν _ => ⟨_, rfl, Nat.one_pos, _, rfl, i + 1, ix1, _, (hL.cx hd).2 (i + 1), Call.zo fun ok1 _ => C_savingsOf ((hL.cx hd).1.al okν).2.1 hg.1 (fun x1' hx1' h1' => by have hu0 := nI_un h1 h1' (by omega) (by omega); subst hu0; exact L_t0 hL hd okν hs' nx ok1) (fun q' => absurd h1 (q' x1 hx1))⟩) (fun q ν a hd => ⟨a, rfl, _, rfl, i + 1, ix1, _, (hL.cx hd).2 (i + 1), Call.zo fun okν _ => C_savingsOf (hL.cx hd).1.2.1 hg.1 (fun x1' hx1' h1' => absurd h1' (q x1' hx1')) (fun _ => L_t1 (by decide) hL hd okν hs' nx)⟩)))⟩
theorem L_c18 (hG : zGk G) (hL : zLv G x d da bf sb m o r0 B σ σ μ) (hs : zGs D σ) (hD : D < 800000) (hi : z4 = nI i) (hi6 : i + 6 ≤ t0) (ht : t0 ≤ 144) (nx : zNx G x d da bf sb m o t0 r0 B σ D z4 μ Q E) : Wp G Y_L_law 992 [(0, vP (209, t0, r0)), (1, vP (1, 0, x)), (2, vP (5, 0, m)), (3, vP (203, 1, o)), (4, vI z4)] [] μ Q E := by
  obtain ⟨⟨sba, n, hX⟩, hM, hK, hB, ho, hr0⟩ := id hL
  obtain ⟨K, V, po, hg⟩ := hs.1
  have gb := hg.1.1
  have hs' := hs.le (show D ≤ D + 2000 by omega)
  have hlb : (aBu σ).length ≤ 900 := hM.2.2.2.2.1.1
  refine Wp.zo fun hok => ?_
  have ix1 : zix (z4 + 1) (i + 1) t0 := zix.eq (by rw [hi, show (1 : Int32) = nI 1 from rfl, nI_add]) (by omega) (by omega)
  exact B_L_law_992 ⟨i + 1, ix1, _, rfl, T_X0_unpaidDays (Call.zq (C_xunpaidDays hX hg (fun x1 hx1 h1 ν hd okν _ => ⟨_, rfl, Nat.one_pos, _, rfl, i + 1, ix1, _, (hL.cx hd).2 (i + 1), Call.zo fun ok1 _ => C_unpaidDays ((hL.cx hd).1.al okν).2.1 hg.1 (fun x1' hx1' h1' => by have hu0 := nI_un h1 h1' (by omega) (by omega); subst hu0; exact L_t0 hL hd okν hs' nx ok1) (fun q' => absurd h1 (q' x1 hx1))⟩) (fun q ν a hd => ⟨a, rfl, _, rfl, i + 1, ix1, _, (hL.cx hd).2 (i + 1), Call.zo fun okν _ => C_unpaidDays (hL.cx hd).1.2.1 hg.1 (fun x1' hx1' h1' => absurd h1' (q x1' hx1')) (fun _ => L_t1 (by decide) hL hd okν hs' nx)⟩)))⟩
theorem L_c19 (hG : zGk G) (hL : zLv G x d da bf sb m o r0 B σ σ μ) (hs : zGs D σ) (hD : D < 800000) (hi : z4 = nI i) (hi6 : i + 6 ≤ t0) (ht : t0 ≤ 144) (nx : zNx G x d da bf sb m o t0 r0 B σ D z4 μ Q E) : Wp G Y_L_law 1048 [(0, vP (209, t0, r0)), (1, vP (1, 0, x)), (2, vP (5, 0, m)), (3, vP (203, 1, o)), (4, vI z4)] [] μ Q E := by
  obtain ⟨⟨sba, n, hX⟩, hM, hK, hB, ho, hr0⟩ := id hL
  obtain ⟨K, V, po, hg⟩ := hs.1
  have gb := hg.1.1
  have hs' := hs.le (show D ≤ D + 2000 by omega)
  have hlb : (aBu σ).length ≤ 900 := hM.2.2.2.2.1.1
  refine Wp.zo fun hok => ?_
  have ix1 : zix (z4 + 1) (i + 1) t0 := zix.eq (by rw [hi, show (1 : Int32) = nI 1 from rfl, nI_add]) (by omega) (by omega)
  exact B_L_law_1048 ⟨i + 1, ix1, _, rfl, T_X0_employerOf (Call.zq (C_xemployerOf hX hg (fun x1 hx1 h1 ν hd okν _ => ⟨_, rfl, Nat.one_pos, _, rfl, i + 1, ix1, _, (hL.cx hd).2 (i + 1), Call.zo fun ok1 _ => C_employerOf ((hL.cx hd).1.al okν).2.1 hg.1 (fun x1' hx1' h1' => by have hu0 := nI_un h1 h1' (by omega) (by omega); subst hu0; exact L_t0 hL hd okν hs' nx ok1) (fun q' => absurd h1 (q' x1 hx1))⟩) (fun q ν a hd => ⟨a, rfl, _, rfl, i + 1, ix1, _, (hL.cx hd).2 (i + 1), Call.zo fun okν _ => C_employerOf (hL.cx hd).1.2.1 hg.1 (fun x1' hx1' h1' => absurd h1' (q x1' hx1')) (fun _ => L_t1 (by decide) hL hd okν hs' nx)⟩)))⟩
theorem L_c20 (hG : zGk G) (hL : zLv G x d da bf sb m o r0 B σ σ μ) (hs : zGs D σ) (hD : D < 800000) (hi : z4 = nI i) (hi6 : i + 6 ≤ t0) (ht : t0 ≤ 144) (nx : zNx G x d da bf sb m o t0 r0 B σ D z4 μ Q E) : Wp G Y_L_law 1104 [(0, vP (209, t0, r0)), (1, vP (1, 0, x)), (2, vP (5, 0, m)), (3, vP (203, 1, o)), (4, vI z4)] [] μ Q E := by
  obtain ⟨⟨sba, n, hX⟩, hM, hK, hB, ho, hr0⟩ := id hL
  obtain ⟨K, V, po, hg⟩ := hs.1
  have gb := hg.1.1
  have hs' := hs.le (show D ≤ D + 2000 by omega)
  have hlb : (aBu σ).length ≤ 900 := hM.2.2.2.2.1.1
  refine Wp.zo fun hok => ?_
  have ix1 : zix (z4 + 1) (i + 1) t0 := zix.eq (by rw [hi, show (1 : Int32) = nI 1 from rfl, nI_add]) (by omega) (by omega)
  exact B_L_law_1104 ⟨i + 1, ix1, _, rfl, T_X0_widthOf (Call.zq (C_xwidthOf hX hg (fun x1 hx1 h1 ν hd okν _ => ⟨_, rfl, Nat.one_pos, _, rfl, i + 1, ix1, _, (hL.cx hd).2 (i + 1), Call.zo fun ok1 _ => C_widthOf ((hL.cx hd).1.al okν).2.1 hg.1 (fun x1' hx1' h1' => by have hu0 := nI_un h1 h1' (by omega) (by omega); subst hu0; exact L_t0 hL hd okν hs' nx ok1) (fun q' => absurd h1 (q' x1 hx1))⟩) (fun q ν a hd => ⟨a, rfl, _, rfl, i + 1, ix1, _, (hL.cx hd).2 (i + 1), Call.zo fun okν _ => C_widthOf (hL.cx hd).1.2.1 hg.1 (fun x1' hx1' h1' => absurd h1' (q x1' hx1')) (fun _ => L_t1 (by decide) hL hd okν hs' nx)⟩)))⟩
theorem L_c21 (hG : zGk G) (hL : zLv G x d da bf sb m o r0 B σ σ μ) (hs : zGs D σ) (hD : D < 800000) (hi : z4 = nI i) (hi6 : i + 6 ≤ t0) (ht : t0 ≤ 144) (nx : zNx G x d da bf sb m o t0 r0 B σ D z4 μ Q E) : Wp G Y_L_law 1160 [(0, vP (209, t0, r0)), (1, vP (1, 0, x)), (2, vP (5, 0, m)), (3, vP (203, 1, o)), (4, vI z4)] [] μ Q E := by
  obtain ⟨⟨sba, n, hX⟩, hM, hK, hB, ho, hr0⟩ := id hL
  obtain ⟨K, V, po, hg⟩ := hs.1
  have gb := hg.1.1
  have hs' := hs.le (show D ≤ D + 2000 by omega)
  have hlb : (aBu σ).length ≤ 900 := hM.2.2.2.2.1.1
  refine Wp.zo fun hok => ?_
  have ix1 : zix (z4 + 1) (i + 1) t0 := zix.eq (by rw [hi, show (1 : Int32) = nI 1 from rfl, nI_add]) (by omega) (by omega)
  exact B_L_law_1160 ⟨i + 1, ix1, _, rfl, T_X0_postsOf (Call.zq (C_xpostsOf hX hg (fun x1 hx1 h1 ν hd okν _ => ⟨_, rfl, Nat.one_pos, _, rfl, i + 1, ix1, _, (hL.cx hd).2 (i + 1), Call.zo fun ok1 _ => C_postsOf ((hL.cx hd).1.al okν).2.1 hg.1 (fun x1' hx1' h1' => by have hu0 := nI_un h1 h1' (by omega) (by omega); subst hu0; exact L_t0 hL hd okν hs' nx ok1) (fun q' => absurd h1 (q' x1 hx1))⟩) (fun q ν a hd => ⟨a, rfl, _, rfl, i + 1, ix1, _, (hL.cx hd).2 (i + 1), Call.zo fun okν _ => C_postsOf (hL.cx hd).1.2.1 hg.1 (fun x1' hx1' h1' => absurd h1' (q x1' hx1')) (fun _ => L_t1 (by decide) hL hd okν hs' nx)⟩)))⟩
theorem L_c22 (hG : zGk G) (hL : zLv G x d da bf sb m o r0 B σ σ μ) (hs : zGs D σ) (hD : D < 800000) (hi : z4 = nI i) (hi6 : i + 6 ≤ t0) (ht : t0 ≤ 144) (nx : zNx G x d da bf sb m o t0 r0 B σ D z4 μ Q E) : Wp G Y_L_law 1216 [(0, vP (209, t0, r0)), (1, vP (1, 0, x)), (2, vP (5, 0, m)), (3, vP (203, 1, o)), (4, vI z4)] [] μ Q E := by
  obtain ⟨⟨sba, n, hX⟩, hM, hK, hB, ho, hr0⟩ := id hL
  obtain ⟨K, V, po, hg⟩ := hs.1
  have gb := hg.1.1
  have hs' := hs.le (show D ≤ D + 2000 by omega)
  have hlb : (aBu σ).length ≤ 900 := hM.2.2.2.2.1.1
  refine Wp.zo fun hok => ?_
  have ix1 : zix (z4 + 1) (i + 1) t0 := zix.eq (by rw [hi, show (1 : Int32) = nI 1 from rfl, nI_add]) (by omega) (by omega)
  exact B_L_law_1216 ⟨i + 1, ix1, _, rfl, T_X0_wageOf (Call.zq (C_xwageOf hX hg (fun x1 hx1 h1 ν hd okν _ => ⟨_, rfl, Nat.one_pos, _, rfl, i + 1, ix1, _, (hL.cx hd).2 (i + 1), Call.zo fun ok1 _ => C_wageOf ((hL.cx hd).1.al okν).2.1 hg.1 (fun x1' hx1' h1' => by have hu0 := nI_un h1 h1' (by omega) (by omega); subst hu0; exact L_t0 hL hd okν hs' nx ok1) (fun q' => absurd h1 (q' x1 hx1))⟩) (fun q ν a hd => ⟨a, rfl, _, rfl, i + 1, ix1, _, (hL.cx hd).2 (i + 1), Call.zo fun okν _ => C_wageOf (hL.cx hd).1.2.1 hg.1 (fun x1' hx1' h1' => absurd h1' (q x1' hx1')) (fun _ => L_t1 (by decide) hL hd okν hs' nx)⟩)))⟩
theorem L_c23 (hG : zGk G) (hL : zLv G x d da bf sb m o r0 B σ σ μ) (hs : zGs D σ) (hD : D < 800000) (hi : z4 = nI i) (hi6 : i + 6 ≤ t0) (ht : t0 ≤ 144) (nx : zNx G x d da bf sb m o t0 r0 B σ D z4 μ Q E) : Wp G Y_L_law 1272 [(0, vP (209, t0, r0)), (1, vP (1, 0, x)), (2, vP (5, 0, m)), (3, vP (203, 1, o)), (4, vI z4)] [] μ Q E := by
  obtain ⟨⟨sba, n, hX⟩, hM, hK, hB, ho, hr0⟩ := id hL
  obtain ⟨K, V, po, hg⟩ := hs.1
  have gb := hg.1.1
  have hs' := hs.le (show D ≤ D + 2000 by omega)
  have hlb : (aBu σ).length ≤ 900 := hM.2.2.2.2.1.1
  refine Wp.zo fun hok => ?_
  have ix1 : zix (z4 + 1) (i + 1) t0 := zix.eq (by rw [hi, show (1 : Int32) = nI 1 from rfl, nI_add]) (by omega) (by omega)
  exact B_L_law_1272 ⟨i + 1, ix1, _, rfl, T_X0_purseOf (Call.zq (C_xpurseOf hX hg (fun x1 hx1 h1 ν hd okν _ => ⟨_, rfl, Nat.one_pos, _, rfl, i + 1, ix1, _, (hL.cx hd).2 (i + 1), Call.zo fun ok1 _ => C_purseOf ((hL.cx hd).1.al okν).2.1 hg.1 (fun x1' hx1' h1' => by have hu0 := nI_un h1 h1' (by omega) (by omega); subst hu0; exact L_t0 hL hd okν hs' nx ok1) (fun q' => absurd h1 (q' x1 hx1))⟩) (fun q ν a hd => ⟨a, rfl, _, rfl, i + 1, ix1, _, (hL.cx hd).2 (i + 1), Call.zo fun okν _ => C_purseOf (hL.cx hd).1.2.1 hg.1 (fun x1' hx1' h1' => absurd h1' (q x1' hx1')) (fun _ => L_t1 (by decide) hL hd okν hs' nx)⟩)))⟩
theorem L_c24 (hG : zGk G) (hL : zLv G x d da bf sb m o r0 B σ σ μ) (hs : zGs D σ) (hD : D < 800000) (hi : z4 = nI i) (hi6 : i + 6 ≤ t0) (ht : t0 ≤ 144) (nx : zNx G x d da bf sb m o t0 r0 B σ D z4 μ Q E) : Wp G Y_L_law 1328 [(0, vP (209, t0, r0)), (1, vP (1, 0, x)), (2, vP (5, 0, m)), (3, vP (203, 1, o)), (4, vI z4)] [] μ Q E := by
  obtain ⟨⟨sba, n, hX⟩, hM, hK, hB, ho, hr0⟩ := id hL
  obtain ⟨K, V, po, hg⟩ := hs.1
  have gb := hg.1.1
  have hs' := hs.le (show D ≤ D + 2000 by omega)
  have hlb : (aBu σ).length ≤ 900 := hM.2.2.2.2.1.1
  refine Wp.zo fun hok => ?_
  have ix1 : zix (z4 + 1) (i + 1) t0 := zix.eq (by rw [hi, show (1 : Int32) = nI 1 from rfl, nI_add]) (by omega) (by omega)
  exact B_L_law_1328 ⟨i + 1, ix1, _, rfl, T_X0_staffCount (Call.zq (C_xstaffCount hX hg (fun x1 hx1 h1 ν hd okν _ => ⟨_, rfl, Nat.one_pos, _, rfl, i + 1, ix1, _, (hL.cx hd).2 (i + 1), Call.zo fun ok1 _ => C_staffCount ((hL.cx hd).1.al okν).2.1 hg.1 (fun x1' hx1' h1' => by have hu0 := nI_un h1 h1' (by omega) (by omega); subst hu0; exact L_t0 hL hd okν hs' nx ok1) (fun q' => absurd h1 (q' x1 hx1))⟩) (fun q ν a hd => ⟨a, rfl, _, rfl, i + 1, ix1, _, (hL.cx hd).2 (i + 1), Call.zo fun okν _ => C_staffCount (hL.cx hd).1.2.1 hg.1 (fun x1' hx1' h1' => absurd h1' (q x1' hx1')) (fun _ => L_t1 (by decide) hL hd okν hs' nx)⟩)))⟩
theorem L_c25 (hG : zGk G) (hL : zLv G x d da bf sb m o r0 B σ σ μ) (hs : zGs D σ) (hD : D < 800000) (hi : z4 = nI i) (hi6 : i + 6 ≤ t0) (ht : t0 ≤ 144) (nx : zNx G x d da bf sb m o t0 r0 B σ D z4 μ Q E) : Wp G Y_L_law 1384 [(0, vP (209, t0, r0)), (1, vP (1, 0, x)), (2, vP (5, 0, m)), (3, vP (203, 1, o)), (4, vI z4)] [] μ Q E := by
  obtain ⟨⟨sba, n, hX⟩, hM, hK, hB, ho, hr0⟩ := id hL
  obtain ⟨K, V, po, hg⟩ := hs.1
  have gb := hg.1.1
  have hs' := hs.le (show D ≤ D + 2000 by omega)
  have hlb : (aBu σ).length ≤ 900 := hM.2.2.2.2.1.1
  refine Wp.zo fun hok => ?_
  have ix1 : zix (z4 + 1) (i + 1) t0 := zix.eq (by rw [hi, show (1 : Int32) = nI 1 from rfl, nI_add]) (by omega) (by omega)
  have ix2 : zix (z4 + 2) (i + 2) t0 := zix.eq (by rw [hi, show (2 : Int32) = nI 2 from rfl, nI_add]) (by omega) (by omega)
  exact B_L_law_1384 ⟨i + 1, ix1, _, rfl, i + 2, ix2, _, rfl, T_X0_staffMember (Call.zq (C_xstaffMember hX hg (fun v w hv h1 hw h2 ν hd okν _ => ⟨_, rfl, Nat.one_pos, _, rfl, i + 1, ix1, _, (hL.cx hd).2 (i + 1), i + 2, ix2, _, (hL.cx hd).2 (i + 2), Call.zo fun ok1 _ => C_staffMember ((hL.cx hd).1.al okν).2.1 hg.1 (fun v' w' hv' h1' hw' h2' => by have hu0 := nI_un h1 h1' (by omega) (by omega); subst hu0; have hs6 := sSt_lt hg hv; have hu9 := nI_un h2 h2' (by omega) (by omega); subst hu9; exact L_t0 hL hd okν hs' nx ok1) (fun v' hv' h1' hn' => by have hu0 := nI_un h1 h1' (by omega) (by omega); subst hu0; exact absurd h2 (hn' w hw)) (fun q' => absurd h1 (q' v hv))⟩) (fun v hv h1 hn ν hd okν _ => ⟨_, rfl, Nat.one_pos, _, rfl, i + 1, ix1, _, (hL.cx hd).2 (i + 1), i + 2, ix2, _, (hL.cx hd).2 (i + 2), Call.zo fun ok1 _ => C_staffMember ((hL.cx hd).1.al okν).2.1 hg.1 (fun v' w' hv' h1' hw' h2' => by have hu0 := nI_un h1 h1' (by omega) (by omega); subst hu0; exact absurd h2' (hn w' hw')) (fun v' hv' h1' hn' => by have hu0 := nI_un h1 h1' (by omega) (by omega); subst hu0; exact L_t0 hL hd okν hs' nx ok1) (fun q' => absurd h1 (q' v hv))⟩) (fun q ν a hd => ⟨a, rfl, _, rfl, i + 1, ix1, _, (hL.cx hd).2 (i + 1), i + 2, ix2, _, (hL.cx hd).2 (i + 2), Call.zo fun okν _ => C_staffMember (hL.cx hd).1.2.1 hg.1 (fun v' w' hv' h1' hw' h2' => absurd h1' (q v' hv')) (fun v' hv' h1' hn' => absurd h1' (q v' hv')) (fun _ => L_t1 (by decide) hL hd okν hs' nx)⟩)))⟩
theorem L_c26 (hG : zGk G) (hL : zLv G x d da bf sb m o r0 B σ σ μ) (hs : zGs D σ) (hD : D < 800000) (hi : z4 = nI i) (hi6 : i + 6 ≤ t0) (ht : t0 ≤ 144) (nx : zNx G x d da bf sb m o t0 r0 B σ D z4 μ Q E) : Wp G Y_L_law 1452 [(0, vP (209, t0, r0)), (1, vP (1, 0, x)), (2, vP (5, 0, m)), (3, vP (203, 1, o)), (4, vI z4)] [] μ Q E := by
  obtain ⟨⟨sba, n, hX⟩, hM, hK, hB, ho, hr0⟩ := id hL
  obtain ⟨K, V, po, hg⟩ := hs.1
  have gb := hg.1.1
  have hs' := hs.le (show D ≤ D + 2000 by omega)
  have hlb : (aBu σ).length ≤ 900 := hM.2.2.2.2.1.1
  refine Wp.zo fun hok => ?_
  have ix1 : zix (z4 + 1) (i + 1) t0 := zix.eq (by rw [hi, show (1 : Int32) = nI 1 from rfl, nI_add]) (by omega) (by omega)
  have ix2 : zix (z4 + 2) (i + 2) t0 := zix.eq (by rw [hi, show (2 : Int32) = nI 2 from rfl, nI_add]) (by omega) (by omega)
  exact B_L_law_1452 ⟨i + 1, ix1, _, rfl, i + 2, ix2, _, rfl, T_X0_isTested (Call.zq (C_xisTested hX hg (fun v e hv he h1 h2 ν hd okν _ => ⟨_, rfl, fun hy => ⟨Nat.one_pos, _, rfl, i + 1, ix1, _, (hL.cx hd).2 (i + 1), i + 2, ix2, _, (hL.cx hd).2 (i + 2), Call.zo fun ok1 _ => C_isTested ((hL.cx hd).1.al okν).2.1 hg.1 (fun v' e' hv' he' h1' h2' => by have hu0 := nI_un h1 h1' (by omega) (by omega); have hu1 := nI_un h2 h2' (by omega) (by omega); subst hu0; subst hu1; exact L_tb hL hd okν hs' nx ok1 (Or.inl ⟨hy, rfl⟩)) (fun q' => absurd h2 (q' v e hv he h1))⟩, fun hy => ⟨Nat.one_pos, _, rfl, i + 1, ix1, _, (hL.cx hd).2 (i + 1), i + 2, ix2, _, (hL.cx hd).2 (i + 2), Call.zo fun ok1 _ => C_isTested ((hL.cx hd).1.al okν).2.1 hg.1 (fun v' e' hv' he' h1' h2' => by have hu0 := nI_un h1 h1' (by omega) (by omega); have hu1 := nI_un h2 h2' (by omega) (by omega); subst hu0; subst hu1; exact L_tb hL hd okν hs' nx ok1 (Or.inr ⟨hy, rfl⟩)) (fun q' => absurd h2 (q' v e hv he h1))⟩⟩) (fun q ν a hd => ⟨a, rfl, _, rfl, i + 1, ix1, _, (hL.cx hd).2 (i + 1), i + 2, ix2, _, (hL.cx hd).2 (i + 2), Call.zo fun okν _ => C_isTested (hL.cx hd).1.2.1 hg.1 (fun v' e' hv' he' h1' h2' => absurd h2' (q v' e' hv' he' h1')) (fun _ => L_tb1 hL hd okν hs' nx)⟩)))⟩
theorem L_c27 (hG : zGk G) (hL : zLv G x d da bf sb m o r0 B σ σ μ) (hs : zGs D σ) (hD : D < 800000) (hi : z4 = nI i) (hi6 : i + 6 ≤ t0) (ht : t0 ≤ 144) (nx : zNx G x d da bf sb m o t0 r0 B σ D z4 μ Q E) : Wp G Y_L_law 1527 [(0, vP (209, t0, r0)), (1, vP (1, 0, x)), (2, vP (5, 0, m)), (3, vP (203, 1, o)), (4, vI z4)] [] μ Q E := by
  obtain ⟨⟨sba, n, hX⟩, hM, hK, hB, ho, hr0⟩ := id hL
  obtain ⟨K, V, po, hg⟩ := hs.1
  have gb := hg.1.1
  have hs' := hs.le (show D ≤ D + 2000 by omega)
  have hlb : (aBu σ).length ≤ 900 := hM.2.2.2.2.1.1
  refine Wp.zo fun hok => ?_
  have ix1 : zix (z4 + 1) (i + 1) t0 := zix.eq (by rw [hi, show (1 : Int32) = nI 1 from rfl, nI_add]) (by omega) (by omega)
  have ix2 : zix (z4 + 2) (i + 2) t0 := zix.eq (by rw [hi, show (2 : Int32) = nI 2 from rfl, nI_add]) (by omega) (by omega)
  exact B_L_law_1527 ⟨i + 1, ix1, _, rfl, i + 2, ix2, _, rfl, T_X0_seenScore (Call.zq (C_xseenScore hX hg (fun v e hv he h1 h2 ν hd okν _ => ⟨_, rfl, Nat.one_pos, _, rfl, i + 1, ix1, _, (hL.cx hd).2 (i + 1), i + 2, ix2, _, (hL.cx hd).2 (i + 2), Call.zo fun ok1 _ => C_seenScore ((hL.cx hd).1.al okν).2.1 hg.1 (fun v' e' hv' he' h1' h2' => by have hu0 := nI_un h1 h1' (by omega) (by omega); have hu1 := nI_un h2 h2' (by omega) (by omega); subst hu0; subst hu1; exact L_t0 hL hd okν hs' nx ok1) (fun q' => absurd h2 (q' v e hv he h1))⟩) (fun q ν a hd => ⟨a, rfl, _, rfl, i + 1, ix1, _, (hL.cx hd).2 (i + 1), i + 2, ix2, _, (hL.cx hd).2 (i + 2), Call.zo fun okν _ => C_seenScore (hL.cx hd).1.2.1 hg.1 (fun v' e' hv' he' h1' h2' => absurd h2' (q v' e' hv' he' h1')) (fun _ => L_t1 (by decide) hL hd okν hs' nx)⟩)))⟩
theorem L_c28 (hG : zGk G) (hL : zLv G x d da bf sb m o r0 B σ σ μ) (hs : zGs D σ) (hD : D < 800000) (hi : z4 = nI i) (hi6 : i + 6 ≤ t0) (ht : t0 ≤ 144) (nx : zNx G x d da bf sb m o t0 r0 B σ D z4 μ Q E) : Wp G Y_L_law 1595 [(0, vP (209, t0, r0)), (1, vP (1, 0, x)), (2, vP (5, 0, m)), (3, vP (203, 1, o)), (4, vI z4)] [] μ Q E := by
  obtain ⟨⟨sba, n, hX⟩, hM, hK, hB, ho, hr0⟩ := id hL
  obtain ⟨K, V, po, hg⟩ := hs.1
  have gb := hg.1.1
  have hs' := hs.le (show D ≤ D + 2000 by omega)
  have hlb : (aBu σ).length ≤ 900 := hM.2.2.2.2.1.1
  refine Wp.zo fun hok => ?_
  have ix1 : zix (z4 + 1) (i + 1) t0 := zix.eq (by rw [hi, show (1 : Int32) = nI 1 from rfl, nI_add]) (by omega) (by omega)
  have ix2 : zix (z4 + 2) (i + 2) t0 := zix.eq (by rw [hi, show (2 : Int32) = nI 2 from rfl, nI_add]) (by omega) (by omega)
  exact B_L_law_1595 ⟨i + 1, ix1, _, rfl, i + 2, ix2, _, rfl, T_X0_pairReason (Call.zq (C_xpairReason hX hg (fun v e hv he h1 h2 ν hd okν _ => ⟨_, rfl, Nat.one_pos, _, rfl, i + 1, ix1, _, (hL.cx hd).2 (i + 1), i + 2, ix2, _, (hL.cx hd).2 (i + 2), Call.zo fun ok1 _ => C_pairReason ((hL.cx hd).1.al okν).2.1 hg.1 (fun v' e' hv' he' h1' h2' => by have hu0 := nI_un h1 h1' (by omega) (by omega); have hu1 := nI_un h2 h2' (by omega) (by omega); subst hu0; subst hu1; exact L_t0 hL hd okν hs' nx ok1) (fun q' => absurd h2 (q' v e hv he h1))⟩) (fun q ν a hd => ⟨a, rfl, _, rfl, i + 1, ix1, _, (hL.cx hd).2 (i + 1), i + 2, ix2, _, (hL.cx hd).2 (i + 2), Call.zo fun okν _ => C_pairReason (hL.cx hd).1.2.1 hg.1 (fun v' e' hv' he' h1' h2' => absurd h2' (q v' e' hv' he' h1')) (fun _ => L_t1 (by decide) hL hd okν hs' nx)⟩)))⟩
theorem L_c29 (hG : zGk G) (hL : zLv G x d da bf sb m o r0 B σ σ μ) (hs : zGs D σ) (hD : D < 800000) (hi : z4 = nI i) (hi6 : i + 6 ≤ t0) (ht : t0 ≤ 144) (nx : zNx G x d da bf sb m o t0 r0 B σ D z4 μ Q E) : Wp G Y_L_law 1663 [(0, vP (209, t0, r0)), (1, vP (1, 0, x)), (2, vP (5, 0, m)), (3, vP (203, 1, o)), (4, vI z4)] [] μ Q E := by
  obtain ⟨⟨sba, n, hX⟩, hM, hK, hB, ho, hr0⟩ := id hL
  obtain ⟨K, V, po, hg⟩ := hs.1
  have gb := hg.1.1
  have hs' := hs.le (show D ≤ D + 2000 by omega)
  have hlb : (aBu σ).length ≤ 900 := hM.2.2.2.2.1.1
  refine Wp.zo fun hok => ?_
  have ix1 : zix (z4 + 1) (i + 1) t0 := zix.eq (by rw [hi, show (1 : Int32) = nI 1 from rfl, nI_add]) (by omega) (by omega)
  have ix2 : zix (z4 + 2) (i + 2) t0 := zix.eq (by rw [hi, show (2 : Int32) = nI 2 from rfl, nI_add]) (by omega) (by omega)
  exact B_L_law_1663 ⟨i + 1, ix1, _, rfl, i + 2, ix2, _, rfl, T_X0_preferredValley (Call.zq (C_xpreferredValley hX hg (fun x1 hx1 h1 ν hd okν _ => ⟨_, rfl, Nat.one_pos, _, rfl, i + 1, ix1, _, (hL.cx hd).2 (i + 1), i + 2, ix2, _, (hL.cx hd).2 (i + 2), Call.zo fun ok1 _ => C_preferredValley ((hL.cx hd).1.al okν).2.1 hg.1 (fun x1' hx1' h1' => by have hu0 := nI_un h1 h1' (by omega) (by omega); subst hu0; exact L_t0 hL hd okν hs' nx ok1) (fun q' => absurd h1 (q' x1 hx1))⟩) (fun q ν a hd => ⟨a, rfl, _, rfl, i + 1, ix1, _, (hL.cx hd).2 (i + 1), i + 2, ix2, _, (hL.cx hd).2 (i + 2), Call.zo fun okν _ => C_preferredValley (hL.cx hd).1.2.1 hg.1 (fun x1' hx1' h1' => absurd h1' (q x1' hx1')) (fun _ => L_t1 (by decide) hL hd okν hs' nx)⟩)))⟩
theorem L_c30 (hG : zGk G) (hL : zLv G x d da bf sb m o r0 B σ σ μ) (hs : zGs D σ) (hD : D < 800000) (hi : z4 = nI i) (hi6 : i + 6 ≤ t0) (ht : t0 ≤ 144) (nx : zNx G x d da bf sb m o t0 r0 B σ D z4 μ Q E) : Wp G Y_L_law 1731 [(0, vP (209, t0, r0)), (1, vP (1, 0, x)), (2, vP (5, 0, m)), (3, vP (203, 1, o)), (4, vI z4)] [] μ Q E := by
  obtain ⟨⟨sba, n, hX⟩, hM, hK, hB, ho, hr0⟩ := id hL
  obtain ⟨K, V, po, hg⟩ := hs.1
  have gb := hg.1.1
  have hs' := hs.le (show D ≤ D + 2000 by omega)
  have hlb : (aBu σ).length ≤ 900 := hM.2.2.2.2.1.1
  refine Wp.zo fun hok => ?_
  have ix1 : zix (z4 + 1) (i + 1) t0 := zix.eq (by rw [hi, show (1 : Int32) = nI 1 from rfl, nI_add]) (by omega) (by omega)
  have ix2 : zix (z4 + 2) (i + 2) t0 := zix.eq (by rw [hi, show (2 : Int32) = nI 2 from rfl, nI_add]) (by omega) (by omega)
  exact B_L_law_1731 ⟨i + 1, ix1, _, rfl, i + 2, ix2, _, rfl, T_X0_preferredEcho (Call.zq (C_xpreferredEcho hX hg (fun x1 hx1 h1 ν hd okν _ => ⟨_, rfl, Nat.one_pos, _, rfl, i + 1, ix1, _, (hL.cx hd).2 (i + 1), i + 2, ix2, _, (hL.cx hd).2 (i + 2), Call.zo fun ok1 _ => C_preferredEcho ((hL.cx hd).1.al okν).2.1 hg.1 (fun x1' hx1' h1' => by have hu0 := nI_un h1 h1' (by omega) (by omega); subst hu0; exact L_t0 hL hd okν hs' nx ok1) (fun q' => absurd h1 (q' x1 hx1))⟩) (fun q ν a hd => ⟨a, rfl, _, rfl, i + 1, ix1, _, (hL.cx hd).2 (i + 1), i + 2, ix2, _, (hL.cx hd).2 (i + 2), Call.zo fun okν _ => C_preferredEcho (hL.cx hd).1.2.1 hg.1 (fun x1' hx1' h1' => absurd h1' (q x1' hx1')) (fun _ => L_t1 (by decide) hL hd okν hs' nx)⟩)))⟩
theorem L_c31 (hG : zGk G) (hL : zLv G x d da bf sb m o r0 B σ σ μ) (hs : zGs D σ) (hD : D < 800000) (hi : z4 = nI i) (hi6 : i + 6 ≤ t0) (ht : t0 ≤ 144) (nx : zNx G x d da bf sb m o t0 r0 B σ D z4 μ Q E) : Wp G Y_L_law 1799 [(0, vP (209, t0, r0)), (1, vP (1, 0, x)), (2, vP (5, 0, m)), (3, vP (203, 1, o)), (4, vI z4)] [] μ Q E := by
  obtain ⟨⟨sba, n, hX⟩, hM, hK, hB, ho, hr0⟩ := id hL
  obtain ⟨K, V, po, hg⟩ := hs.1
  have gb := hg.1.1
  have hs' := hs.le (show D ≤ D + 2000 by omega)
  have hlb : (aBu σ).length ≤ 900 := hM.2.2.2.2.1.1
  refine Wp.zo fun hok => ?_
  exact B_L_law_1799 (C_xblockingPairs hX hg (fun ν hd => ⟨_, rfl, Call.zo fun okν _ => C_blockingPairs (hL.cx hd).1.2.1 hg.1 (L_n0 hL hd okν hs' nx)⟩))
theorem L_c32 (hG : zGk G) (hL : zLv G x d da bf sb m o r0 B σ σ μ) (hs : zGs D σ) (hD : D < 800000) (hi : z4 = nI i) (hi6 : i + 6 ≤ t0) (ht : t0 ≤ 144) (nx : zNx G x d da bf sb m o t0 r0 B σ D z4 μ Q E) : Wp G Y_L_law 1812 [(0, vP (209, t0, r0)), (1, vP (1, 0, x)), (2, vP (5, 0, m)), (3, vP (203, 1, o)), (4, vI z4)] [] μ Q E := by
  obtain ⟨⟨sba, n, hX⟩, hM, hK, hB, ho, hr0⟩ := id hL
  obtain ⟨K, V, po, hg⟩ := hs.1
  have gb := hg.1.1
  have hs' := hs.le (show D ≤ D + 2000 by omega)
  have hlb : (aBu σ).length ≤ 900 := hM.2.2.2.2.1.1
  refine Wp.zo fun hok => ?_
  have ix1 : zix (z4 + 1) (i + 1) t0 := zix.eq (by rw [hi, show (1 : Int32) = nI 1 from rfl, nI_add]) (by omega) (by omega)
  exact B_L_law_1812 ⟨i + 1, ix1, _, rfl, T_X0_fairResult (Call.zq (C_xfairResult hX hg (fun x1 hx1 h1 ν hd okν _ => ⟨_, rfl, Nat.one_pos, _, rfl, i + 1, ix1, _, (hL.cx hd).2 (i + 1), Call.zo fun ok1 _ => C_fairResult ((hL.cx hd).1.al okν).2.1 hg.1 (fun x1' hx1' h1' => by have hu0 := nI_un h1 h1' (by omega) (by omega); subst hu0; exact L_t0 hL hd okν hs' nx ok1) (fun q' => absurd h1 (q' x1 hx1))⟩) (fun q ν a hd => ⟨a, rfl, _, rfl, i + 1, ix1, _, (hL.cx hd).2 (i + 1), Call.zo fun okν _ => C_fairResult (hL.cx hd).1.2.1 hg.1 (fun x1' hx1' h1' => absurd h1' (q x1' hx1')) (fun _ => L_t1 (by decide) hL hd okν hs' nx)⟩)))⟩
theorem L_c33 (hG : zGk G) (hL : zLv G x d da bf sb m o r0 B σ σ μ) (hs : zGs D σ) (hD : D < 800000) (hi : z4 = nI i) (hi6 : i + 6 ≤ t0) (ht : t0 ≤ 144) (nx : zNx G x d da bf sb m o t0 r0 B σ D z4 μ Q E) : Wp G Y_L_law 1868 [(0, vP (209, t0, r0)), (1, vP (1, 0, x)), (2, vP (5, 0, m)), (3, vP (203, 1, o)), (4, vI z4)] [] μ Q E := by
  obtain ⟨⟨sba, n, hX⟩, hM, hK, hB, ho, hr0⟩ := id hL
  obtain ⟨K, V, po, hg⟩ := hs.1
  have gb := hg.1.1
  have hs' := hs.le (show D ≤ D + 2000 by omega)
  have hlb : (aBu σ).length ≤ 900 := hM.2.2.2.2.1.1
  refine Wp.zo fun hok => ?_
  have ix1 : zix (z4 + 1) (i + 1) t0 := zix.eq (by rw [hi, show (1 : Int32) = nI 1 from rfl, nI_add]) (by omega) (by omega)
  have ix2 : zix (z4 + 2) (i + 2) t0 := zix.eq (by rw [hi, show (2 : Int32) = nI 2 from rfl, nI_add]) (by omega) (by omega)
  exact B_L_law_1868 ⟨i + 1, ix1, _, rfl, i + 2, ix2, _, rfl, T_X0_savingsAfter (Call.zq (C_xsavingsAfter hG hX hg (by omega) (fun e w he h1 hw h2 ν hd okν _ => ⟨_, rfl, Nat.one_pos, _, rfl, i + 1, ix1, _, (hL.cx hd).2 (i + 1), i + 2, ix2, _, (hL.cx hd).2 (i + 2), Call.zo fun ok1 _ => C_savingsAfter ((hL.cx hd).1.al okν).2.1 hg (by omega) (fun e' w' he' h1' hw' h2' => by have hu0 := nI_un h1 h1' (by omega) (by omega); have hu1 := nI_un h2 h2' (by omega) (by omega); subst hu0; subst hu1; exact L_t0 hL hd okν hs' nx ok1) (fun e' he' h1' hn' => absurd h2 (hn' w hw)) (fun q' => absurd h1 (q' e he))⟩) (fun e he h1 hn ν a hd => ⟨a, Or.inr ⟨rfl, _, rfl, i + 1, ix1, _, (hL.cx hd).2 (i + 1), i + 2, ix2, _, (hL.cx hd).2 (i + 2), Call.zo fun okν _ => C_savingsAfter (hL.cx hd).1.2.1 hg (by omega) (fun e' w' he' h1' hw' h2' => absurd h2' (hn w' hw')) (fun e' he' h1' hn' => by have hu0 := nI_un h1 h1' (by omega) (by omega); subst hu0; exact L_t1 (by decide) hL hd okν hs' nx) (fun q' => absurd h1 (q' e he))⟩⟩) (fun q ν a hd => ⟨a, Or.inl ⟨rfl, _, rfl, i + 1, ix1, _, (hL.cx hd).2 (i + 1), i + 2, ix2, _, (hL.cx hd).2 (i + 2), Call.zo fun okν _ => C_savingsAfter (hL.cx hd).1.2.1 hg (by omega) (fun e' w' he' h1' hw' h2' => absurd h1' (q e' he')) (fun e' he' h1' hn' => absurd h1' (q e' he')) (fun _ => L_t1 (by decide) hL hd okν hs' nx)⟩⟩)))⟩
theorem L_c34 (hG : zGk G) (hL : zLv G x d da bf sb m o r0 B σ σ μ) (hs : zGs D σ) (hD : D < 800000) (hi : z4 = nI i) (hi6 : i + 6 ≤ t0) (ht : t0 ≤ 144) (nx : zNx G x d da bf sb m o t0 r0 B σ D z4 μ Q E) : Wp G Y_L_law 1936 [(0, vP (209, t0, r0)), (1, vP (1, 0, x)), (2, vP (5, 0, m)), (3, vP (203, 1, o)), (4, vI z4)] [] μ Q E := by
  obtain ⟨⟨sba, n, hX⟩, hM, hK, hB, ho, hr0⟩ := id hL
  obtain ⟨K, V, po, hg⟩ := hs.1
  have gb := hg.1.1
  have hs' := hs.le (show D ≤ D + 2000 by omega)
  have hlb : (aBu σ).length ≤ 900 := hM.2.2.2.2.1.1
  refine Wp.zo fun hok => ?_
  have ix1 : zix (z4 + 1) (i + 1) t0 := zix.eq (by rw [hi, show (1 : Int32) = nI 1 from rfl, nI_add]) (by omega) (by omega)
  have ix2 : zix (z4 + 2) (i + 2) t0 := zix.eq (by rw [hi, show (2 : Int32) = nI 2 from rfl, nI_add]) (by omega) (by omega)
  exact B_L_law_1936 ⟨i + 1, ix1, _, rfl, i + 2, ix2, _, rfl, T_X0_purseAfter (Call.zq (C_xpurseAfter hG hX hg (by omega) (fun e w he h1 hw h2 ν hd okν _ => ⟨_, rfl, Nat.one_pos, _, rfl, i + 1, ix1, _, (hL.cx hd).2 (i + 1), i + 2, ix2, _, (hL.cx hd).2 (i + 2), Call.zo fun ok1 _ => C_purseAfter ((hL.cx hd).1.al okν).2.1 hg (by omega) (fun e' w' he' h1' hw' h2' => by have hu0 := nI_un h1 h1' (by omega) (by omega); have hu1 := nI_un h2 h2' (by omega) (by omega); subst hu0; subst hu1; exact L_t0 hL hd okν hs' nx ok1) (fun e' he' h1' hn' => absurd h2 (hn' w hw)) (fun q' => absurd h1 (q' e he))⟩) (fun e he h1 hn ν a hd => ⟨a, Or.inr ⟨rfl, _, rfl, i + 1, ix1, _, (hL.cx hd).2 (i + 1), i + 2, ix2, _, (hL.cx hd).2 (i + 2), Call.zo fun okν _ => C_purseAfter (hL.cx hd).1.2.1 hg (by omega) (fun e' w' he' h1' hw' h2' => absurd h2' (hn w' hw')) (fun e' he' h1' hn' => by have hu0 := nI_un h1 h1' (by omega) (by omega); subst hu0; exact L_t1 (by decide) hL hd okν hs' nx) (fun q' => absurd h1 (q' e he))⟩⟩) (fun q ν a hd => ⟨a, Or.inl ⟨rfl, _, rfl, i + 1, ix1, _, (hL.cx hd).2 (i + 1), i + 2, ix2, _, (hL.cx hd).2 (i + 2), Call.zo fun okν _ => C_purseAfter (hL.cx hd).1.2.1 hg (by omega) (fun e' w' he' h1' hw' h2' => absurd h1' (q e' he')) (fun e' he' h1' hn' => absurd h1' (q e' he')) (fun _ => L_t1 (by decide) hL hd okν hs' nx)⟩⟩)))⟩
theorem L_c35 (hG : zGk G) (hL : zLv G x d da bf sb m o r0 B σ σ μ) (hs : zGs D σ) (hD : D < 800000) (hi : z4 = nI i) (hi6 : i + 6 ≤ t0) (ht : t0 ≤ 144) (nx : zNx G x d da bf sb m o t0 r0 B σ D z4 μ Q E) : Wp G Y_L_law 2004 [(0, vP (209, t0, r0)), (1, vP (1, 0, x)), (2, vP (5, 0, m)), (3, vP (203, 1, o)), (4, vI z4)] [] μ Q E := by
  obtain ⟨⟨sba, n, hX⟩, hM, hK, hB, ho, hr0⟩ := id hL
  obtain ⟨K, V, po, hg⟩ := hs.1
  have gb := hg.1.1
  have hs' := hs.le (show D ≤ D + 2000 by omega)
  have hlb : (aBu σ).length ≤ 900 := hM.2.2.2.2.1.1
  refine Wp.zo fun hok => ?_
  have ix1 : zix (z4 + 1) (i + 1) t0 := zix.eq (by rw [hi, show (1 : Int32) = nI 1 from rfl, nI_add]) (by omega) (by omega)
  exact B_L_law_2004 ⟨i + 1, ix1, _, rfl, T_X0_desertsIn (Call.zq (C_xdesertsIn hG hX hg (by omega) (fun x1 hx1 h1 ν hd okν _ => ⟨_, rfl, Nat.one_pos, _, rfl, i + 1, ix1, _, (hL.cx hd).2 (i + 1), Call.zo fun ok1 _ => C_desertsIn ((hL.cx hd).1.al okν).2.1 hg (by omega) (fun x1' hx1' h1' => by have hu0 := nI_un h1 h1' (by omega) (by omega); subst hu0; exact L_t0 hL hd okν hs' nx ok1) (fun q' => absurd h1 (q' x1 hx1))⟩) (fun q ν a hd => ⟨a, rfl, _, rfl, i + 1, ix1, _, (hL.cx hd).2 (i + 1), Call.zo fun okν _ => C_desertsIn (hL.cx hd).1.2.1 hg (by omega) (fun x1' hx1' h1' => absurd h1' (q x1' hx1')) (fun _ => L_t1 (by decide) hL hd okν hs' nx)⟩)))⟩
theorem L_c36 (hG : zGk G) (hL : zLv G x d da bf sb m o r0 B σ σ μ) (hs : zGs D σ) (hD : D < 800000) (hi : z4 = nI i) (hi6 : i + 6 ≤ t0) (ht : t0 ≤ 144) (nx : zNx G x d da bf sb m o t0 r0 B σ D z4 μ Q E) : Wp G Y_L_law 2060 [(0, vP (209, t0, r0)), (1, vP (1, 0, x)), (2, vP (5, 0, m)), (3, vP (203, 1, o)), (4, vI z4)] [] μ Q E := by
  obtain ⟨⟨sba, n, hX⟩, hM, hK, hB, ho, hr0⟩ := id hL
  obtain ⟨K, V, po, hg⟩ := hs.1
  have gb := hg.1.1
  have hs' := hs.le (show D ≤ D + 2000 by omega)
  have hlb : (aBu σ).length ≤ 900 := hM.2.2.2.2.1.1
  refine Wp.zo fun hok => ?_
  have ix1 : zix (z4 + 1) (i + 1) t0 := zix.eq (by rw [hi, show (1 : Int32) = nI 1 from rfl, nI_add]) (by omega) (by omega)
  have ix2 : zix (z4 + 2) (i + 2) t0 := zix.eq (by rw [hi, show (2 : Int32) = nI 2 from rfl, nI_add]) (by omega) (by omega)
  exact B_L_law_2060 ⟨i + 1, ix1, _, rfl, i + 2, ix2, _, rfl, T_X0_leastWage (Call.zq (C_xleastWage hX hg (fun v e hv he h1 h2 ν hd okν _ => ⟨_, rfl, Nat.one_pos, _, rfl, i + 1, ix1, _, (hL.cx hd).2 (i + 1), i + 2, ix2, _, (hL.cx hd).2 (i + 2), Call.zo fun ok1 _ => C_leastWage ((hL.cx hd).1.al okν).2.1 hg.1 (fun v' e' hv' he' h1' h2' => by have hu0 := nI_un h1 h1' (by omega) (by omega); have hu1 := nI_un h2 h2' (by omega) (by omega); subst hu0; subst hu1; exact L_t0 hL hd okν hs' nx ok1) (fun q' => absurd h2 (q' v e hv he h1))⟩) (fun q ν a hd => ⟨a, rfl, _, rfl, i + 1, ix1, _, (hL.cx hd).2 (i + 1), i + 2, ix2, _, (hL.cx hd).2 (i + 2), Call.zo fun okν _ => C_leastWage (hL.cx hd).1.2.1 hg.1 (fun v' e' hv' he' h1' h2' => absurd h2' (q v' e' hv' he' h1')) (fun _ => L_t1 (by decide) hL hd okν hs' nx)⟩)))⟩
theorem L_c37 (hG : zGk G) (hL : zLv G x d da bf sb m o r0 B σ σ μ) (hs : zGs D σ) (hD : D < 800000) (hi : z4 = nI i) (hi6 : i + 6 ≤ t0) (ht : t0 ≤ 144) (nx : zNx G x d da bf sb m o t0 r0 B σ D z4 μ Q E) : Wp G Y_L_law 2128 [(0, vP (209, t0, r0)), (1, vP (1, 0, x)), (2, vP (5, 0, m)), (3, vP (203, 1, o)), (4, vI z4)] [] μ Q E := by
  obtain ⟨⟨sba, n, hX⟩, hM, hK, hB, ho, hr0⟩ := id hL
  obtain ⟨K, V, po, hg⟩ := hs.1
  have gb := hg.1.1
  have hs' := hs.le (show D ≤ D + 2000 by omega)
  have hlb : (aBu σ).length ≤ 900 := hM.2.2.2.2.1.1
  refine Wp.zo fun hok => ?_
  have ix1 : zix (z4 + 1) (i + 1) t0 := zix.eq (by rw [hi, show (1 : Int32) = nI 1 from rfl, nI_add]) (by omega) (by omega)
  exact B_L_law_2128 ⟨i + 1, ix1, _, rfl, T_X0_bestTest (Call.zq (C_xbestTest hX hg (fun x1 hx1 h1 ν hd okν _ => ⟨_, rfl, Nat.one_pos, _, rfl, i + 1, ix1, _, (hL.cx hd).2 (i + 1), Call.zo fun ok1 _ => C_bestTest ((hL.cx hd).1.al okν).2.1 hg.1 (fun x1' hx1' h1' => by have hu0 := nI_un h1 h1' (by omega) (by omega); subst hu0; exact L_t0 hL hd okν hs' nx ok1) (fun q' => absurd h1 (q' x1 hx1))⟩) (fun q ν a hd => ⟨a, rfl, _, rfl, i + 1, ix1, _, (hL.cx hd).2 (i + 1), Call.zo fun okν _ => C_bestTest (hL.cx hd).1.2.1 hg.1 (fun x1' hx1' h1' => absurd h1' (q x1' hx1')) (fun _ => L_t1 (by decide) hL hd okν hs' nx)⟩)))⟩
theorem L_c38 (hG : zGk G) (hL : zLv G x d da bf sb m o r0 B σ σ μ) (hs : zGs D σ) (hD : D < 800000) (hi : z4 = nI i) (hi6 : i + 6 ≤ t0) (ht : t0 ≤ 144) (nx : zNx G x d da bf sb m o t0 r0 B σ D z4 μ Q E) : Wp G Y_L_law 2184 [(0, vP (209, t0, r0)), (1, vP (1, 0, x)), (2, vP (5, 0, m)), (3, vP (203, 1, o)), (4, vI z4)] [] μ Q E := by
  obtain ⟨⟨sba, n, hX⟩, hM, hK, hB, ho, hr0⟩ := id hL
  obtain ⟨K, V, po, hg⟩ := hs.1
  have gb := hg.1.1
  have hs' := hs.le (show D ≤ D + 2000 by omega)
  have hlb : (aBu σ).length ≤ 900 := hM.2.2.2.2.1.1
  refine Wp.zo fun hok => ?_
  exact B_L_law_2184 (C_xrichestEcho hX hg (fun ν hd => ⟨_, rfl, Call.zo fun okν _ => C_richestEcho (hL.cx hd).1.2.1 hg.1 (L_n0 hL hd okν hs' nx)⟩))
theorem L_c39 (hG : zGk G) (hL : zLv G x d da bf sb m o r0 B σ σ μ) (hs : zGs D σ) (hD : D < 800000) (hi : z4 = nI i) (hi6 : i + 6 ≤ t0) (ht : t0 ≤ 144) (nx : zNx G x d da bf sb m o t0 r0 B σ D z4 μ Q E) : Wp G Y_L_law 2197 [(0, vP (209, t0, r0)), (1, vP (1, 0, x)), (2, vP (5, 0, m)), (3, vP (203, 1, o)), (4, vI z4)] [] μ Q E := by
  obtain ⟨⟨sba, n, hX⟩, hM, hK, hB, ho, hr0⟩ := id hL
  obtain ⟨K, V, po, hg⟩ := hs.1
  have gb := hg.1.1
  have hs' := hs.le (show D ≤ D + 2000 by omega)
  have hlb : (aBu σ).length ≤ 900 := hM.2.2.2.2.1.1
  refine Wp.zo fun hok => ?_
  have ix1 : zix (z4 + 1) (i + 1) t0 := zix.eq (by rw [hi, show (1 : Int32) = nI 1 from rfl, nI_add]) (by omega) (by omega)
  have ix2 : zix (z4 + 2) (i + 2) t0 := zix.eq (by rw [hi, show (2 : Int32) = nI 2 from rfl, nI_add]) (by omega) (by omega)
  exact B_L_law_2197 ⟨i + 1, ix1, _, rfl, i + 2, ix2, _, rfl, T_X0_daysServed (Call.zq (C_xdaysServed hX hg (fun v e hv he h1 h2 ν hd okν _ => ⟨_, rfl, Nat.one_pos, _, rfl, i + 1, ix1, _, (hL.cx hd).2 (i + 1), i + 2, ix2, _, (hL.cx hd).2 (i + 2), Call.zo fun ok1 _ => C_daysServed ((hL.cx hd).1.al okν).2.1 hg.1 (fun v' e' hv' he' h1' h2' => by have hu0 := nI_un h1 h1' (by omega) (by omega); have hu1 := nI_un h2 h2' (by omega) (by omega); subst hu0; subst hu1; exact L_t0 hL hd okν hs' nx ok1) (fun q' => absurd h2 (q' v e hv he h1))⟩) (fun q ν a hd => ⟨a, rfl, _, rfl, i + 1, ix1, _, (hL.cx hd).2 (i + 1), i + 2, ix2, _, (hL.cx hd).2 (i + 2), Call.zo fun okν _ => C_daysServed (hL.cx hd).1.2.1 hg.1 (fun v' e' hv' he' h1' h2' => absurd h2' (q v' e' hv' he' h1')) (fun _ => L_t1 (by decide) hL hd okν hs' nx)⟩)))⟩
theorem L_c40 (hG : zGk G) (hL : zLv G x d da bf sb m o r0 B σ σ μ) (hs : zGs D σ) (hD : D < 800000) (hi : z4 = nI i) (hi6 : i + 6 ≤ t0) (ht : t0 ≤ 144) (nx : zNx G x d da bf sb m o t0 r0 B σ D z4 μ Q E) : Wp G Y_L_law 2265 [(0, vP (209, t0, r0)), (1, vP (1, 0, x)), (2, vP (5, 0, m)), (3, vP (203, 1, o)), (4, vI z4)] [] μ Q E := by
  obtain ⟨⟨sba, n, hX⟩, hM, hK, hB, ho, hr0⟩ := id hL
  obtain ⟨K, V, po, hg⟩ := hs.1
  have gb := hg.1.1
  have hs' := hs.le (show D ≤ D + 2000 by omega)
  have hlb : (aBu σ).length ≤ 900 := hM.2.2.2.2.1.1
  refine Wp.zo fun hok => ?_
  exact B_L_law_2265 (C_xcontractsMade hX (fun ν hd => ⟨_, rfl, Call.zo fun okν _ => C_contractsMade (hL.cx hd).1.2.1 (L_n0 hL hd okν hs' nx)⟩))
theorem L_c41 (hG : zGk G) (hL : zLv G x d da bf sb m o r0 B σ σ μ) (hs : zGs D σ) (hD : D < 800000) (hi : z4 = nI i) (hi6 : i + 6 ≤ t0) (ht : t0 ≤ 144) (nx : zNx G x d da bf sb m o t0 r0 B σ D z4 μ Q E) : Wp G Y_L_law 2278 [(0, vP (209, t0, r0)), (1, vP (1, 0, x)), (2, vP (5, 0, m)), (3, vP (203, 1, o)), (4, vI z4)] [] μ Q E := by
  obtain ⟨⟨sba, n, hX⟩, hM, hK, hB, ho, hr0⟩ := id hL
  obtain ⟨K, V, po, hg⟩ := hs.1
  have gb := hg.1.1
  have hs' := hs.le (show D ≤ D + 2000 by omega)
  have hlb : (aBu σ).length ≤ 900 := hM.2.2.2.2.1.1
  refine Wp.zo fun hok => ?_
  exact B_L_law_2278 (C_xcontractsEnded hX (fun ν hd => ⟨_, rfl, Call.zo fun okν _ => C_contractsEnded (hL.cx hd).1.2.1 (L_n0 hL hd okν hs' nx)⟩))
theorem L_c42 (hG : zGk G) (hL : zLv G x d da bf sb m o r0 B σ σ μ) (hs : zGs D σ) (hD : D < 800000) (hi : z4 = nI i) (hi6 : i + 6 ≤ t0) (ht : t0 ≤ 144) (nx : zNx G x d da bf sb m o t0 r0 B σ D z4 μ Q E) : Wp G Y_L_law 2291 [(0, vP (209, t0, r0)), (1, vP (1, 0, x)), (2, vP (5, 0, m)), (3, vP (203, 1, o)), (4, vI z4)] [] μ Q E := by
  obtain ⟨⟨sba, n, hX⟩, hM, hK, hB, ho, hr0⟩ := id hL
  obtain ⟨K, V, po, hg⟩ := hs.1
  have gb := hg.1.1
  have hs' := hs.le (show D ≤ D + 2000 by omega)
  have hlb : (aBu σ).length ≤ 900 := hM.2.2.2.2.1.1
  refine Wp.zo fun hok => ?_
  have ix1 : zix (z4 + 1) (i + 1) t0 := zix.eq (by rw [hi, show (1 : Int32) = nI 1 from rfl, nI_add]) (by omega) (by omega)
  exact B_L_law_2291 ⟨i + 1, ix1, _, rfl, T_X0_desertions (Call.zq (C_xdesertions hX hg (fun x1 hx1 h1 ν hd okν _ => ⟨_, rfl, Nat.one_pos, _, rfl, i + 1, ix1, _, (hL.cx hd).2 (i + 1), Call.zo fun ok1 _ => C_desertions ((hL.cx hd).1.al okν).2.1 hg.1 (fun x1' hx1' h1' => by have hu0 := nI_un h1 h1' (by omega) (by omega); subst hu0; exact L_t0 hL hd okν hs' nx ok1) (fun q' => absurd h1 (q' x1 hx1))⟩) (fun q ν a hd => ⟨a, rfl, _, rfl, i + 1, ix1, _, (hL.cx hd).2 (i + 1), Call.zo fun okν _ => C_desertions (hL.cx hd).1.2.1 hg.1 (fun x1' hx1' h1' => absurd h1' (q x1' hx1')) (fun _ => L_t1 (by decide) hL hd okν hs' nx)⟩)))⟩
theorem L_c43 (hG : zGk G) (hL : zLv G x d da bf sb m o r0 B σ σ μ) (hs : zGs D σ) (hD : D < 800000) (hi : z4 = nI i) (hi6 : i + 6 ≤ t0) (ht : t0 ≤ 144) (nx : zNx G x d da bf sb m o t0 r0 B σ D z4 μ Q E) : Wp G Y_L_law 2347 [(0, vP (209, t0, r0)), (1, vP (1, 0, x)), (2, vP (5, 0, m)), (3, vP (203, 1, o)), (4, vI z4)] [] μ Q E := by
  obtain ⟨⟨sba, n, hX⟩, hM, hK, hB, ho, hr0⟩ := id hL
  obtain ⟨K, V, po, hg⟩ := hs.1
  have gb := hg.1.1
  have hs' := hs.le (show D ≤ D + 2000 by omega)
  have hlb : (aBu σ).length ≤ 900 := hM.2.2.2.2.1.1
  refine Wp.zo fun hok => ?_
  have ix1 : zix (z4 + 1) (i + 1) t0 := zix.eq (by rw [hi, show (1 : Int32) = nI 1 from rfl, nI_add]) (by omega) (by omega)
  exact B_L_law_2347 ⟨i + 1, ix1, _, rfl, T_X0_repliesHeard (Call.zq (C_xrepliesHeard hX hg (fun x1 hx1 h1 ν hd okν _ => ⟨_, rfl, Nat.one_pos, _, rfl, i + 1, ix1, _, (hL.cx hd).2 (i + 1), Call.zo fun ok1 _ => C_repliesHeard ((hL.cx hd).1.al okν).2.1 hg.1 (fun x1' hx1' h1' => by have hu0 := nI_un h1 h1' (by omega) (by omega); subst hu0; exact L_t0 hL hd okν hs' nx ok1) (fun q' => absurd h1 (q' x1 hx1))⟩) (fun q ν a hd => ⟨a, rfl, _, rfl, i + 1, ix1, _, (hL.cx hd).2 (i + 1), Call.zo fun okν _ => C_repliesHeard (hL.cx hd).1.2.1 hg.1 (fun x1' hx1' h1' => absurd h1' (q x1' hx1')) (fun _ => L_t1 (by decide) hL hd okν hs' nx)⟩)))⟩
theorem L_c44 (hG : zGk G) (hL : zLv G x d da bf sb m o r0 B σ σ μ) (hs : zGs D σ) (hD : D < 800000) (hi : z4 = nI i) (hi6 : i + 6 ≤ t0) (ht : t0 ≤ 144) (nx : zNx G x d da bf sb m o t0 r0 B σ D z4 μ Q E) : Wp G Y_L_law 2403 [(0, vP (209, t0, r0)), (1, vP (1, 0, x)), (2, vP (5, 0, m)), (3, vP (203, 1, o)), (4, vI z4)] [] μ Q E := by
  obtain ⟨⟨sba, n, hX⟩, hM, hK, hB, ho, hr0⟩ := id hL
  obtain ⟨K, V, po, hg⟩ := hs.1
  have gb := hg.1.1
  have hs' := hs.le (show D ≤ D + 2000 by omega)
  have hlb : (aBu σ).length ≤ 900 := hM.2.2.2.2.1.1
  refine Wp.zo fun hok => ?_
  have ix1 : zix (z4 + 1) (i + 1) t0 := zix.eq (by rw [hi, show (1 : Int32) = nI 1 from rfl, nI_add]) (by omega) (by omega)
  exact B_L_law_2403 ⟨i + 1, ix1, _, rfl, T_X0_wagesPaid (Call.zq (C_xwagesPaid hX hg (fun x1 hx1 h1 ν hd okν _ => ⟨_, rfl, Nat.one_pos, _, rfl, i + 1, ix1, _, (hL.cx hd).2 (i + 1), Call.zo fun ok1 _ => C_wagesPaid ((hL.cx hd).1.al okν).2.1 hg.1 (fun x1' hx1' h1' => by have hu0 := nI_un h1 h1' (by omega) (by omega); subst hu0; exact L_t0 hL hd okν hs' nx ok1) (fun q' => absurd h1 (q' x1 hx1))⟩) (fun q ν a hd => ⟨a, rfl, _, rfl, i + 1, ix1, _, (hL.cx hd).2 (i + 1), Call.zo fun okν _ => C_wagesPaid (hL.cx hd).1.2.1 hg.1 (fun x1' hx1' h1' => absurd h1' (q x1' hx1')) (fun _ => L_t1 (by decide) hL hd okν hs' nx)⟩)))⟩
theorem L_c45 (hG : zGk G) (hL : zLv G x d da bf sb m o r0 B σ σ μ) (hs : zGs D σ) (hD : D < 800000) (hi : z4 = nI i) (hi6 : i + 6 ≤ t0) (ht : t0 ≤ 144) (nx : zNx G x d da bf sb m o t0 r0 B σ D z4 μ Q E) : Wp G Y_L_law 2459 [(0, vP (209, t0, r0)), (1, vP (1, 0, x)), (2, vP (5, 0, m)), (3, vP (203, 1, o)), (4, vI z4)] [] μ Q E := by
  obtain ⟨⟨sba, n, hX⟩, hM, hK, hB, ho, hr0⟩ := id hL
  obtain ⟨K, V, po, hg⟩ := hs.1
  have gb := hg.1.1
  have hs' := hs.le (show D ≤ D + 2000 by omega)
  have hlb : (aBu σ).length ≤ 900 := hM.2.2.2.2.1.1
  refine Wp.zo fun hok => ?_
  exact B_L_law_2459 (C_xmoneyImbalance hX hg (fun ν hd => ⟨_, rfl, Call.zo fun okν _ => C_moneyImbalance (hL.cx hd).1.2.1 hg.1 (L_n0 hL hd okν hs' nx)⟩))
theorem L_c46 (hG : zGk G) (hL : zLv G x d da bf sb m o r0 B σ σ μ) (hs : zGs D σ) (hD : D < 800000) (hi : z4 = nI i) (hi6 : i + 6 ≤ t0) (ht : t0 ≤ 144) (nx : zNx G x d da bf sb m o t0 r0 B σ D z4 μ Q E) : Wp G Y_L_law 2472 [(0, vP (209, t0, r0)), (1, vP (1, 0, x)), (2, vP (5, 0, m)), (3, vP (203, 1, o)), (4, vI z4)] [] μ Q E := by
  obtain ⟨⟨sba, n, hX⟩, hM, hK, hB, ho, hr0⟩ := id hL
  obtain ⟨K, V, po, hg⟩ := hs.1
  have gb := hg.1.1
  have hs' := hs.le (show D ≤ D + 2000 by omega)
  have hlb : (aBu σ).length ≤ 900 := hM.2.2.2.2.1.1
  refine Wp.zo fun hok => ?_
  exact B_L_law_2472 (C_xcontractImbalance hX hg (fun ν hd => ⟨_, rfl, Call.zo fun okν _ => C_contractImbalance (hL.cx hd).1.2.1 hg.1 (L_n0 hL hd okν hs' nx)⟩))
theorem L_c47 (hG : zGk G) (hL : zLv G x d da bf sb m o r0 B σ σ μ) (hs : zGs D σ) (hD : D < 800000) (hi : z4 = nI i) (hi6 : i + 6 ≤ t0) (ht : t0 ≤ 144) (nx : zNx G x d da bf sb m o t0 r0 B σ D z4 μ Q E) : Wp G Y_L_law 2485 [(0, vP (209, t0, r0)), (1, vP (1, 0, x)), (2, vP (5, 0, m)), (3, vP (203, 1, o)), (4, vI z4)] [] μ Q E := by
  obtain ⟨⟨sba, n, hX⟩, hM, hK, hB, ho, hr0⟩ := id hL
  obtain ⟨K, V, po, hg⟩ := hs.1
  have gb := hg.1.1
  have hs' := hs.le (show D ≤ D + 2000 by omega)
  have hlb : (aBu σ).length ≤ 900 := hM.2.2.2.2.1.1
  refine Wp.zo fun hok => ?_
  exact B_L_law_2485 (C_xdoubleServants hX hg (fun ν hd => ⟨_, rfl, Call.zo fun okν _ => C_doubleServants (hL.cx hd).1.2.1 hg.1 (L_n0 hL hd okν hs' nx)⟩))
theorem L_c48 (hG : zGk G) (hL : zLv G x d da bf sb m o r0 B σ σ μ) (hs : zGs D σ) (hD : D < 800000) (hi : z4 = nI i) (hi6 : i + 6 ≤ t0) (ht : t0 ≤ 144) (nx : zNx G x d da bf sb m o t0 r0 B σ D z4 μ Q E) : Wp G Y_L_law 2498 [(0, vP (209, t0, r0)), (1, vP (1, 0, x)), (2, vP (5, 0, m)), (3, vP (203, 1, o)), (4, vI z4)] [] μ Q E := by
  obtain ⟨⟨sba, n, hX⟩, hM, hK, hB, ho, hr0⟩ := id hL
  obtain ⟨K, V, po, hg⟩ := hs.1
  have gb := hg.1.1
  have hs' := hs.le (show D ≤ D + 2000 by omega)
  have hlb : (aBu σ).length ≤ 900 := hM.2.2.2.2.1.1
  refine Wp.zo fun hok => ?_
  exact B_L_law_2498 (C_xmeanSavings hX hg (fun ν hd => ⟨_, rfl, Call.zo fun okν _ => C_meanSavings (hL.cx hd).1.2.1 hg.1 (fun ρ hm _ hW => ⟨_, rfl, L_fp (L_nx hL hd okν hs' nx hm hW)⟩)⟩))
theorem L_c49 (hG : zGk G) (hL : zLv G x d da bf sb m o r0 B σ σ μ) (hs : zGs D σ) (hD : D < 800000) (hi : z4 = nI i) (hi6 : i + 6 ≤ t0) (ht : t0 ≤ 144) (nx : zNx G x d da bf sb m o t0 r0 B σ D z4 μ Q E) : Wp G Y_L_law 2539 [(0, vP (209, t0, r0)), (1, vP (1, 0, x)), (2, vP (5, 0, m)), (3, vP (203, 1, o)), (4, vI z4)] [] μ Q E := by
  obtain ⟨⟨sba, n, hX⟩, hM, hK, hB, ho, hr0⟩ := id hL
  obtain ⟨K, V, po, hg⟩ := hs.1
  have gb := hg.1.1
  have hs' := hs.le (show D ≤ D + 2000 by omega)
  have hlb : (aBu σ).length ≤ 900 := hM.2.2.2.2.1.1
  refine Wp.zo fun hok => ?_
  have hf := fp_rate (sCon_le (aR σ) K) (show K ≤ 12 by omega) (show 0 < K by omega)
  exact B_L_law_2539 (C_xemploymentRate hX hg (fun ν hd => ⟨_, rfl, hf, Call.zo fun okν _ => C_employmentRate (hL.cx hd).1.2.1 hg.1 (fun ρ hm _ hW => ⟨_, rfl, hf, L_fp (L_nx hL hd okν hs' nx hm hW)⟩)⟩))
theorem L_c50 (hG : zGk G) (hL : zLv G x d da bf sb m o r0 B σ σ μ) (hs : zGs D σ) (hD : D < 800000) (hi : z4 = nI i) (hi6 : i + 6 ≤ t0) (ht : t0 ≤ 144) (nx : zNx G x d da bf sb m o t0 r0 B σ D z4 μ Q E) : Wp G Y_L_law 2582 [(0, vP (209, t0, r0)), (1, vP (1, 0, x)), (2, vP (5, 0, m)), (3, vP (203, 1, o)), (4, vI z4)] [] μ Q E := by
  obtain ⟨⟨sba, n, hX⟩, hM, hK, hB, ho, hr0⟩ := id hL
  obtain ⟨K, V, po, hg⟩ := hs.1
  have gb := hg.1.1
  have hs' := hs.le (show D ≤ D + 2000 by omega)
  have hlb : (aBu σ).length ≤ 900 := hM.2.2.2.2.1.1
  refine Wp.zo fun hok => ?_
  have ix1 : zix (z4 + 1) (i + 1) t0 := zix.eq (by rw [hi, show (1 : Int32) = nI 1 from rfl, nI_add]) (by omega) (by omega)
  exact B_L_law_2582 ⟨i + 1, ix1, _, rfl, T_X0_passDays (Call.zq (C_xPassDays hG hX hg (by omega) (fun w w1 w2 h1 ν hd okν _ => ⟨_, rfl, Nat.one_pos, _, rfl, i + 1, ix1, _, (hL.cx hd).2 (i + 1), Call.zo fun ok1 _ => C_passDays ((hL.cx hd).1.al okν).2.1 hg (by omega) (fun w' w1' w2' h1' => by have hu0 := nI_un h1 h1' (by omega) (by omega); subst hu0; exact L_t0 hL hd okν (hs.op ⟨K, V, po, (hg.days (by omega) (by omega)).le (by omega)⟩) nx ok1) (fun q' => absurd h1 (q' w w1 w2))⟩) (fun q ν a hd => ⟨a, rfl, _, rfl, i + 1, ix1, _, (hL.cx hd).2 (i + 1), Call.zo fun okν _ => C_passDays (hL.cx hd).1.2.1 hg (by omega) (fun w' w1' w2' h1' => absurd h1' (q w' w1' w2')) (fun _ => L_t1 (by decide) hL hd okν hs' nx)⟩)))⟩
theorem L_c51 (hG : zGk G) (hL : zLv G x d da bf sb m o r0 B σ σ μ) (hs : zGs D σ) (hD : D < 800000) (hi : z4 = nI i) (hi6 : i + 6 ≤ t0) (ht : t0 ≤ 144) (nx : zNx G x d da bf sb m o t0 r0 B σ D z4 μ Q E) : Wp G Y_L_law 2638 [(0, vP (209, t0, r0)), (1, vP (1, 0, x)), (2, vP (5, 0, m)), (3, vP (203, 1, o)), (4, vI z4)] [] μ Q E := by
  obtain ⟨⟨sba, n, hX⟩, hM, hK, hB, ho, hr0⟩ := id hL
  obtain ⟨K, V, po, hg⟩ := hs.1
  have gb := hg.1.1
  have hs' := hs.le (show D ≤ D + 2000 by omega)
  have hlb : (aBu σ).length ≤ 900 := hM.2.2.2.2.1.1
  refine Wp.zo fun hok => ?_
  exact B_L_law_2638 (C_xHoldFair hG hX hg (fun ν hd => ⟨_, rfl, Call.zo fun okν _ => C_holdFair (hL.cx hd).1.2.1 hg (L_n0 hL hd okν (hs.op ⟨K, V, po, hg.fair.le (by omega)⟩) nx)⟩))
theorem L_c52 (hG : zGk G) (hL : zLv G x d da bf sb m o r0 B σ σ μ) (hs : zGs D σ) (hD : D < 800000) (hi : z4 = nI i) (hi6 : i + 6 ≤ t0) (ht : t0 ≤ 144) (nx : zNx G x d da bf sb m o t0 r0 B σ D z4 μ Q E) : Wp G Y_L_law 2651 [(0, vP (209, t0, r0)), (1, vP (1, 0, x)), (2, vP (5, 0, m)), (3, vP (203, 1, o)), (4, vI z4)] [] μ Q E := by
  obtain ⟨⟨sba, n, hX⟩, hM, hK, hB, ho, hr0⟩ := id hL
  obtain ⟨K, V, po, hg⟩ := hs.1
  have gb := hg.1.1
  have hs' := hs.le (show D ≤ D + 2000 by omega)
  have hlb : (aBu σ).length ≤ 900 := hM.2.2.2.2.1.1
  refine Wp.zo fun hok => ?_
  have ix1 : zix (z4 + 1) (i + 1) t0 := zix.eq (by rw [hi, show (1 : Int32) = nI 1 from rfl, nI_add]) (by omega) (by omega)
  have ix2 : zix (z4 + 2) (i + 2) t0 := zix.eq (by rw [hi, show (2 : Int32) = nI 2 from rfl, nI_add]) (by omega) (by omega)
  exact B_L_law_2651 ⟨i + 1, ix1, _, rfl, i + 2, ix2, _, rfl, T_X0_test (Call.zq (C_xTest hG hX hg (fun v e hv he h1 h2 hc ν hd okν _ => ⟨_, rfl, Nat.one_pos, _, rfl, i + 1, ix1, _, (hL.cx hd).2 (i + 1), i + 2, ix2, _, (hL.cx hd).2 (i + 2), Call.zo fun ok1 _ => C_test ((hL.cx hd).1.al okν).2.1 hg (fun v' e' hv' he' h1' h2' hc' => by have hu0 := nI_un h1 h1' (by omega) (by omega); have hu1 := nI_un h2 h2' (by omega) (by omega); subst hu0; subst hu1; exact L_t0 hL hd okν (hs.op ⟨K, V, po, (hg.test (by omega) (by omega)).le (by omega)⟩) nx ok1) (fun v' e' hv' he' h1' h2' hc' => by have hu0 := nI_un h1 h1' (by omega) (by omega); have hu1 := nI_un h2 h2' (by omega) (by omega); subst hu0; subst hu1; exact absurd hc hc') (fun q' => absurd h2 (q' v e hv he h1))⟩) (fun v e hv he h1 h2 hc ν a hd => ⟨a, Or.inr ⟨rfl, _, rfl, i + 1, ix1, _, (hL.cx hd).2 (i + 1), i + 2, ix2, _, (hL.cx hd).2 (i + 2), Call.zo fun okν _ => C_test (hL.cx hd).1.2.1 hg (fun v' e' hv' he' h1' h2' hc' => by have hu0 := nI_un h1 h1' (by omega) (by omega); have hu1 := nI_un h2 h2' (by omega) (by omega); subst hu0; subst hu1; exact absurd hc' hc) (fun v' e' hv' he' h1' h2' hc' => by have hu0 := nI_un h1 h1' (by omega) (by omega); have hu1 := nI_un h2 h2' (by omega) (by omega); subst hu0; subst hu1; exact L_t1 (by decide) hL hd okν hs' nx) (fun q' => absurd h2 (q' v e hv he h1))⟩⟩) (fun q ν a hd => ⟨a, Or.inl ⟨rfl, _, rfl, i + 1, ix1, _, (hL.cx hd).2 (i + 1), i + 2, ix2, _, (hL.cx hd).2 (i + 2), Call.zo fun okν _ => C_test (hL.cx hd).1.2.1 hg (fun v' e' hv' he' h1' h2' hc' => absurd h2' (q v' e' hv' he' h1')) (fun v' e' hv' he' h1' h2' hc' => absurd h2' (q v' e' hv' he' h1')) (fun _ => L_t1 (by decide) hL hd okν hs' nx)⟩⟩)))⟩
theorem L_c53 (hG : zGk G) (hL : zLv G x d da bf sb m o r0 B σ σ μ) (hs : zGs D σ) (hD : D < 800000) (hi : z4 = nI i) (hi6 : i + 6 ≤ t0) (ht : t0 ≤ 144) (nx : zNx G x d da bf sb m o t0 r0 B σ D z4 μ Q E) : Wp G Y_L_law 2719 [(0, vP (209, t0, r0)), (1, vP (1, 0, x)), (2, vP (5, 0, m)), (3, vP (203, 1, o)), (4, vI z4)] [] μ Q E := by
  obtain ⟨⟨sba, n, hX⟩, hM, hK, hB, ho, hr0⟩ := id hL
  obtain ⟨K, V, po, hg⟩ := hs.1
  have gb := hg.1.1
  have hs' := hs.le (show D ≤ D + 2000 by omega)
  have hlb : (aBu σ).length ≤ 900 := hM.2.2.2.2.1.1
  refine Wp.zo fun hok => ?_
  have ix1 : zix (z4 + 1) (i + 1) t0 := zix.eq (by rw [hi, show (1 : Int32) = nI 1 from rfl, nI_add]) (by omega) (by omega)
  exact B_L_law_2719 ⟨i + 1, ix1, _, rfl, T_X0_dismiss (Call.zq (C_xDismiss hG hX hg (fun e he h1 hc ν hd okν _ => ⟨_, rfl, Nat.one_pos, _, rfl, i + 1, ix1, _, (hL.cx hd).2 (i + 1), Call.zo fun ok1 _ => C_dismiss ((hL.cx hd).1.al okν).2.1 hg (fun e' he' h1' hc' => by have hu0 := nI_un h1 h1' (by omega) (by omega); subst hu0; exact L_t0 hL hd okν (hs.op ⟨K, V, po, (hg.end (by omega) hc).le (by omega)⟩) nx ok1) (fun e' he' h1' hc' => by have hu0 := nI_un h1 h1' (by omega) (by omega); subst hu0; exact absurd hc hc') (fun q' => absurd h1 (q' e he))⟩) (fun e he h1 hc ν a hd => ⟨a, Or.inr ⟨rfl, _, rfl, i + 1, ix1, _, (hL.cx hd).2 (i + 1), Call.zo fun okν _ => C_dismiss (hL.cx hd).1.2.1 hg (fun e' he' h1' hc' => by have hu0 := nI_un h1 h1' (by omega) (by omega); subst hu0; exact absurd hc' hc) (fun e' he' h1' hc' => by have hu0 := nI_un h1 h1' (by omega) (by omega); subst hu0; exact L_t1 (by decide) hL hd okν hs' nx) (fun q' => absurd h1 (q' e he))⟩⟩) (fun q ν a hd => ⟨a, Or.inl ⟨rfl, _, rfl, i + 1, ix1, _, (hL.cx hd).2 (i + 1), Call.zo fun okν _ => C_dismiss (hL.cx hd).1.2.1 hg (fun e' he' h1' hc' => absurd h1' (q e' he')) (fun e' he' h1' hc' => absurd h1' (q e' he')) (fun _ => L_t1 (by decide) hL hd okν hs' nx)⟩⟩)))⟩
theorem L_c54 (hG : zGk G) (hL : zLv G x d da bf sb m o r0 B σ σ μ) (hs : zGs D σ) (hD : D < 800000) (hi : z4 = nI i) (hi6 : i + 6 ≤ t0) (ht : t0 ≤ 144) (nx : zNx G x d da bf sb m o t0 r0 B σ D z4 μ Q E) : Wp G Y_L_law 2775 [(0, vP (209, t0, r0)), (1, vP (1, 0, x)), (2, vP (5, 0, m)), (3, vP (203, 1, o)), (4, vI z4)] [] μ Q E := by
  obtain ⟨⟨sba, n, hX⟩, hM, hK, hB, ho, hr0⟩ := id hL
  obtain ⟨K, V, po, hg⟩ := hs.1
  have gb := hg.1.1
  have hs' := hs.le (show D ≤ D + 2000 by omega)
  have hlb : (aBu σ).length ≤ 900 := hM.2.2.2.2.1.1
  refine Wp.zo fun hok => ?_
  have ix1 : zix (z4 + 1) (i + 1) t0 := zix.eq (by rw [hi, show (1 : Int32) = nI 1 from rfl, nI_add]) (by omega) (by omega)
  have ix2 : zix (z4 + 2) (i + 2) t0 := zix.eq (by rw [hi, show (2 : Int32) = nI 2 from rfl, nI_add]) (by omega) (by omega)
  exact B_L_law_2775 ⟨i + 1, ix1, _, rfl, i + 2, ix2, _, rfl, T_X0_setWage (Call.zq (C_xSetWage hG hX hg (fun v w hv h1 w1 w2 h2 ν hd okν _ => ⟨_, rfl, Nat.one_pos, _, rfl, i + 1, ix1, _, (hL.cx hd).2 (i + 1), i + 2, ix2, _, (hL.cx hd).2 (i + 2), Call.zo fun ok1 _ => C_setWage ((hL.cx hd).1.al okν).2.1 hg (fun v' w' hv' h1' w1' w2' h2' => by have hu0 := nI_un h1 h1' (by omega) (by omega); have hu1 := nI_un h2 h2' (by omega) (by omega); subst hu0; subst hu1; exact L_t0 hL hd okν (hs.op ⟨K, V, po, by rw [h2]; exact (hg.wage (by omega) w1 w2).le (by omega)⟩) nx ok1) (fun v' hv' h1' hn' => absurd h2 (hn' w w1 w2)) (fun q' => absurd h1 (q' v hv))⟩) (fun v hv h1 hn ν a hd => ⟨a, Or.inr ⟨rfl, _, rfl, i + 1, ix1, _, (hL.cx hd).2 (i + 1), i + 2, ix2, _, (hL.cx hd).2 (i + 2), Call.zo fun okν _ => C_setWage (hL.cx hd).1.2.1 hg (fun v' w' hv' h1' w1' w2' h2' => absurd h2' (hn w' w1' w2')) (fun v' hv' h1' hn' => by have hu0 := nI_un h1 h1' (by omega) (by omega); subst hu0; exact L_t1 (by decide) hL hd okν hs' nx) (fun q' => absurd h1 (q' v hv))⟩⟩) (fun q ν a hd => ⟨a, Or.inl ⟨rfl, _, rfl, i + 1, ix1, _, (hL.cx hd).2 (i + 1), i + 2, ix2, _, (hL.cx hd).2 (i + 2), Call.zo fun okν _ => C_setWage (hL.cx hd).1.2.1 hg (fun v' w' hv' h1' w1' w2' h2' => absurd h1' (q v' hv')) (fun v' hv' h1' hn' => absurd h1' (q v' hv')) (fun _ => L_t1 (by decide) hL hd okν hs' nx)⟩⟩)))⟩
theorem L_c55 (hG : zGk G) (hL : zLv G x d da bf sb m o r0 B σ σ μ) (hs : zGs D σ) (hD : D < 800000) (hi : z4 = nI i) (hi6 : i + 6 ≤ t0) (ht : t0 ≤ 144) (nx : zNx G x d da bf sb m o t0 r0 B σ D z4 μ Q E) : Wp G Y_L_law 2843 [(0, vP (209, t0, r0)), (1, vP (1, 0, x)), (2, vP (5, 0, m)), (3, vP (203, 1, o)), (4, vI z4)] [] μ Q E := by
  obtain ⟨⟨sba, n, hX⟩, hM, hK, hB, ho, hr0⟩ := id hL
  obtain ⟨K, V, po, hg⟩ := hs.1
  have gb := hg.1.1
  have hs' := hs.le (show D ≤ D + 2000 by omega)
  have hlb : (aBu σ).length ≤ 900 := hM.2.2.2.2.1.1
  refine Wp.zo fun hok => ?_
  have ix1 : zix (z4 + 1) (i + 1) t0 := zix.eq (by rw [hi, show (1 : Int32) = nI 1 from rfl, nI_add]) (by omega) (by omega)
  have ix2 : zix (z4 + 2) (i + 2) t0 := zix.eq (by rw [hi, show (2 : Int32) = nI 2 from rfl, nI_add]) (by omega) (by omega)
  exact B_L_law_2843 ⟨i + 1, ix1, _, rfl, i + 2, ix2, _, rfl, T_X0_fund (Call.zq (C_xFund hG hX hg (fun v w hv h1 w1 w2 h2 ν hd okν _ => ⟨_, rfl, Nat.one_pos, _, rfl, i + 1, ix1, _, (hL.cx hd).2 (i + 1), i + 2, ix2, _, (hL.cx hd).2 (i + 2), Call.zo fun ok1 _ => C_fund ((hL.cx hd).1.al okν).2.1 hg (fun v' w' hv' h1' w1' w2' h2' => by have hu0 := nI_un h1 h1' (by omega) (by omega); have hu1 := nI_un h2 h2' (by omega) (by omega); subst hu0; subst hu1; exact L_t0 hL hd okν (hs.op ⟨K, V, po, (hg.fund (by omega) _).le (by omega)⟩) nx ok1) (fun v' hv' h1' hn' => absurd h2 (hn' w w1 w2)) (fun q' => absurd h1 (q' v hv))⟩) (fun v hv h1 hn ν a hd => ⟨a, Or.inr ⟨rfl, _, rfl, i + 1, ix1, _, (hL.cx hd).2 (i + 1), i + 2, ix2, _, (hL.cx hd).2 (i + 2), Call.zo fun okν _ => C_fund (hL.cx hd).1.2.1 hg (fun v' w' hv' h1' w1' w2' h2' => absurd h2' (hn w' w1' w2')) (fun v' hv' h1' hn' => by have hu0 := nI_un h1 h1' (by omega) (by omega); subst hu0; exact L_t1 (by decide) hL hd okν hs' nx) (fun q' => absurd h1 (q' v hv))⟩⟩) (fun q ν a hd => ⟨a, Or.inl ⟨rfl, _, rfl, i + 1, ix1, _, (hL.cx hd).2 (i + 1), i + 2, ix2, _, (hL.cx hd).2 (i + 2), Call.zo fun okν _ => C_fund (hL.cx hd).1.2.1 hg (fun v' w' hv' h1' w1' w2' h2' => absurd h1' (q v' hv')) (fun v' hv' h1' hn' => absurd h1' (q v' hv')) (fun _ => L_t1 (by decide) hL hd okν hs' nx)⟩⟩)))⟩
theorem L_c56 (hG : zGk G) (hL : zLv G x d da bf sb m o r0 B σ σ μ) (hs : zGs D σ) (hD : D < 800000) (hi : z4 = nI i) (hi6 : i + 6 ≤ t0) (ht : t0 ≤ 144) (nx : zNx G x d da bf sb m o t0 r0 B σ D z4 μ Q E) : Wp G Y_L_law 2911 [(0, vP (209, t0, r0)), (1, vP (1, 0, x)), (2, vP (5, 0, m)), (3, vP (203, 1, o)), (4, vI z4)] [] μ Q E := by
  obtain ⟨⟨sba, n, hX⟩, hM, hK, hB, ho, hr0⟩ := id hL
  obtain ⟨K, V, po, hg⟩ := hs.1
  have gb := hg.1.1
  have hs' := hs.le (show D ≤ D + 2000 by omega)
  have hlb : (aBu σ).length ≤ 900 := hM.2.2.2.2.1.1
  refine Wp.zo fun hok => ?_
  have ix1 : zix (z4 + 1) (i + 1) t0 := zix.eq (by rw [hi, show (1 : Int32) = nI 1 from rfl, nI_add]) (by omega) (by omega)
  exact B_L_law_2911 ⟨i + 1, ix1, _, rfl, T_X0_train (Call.zq (C_xTrain hG hX hg (fun e he h1 hc ν hd okν _ => ⟨_, rfl, Nat.one_pos, _, rfl, i + 1, ix1, _, (hL.cx hd).2 (i + 1), Call.zo fun ok1 _ => C_train ((hL.cx hd).1.al okν).2.1 hg (fun e' he' h1' hc' => by have hu0 := nI_un h1 h1' (by omega) (by omega); subst hu0; exact L_t0 hL hd okν (hs.op ⟨K, V, po, (hg.train he hc).le (by omega)⟩) nx ok1) (fun e' he' h1' hc' => by have hu0 := nI_un h1 h1' (by omega) (by omega); subst hu0; exact absurd hc hc') (fun q' => absurd h1 (q' e he))⟩) (fun e he h1 hc ν a hd => ⟨a, Or.inr ⟨rfl, _, rfl, i + 1, ix1, _, (hL.cx hd).2 (i + 1), Call.zo fun okν _ => C_train (hL.cx hd).1.2.1 hg (fun e' he' h1' hc' => by have hu0 := nI_un h1 h1' (by omega) (by omega); subst hu0; exact absurd hc' hc) (fun e' he' h1' hc' => by have hu0 := nI_un h1 h1' (by omega) (by omega); subst hu0; exact L_t1 (by decide) hL hd okν hs' nx) (fun q' => absurd h1 (q' e he))⟩⟩) (fun q ν a hd => ⟨a, Or.inl ⟨rfl, _, rfl, i + 1, ix1, _, (hL.cx hd).2 (i + 1), Call.zo fun okν _ => C_train (hL.cx hd).1.2.1 hg (fun e' he' h1' hc' => absurd h1' (q e' he')) (fun e' he' h1' hc' => absurd h1' (q e' he')) (fun _ => L_t1 (by decide) hL hd okν hs' nx)⟩⟩)))⟩
theorem L_c57 (hG : zGk G) (hL : zLv G x d da bf sb m o r0 B σ σ μ) (hs : zGs D σ) (hD : D < 800000) (hi : z4 = nI i) (hi6 : i + 6 ≤ t0) (ht : t0 ≤ 144) (nx : zNx G x d da bf sb m o t0 r0 B σ D z4 μ Q E) : Wp G Y_L_law 2967 [(0, vP (209, t0, r0)), (1, vP (1, 0, x)), (2, vP (5, 0, m)), (3, vP (203, 1, o)), (4, vI z4)] [] μ Q E := by
  obtain ⟨⟨sba, n, hX⟩, hM, hK, hB, ho, hr0⟩ := id hL
  obtain ⟨K, V, po, hg⟩ := hs.1
  have gb := hg.1.1
  have hs' := hs.le (show D ≤ D + 2000 by omega)
  have hlb : (aBu σ).length ≤ 900 := hM.2.2.2.2.1.1
  refine Wp.zo fun hok => ?_
  exact B_L_law_2967 (T_X0_undo (Call.zq (C_xUndo hX (fun l r hl ν hd okν _ => ⟨_, rfl, Nat.one_pos, _, rfl, Call.zo fun ok1 _ => C_undo ((hL.cx hd).1.al okν).2.1 hg.2.2.1 (fun r q => (hs.2.2 r q).sz) (fun l' r' hl' => by obtain ⟨hu0, hu1⟩ := List.append_inj' (hl.symm.trans hl') rfl; subst hu0; cases hu1; exact L_t0 hL hd okν (zGs.undo hs hl) nx ok1) (fun hl' => by rw [hl] at hl'; simp at hl')⟩) (fun hl ν a hd => ⟨a, rfl, _, rfl, Call.zo fun okν _ => C_undo (hL.cx hd).1.2.1 hg.2.2.1 (fun r q => (hs.2.2 r q).sz) (fun l' r' hl' => by rw [hl] at hl'; simp at hl') (fun _ => L_t1 (by decide) hL hd okν hs' nx)⟩))))
theorem L_c58 (hG : zGk G) (hL : zLv G x d da bf sb m o r0 B σ σ μ) (hs : zGs D σ) (hD : D < 800000) (hi : z4 = nI i) (hi6 : i + 6 ≤ t0) (ht : t0 ≤ 144) (nx : zNx G x d da bf sb m o t0 r0 B σ D z4 μ Q E) : Wp G Y_L_law 3011 [(0, vP (209, t0, r0)), (1, vP (1, 0, x)), (2, vP (5, 0, m)), (3, vP (203, 1, o)), (4, vI z4)] [] μ Q E := by
  obtain ⟨⟨sba, n, hX⟩, hM, hK, hB, ho, hr0⟩ := id hL
  obtain ⟨K, V, po, hg⟩ := hs.1
  have gb := hg.1.1
  have hs' := hs.le (show D ≤ D + 2000 by omega)
  have hlb : (aBu σ).length ≤ 900 := hM.2.2.2.2.1.1
  refine Wp.zo fun hok => ?_
  exact B_L_law_3011 (C_xSave hG hX (fun ν hd => ⟨_, rfl, Call.zo fun okν _ => C_save (hL.cx hd).1.2.1 (L_n0 hL hd okν (zGs.save hs) nx)⟩))
theorem L_c59 (hG : zGk G) (hL : zLv G x d da bf sb m o r0 B σ σ μ) (hs : zGs D σ) (hD : D < 800000) (hi : z4 = nI i) (hi6 : i + 6 ≤ t0) (ht : t0 ≤ 144) (nx : zNx G x d da bf sb m o t0 r0 B σ D z4 μ Q E) : Wp G Y_L_law 3024 [(0, vP (209, t0, r0)), (1, vP (1, 0, x)), (2, vP (5, 0, m)), (3, vP (203, 1, o)), (4, vI z4)] [] μ Q E := by
  obtain ⟨⟨sba, n, hX⟩, hM, hK, hB, ho, hr0⟩ := id hL
  obtain ⟨K, V, po, hg⟩ := hs.1
  have gb := hg.1.1
  have hs' := hs.le (show D ≤ D + 2000 by omega)
  have hlb : (aBu σ).length ≤ 900 := hM.2.2.2.2.1.1
  refine Wp.zo fun hok => ?_
  exact B_L_law_3024 (T_X0_restore (Call.zq (C_xRestore hG hX (fun r hr ν hd okν _ => ⟨_, rfl, Nat.one_pos, _, rfl, Call.zo fun ok1 _ => C_restore ((hL.cx hd).1.al okν).2.1 hg.2.2.1 (fun r q => (hs.2.1 r q).sz) (fun r' hr' => by cases hr.symm.trans hr'; exact L_t0 hL hd okν (zGs.rest hs hr) nx ok1) (fun hr' => by cases hr.symm.trans hr')⟩) (fun hr ν a hd => ⟨a, rfl, _, rfl, Call.zo fun okν _ => C_restore (hL.cx hd).1.2.1 hg.2.2.1 (fun r q => (hs.2.1 r q).sz) (fun r' hr' => by cases hr.symm.trans hr') (fun _ => L_t1 (by decide) hL hd okν hs' nx)⟩))))
theorem L_c60 (hG : zGk G) (hL : zLv G x d da bf sb m o r0 B σ σ μ) (hs : zGs D σ) (hD : D < 800000) (hi : z4 = nI i) (hi6 : i + 6 ≤ t0) (ht : t0 ≤ 144) (nx : zNx G x d da bf sb m o t0 r0 B σ D z4 μ Q E) : Wp G Y_L_law 3068 [(0, vP (209, t0, r0)), (1, vP (1, 0, x)), (2, vP (5, 0, m)), (3, vP (203, 1, o)), (4, vI z4)] [] μ Q E := by
  obtain ⟨⟨sba, n, hX⟩, hM, hK, hB, ho, hr0⟩ := id hL
  obtain ⟨K, V, po, hg⟩ := hs.1
  have gb := hg.1.1
  have hs' := hs.le (show D ≤ D + 2000 by omega)
  have hlb : (aBu σ).length ≤ 900 := hM.2.2.2.2.1.1
  refine Wp.zo fun hok => ?_
  exact B_L_law_3068 (C_xformatContracts hX hg (fun ν hd => ⟨_, rfl, Call.zo fun okν _ => C_formatContracts (hL.cx hd).1.2.1 hg (L_n0 hL hd okν hs' nx)⟩))
theorem L_c61 (hG : zGk G) (hL : zLv G x d da bf sb m o r0 B σ σ μ) (hs : zGs D σ) (hD : D < 800000) (hi : z4 = nI i) (hi6 : i + 6 ≤ t0) (ht : t0 ≤ 144) (nx : zNx G x d da bf sb m o t0 r0 B σ D z4 μ Q E) : Wp G Y_L_law 3081 [(0, vP (209, t0, r0)), (1, vP (1, 0, x)), (2, vP (5, 0, m)), (3, vP (203, 1, o)), (4, vI z4)] [] μ Q E := by
  obtain ⟨⟨sba, n, hX⟩, hM, hK, hB, ho, hr0⟩ := id hL
  obtain ⟨K, V, po, hg⟩ := hs.1
  have gb := hg.1.1
  have hs' := hs.le (show D ≤ D + 2000 by omega)
  have hlb : (aBu σ).length ≤ 900 := hM.2.2.2.2.1.1
  refine Wp.zo fun hok => ?_
  have ix1 : zix (z4 + 1) (i + 1) t0 := zix.eq (by rw [hi, show (1 : Int32) = nI 1 from rfl, nI_add]) (by omega) (by omega)
  have hou : (aOu σ).length ≤ 256 := hM.2.2.2.2.2.2.1
  exact B_L_law_3081 ⟨i + 1, ix1, _, rfl, C_xoutputByte hX (fun w hw h1 ν hd => ⟨_, rfl, i + 1, ix1, _, (hL.cx hd).2 (i + 1), Call.zo fun okν _ => C_outputByte (hL.cx hd).1.2.1 (fun w' hw' h1' => by have hu0 := nI_un h1 h1' (by omega) (by omega); subst hu0; exact L_n0 hL hd okν hs' nx) (fun q' => absurd h1 (q' w hw))⟩) (fun q ν hd => ⟨_, rfl, i + 1, ix1, _, (hL.cx hd).2 (i + 1), Call.zo fun okν _ => C_outputByte (hL.cx hd).1.2.1 (fun w' hw' h1' => absurd h1' (q w' hw')) (fun _ => L_n0 hL hd okν hs' nx)⟩)⟩
end ZJ
