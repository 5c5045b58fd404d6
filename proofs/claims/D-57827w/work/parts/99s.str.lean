set_option maxRecDepth 100000
/-! THE COMPONENT, 38: append(String), toString, equals -/
theorem app_at (l w : List Nat) (j : Nat) : (l ++ w).getD j 0 = if j < l.length then l.getD j 0 else w.getD (j - l.length) 0 := by
  rw [List.getD_eq_getElem?_getD, List.getElem?_append]
  by_cases q : j < l.length
  · rw [if_pos q, if_pos q, List.getD_eq_getElem?_getD]
  · rw [if_neg q, if_neg q, List.getD_eq_getElem?_getD]
theorem getD_ex2 {l w : List Nat} (h : l.length = w.length) (k : ∀ j, j < l.length → l.getD j 0 = w.getD j 0) : l = w := by
  apply List.ext_getElem h
  intro i h1 h2
  have := k i h1
  rw [List.getD_eq_getElem?_getD, List.getD_eq_getElem?_getD, List.getElem?_eq_getElem h1, List.getElem?_eq_getElem h2] at this
  exact this
section ZJ
variable {G : ZG} {μ : ZM} {Q : Option ZV → ZM → Prop} {E : ZP → ZM → Prop} {sb sa n B : Nat} {l w : List Nat} {p p0 p1 : ZP} {z1 z2 z3 : Int32}
theorem C_sbAppS (hp : zStr μ B p w) (hp1 : p.2.2 ≠ sb ∧ (zfr μ 140 p.2.2).2.2 ≠ sb) (hB : B ≤ zsz μ) (hl : l.length + w.length ≤ 990) (hn : n < 1000) (hok : zok μ) (hs : sb < zsz μ) (h : zSb μ sb sa n l)
    (k : ∀ ν sa' n', zSb ν sb sa' n' (l ++ w) → n ≤ n' → (n' = n ∧ sa' = sa ∨ sa' = zsz μ ∧ n < l.length + w.length ∧ n' ≤ max (l.length + w.length) (2 * n + 2)) → zG (fun a => a = sb ∨ a = sa) 1 (2 * (n' - n)) μ ν → Q (some (vP (22, 0, sb))) ν) : Call G Y_J8_append [vP (22, 0, sb), vP p] μ Q E := by
  obtain ⟨⟨a1, a2, a3, a4⟩, b1, b2, b3, b4⟩ := id h
  obtain ⟨s1, s2, s3, s4, q, s5, s6, s7, s8, s9⟩ := hp
  refine S_J8_append ⟨s1, S_J7_append_22 ⟨s1, S_J9_length ⟨s1, q, s5, s6, S_J9_coder ⟨s1, _, s3, by decide, _, rfl, _, rfl, _, a3, ?_⟩⟩⟩⟩
  rw [shr0, s8, nI_add]
  refine C_sbEns (t := l.length + w.length) rfl (by omega) (by omega) hok hs h fun ν sa' n' hν t1 t2 t3 g => ⟨rfl, ?_⟩
  obtain ⟨⟨c1, c2, c3, c4⟩, d1, d2, d3, d4⟩ := hν
  have kp : zsame μ ν p.2.2 := g.same (by omega) hp1.1
  have kq : zsame μ ν q.2.2 := g.same (by omega) (by rw [← s5]; exact hp1.2)
  have t5 : zfr ν 140 p.2.2 = q := (kp.2.1 _).trans s5
  have t3' : zfi ν 141 p.2.2 = 0 := (kp.1 _).trans s3
  have bits : ∀ o, o < w.length → znr .byte (zai ν q.2.2 (0 + o)) := fun o ho => by
    rw [Nat.zero_add, kq.2.2.1]
    obtain ⟨e1, e2⟩ := s9 o ho
    exact zSg.nr ⟨_, e1, e2⟩
  refine ⟨_, c3, S_J7_putStringAt_22 ⟨s1, S_J7_inflateIfNeededFor_22 ⟨s1, _, c2, S_J9_coder ⟨s1, _, t3', by decide, _, rfl, fun _ => ⟨rfl, _, _, c1, _, c2, S_J9_getBytes ⟨s1, S_J9_coder ⟨s1, _, t3', by decide, _, rfl, fun q2 => absurd rfl q2, fun _ => ⟨q, t5, s6, 0, l.length, w.length, rfl, shl0 _, by rw [s8], ⟨by omega, by omega, by omega, by omega, by omega⟩, bits, ⟨rfl, rfl, _, c3, ?_⟩⟩⟩⟩⟩, fun q2 => absurd rfl q2⟩⟩⟩⟩
  rw [nI_add]
  have sne : sb ≠ sa' := c4
  have ca : ∀ j, zai (zFi (zCi ν q.2.2 0 sa' l.length w.length) 139 sb (nI (l.length + w.length))) sa' j = if l.length ≤ j ∧ j < l.length + w.length then zai ν q.2.2 (j - l.length) else zai ν sa' j := fun j => by
    rw [zai_zFi, zai_zCi]
    by_cases q2 : l.length ≤ j ∧ j < l.length + w.length
    · rw [if_pos ⟨rfl, q2⟩, if_pos q2, Nat.zero_add]
    · rw [if_neg (fun e => q2 e.2), if_neg q2]
  refine ⟨_, rfl, _, rfl, k _ sa' n' ⟨⟨c1, ?_, ?_, c4⟩, by rw [List.length_append]; exact t1, d2, fun j hj => ?_, fun j hj => ?_⟩ t2 ?_ ?_⟩
  · rw [zfi_zFi, if_neg (fun q => by cases q.1)]; exact c2
  · rw [zfi_zFi, if_pos ⟨rfl, rfl⟩, List.length_append]
  · rw [ca]
    by_cases q2 : l.length ≤ j ∧ j < l.length + w.length
    · rw [if_pos q2, kq.2.2.1]
      obtain ⟨e1, e2⟩ := s9 (j - l.length) (by omega)
      exact ⟨_, e1, e2⟩
    · rw [if_neg q2]; exact d3 j hj
  · rw [List.length_append] at hj
    rw [ca, app_at]
    by_cases q2 : j < l.length
    · rw [if_neg (fun e => by omega), if_pos q2]; exact d4 j q2
    · rw [if_pos ⟨by omega, hj⟩, if_neg q2, kq.2.2.1]
      exact s9 (j - l.length) (by omega)
  · rcases t3 with ⟨q1, q2, -⟩ | ⟨q1, q2, q3⟩
    · exact Or.inl ⟨q1, q2⟩
    · exact Or.inr ⟨q1, q2, q3⟩
  · rcases t3 with ⟨q1, q2, q3⟩ | ⟨q1, q2, q3⟩
    · rw [q3, q2]
      exact ((zG.ci (W := fun a => a = sb ∨ a = sa) (Or.inr rfl)).tr (zG.fi (Or.inl rfl))).mono (fun _ _ q => q) (by omega) (by omega)
    · have g1 := g.mono (V := fun a => a = sb ∨ a = sa) (fun a _ q => Or.inl q) (Nat.le_refl _) (Nat.le_refl _)
      have g3 := zG.trN g1 (zG.ci (a := q.2.2) (i := 0) (b := sa') (j := l.length) (n := w.length) (Or.inr (by omega)))
      exact g3.tr (zG.fi (Or.inl rfl))
/-- toString() -/
theorem C_sbStr (hok : zok μ) (hs : sb < zsz μ) (h : zSb μ sb sa n l) (hsa : sa < zsz μ)
    (k : ∀ ν, zsz ν = zsz μ + 2 → zG (fun _ => False) 2 (4 + l.length) μ ν → zStr ν (zsz ν) (23, 0, zsz μ) l → zfr ν 140 (zsz μ) = (202, l.length, zsz μ + 1) → zfi ν 142 (zsz μ) = 0 ∧ zfi ν 143 (zsz μ) = 0 → Q (some (vP (23, 0, zsz μ))) ν) : Call G Y_J8_toString [vP (22, 0, sb)] μ Q E := by
  obtain ⟨⟨a1, a2, a3, a4⟩, b1, b2, b3, b4⟩ := id h
  have hz := Nat.le_refl (zsz μ)
  have fin : ∀ ν m, m = l.length → ν = zFr (zCi (zNew (zFi (zNew μ 23 0 4) 141 (zsz μ) 0) 202 m m) sa 0 (zsz μ + 1) 0 m) 140 (zsz μ) (202, m, zsz μ + 1) → Q (some (vP (23, 0, zsz μ))) ν := fun ν m hm hν => by
    subst hm
    subst hν
    refine k _ rfl ?_ ⟨Or.inl rfl, ?_, ?_, by omega, _, rfl, ?_, ?_, ?_, fun j hj => ?_⟩ ?_ ⟨?_, ?_⟩
    · have g0 : zG (fun _ => False) 1 4 μ (zNew μ 23 0 4) := zG.nw
      have g1 := g0.nfi (f := 141) (a := zsz μ) (v := 0) hz
      have g2 : zG (fun _ => False) (1 + 1) (4 + l.length) μ (zNew (zFi (zNew μ 23 0 4) 141 (zsz μ) 0) 202 l.length l.length) := g1.tr zG.nw
      exact (g2.nci (a := sa) (i := 0) (b := zsz μ + 1) (j := 0) (n := l.length) (by omega)).nfr (f := 140) (a := zsz μ) hz
    · show zsz μ < zsz μ + 1 + 1; omega
    · rw [zfi_zFr, zfi_zCi, zfi_zNew, zfi_zFi, if_pos ⟨rfl, rfl⟩]
    · rw [zfr_zFr, if_pos ⟨rfl, rfl⟩]; exact Or.inl rfl
    · rw [zfr_zFr, if_pos ⟨rfl, rfl⟩]; show zsz μ + 1 < zsz μ + 1 + 1; omega
    · rw [zfr_zFr, if_pos ⟨rfl, rfl⟩]
    · have e : zfr (zFr (zCi (zNew (zFi (zNew μ 23 0 4) 141 (zsz μ) 0) 202 l.length l.length) sa 0 (zsz μ + 1) 0 l.length) 140 (zsz μ) (202, l.length, zsz μ + 1)) 140 (zsz μ) = (202, l.length, zsz μ + 1) := by rw [zfr_zFr, if_pos ⟨rfl, rfl⟩]
      rw [show ((23, 0, zsz μ) : ZP).2.2 = zsz μ from rfl, e, zai_zFr, zai_zCi, if_pos ⟨rfl, by omega, by omega⟩, Nat.zero_add, Nat.sub_zero]
      exact b4 j hj
    · rw [zfr_zFr, if_pos ⟨rfl, rfl⟩]
    · rw [zfi_zFr, zfi_zCi, zfi_zNew, zfi_zFi, if_neg (fun q => by cases q.1)]; exact hok.1 _ _ hz
    · rw [zfi_zFr, zfi_zCi, zfi_zNew, zfi_zFi, if_neg (fun q => by cases q.1)]; exact hok.1 _ _ hz
  have bits : ∀ o, o < n → znr .byte (zai (zFi (zNew μ 23 0 4) 141 (zsz μ) 0) sa o) := fun o ho => (b3 o ho).nr
  refine S_J8_toString (S_J9_init (S_J9_init_2 (S_J7_getValue_22 ⟨_, _, a1, _, rfl, _, _, rfl, S_J8_length (S_J7_length_22 ⟨_, a3, _, rfl, _, rfl, S_J7_isLatin1_22 ⟨_, a2, fun q => absurd rfl q, fun _ => ⟨_, rfl, fun q => absurd q (by decide), fun _ => S_J13_copyOfRange ⟨fun q => absurd rfl q, fun _ => ⟨fun q => ⟨bits, _, rfl, _, _, rfl, rfl, rfl, ?_⟩, fun q => S_J13_copyOfRangeByte (S_J13_checkLength ⟨fun _ => ⟨rfl, l.length, i32_s0 _, by omega, S_J12_min ⟨?_, ?_⟩⟩, fun q2 => absurd q2 (nI_pos (by omega))⟩)⟩⟩⟩⟩⟩)⟩)))
  · have := (nI_eq (by omega) (by omega)).mp q
    exact fin _ n this.symm rfl
  · intro q2
    rw [i32_s0]
    exact ⟨_, rfl, 0, 0, l.length, rfl, rfl, rfl, ⟨by omega, by omega, by omega, by omega, by omega⟩, fun o ho => by rw [Nat.zero_add]; exact bits o (by omega), _, rfl, _, _, rfl, _, rfl, _, _, rfl, rfl, rfl, fin _ l.length rfl rfl⟩
  · intro q2
    rw [i32_s0, i32_s0] at q2
    rw [i32_s0]
    have hle : n ≤ l.length := by
      apply Decidable.byContradiction
      intro q3; exact q2 (nI_lt (by omega) (by omega))
    have : l.length = n := by omega
    exact absurd (by rw [this]) q
/-- equals -/
theorem zStr.eq (h0 : zStr μ B p w) {B' : Nat} {w' : List Nat} (h1 : zStr μ B' p w') : w = w' := by
  obtain ⟨s1, s2, s3, s4, q, s5, s6, s7, s8, s9⟩ := h0
  obtain ⟨u1, u2, u3, u4, q', u5, u6, u7, u8, u9⟩ := h1
  rw [s5] at u5
  subst u5
  refine getD_ex2 (by omega) fun j hj => ?_
  have e1 := s9 j hj
  have e2 := u9 j (by omega)
  rw [e1.1] at e2
  exact (nI_eq (by omega) (by omega)).mp e2.1
theorem L_eq {q0 q1 : ZP} {w0 w1 : List Nat} (h0 : zis 202 q0) (h1 : zis 202 q1) (l0 : q0.2.1 = w0.length) (l1 : q1.2.1 = w1.length) (hl : w0.length = w1.length) (hw : w0.length < 100000) (s0 : ∀ j, j < w0.length → zai μ q0.2.2 j = nI (w0.getD j 0) ∧ w0.getD j 0 < 128) (s1 : ∀ j, j < w1.length → zai μ q1.2.2 j = nI (w1.getD j 0) ∧ w1.getD j 0 < 128)
    (kt : w0 = w1 → Q (some (vI 1)) μ) (kf : w0 ≠ w1 → Q (some (vI 0)) μ) : ∀ d i, i + d = w0.length → (∀ j, j < i → w0.getD j 0 = w1.getD j 0) → Wp G Y_J15_equals 9 [(0, vP q0), (1, vP q1), (2, vI (nI i))] [] μ Q E := by
  intro d
  induction d with
  | zero =>
    intro i hi hj
    exact B_J15_equals_208_9 ⟨h0, h1, fun _ => kt (getD_ex2 hl fun j hj' => hj j (by omega)), fun q => absurd q (by rw [l0]; exact nI_nlt (by omega) (by omega))⟩
  | succ d ih =>
    intro i hi hj
    obtain ⟨e1, e2⟩ := s0 i (by omega)
    obtain ⟨f1, f2⟩ := s1 i (by omega)
    refine B_J15_equals_208_9 ⟨h0, h1, fun q => absurd (by rw [l0]; exact nI_lt (by omega) (by omega)) q, fun _ => ⟨i, zix.eq rfl (by omega) (by omega), _, e1, i, zix.eq rfl (by omega) (by omega), _, f1, fun q => ?_, fun q => kf (fun e => q (by rw [e]))⟩⟩
    rw [nI_1]
    refine ih (i + 1) (by omega) fun j hj' => ?_
    rcases Nat.eq_or_lt_of_le (Nat.le_of_lt_succ hj') with q2 | q2
    · rw [q2]; exact (nI_eq (by omega) (by omega)).mp q
    · exact hj j q2
theorem C_strEq {B' : Nat} {w0 w1 : List Nat} (h0 : zStr μ B p0 w0) (h1 : zStr μ B' p1 w1) (kt : w0 = w1 → Q (some (vI 1)) μ) (kf : w0 ≠ w1 → Q (some (vI 0)) μ) : Call G Y_J9_equals [vP p0, vP p1] μ Q E := by
  obtain ⟨s1, s2, s3, s4, q, s5, s6, s7, s8, s9⟩ := id h0
  obtain ⟨u1, u2, u3, u4, q', u5, u6, u7, u8, u9⟩ := id h1
  refine S_J9_equals ⟨s1, u1, fun _ => ⟨_, s3, _, u3, fun e => absurd rfl e, fun _ => ⟨q, s5, s6, q', u5, u6, S_J15_equals_208 ⟨s6, u6, fun e => ⟨_, rfl, fun _ => kf (fun e2 => e (by rw [s8, u8, e2])), fun e2 => absurd rfl e2⟩, fun e => ?_⟩⟩⟩, fun e => kt ?_⟩
  · have hl : w0.length = w1.length := by
      rw [s8, u8] at e
      exact (nI_eq (by omega) (by omega)).mp e
    exact L_eq s6 u6 s8 u8 hl s4 s9 u9 (fun e2 => ⟨_, rfl, fun e3 => absurd e3 (by decide), fun _ => kt e2⟩) (fun e2 => ⟨_, rfl, fun _ => kf e2, fun e3 => absurd rfl e3⟩) w0.length 0 (by omega) (fun j hj => absurd hj (Nat.not_lt_zero _))
  · subst e
    exact h0.eq h1
end ZJ
