set_option maxRecDepth 100000
/-! THE COMPONENT, 57: words hashed; a statement -/
def sHash (w : List Nat) : Int32 := w.foldl (fun h c => 31 * h + nI c) 0
theorem sHash_sn (w : List Nat) (c : Nat) : sHash (w ++ [c]) = 31 * sHash w + nI c := by unfold sHash; rw [List.foldl_append]; rfl
theorem by255 : ∀ b : Fin 128, nI b.val &&& 255 = nI b.val := by decide
section ZJ
variable {G : ZG} {μ ν τ μ0 : ZM} {Q : Option ZV → ZM → Prop} {E : ZP → ZM → Prop} {P x bf B c e a M K V s lo hi F fg el ear vl var ds dm sm c' e' h n C : Nat} {ea va ta sa : Nat → Nat} {r : Nat → Int32} {po : Nat → Nat} {b w : List Nat} {z z1 z2 : Int32} {q : ZP}
theorem C_hashA (hl : w.length = n) (hn : n < 100000) (hb : ∀ j, j < w.length → zai ν h j = nI (w.getD j 0) ∧ w.getD j 0 < 128) (k : Q (some (vI (sHash w))) ν) : Call G Y_J15_hashCode [vP (202, n, h)] ν Q E := by
  refine S_J15_hashCode ⟨fun q => ?_, fun q => ?_, fun q1 q2 => ?_⟩
  · have : n = 0 := (nI_eq (b := 0) (by omega) (by omega)).mp q
    have hw : w = [] := List.length_eq_zero_iff.mp (by omega)
    rw [hw] at k; exact k
  · have hn1 : n = 1 := (nI_eq (b := 1) (by omega) (by omega)).mp q
    obtain ⟨y, hy⟩ : ∃ y, w = [y] := List.length_eq_one_iff.mp (by omega)
    obtain ⟨g1, g2⟩ := hb 0 (by omega)
    refine ⟨by omega, _, g1, ?_⟩
    rw [hy] at g2 k ⊢
    have g2' : y < 128 := g2
    have e1 : nI (([y] : List Nat).getD 0 0) &&& 255 = nI y := by255 ⟨y, g2'⟩
    have e2 : sHash [y] = nI y := by show 31 * (0 : Int32) + nI y = nI y; rw [Int32.mul_zero, Int32.zero_add]
    rw [e1]
    rw [e2] at k; exact k
  · refine S_J11_vectorizedHashCode ⟨Or.inl rfl, fun _ => S_J11_signedHashCode ?_, fun t => absurd t (by decide), fun t => absurd t (by decide), fun t => absurd t (by decide), fun t => absurd t (by decide), fun t => absurd t (by decide), fun t => absurd t (by decide), fun t => absurd t (by decide)⟩
    have key : ∀ d i, i + d = n → Wp G Y_J11_signedHashCode 8 [(0, vI (sHash (w.take i))), (1, vP (202, n, h)), (4, vI (nI n)), (5, vI (nI i))] [] ν (rI fun x1 ν1 => (rI fun x2 ν1 => Q (some (vI x2)) ν1) (some (vI x1)) ν1) (fun q ν => zkc q.1 = true ∧ zkc q.1 = true ∧ E q ν) := by
      intro d
      induction d with
      | zero =>
        intro i hi
        rw [List.take_of_length_le (show w.length ≤ i by omega)]
        exact B_J11_signedHashCode_8 ⟨fun _ => ⟨_, rfl, _, rfl, k⟩, fun t => absurd t (nI_nlt (by omega) (by omega))⟩
      | succ d ih =>
        intro i hi
        have hil : i < w.length := by omega
        obtain ⟨g1, g2⟩ := hb i hil
        have tk : w.take (i + 1) = w.take i ++ [w.getD i 0] := by rw [List.take_succ_eq_append_getElem hil, List.getD_eq_getElem?_getD, List.getElem?_eq_getElem hil]; rfl
        refine B_J11_signedHashCode_8 ⟨fun t => absurd (nI_lt (by omega) (by omega)) t, fun _ => ⟨i, zix.eq rfl (by omega) (by omega), _, g1, ?_⟩⟩
        rw [by255 ⟨w.getD i 0, g2⟩, nI_1, ← sHash_sn, ← tk]
        exact ih (i + 1) (by omega)
    have := key n 0 (by omega)
    rw [List.take_zero] at this
    have e0 : (0 : Int32) + nI n = nI n := Int32.zero_add _
    rw [e0]
    exact this
/-- a word's hash -/
theorem C_hashW (hc : zPc G μ0 x bf B b) (g : zG (fun _ => False) c' e' μ0 ν) (hw : zWd G ν M q w) (hf : zFh G ν q) (hM : zsz μ0 ≤ M) (k : ∀ τ, (∃ h f y, M ≤ h ∧ h < zsz ν ∧ (ztg ν h).1 = 23 ∧ (f = 142 ∨ f = 143) ∧ τ = zFi ν f h y ∧ q = (23, 0, h) ∧ ((zfi τ 142 h = sHash w ∧ sHash w ≠ 0) ∨ (zfi τ 142 h = 0 ∧ sHash w = 0 ∧ zfi τ 143 h ≠ 0))) ∨ (τ = ν ∧ q = zgS G 107 ∧ w = []) → Q (some (vI (sHash w))) τ) : Call G Y_J9_hashCode [vP q] ν Q E := by
  refine Call.zo fun hok hargs => ?_
  have constant : q = zgS G 107 → w = [] → Call G Y_J9_hashCode [vP q] ν Q E := fun h1 h2 => by
    have hs := hc.2.2.1.1 (107, []) (by unfold kTx; simp)
    have hlt : (zgS G 107).2.2 < zsz μ0 := Nat.lt_of_lt_of_le hs.2.1 hc.2.2.1.2.1
    have sm := g.same hlt id
    rw [h1]
    refine S_J9_hashCode ⟨hs.1, _, (sm.1 142).trans hc.2.2.1.2.2.1, fun t => absurd rfl t, fun _ => ⟨_, sm.1 143, fun _ => ?_, fun t => absurd t hc.2.2.1.2.2.2⟩⟩
    have := k ν (Or.inr ⟨rfl, h1, h2⟩)
    rw [h2] at this; exact this
  rcases hw with ⟨h1, h2⟩ | ⟨h, h1, h2, h3, h4⟩
  · exact constant h1 h2
  · rcases hf with t | ⟨h', t1, t2, t3, t4⟩
    · -- the constant lies ahead of M
      exfalso
      have hs := hc.2.2.1.1 (107, []) (by unfold kTx; simp)
      have hlt : (zgS G 107).2.2 < zsz μ0 := Nat.lt_of_lt_of_le hs.2.1 hc.2.2.1.2.1
      rw [← t, h1] at hlt
      dsimp only at hlt
      omega
    · rw [h1] at t1
      cases t1
      rw [h1] at h4 ⊢
      obtain ⟨s1, s2, s3, s4, q', s5, s6, s7, s8, s9⟩ := h4
      dsimp only at s2 s3 s5
      have tg : (ztg ν h).1 = 23 := (tg_arg (a := h) (vs := []) (t := 23) (by rw [h1] at hargs; exact hargs) (by decide) (by decide)).1
      have eq' : q' = (202, q'.2.1, q'.2.2) := by rw [← s5, ← t4, s5]
      refine S_J9_hashCode_23 ⟨_, t2, fun t => absurd rfl t, fun _ => ⟨_, t3, fun t => absurd rfl t, fun _ => S_J9_isLatin1 ⟨Or.inl rfl, _, s3, fun t => absurd rfl t, fun _ => ⟨_, rfl, fun t => absurd t (by decide), fun _ => ⟨q', s5, s6, ?_⟩⟩⟩⟩⟩
      rw [eq']
      refine C_hashA (w := w) s8.symm (by omega) s9 ⟨_, rfl, fun hne => ?_, fun heq => ?_⟩
      · exact k _ (Or.inl ⟨h, 142, _, h2, s2, tg, Or.inl rfl, rfl, h1, Or.inl ⟨by rw [zfi_zFi, if_pos ⟨rfl, rfl⟩], hne⟩⟩)
      · exact k _ (Or.inl ⟨h, 143, _, h2, s2, tg, Or.inr rfl, rfl, h1, Or.inr ⟨by rw [zfi_zFi, if_neg (fun t => by cases t.1)]; exact t2, heq, by rw [zfi_zFi, if_pos ⟨rfl, rfl⟩]; decide⟩⟩)
end ZJ
