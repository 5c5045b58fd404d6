set_option maxRecDepth 100000
/-! THE COMPONENT, 37: StringBuilder, String -/
theorem by128 : ∀ b : Fin 128, (nI b.val).toInt8.toInt32 = nI b.val ∧ (((nI b.val &&& 255).toUInt32 % 65536).toInt32) = nI b.val ∧ narrow .char (.int (nI b.val)) = .int (nI b.val) := by
  intro b
  have h : ∀ b : Fin 128, (nI b.val).toInt8.toInt32 = nI b.val ∧ (((nI b.val &&& 255).toUInt32 % 65536).toInt32) = nI b.val ∧ (nI b.val).toUInt32.toUInt16.toUInt32.toInt32 = nI b.val := by decide
  obtain ⟨h1, h2, h3⟩ := h b
  exact ⟨h1, h2, by show Value.int (nI b.val).toUInt32.toUInt16.toUInt32.toInt32 = _; rw [h3]⟩
/-- a byte that is a sign -/
def zSg (x : Int32) : Prop := ∃ b, x = nI b ∧ b < 128
theorem zSg.nr {x : Int32} (h : zSg x) : znr .byte x := by
  obtain ⟨b, rfl, h⟩ := h
  exact znr_byte (by128 ⟨b, h⟩).1
/-- a StringBuilder with capacity n that holds l -/
def zSb (μ : ZM) (sb sa n : Nat) (l : List Nat) : Prop := (zfr μ 136 sb = (202, n, sa) ∧ zfi μ 137 sb = 0 ∧ zfi μ 139 sb = nI l.length ∧ sb ≠ sa) ∧ l.length ≤ n ∧ n ≤ 2000 ∧ (∀ j, j < n → zSg (zai μ sa j)) ∧ ∀ j, j < l.length → zai μ sa j = nI (l.getD j 0) ∧ l.getD j 0 < 128
theorem zSb.kp {μ ν : ZM} {sb sa n : Nat} {l : List Nat} (h : zSb μ sb sa n l) (k1 : zsmC μ ν sb) (k2 : zsmC μ ν sa) : zSb ν sb sa n l := by
  obtain ⟨⟨a1, a2, a3, a4⟩, b1, b2, b3, b4⟩ := h
  exact ⟨⟨(k1.2.1 _ (by decide) (by decide)).trans a1, (k1.1 _).trans a2, (k1.1 _).trans a3, a4⟩, b1, b2, fun j hj => by rw [k2.2.2.1]; exact b3 j hj, fun j hj => ⟨(k2.2.2.1 j).trans (b4 j hj).1, (b4 j hj).2⟩⟩
section ZJ
variable {G : ZG} {μ : ZM} {Q : Option ZV → ZM → Prop} {E : ZP → ZM → Prop} {sb sa n : Nat} {l : List Nat} {z1 z2 z3 : Int32}
theorem C_sbInit (hok : zok μ) (hs : sb < zsz μ) (h0 : zfi μ 139 sb = 0) (k : ∀ ν, zsz ν = zsz μ + 1 → zG (fun a => a = sb) 1 16 μ ν → zSb ν sb (zsz μ) 16 [] → Q none ν) : Call G Y_J8_init [vP (22, 0, sb)] μ Q E := by
  refine S_J8_init (S_J7_init_22 ⟨16, rfl, by decide, ⟨rfl, k _ rfl ?_ ⟨⟨?_, ?_, ?_, by omega⟩, Nat.zero_le _, by decide, fun j hj => ⟨0, ?_, by decide⟩, fun j hj => absurd hj (Nat.not_lt_zero _)⟩⟩⟩)
  · have := ((zG.nw (W := fun a => a = sb) (μ := μ) (t := 202) (n := 16) (k := 16)).tr (zG.fr (f := 136) (a := sb) (v := (202, 16, zsz μ)) rfl)).tr (zG.fi (f := 137) (a := sb) (v := 0) rfl)
    exact this
  · rw [zfr_zFi, zfr_zFr, if_pos ⟨rfl, rfl⟩]
  · rw [zfi_zFi, if_pos ⟨rfl, rfl⟩]
  · rw [zfi_zFi, if_neg (fun q => by cases q.1)]; exact h0
  · show zai μ (zsz μ) j = 0
    exact hok.2.2.1 _ _ (Nat.le_refl _)
theorem shl0 (x : Int32) : x <<< ((0 : Int32) &&& 31) = x := by
  have : ((0 : Int32) &&& 31) = 0 := by decide
  rw [this]
  exact Int32.shiftLeft_zero
theorem shr0 (x : Int32) : x >>> ((0 : Int32) &&& 31) = x := by
  have : ((0 : Int32) &&& 31) = 0 := by decide
  rw [this]
  exact Int32.shiftRight_zero
theorem C_sbEns {t : Nat} (h1 : z1 = nI t) (ht : t ≤ 2000) (hc : 2 * n + 2 ≤ 2000 ∨ t ≤ n) (hok : zok μ) (hs : sb < zsz μ) (h : zSb μ sb sa n l)
    (k : ∀ ν sa' n', zSb ν sb sa' n' l → t ≤ n' → n ≤ n' → (n' = n ∧ sa' = sa ∧ ν = μ ∨ sa' = zsz μ ∧ n < t ∧ n' ≤ max t (2 * n + 2)) → zG (fun a => a = sb) 1 (2 * (n' - n)) μ ν → Q none ν) : Call G Y_J7_ensureCapacityInternal [vP (22, 0, sb), vI z1] μ Q E := by
  subst h1
  obtain ⟨⟨a1, a2, a3, a4⟩, b1, b2, b3, b4⟩ := id h
  refine S_J7_ensureCapacityInternal_22 ⟨_, _, a1, _, a2, fun q => ?_, fun q => ?_⟩
  · rw [shr0] at q
    have hle : t ≤ n := by
      apply Decidable.byContradiction
      intro hn
      exact q (by rw [pk_sub (by omega)]; exact nI_lt (a := 0) (by omega) (by omega))
    exact k μ sa n h hle (Nat.le_refl _) (Or.inl ⟨rfl, rfl, rfl⟩) ((zG.rf _ _).mono (fun _ _ q => q) (by omega) (by omega))
  · rw [shr0] at q
    have hlt : n < t := by
      apply Decidable.byContradiction
      intro hn
      have h3 : nI n - nI t = nI (n - t) := pk_sub (by omega)
      have e2 : nI t - nI n = 0 - nI (n - t) := by rw [← h3, Int32.zero_sub, Int32.neg_sub]
      rw [e2] at q
      have hd : ∀ m, m < 2147483648 → ¬ 0 < 0 - nI m := fun m hm q => by
        have e : (0 - nI m).toInt = - (m : Int) := by
          rw [Int32.zero_sub, Int32.toInt_neg]
          have : (nI m).toInt = m := nI_toInt hm
          rw [this]
          exact Int.bmod_eq_of_le (by omega) (by omega)
        rw [Int32.lt_iff_toInt_lt, e] at q
        have : (0 : Int32).toInt = 0 := rfl
        omega
      exact hd _ (by omega) q
    have hcap : 2 * n + 2 ≤ 2000 := by omega
    have e1 : nI t <<< ((0 : Int32) &&& 31) - nI n = nI (t - n) := by rw [shl0, pk_sub (by omega)]
    have e2 : nI n + 2 <<< ((0 : Int32) &&& 31) = nI (n + 2) := by rw [shl0]; exact nI_add n 2
    have fin : ∀ n', n' = max t (2 * n + 2) → (∀ ν, ν = zFr (zCi (zNew μ 202 n' n') sa 0 (zsz μ) 0 n) 136 sb (202, n', zsz μ) → Q none ν) := by
      intro n' hn' ν hν
      have gn : n < n' ∧ t ≤ n' ∧ n' ≤ 2000 ∧ 2 * n ≤ n' := by omega
      subst hν
      have ea : ∀ j, zai (zFr (zCi (zNew μ 202 n' n') sa 0 (zsz μ) 0 n) 136 sb (202, n', zsz μ)) (zsz μ) j = if j < n then zai μ sa j else 0 := fun j => by
        rw [zai_zFr, zai_zCi]
        by_cases q : j < n
        · rw [if_pos ⟨rfl, by omega, by omega⟩, if_pos q, zai_zNew, Nat.zero_add, Nat.sub_zero]
        · rw [if_neg (fun w => by omega), if_neg q, zai_zNew]; exact hok.2.2.1 _ _ (Nat.le_refl _)
      refine k _ (zsz μ) n' ⟨⟨?_, ?_, ?_, by omega⟩, by omega, by omega, fun j hj => ?_, fun j hj => ?_⟩ gn.2.1 (by omega) (Or.inr ⟨rfl, hlt, by omega⟩) ?_
      · rw [zfr_zFr, if_pos ⟨rfl, rfl⟩]
      · exact a2
      · exact a3
      · rw [ea]
        by_cases q : j < n
        · rw [if_pos q]; exact b3 j q
        · rw [if_neg q]; exact ⟨0, rfl, by decide⟩
      · rw [ea, if_pos (by omega)]; exact b4 j hj
      · have g0 : zG (fun a => a = sb) 1 n' μ (zNew μ 202 n' n') := zG.nw
        have g1 := zG.trN g0 (zG.ci (a := sa) (i := 0) (j := 0) (n := n) (b := zsz μ) (Or.inr (Nat.le_refl _)))
        have g2 := g1.tr (zG.fr (f := 136) (a := sb) (v := (202, n', zsz μ)) rfl)
        exact g2.mono (fun _ _ q => q) (by omega) (by omega)
    refine S_J7_newCapacity_22 ⟨_, _, a1, _, a2, ?_⟩
    rw [e1, e2]
    have fin2 : ∀ m, n + m = max t (2 * n + 2) → (∃ x3, zfi μ 137 sb = x3 ∧ Call G Y_J13_copyOf [vP (202, n, sa), vI ((nI n + nI m) <<< (x3 &&& 31))] μ (rP fun q1 ν2 => ∃ m1 b1, q1 = (202, m1, b1) ∧ Q none (zFr ν2 136 sb (202, m1, b1))) (fun q ν => zkc q.1 = true ∧ E q ν)) := by
      intro m hm
      refine ⟨_, a2, ?_⟩
      rw [shl0, nI_add, hm]
      refine S_J13_copyOf ⟨fun _ => ⟨_, rfl, by omega, S_J12_min ⟨fun q2 => absurd ((nI_ltI (by omega) (by omega)).mp q2) (by omega), fun _ => ⟨_, rfl, 0, 0, n, rfl, rfl, rfl, ⟨by omega, by omega, by omega, by omega, by omega⟩, fun o ho => ?_, ⟨_, rfl, _, _, rfl, fin _ rfl _ rfl⟩⟩⟩⟩, fun q2 => absurd ((nI_eq (by omega) (by omega)).mp q2) (by omega)⟩
      rw [Nat.zero_add]
      exact (b3 o ho).nr
    have last : ∀ m, n + m = max t (2 * n + 2) → 0 < nI n + nI m ∧ ¬ 2147483639 < nI n + nI m ∧ ¬ nI n + nI m = 2147483647 := by
      intro m hm
      rw [nI_add, hm]
      exact ⟨nI_lt (a := 0) (by omega) (by omega), fun q => absurd ((nI_ltI (a := 2147483639) (by omega) (by omega)).mp q) (by omega), fun q => absurd ((nI_eq (b := 2147483647) (by omega) (by omega)).mp q) (by omega)⟩
    refine S_J11_newLength (S_J12_max ⟨fun q2 => ?_, fun q2 => ?_⟩)
    · have := (nI_ltI (by omega) (by omega)).mp q2
      obtain ⟨p1, p2, p3⟩ := last (n + 2) (by omega)
      refine ⟨_, rfl, fun q3 => absurd p1 q3, fun _ => ⟨fun q3 => absurd q3 p2, fun _ => ⟨_, rfl, fun _ => ⟨_, a2, ?_⟩, fun q3 => absurd q3 p3⟩⟩⟩
      rw [shr0]
      exact ⟨_, rfl, fin2 (n + 2) (by omega)⟩
    · have : ¬ t - n < n + 2 := fun q3 => q2 (nI_lt q3 (by omega))
      obtain ⟨p1, p2, p3⟩ := last (t - n) (by omega)
      refine ⟨_, rfl, fun q3 => absurd p1 q3, fun _ => ⟨fun q3 => absurd q3 p2, fun _ => ⟨_, rfl, fun _ => ⟨_, a2, ?_⟩, fun q3 => absurd q3 p3⟩⟩⟩
      rw [shr0]
      exact ⟨_, rfl, fin2 (t - n) (by omega)⟩
theorem i8_at (c : Nat) (h : c < 128) : (nI c).toInt8.toInt32.toInt8.toInt32 = nI c := by
  have := (by128 ⟨c, h⟩).1
  dsimp only at this
  rw [this, this]
theorem snoc_at (l : List Nat) (c j : Nat) : (l ++ [c]).getD j 0 = if j = l.length then c else l.getD j 0 := by
  rw [List.getD_eq_getElem?_getD, List.getElem?_append]
  by_cases q : j < l.length
  · rw [if_pos q, if_neg (by omega), List.getD_eq_getElem?_getD]
  · rw [if_neg q]
    by_cases q2 : j = l.length
    · rw [if_pos q2, q2]; simp
    · rw [if_neg q2]
      obtain ⟨d, hd⟩ : ∃ d, j - l.length = d + 1 := ⟨j - l.length - 1, by omega⟩
      have e1 : l[j]? = none := List.getElem?_eq_none (by omega)
      rw [hd, List.getD_eq_getElem?_getD, e1]
      rfl
/-- append(char) -/
theorem C_sbApp {c : Nat} (h1 : z1 = nI c) (hc : c < 128) (hl : l.length < 990) (hn : n < 1000 ∨ l.length < n) (hok : zok μ) (hs : sb < zsz μ) (h : zSb μ sb sa n l)
    (k : ∀ ν sa' n', zSb ν sb sa' n' (l ++ [c]) → n ≤ n' → (n' = n ∧ sa' = sa ∨ sa' = zsz μ ∧ n' ≤ 2 * l.length + 2) → zG (fun a => a = sb ∨ a = sa) 1 (2 * (n' - n)) μ ν → Q (some (vP (22, 0, sb))) ν) : Call G Y_J8_append_6 [vP (22, 0, sb), vI z1] μ Q E := by
  subst h1
  obtain ⟨⟨a1, a2, a3, a4⟩, b1, b2, b3, b4⟩ := id h
  refine S_J8_append_6 (S_J7_append_5_22 ⟨_, a3, C_sbEns (t := l.length + 1) (nI_1 _) (by omega) (by omega) hok hs h fun ν sa' n' hν t1 t2 t3 g => ⟨rfl, ?_⟩⟩)
  obtain ⟨⟨c1, c2, c3, c4⟩, d1, d2, d3, d4⟩ := hν
  refine S_J7_isLatin1_22 ⟨_, c2, fun q => absurd rfl q, fun _ => ⟨_, rfl, fun q => absurd q (by decide), fun _ => S_J15_canEncode ⟨fun q => absurd ((nI_ltI (a := 255) (by omega) (by omega)).mp q) (by omega), fun _ => ⟨_, rfl, fun q => absurd q (by decide), fun _ => ⟨_, _, c1, _, c3, l.length, zix.eq rfl (by omega) (by omega), _, rfl, _, rfl, ?_⟩⟩⟩⟩⟩
  rw [i8_at c hc, nI_1]
  have sne : sb ≠ sa' := c4
  refine k _ sa' n' ⟨⟨c1, ?_, ?_, c4⟩, by rw [List.length_append]; exact t1, d2, fun j hj => ?_, fun j hj => ?_⟩ t2 ?_ ?_
  · show zfi (zFi ν 139 sb (nI (l.length + 1))) 137 sb = 0
    rw [zfi_zFi, if_neg (fun q => by cases q.1)]; exact c2
  · show zfi (zFi ν 139 sb (nI (l.length + 1))) 139 sb = _
    rw [zfi_zFi, if_pos ⟨rfl, rfl⟩, List.length_append]; rfl
  · rw [zai_zAi, zai_zFi]
    by_cases q : j = l.length
    · rw [if_pos ⟨rfl, q⟩]; exact ⟨c, rfl, hc⟩
    · rw [if_neg (fun w => q w.2)]; exact d3 j hj
  · rw [List.length_append] at hj
    have hj' : j < l.length + 1 := hj
    rw [zai_zAi, zai_zFi, snoc_at]
    by_cases q : j = l.length
    · rw [if_pos ⟨rfl, q⟩, if_pos q]; exact ⟨rfl, hc⟩
    · rw [if_neg (fun w => q w.2), if_neg q]; exact d4 j (by omega)
  · rcases t3 with ⟨q1, q2, -⟩ | ⟨q1, q2, q3⟩
    · exact Or.inl ⟨q1, q2⟩
    · exact Or.inr ⟨q1, by omega⟩
  · rcases t3 with ⟨q1, q2, q3⟩ | ⟨q1, q2, q3⟩
    · rw [q3, q2]
      exact ((zG.fi (W := fun a => a = sb ∨ a = sa) (Or.inl rfl)).tr (zG.ai (Or.inr rfl))).mono (fun _ _ q => q) (by omega) (by omega)
    · have g1 := g.mono (V := fun a => a = sb ∨ a = sa) (fun a _ q => Or.inl q) (Nat.le_refl _) (Nat.le_refl _)
      have g2 := g1.tr (zG.fi (f := 139) (v := nI (l.length + 1)) (Or.inl rfl))
      have g3 := zG.trN g2 (zG.ai (a := sa') (i := l.length) (v := nI c) (Or.inr (by omega)))
      exact g3
/-- setLength(0) -/
theorem C_sbSet0 (hok : zok μ) (hs : sb < zsz μ) (h : zSb μ sb sa n l)
    (k : ∀ ν, zSb ν sb sa n [] → zG (fun a => a = sb) 0 0 μ ν → Q none ν) : Call G Y_J8_setLength [vP (22, 0, sb), vI 0] μ Q E := by
  obtain ⟨⟨a1, a2, a3, a4⟩, b1, b2, b3, b4⟩ := id h
  refine S_J8_setLength (S_J7_setLength_22 ⟨fun _ => C_sbEns (t := 0) rfl (by omega) (Or.inr (Nat.zero_le _)) hok hs h fun ν sa' n' hν t1 t2 t3 g => ⟨rfl, ?_⟩, fun q => absurd q (by decide)⟩)
  rcases t3 with ⟨q1, q2, q3⟩ | ⟨q1, q2, q3⟩
  · subst q1; subst q2; subst q3
    refine ⟨_, a3, fun _ => ⟨fun q => ⟨rfl, k _ ⟨⟨a1, ?_, ?_, a4⟩, Nat.zero_le _, b2, b3, fun j hj => absurd hj (Nat.not_lt_zero _)⟩ (zG.fi rfl)⟩, fun q => ⟨rfl, k _ ⟨⟨a1, ?_, ?_, a4⟩, Nat.zero_le _, b2, b3, fun j hj => absurd hj (Nat.not_lt_zero _)⟩ ((zG.fi (W := fun a => a = sb) rfl).tr (zG.fi rfl))⟩⟩, fun q => absurd q (nI_pos (by omega))⟩
    · rw [zfi_zFi, if_neg (fun q => by cases q.1)]; exact a2
    · rw [zfi_zFi, if_pos ⟨rfl, rfl⟩]; rfl
    · rw [zfi_zFi, if_neg (fun q => by cases q.1), zfi_zFi, if_neg (fun q => by cases q.1)]; exact a2
    · rw [zfi_zFi, if_pos ⟨rfl, rfl⟩]; rfl
  · omega
theorem C_sbLen (h : zSb μ sb sa n l) (k : Q (some (vI (nI l.length))) μ) : Call G Y_J8_length [vP (22, 0, sb)] μ Q E :=
  S_J8_length (S_J7_length_22 ⟨_, h.1.2.2.1, _, rfl, k⟩)
theorem C_sbAt {i : Nat} (h1 : z1 = nI i) (hi : i < l.length) (h : zSb μ sb sa n l) (k : Q (some (vI (nI (l.getD i 0)))) μ) : Call G Y_J8_charAt [vP (22, 0, sb), vI z1] μ Q E := by
  subst h1
  obtain ⟨⟨a1, a2, a3, a4⟩, b1, b2, b3, b4⟩ := id h
  have hm : ∀ x3, (x3 = nI l.length ∨ x3 = nI n) → Call G Y_J9_checkIndex [vI (nI i), vI x3] μ (rV fun ν2 => (¬ (0 : Int32) = 0 → False) ∧ ((0 : Int32) = 0 → (∃ j1, zix (nI i) j1 n ∧ ∃ x4, zai ν2 sa j1 = x4 ∧ narrow .char (.int (((x4 &&& 255).toUInt32 % 65536).toInt32)) = .int (((x4 &&& 255).toUInt32 % 65536).toInt32) ∧ (∃ x1, some (vI (((x4 &&& 255).toUInt32 % 65536).toInt32)) = some (vI x1) ∧ narrow .char (.int x1) = .int x1 ∧ Q (some (vI x1)) ν2)))) (fun q ν => zkc q.1 = true ∧ (fun q ν => zkc q.1 = true ∧ E q ν) q ν) := fun x3 hx => by
    obtain ⟨e1, e2⟩ := b4 i hi
    obtain ⟨y1, y2, y3⟩ := by128 ⟨l.getD i 0, e2⟩
    dsimp only at y1 y2 y3
    have hlt : nI i < x3 := by rcases hx with q | q <;> rw [q] <;> exact nI_lt (by omega) (by omega)
    refine S_J9_checkIndex (S_J14_checkIndex ⟨fun q => absurd q (nI_pos (by omega)), fun _ => ⟨fun _ => ⟨_, rfl, rfl, fun q => absurd rfl q, fun _ => ⟨i, zix.eq rfl (by omega) (by omega), _, e1, ?_, _, rfl, ?_, ?_⟩⟩, fun q => absurd hlt q⟩⟩)
    · rw [y2]; exact y3
    · rw [y2]; exact y3
    · rw [y2]; exact k
  refine S_J8_charAt (S_J7_charAt_22 ⟨_, a2, _, _, a1, _, a3, S_J12_min ⟨fun _ => ⟨_, rfl, hm _ (Or.inr (shr0 _))⟩, fun _ => ⟨_, rfl, hm _ (Or.inl rfl)⟩⟩⟩)
end ZJ
