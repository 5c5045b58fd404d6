/-! CONTRACTS, 10: the model's day -/
/-- a valley pays an echo -/
def sPays (r : Nat → Int32) (v e : Nat) : Nat → Int32 :=
  if wV r v 10 < wV r v 9 * wE r e 8 then wU r (23 + 15 * e + 12) (wE r e 12 + 1)
  else wU (wU (wU (wU r (203 + 17 * v + 10) (wV r v 10 - wV r v 9 * wE r e 8)) (203 + 17 * v + 12) (wV r v 12 + wV r v 9 * wE r e 8)) (23 + 15 * e + 11) (wE r e 11 + wV r v 9 * wE r e 8)) (23 + 15 * e + 12) 0
section ZY1
variable {G : ZG} {μ : ZM} {Q : Option ZV → ZM → Prop} {E : ZP → ZM → Prop} {m a : Nat} {z1 z2 : Int32}
theorem C_pays (v e : Nat) (h1 : z1 = nI v) (h2 : z2 = nI e) (hv : v < 8) (he : e < 12) (h : zfr μ 40 m = (200, 627, a)) (k : ∀ ν, zW zF0 (zA1 a) μ ν → zai ν a = sPays (zai μ a) v e → Q none ν) : Call G Y_X5_pays [vP (5, 0, m), vI z1, vI z2] μ Q E := by
  subst h1 h2
  have S := zMo.self h
  refine S_X5_pays (C_ofValley v 9 rfl rfl S (by omega) ⟨_, rfl, C_of e 8 rfl rfl S (by omega) ⟨_, rfl, C_ofValley v 10 rfl rfl S (by omega) ⟨_, rfl, fun hge => C_ofValley v 10 rfl rfl S (by omega) ⟨_, rfl, C_putsValley v 10 rfl rfl h (by omega) ⟨rfl, C_ofValley v 12 rfl rfl (zMo.self h) (by omega) ⟨_, rfl, C_putsValley v 12 rfl rfl h (by omega) ⟨rfl, C_of e 11 rfl rfl (zMo.self h) (by omega) ⟨_, rfl, C_puts e 11 rfl rfl h (by omega) ⟨rfl, C_puts e 12 rfl rfl h (by omega) ⟨rfl, k _ ?_ ?_⟩⟩⟩⟩⟩⟩⟩, fun hlt => C_of e 12 rfl rfl S (by omega) ⟨_, rfl, C_puts e 12 rfl rfl h (by omega) ⟨rfl, k _ (zW_A1 μ a _ _) ?_⟩⟩⟩⟩⟩)
  · exact (((zW_A1 μ a _ _).trans (zW_A1 _ a _ _)).trans (zW_A1 _ a _ _)).trans (zW_A1 _ a _ _)
  · rw [zai_set, zai_set, zai_set, zai_set]
    unfold sPays
    rw [if_neg hge]
    have e1 : wV (wU (zai μ a) (203 + 17 * v + 10) (wV (zai μ a) v 10 - wV (zai μ a) v 9 * wE (zai μ a) e 8)) v 12 = wV (zai μ a) v 12 := by
      unfold wV wU; rw [if_neg (by omega)]
    have e2 : ∀ x y, wE (wU (wU (zai μ a) (203 + 17 * v + 10) x) (203 + 17 * v + 12) y) e 11 = wE (zai μ a) e 11 := by
      intro x y; unfold wE wU; rw [if_neg (by omega), if_neg (by omega)]
    rw [e1, e2]
  · rw [zai_set]; unfold sPays; rw [if_pos hlt]
end ZY1
/-- the place of a pair's number -/
def iP (v e w : Nat) : Nat := 339 + 3 * (12 * v + e) + w
/-- the staff's replies, and the days that they served -/
def sEarnS (mem : Nat → Nat) (v : Nat) (r : Nat → Int32) : Nat → (Nat → Int32) × Int32
  | 0 => (r, 0)
  | n + 1 => (wU (sEarnS mem v r n).1 (iP v (mem n) 2) ((sEarnS mem v r n).1 (iP v (mem n) 2) + 1), (sEarnS mem v r n).2 + wE r (mem n) 8)
def sEarns (mem : Nat → Nat) (v : Nat) (r : Nat → Int32) (n : Nat) : Nat → Int32 :=
  let r1 := (sEarnS mem v r n).1
  let p := (sEarnS mem v r n).2
  wU (wU (wU r1 (203 + 17 * v + 11) (wV r v 11 + p)) (203 + 17 * v + 10) (wV r v 10 + wV r v 7 * p)) 8 (r 8 + wV r v 7 * p)
theorem sEarnS_lo {mem : Nat → Nat} {v : Nat} {r : Nat → Int32} : ∀ n j, j < 339 → (sEarnS mem v r n).1 j = r j := by
  intro n
  induction n with
  | zero => intro j _; rfl
  | succ n ih =>
    intro j hj
    show wU _ _ _ j = _
    unfold wU iP
    rw [if_neg (by omega)]
    exact ih j hj
section ZY2
variable {G : ZG} {μ : ZM} {Q : Option ZV → ZM → Prop} {E : ZP → ZM → Prop} {m a : Nat} {z1 z2 : Int32}
theorem C_earns (v n : Nat) (mem : Nat → Nat) (h1 : z1 = nI v) (hv : v < 8) (h : zfr μ 40 m = (200, 627, a)) (hn : wV (zai μ a) v 13 = nI n) (hn3 : n ≤ 3) (hm : ∀ k, k < n → wV (zai μ a) v (14 + k) = nI (mem k) ∧ mem k < 12) (k : ∀ ν, zW zF0 (zA1 a) μ ν → zai ν a = sEarns mem v (zai μ a) n → Q none ν) : Call G Y_X5_earns [vP (5, 0, m), vI z1] μ Q E := by
  subst h1
  refine S_X5_earns ?_
  have key : ∀ d i (ν : ZM), i + d = n → zW zF0 (zA1 a) μ ν → zai ν a = (sEarnS mem v (zai μ a) i).1 → Wp G Y_X5_earns 4 [(0, vP (5, 0, m)), (1, vI (nI v)), (2, vI (sEarnS mem v (zai μ a) i).2), (3, vI (nI i))] [] ν Q E := by
    intro d
    induction d with
    | zero =>
      intro i ν hi hW hs
      have hi' : i = n := by omega
      subst hi'
      have hr : zfr ν 40 m = (200, 627, a) := by rw [hW.fr]; exact h
      have S := zMo.self hr
      have lo : ∀ w, w < 17 → wV (zai ν a) v w = wV (zai μ a) v w := fun w hw => by rw [hs]; exact sEarnS_lo _ _ (by omega)
      refine B_X5_earns_4 (C_ofValley v 13 rfl rfl S (by omega) ⟨_, rfl, fun _ => C_ofValley v 7 rfl rfl S (by omega) ⟨_, rfl, C_ofValley v 11 rfl rfl S (by omega) ⟨_, rfl, C_putsValley v 11 rfl rfl hr (by omega) ⟨rfl, C_ofValley v 10 rfl rfl (zMo.self hr) (by omega) ⟨_, rfl, C_putsValley v 10 rfl rfl hr (by omega) ⟨rfl, _, _, hr, by omega, _, rfl, k _ ?_ ?_⟩⟩⟩⟩⟩, fun hlt => absurd hlt ?_⟩)
      · exact ((hW.trans (zW_A1 _ a _ _)).trans (zW_A1 _ a _ _)).trans (zW_A1 _ a _ _)
      · rw [zai_set, zai_set, zai_set]
        unfold sEarns
        dsimp only
        rw [← hs]
        have e1 : ∀ x, wV (wU (zai ν a) (203 + 17 * v + 11) x) v 10 = wV (zai ν a) v 10 := by
          intro x; unfold wV wU; rw [if_neg (by omega)]
        have e2 : ∀ x y, wU (wU (zai ν a) (203 + 17 * v + 11) x) (203 + 17 * v + 10) y 8 = zai ν a 8 := by
          intro x y; unfold wU; rw [if_neg (by omega), if_neg (by omega)]
        have e3 : zai ν a 8 = zai μ a 8 := by rw [hs]; exact sEarnS_lo _ _ (by omega)
        rw [e1, e2, e3, lo 11 (by omega), lo 10 (by omega), lo 7 (by omega)]
      · rw [lo 13 (by omega), hn]; exact nI_nlt (by omega) (by omega)
    | succ d ih =>
      intro i ν hi hW hs
      have hr : zfr ν 40 m = (200, 627, a) := by rw [hW.fr]; exact h
      have S := zMo.self hr
      have lo : ∀ w, w < 17 → wV (zai ν a) v w = wV (zai μ a) v w := fun w hw => by rw [hs]; exact sEarnS_lo _ _ (by omega)
      obtain ⟨m1, m2⟩ := hm i (by omega)
      have em : wV (zai ν a) v (14 + i) = nI (mem i) := by rw [lo (14 + i) (by omega)]; exact m1
      have e8 : wE (zai ν a) (mem i) 8 = wE (zai μ a) (mem i) 8 := by rw [hs]; exact sEarnS_lo _ _ (by omega)
      refine B_X5_earns_4 (C_ofValley v 13 rfl rfl S (by omega) ⟨_, rfl, fun hge => absurd ?_ hge, fun _ => C_ofValley v (14 + i) rfl (nI_add 14 i) S (by omega) ⟨_, rfl, ?_⟩⟩)
      · rw [lo 13 (by omega), hn]; exact nI_lt (by omega) (by omega)
      · rw [em]
        refine C_of (mem i) 8 rfl rfl S (by omega) ⟨_, rfl, _, _, hr, C_pair v (mem i) 2 rfl rfl rfl ⟨_, rfl, iP v (mem i) 2, zix.eq rfl (by unfold iP; omega) (by unfold iP; omega), _, rfl, ?_⟩⟩
        rw [nI_1, e8]
        refine ih (i + 1) _ (by omega) (hW.trans (zW_A1 _ a _ _)) ?_
        rw [zai_set, hs]
        rfl
  exact key n 0 μ (by omega) (zW.rf _ _ _) rfl
end ZY2
section ZY3
variable {G : ZG} {μ : ZM} {Q : Option ZV → ZM → Prop} {E : ZP → ZM → Prop} {m a : Nat} {r : Nat → Int32} {z1 z2 : Int32}
theorem C_fogNow (d f : Nat) (h1 : z1 = nI d) (hd : d < 2147483648) (h : zMo μ m a r) (hf : r 4 = nI f) (hf0 : 0 < f) (hf12 : f ≤ 12) (k : Q (some (vI (r (11 + d % f)))) μ) : Call G Y_X5_fogNow [vP (5, 0, m), vI z1] μ Q E := by
  subst h1
  have hm : d % f < f := Nat.mod_lt _ hf0
  refine S_X5_fogNow ⟨_, _, h.1, by omega, _, h.2 4 (by omega), by rw [hf]; exact nI_ne0 hf0 (by omega), 11 + d % f, zix.eq ?_ (by omega) (by omega), _, h.2 _ (by omega), k⟩
  rw [hf, pk_rem hd hf0 (by omega)]
  exact nI_add 11 _
end ZY3
