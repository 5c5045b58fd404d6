set_option maxRecDepth 100000
/-! THE COMPONENT, 18: Integers; a valley shouts; an echo deserts -/
/-- the cache of Integers -/
def zIc (G : ZG) (μ : ZM) : Prop := ∃ a1, zgS G 6 = (207, 256, a1) ∧ a1 < zsz μ ∧ (ztg μ a1).1 = 207 ∧ ∀ j, j < 256 → zIn μ (zar μ a1 j) (nI j - 128)
theorem zIc.kp {G : ZG} {μ ν : ZM} {W : Nat → Prop} {c d : Nat} (h : zIc G μ) (hok : zok μ) (g : zG W c d μ ν) (hW : ∀ a, a < zsz μ → W a → ¬ zim (ztg μ a).1) : zIc G ν := by
  obtain ⟨a1, h1, h2, h3, h4⟩ := h
  have k1 := g.same h2 (fun w => hW _ h2 w (by rw [h3]; unfold zim; omega))
  refine ⟨a1, h1, Nat.lt_of_lt_of_le h2 g.1.1, by rw [g.1.2.2 a1 h2]; exact h3, fun j hj => ?_⟩
  obtain ⟨q1, q2⟩ := h4 j hj
  have hp := hok.2.2.2.2.2.2 a1 j
  have ht : (zar μ a1 j).1 = 24 ∨ (zar μ a1 j).1 = 124 := q1
  have hl := hp.lt (by omega) (by omega)
  have e9 : (ztg μ (zar μ a1 j).2.2).1 = (zar μ a1 j).1 := congrArg Prod.fst hl.2
  have k2 := g.same hl.1 (fun w => hW _ hl.1 w (by unfold zim; omega))
  rw [k1.2.2.2.1]
  exact ⟨q1, (k2.1 _).trans q2⟩
theorem zIc.nw {G : ZG} {μ ν : ZM} {c d : Nat} (h : zIc G μ) (hok : zok μ) (g : zG (fun _ => False) c d μ ν) : zIc G ν := h.kp hok g (fun _ _ q => q.elim)
theorem zIc.wl {G : ZG} {μ ν : ZM} {lo c d : Nat} (h : zIc G μ) (hok : zok μ) (g : zG (zWl lo μ) c d μ ν) : zIc G ν := h.kp hok g (fun _ _ q => q.2)
theorem i32_byte (z : Int32) (h1 : ¬ z < -128) (h2 : ¬ 127 < z) : ∃ j : Nat, j < 256 ∧ z + 128 = nI j ∧ nI j - 128 = z := by
  have a1 : (-128 : Int) ≤ z.toInt := by
    have := Int32.le_iff_toInt_le.mp (Int32.not_lt.mp h1)
    exact this
  have a2 : z.toInt ≤ 127 := by
    have := Int32.le_iff_toInt_le.mp (Int32.not_lt.mp h2)
    exact this
  have e : (z + 128).toInt = z.toInt + 128 := by
    rw [Int32.toInt_add]
    exact Int.bmod_eq_of_le (by show _ ≤ z.toInt + 128; omega) (by show z.toInt + 128 < _; omega)
  obtain ⟨j, hj, hj2⟩ := nI_all (z + 128) (by omega)
  refine ⟨j, by omega, hj, ?_⟩
  rw [← hj]
  exact Int32.add_sub_cancel _ _
section ZJ
variable {G : ZG} {μ : ZM} {Q : Option ZV → ZM → Prop} {E : ZP → ZM → Prop}
theorem C_valueOf {z : Int32} (hI : zIc G μ) (hok : zok μ) (k : ∀ ν p, zIn ν p z → p.2.2 < zsz ν → zpk ν p → zG (fun _ => False) 1 1 μ ν → Q (some (vP p)) ν) : Call G Y_J17_valueOf [vI z] μ Q E := by
  have new : ∀ {Q' : Option ZV → ZM → Prop} {E' : ZP → ZM → Prop}, Q' none (zFi (zNew μ 24 0 1) 144 (zsz μ) z) → Call G Y_J17_init [vP (24, 0, zsz μ), vI z] (zNew μ 24 0 1) Q' E' := fun hQ => S_J17_init (S_J16_init_24 ⟨rfl, hQ⟩)
  have q : (False ∨ zsz μ ≤ zsz μ) := Or.inr (Nat.le_refl _)
  have kn : Q (some (vP (24, 0, zsz μ))) (zFi (zNew μ 24 0 1) 144 (zsz μ) z) := by
    refine k _ _ ⟨Or.inl rfl, ?_⟩ (Nat.lt_succ_self _) (Or.inr (Or.inr ⟨Nat.succ_ne_zero 23, Nat.lt_succ_self _, ?_⟩)) (zG.trN (W := fun _ => False) (zG.nw (t := 24) (n := 0) (k := 1)) (zG.fi q))
    · rw [zfi_zFi, if_pos ⟨rfl, rfl⟩]
    · show ztg (zNew μ 24 0 1) (zsz μ) = (24, 0)
      rw [ztg_zNew, if_pos rfl]
  refine S_J17_valueOf ⟨fun _ => new ⟨rfl, kn⟩, fun h1 => ⟨fun _ => new ⟨rfl, kn⟩, fun h2 => ?_⟩⟩
  obtain ⟨a1, i1, i2, i3, i4⟩ := hI
  obtain ⟨j, hj, e1, e2⟩ := i32_byte z h1 h2
  have hp := hok.2.2.2.2.2.2 a1 j
  obtain ⟨q1, q2⟩ := i4 j hj
  have ht : (zar μ a1 j).1 = 24 ∨ (zar μ a1 j).1 = 124 := q1
  exact ⟨_, _, i1, j, zix.eq e1 hj (by omega), _, rfl, q1, k μ _ ⟨q1, q2.trans e2⟩ (hp.lt (by omega) (by omega)).1 hp ((zG.rf _ _).mono (fun _ _ h => h) (by omega) (by omega))⟩
theorem C_intValue {p : ZP} {z : Int32} (h : zIn μ p z) (k : Q (some (vI z)) μ) : Call G Y_J17_intValue [vP p] μ Q E := S_J17_intValue ⟨h.1, _, h.2, k⟩
variable {lo hi s K V F fg el ear vl var ds dm sm : Nat} {ea va ta sa : Nat → Nat} {r : Nat → Int32} {z1 z2 z3 : Int32}
theorem zSta.dsm (h : zSta μ lo hi s r K V F fg el ear vl var ds dm sm ea va ta sa) (hh : hi ≤ zsz μ) : sm < zsz μ ∧ dm < zsz μ := ⟨by have := h.2.2.2.2.1.1; omega, by have := h.2.2.2.1.1; omega⟩
/-- days counted: what stays of the row -/
theorem earn_at (mem : Nat → Nat) (v : Nat) (r : Nat → Int32) : ∀ n j, j < 339 ∨ (j - 339) % 3 ≠ 2 → (sEarnS mem v r n).1 j = r j := by
  intro n
  induction n with
  | zero => intro j _; rfl
  | succ n ih =>
    intro j hj
    show wU (sEarnS mem v r n).1 _ _ j = r j
    rw [wU_n (by unfold iP; omega)]
    exact ih j hj
theorem L_sh11 {v n : Nat} {mem : Nat → Nat} (hv : v < V) (hn3 : n ≤ 3) (hlo : lo ≤ s) (hcnt : wV r v 13 = nI n) (hmem : ∀ i, i < n → wV r v (14 + i) = nI (mem i) ∧ mem i < K)
    (Kc : ∀ ρ, zSta ρ lo (zsz ρ) s (sEarnS mem v r n).1 K V F fg el ear vl var ds dm sm ea va ta sa → zGt lo (5 * n) (9 * n) sm dm μ ρ → zIc G ρ → Wp G Y_X2_shout 11 [(0, vP (2, 0, s)), (1, vI (nI v)), (2, vP (4, 0, va v)), (3, vI (sEarnS mem v r n).2), (4, vI (nI n))] [] ρ Q E) :
    ∀ (d k : Nat) (ν : ZM), k + d = n → (ztg ν s).1 = 2 → zIc G ν → zSta ν lo (zsz ν) s (sEarnS mem v r k).1 K V F fg el ear vl var ds dm sm ea va ta sa → zGt lo (5 * k) (9 * k) sm dm μ ν →
    Wp G Y_X2_shout 11 [(0, vP (2, 0, s)), (1, vI (nI v)), (2, vP (4, 0, va v)), (3, vI (sEarnS mem v r k).2), (4, vI (nI k))] [] ν Q E := by
  intro d
  induction d with
  | zero => intro k ν hk hs hI h hg; have : k = n := by omega
            subst this; exact Kc ν h hg hI
  | succ d ih =>
    intro k ν hk hs hI h hg
    have hK := h.1.2.1.2.2.2.1
    have hV := h.1.2.1.2.2.2.2.1
    obtain ⟨hm1, hm2⟩ := hmem k (by omega)
    have rw13 : ∀ w, w < 17 → wV (sEarnS mem v r k).1 v w = wV r v w := fun w hw => earn_at mem v r k _ (Or.inl (by omega))
    have e8 : wE (sEarnS mem v r k).1 (mem k) 8 = wE r (mem k) 8 := earn_at mem v r k _ (Or.inl (by omega))
    have c13 := (h.eV hv 13 (by decide)).trans ((rw13 13 (by decide)).trans hcnt)
    have hsa := h.2.2.1.2.2.2.2.2.1 v hv
    have hst : zai ν (sa v) k = nI (mem k) := (h.2.2.1.2.2.2.2.2.2.2 v k hv (by omega) (by rw [rw13 13 (by decide), hcnt]; exact nI_lt (by omega) (by omega))).trans ((rw13 _ (by omega)).trans hm1)
    have x8 := h.eE hm2 8 (by decide)
    rw [show oE 8 = 0 from rfl, i32_s0, e8] at x8
    refine Wp.zo fun hok => ?_
    have hloz : lo ≤ zsz ν := by have := h.1.1; omega
    refine B_X2_shout_11 ⟨_, c13, fun e => absurd (nI_lt (by omega) (by omega)) e, fun _ => ⟨_, _, hsa.2, k, zix.eq rfl (by omega) (by omega), _, hst, C_sEcho (mem k) rfl hm2 h ⟨_, rfl, _, rfl, _, x8, _, _, hsa.2, k, zix.eq rfl (by omega) (by omega), _, hst, ?_⟩⟩⟩
    have g1 := zG_pair (μ := ν) v (mem k)
    refine S_X9_init ⟨rfl, ?_⟩
    generalize hν1 : zFi (zFi (zNew ν 9 0 2) 92 (zsz ν) (nI v)) 93 (zsz ν) (nI (mem k)) = ν1 at g1 ⊢
    have p92 : zfi ν1 92 (zsz ν) = nI v := by rw [← hν1, zfi_zFi, if_neg (fun e => by cases e.1), zfi_zFi, if_pos ⟨rfl, rfl⟩]
    have p93 : zfi ν1 93 (zsz ν) = nI (mem k) := by rw [← hν1, zfi_zFi, if_pos ⟨rfl, rfl⟩]
    have hpz : zsz ν < zsz ν1 := by rw [← hν1]; exact Nat.lt_succ_self _
    have h1 := h.nw hok (Nat.le_refl _) g1
    have hI1 := hI.nw hok g1
    have t1 := zGt.no (lo := lo) g1 (h.dsm (Nat.le_refl _)).1 (h.dsm (Nat.le_refl _)).2
    obtain ⟨d1, d3, ks, nd, kp, vl', d4, d5, d6, d7⟩ := h1.2.2.2.2.1
    have hx : (12 * v + mem k) / 12 = v ∧ (12 * v + mem k) % 12 = mem k := by omega
    have hnext : ∀ x, x = (sEarnS mem v r k).1 (iP v (mem k) 2) + 1 → wU (sEarnS mem v r k).1 (iP v (mem k) 2) x = (sEarnS mem v r (k + 1)).1 := fun x hx => by rw [hx]; rfl
    have hsz1 : (ztg ν1 s).1 = 2 := by rw [g1.1.2.2 s (by have := h.1.1; omega)]; exact hs
    -- behind the put
    have fin : ∀ (ν2 : ZM) (c2 d2 : Nat), zG (fun _ => False) c2 d2 ν1 ν2 → c2 ≤ 1 → d2 ≤ 1 → zok ν2 → ∀ (p : ZP), zIn ν2 p ((sEarnS mem v r k).1 (iP v (mem k) 2) + 1) → p.2.2 < zsz ν2 → zpk ν2 p → zok ν1 → ∀ {E' : ZP → ZM → Prop}, Call G Y_J22_put [vP (14, 0, sm), vP (9, 0, zsz ν), vP p] ν2 (rP fun q4 ν5 => ((q4 = zN ∧ Wp G Y_X2_shout 11 [(0, vP (2, 0, s)), (1, vI (nI v)), (2, vP (4, 0, va v)), (3, vI ((sEarnS mem v r k).2 + wE r (mem k) 8)), (4, vI (nI k + 1))] [] ν5 Q E) ∨ (zis 24 q4 ∧ Wp G Y_X2_shout 11 [(0, vP (2, 0, s)), (1, vI (nI v)), (2, vP (4, 0, va v)), (3, vI ((sEarnS mem v r k).2 + wE r (mem k) 8)), (4, vI (nI k + 1))] [] ν5 Q E))) E' := by
      intro ν2 c2 d2 g2 hc2 hd2 hok2 p hp hpp hpk hok1 E'
      have h2 := h1.nw hok1 (by omega) g2
      have t2 := zGt.no (lo := lo) g2 (h1.dsm (by omega)).1 (h1.dsm (by omega)).2
      have hs2 : (ztg ν2 s).1 = 2 := by rw [g2.1.2.2 s (by have := h.1.1; omega)]; exact hsz1
      have s0 := g2.same hpz id
      have hI2 := hI1.nw hok1 g2
      have hz12 := g2.1.1
      refine C_sPut v (mem k) (zsz ν) p _ hv hm2 ((s0.1 _).trans p92) ((s0.1 _).trans p93) hp hpp hok2 (by omega) (by omega) hs2 hpk h2 fun ρ q hq j1 j2 => ⟨_, rfl, ?_⟩
      rw [hnext _ rfl] at j1
      have hI3 := hI2.wl hok2 j2.1
      have hs3 : (ztg ρ s).1 = 2 := by rw [j2.1.1.2.2 s (by have := h.1.1; omega)]; exact hs2
      have hgt := (((hg.tr t1).tr t2).tr j2).mo (c' := 5 * (k + 1)) (d' := 9 * (k + 1)) (by omega) (by omega)
      have W := ih (k + 1) ρ (by omega) hs3 hI3 j1 hgt
      rw [nI_1]
      rcases hq with hq | hq
      · exact Or.inl ⟨hq, W⟩
      · exact Or.inr ⟨hq, W⟩
    refine ⟨sm, h1.1.2.2.2.1.2.2.2.2, Call.zo fun hok1 _ => C_hmGet (k := 12 * v + mem k) d4 (by omega) (by rw [hx.1]; exact p92) (by rw [hx.2]; exact p93) (fun x hx => (d5 x hx).1.1) (fun hk2 => ⟨_, rfl, Or.inr ⟨(d5 _ hk2).1.1, sm, h1.1.2.2.2.1.2.2.2.2, C_intValue (d5 _ hk2).1 ⟨_, rfl, Call.zq (C_valueOf hI1 hok1 fun ν2 p q1 q2 q3 q4 hok2 _ => ⟨_, rfl, q1.1, fin ν2 1 1 q4 (Nat.le_refl _) (Nat.le_refl _) hok2 p (show zIn ν2 p ((sEarnS mem v r k).1 (iP v (mem k) 2) + 1) from q1) q2 q3 hok1⟩)⟩⟩⟩) (fun hk2 => ⟨_, rfl, Or.inl ⟨rfl, sm, h1.1.2.2.2.1.2.2.2.2, Call.zq (C_valueOf hI1 hok1 fun ν2 p q1 q2 q3 q4 hok2 _ => ⟨_, rfl, q1.1, fin ν2 1 1 q4 (Nat.le_refl _) (Nat.le_refl _) hok2 p ?_ q2 q3 hok1⟩)⟩⟩)⟩
    have e0 : (sEarnS mem v r k).1 (iP v (mem k) 2) = 0 := d7 (12 * v + mem k) (by omega) (by omega) hk2
    rw [e0]; exact q1
end ZJ
