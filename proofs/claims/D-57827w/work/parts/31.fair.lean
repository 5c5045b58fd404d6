/-! CONTRACTS, 2: the model's fair -/
/-- lists of kept applications in arrays -/
def zKl (μ : ZM) (b c : Nat) (kl : Nat → List Nat) : Prop := ∀ v, v < 8 → (kl v).length ≤ 3 ∧ zai μ c v = nI (kl v).length ∧ ∀ k, k < (kl v).length → zai μ b (3 * v + k) = nI ((kl v).getD k 0) ∧ (kl v).getD k 0 < 12
/-- the place of the least wanted among the first n -/
def sLeast (r : Nat → Int32) (v : Nat) (l : List Nat) : Nat → Nat
  | 0 => 0
  | n + 1 => if n = 0 then 0 else if sBE r v (l.getD (sLeast r v l n) 0) (l.getD n 0) = true then n else sLeast r v l n
theorem sLeast_lt {r : Nat → Int32} {v : Nat} {l : List Nat} : ∀ n, 0 < n → sLeast r v l n < n := by
  intro n
  induction n with
  | zero => intro h; omega
  | succ n ih =>
    intro _
    unfold sLeast
    split
    · omega
    · split
      · omega
      · have := ih (by omega); omega
section ZF
variable {G : ZG} {μ : ZM} {Q : Option ZV → ZM → Prop} {E : ZP → ZM → Prop} {m a b c : Nat} {r : Nat → Int32} {z1 z2 z3 : Int32} {kl : Nat → List Nat}
theorem C_isKept (v e : Nat) (h1 : z1 = nI v) (h2 : z2 = nI e) (hv : v < 8) (he : e < 12) (hb : zfr μ 49 m = (200, 24, b)) (hc : zfr μ 50 m = (200, 8, c)) (hk : zKl μ b c kl) (kt : e ∈ kl v → Q (some (vI 1)) μ) (kf : e ∉ kl v → Q (some (vI 0)) μ) : Call G Y_X5_isKept [vP (5, 0, m), vI z1, vI z2] μ Q E := by
  subst h1 h2
  refine S_X5_isKept ?_
  obtain ⟨k1, k2, k3⟩ := hk v hv
  have key : ∀ d i, i + d = (kl v).length → (∀ j, j < i → (kl v).getD j 0 ≠ e) → Wp G Y_X5_isKept 2 [(0, vP (5, 0, m)), (1, vI (nI v)), (2, vI (nI e)), (3, vI (nI i))] [] μ Q E := by
    intro d
    induction d with
    | zero =>
      intro i hi hne
      refine B_X5_isKept_2 ⟨_, _, hc, v, zix.eq rfl hv (by omega), _, k2, fun _ => kf fun hm => ?_, fun hn => absurd hn (nI_nlt (by omega) (by omega))⟩
      obtain ⟨j, hj, hje⟩ := List.getElem_of_mem hm
      refine hne j (by omega) ?_
      rw [List.getD_eq_getElem?_getD, List.getElem?_eq_getElem hj]; exact hje
    | succ d ih =>
      intro i hi hne
      obtain ⟨k4, k5⟩ := k3 i (by omega)
      refine B_X5_isKept_2 ⟨_, _, hc, v, zix.eq rfl hv (by omega), _, k2, fun hn => absurd (nI_lt (by omega) (by omega)) hn, fun _ => ⟨_, _, hb, 3 * v + i, zix.eq ?_ (by omega) (by omega), _, k4, fun hn => ?_, fun hy => kt ?_⟩⟩
      · show nI 3 * nI v + nI i = _
        rw [pk_mul, nI_add]
      · rw [show nI i + 1 = nI (i + 1) from nI_1 i]
        refine ih (i + 1) (by omega) fun j hj => ?_
        by_cases e1 : j = i
        · rw [e1]; intro q; rw [q] at hn; exact hn rfl
        · exact hne j (by omega)
      · have e2 : (kl v).getD i 0 = e := (nI_eq (by omega) (by omega)).mp hy
        rw [← e2, List.getD_eq_getElem?_getD, List.getElem?_eq_getElem (by omega : i < (kl v).length)]
        exact List.getElem_mem _
  exact key (kl v).length 0 (by omega) (fun j hj => by omega)
theorem C_leastKept (v : Nat) (h1 : z1 = nI v) (hv : v < 8) (h : zMo μ m a r) (hb : zfr μ 49 m = (200, 24, b)) (hc : zfr μ 50 m = (200, 8, c)) (hk : zKl μ b c kl) (h0 : 0 < (kl v).length) (k : Q (some (vI (nI (sLeast r v (kl v) (kl v).length)))) μ) : Call G Y_X5_leastKept [vP (5, 0, m), vI z1] μ Q E := by
  subst h1
  refine S_X5_leastKept ?_
  obtain ⟨k1, k2, k3⟩ := hk v hv
  have key : ∀ d i, 0 < i → i + d = (kl v).length → Wp G Y_X5_leastKept 4 [(0, vP (5, 0, m)), (1, vI (nI v)), (2, vI (nI (sLeast r v (kl v) i))), (3, vI (nI i))] [] μ Q E := by
    intro d
    induction d with
    | zero =>
      intro i hp hi
      have hi' : i = (kl v).length := by omega
      rw [← hi'] at k
      exact B_X5_leastKept_4 ⟨_, _, hc, v, zix.eq rfl hv (by omega), _, k2, fun _ => k, fun hn => absurd hn (nI_nlt (by omega) (by omega))⟩
    | succ d ih =>
      intro i hp hi
      have hl := sLeast_lt (r := r) (v := v) (l := kl v) i hp
      obtain ⟨k4, k5⟩ := k3 (sLeast r v (kl v) i) (by omega)
      obtain ⟨k6, k7⟩ := k3 i (by omega)
      have step : sLeast r v (kl v) (i + 1) = if i = 0 then 0 else if sBE r v ((kl v).getD (sLeast r v (kl v) i) 0) ((kl v).getD i 0) = true then i else sLeast r v (kl v) i := rfl
      rw [if_neg (by omega)] at step
      have ihh := ih (i + 1) (by omega) (by omega)
      rw [step] at ihh
      refine B_X5_leastKept_4 ⟨_, _, hc, v, zix.eq rfl hv (by omega), _, k2, fun hn => absurd (nI_lt (by omega) (by omega)) hn, fun _ => ⟨_, _, hb, 3 * v + sLeast r v (kl v) i, zix.eq ?_ (by omega) (by omega), _, k4, 3 * v + i, zix.eq ?_ (by omega) (by omega), _, k6, C_isBetterEcho v _ _ rfl rfl rfl hv k5 k7 h (fun hy => ⟨_, rfl, fun hz => absurd hz (by decide), fun _ => ?_⟩) (fun hn => ⟨_, rfl, fun _ => ?_, fun hz => absurd rfl hz⟩)⟩⟩
      · show nI 3 * nI v + nI _ = _
        rw [pk_mul, nI_add]
      · show nI 3 * nI v + nI i = _
        rw [pk_mul, nI_add]
      · rw [show nI i + 1 = nI (i + 1) from nI_1 i]; rw [if_pos hy] at ihh; exact ihh
      · rw [show nI i + 1 = nI (i + 1) from nI_1 i]; rw [if_neg hn] at ihh; exact ihh
  exact key ((kl v).length - 1) 1 (by omega) (by omega)
end ZF
