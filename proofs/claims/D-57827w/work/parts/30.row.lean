/-! CONTRACTS, 1: the model's row, and what is read of it -/
/-- memory holds the row r in the model's array -/
def zMo (μ : ZM) (m a : Nat) (r : Nat → Int32) : Prop := zfr μ 40 m = (200, 627, a) ∧ ∀ j, j < 627 → zai μ a j = r j
def wE (r : Nat → Int32) (e w : Nat) : Int32 := r (23 + 15 * e + w)
def wV (r : Nat → Int32) (v w : Nat) : Int32 := r (203 + 17 * v + w)
def wP (r : Nat → Int32) (v e w : Nat) : Int32 := r (339 + 3 * (12 * v + e) + w)
def sAbs (x : Int32) : Int32 := if 0 ≤ x then x else 0 - x
def sTrue (r : Nat → Int32) (v e : Nat) : Int32 := 10 * wE r e 8 - 4 * sAbs (wE r e 7 - wV r v 7)
def sSeen (r : Nat → Int32) (v e : Nat) : Int32 := if wP r v e 0 = 1 then sTrue r v e else 30
def sReason (r : Nat → Int32) (v e : Nat) : Int32 := if wV r v 9 < wE r e 9 then 1 else if sSeen r v e < 1 then 2 else if wP r v e 1 = 1 then 3 else 0
def sBV (r : Nat → Int32) (v o : Nat) : Bool := decide (0 < wV r v 9 - wV r o 9 ∨ (wV r v 9 - wV r o 9 = 0 ∧ v < o))
def sBE (r : Nat → Int32) (v e o : Nat) : Bool := decide (0 < sSeen r v e - sSeen r v o ∨ (sSeen r v e - sSeen r v o = 0 ∧ e < o))
theorem zix.eq {i : Int32} {j n : Nat} (h : i = nI j) (h1 : j < n) (h2 : j < 2147483648) : zix i j n := ⟨h, h1, h2⟩
section ZR
variable {G : ZG} {μ : ZM} {Q : Option ZV → ZM → Prop} {E : ZP → ZM → Prop} {m a : Nat} {r : Nat → Int32} {z1 z2 z3 : Int32}
theorem C_of (e w : Nat) (h1 : z1 = nI e) (h2 : z2 = nI w) (h : zMo μ m a r) (he : 23 + 15 * e + w < 627) (k : Q (some (vI (wE r e w))) μ) : Call G Y_X5_of [vP (5, 0, m), vI z1, vI z2] μ Q E := by
  subst h1 h2
  refine S_X5_of ⟨_, _, h.1, 23 + 15 * e + w, zix.eq ?_ he (by omega), _, h.2 _ he, k⟩
  show (nI 23 + nI 15 * nI e) + nI w = _
  rw [pk_mul, nI_add, nI_add]
theorem C_ofValley (v w : Nat) (h1 : z1 = nI v) (h2 : z2 = nI w) (h : zMo μ m a r) (he : 203 + 17 * v + w < 627) (k : Q (some (vI (wV r v w))) μ) : Call G Y_X5_ofValley [vP (5, 0, m), vI z1, vI z2] μ Q E := by
  subst h1 h2
  refine S_X5_ofValley ⟨_, _, h.1, 203 + 17 * v + w, zix.eq ?_ he (by omega), _, h.2 _ he, k⟩
  show (nI 203 + nI 17 * nI v) + nI w = _
  rw [pk_mul, nI_add, nI_add]
theorem C_pair (v e w : Nat) (h1 : z1 = nI v) (h2 : z2 = nI e) (h3 : z3 = nI w) (k : Q (some (vI (nI (339 + 3 * (12 * v + e) + w)))) μ) : Call G Y_X5_pair [vI z1, vI z2, vI z3] μ Q E := by
  subst h1 h2 h3
  refine S_X5_pair ?_
  have e1 : ((339 + (3 * ((12 * nI v) + nI e))) + nI w : Int32) = nI (339 + 3 * (12 * v + e) + w) := by
    show (nI 339 + (nI 3 * ((nI 12 * nI v) + nI e))) + nI w = _
    rw [pk_mul, nI_add, pk_mul, nI_add, nI_add]
  rw [e1]; exact k
theorem C_employer (e : Nat) (h1 : z1 = nI e) (he : e < 12) (h : zMo μ m a r) (k : Q (some (vI (wE r e 13 - 1))) μ) : Call G Y_X5_employer [vP (5, 0, m), vI z1] μ Q E :=
  S_X5_employer (C_of e 13 h1 rfl h (by omega) ⟨_, rfl, k⟩)
theorem C_hasContract (e : Nat) (h1 : z1 = nI e) (he : e < 12) (h : zMo μ m a r) (kt : 0 < wE r e 13 → Q (some (vI 1)) μ) (kf : ¬ 0 < wE r e 13 → Q (some (vI 0)) μ) : Call G Y_X5_hasContract [vP (5, 0, m), vI z1] μ Q E :=
  S_X5_hasContract (C_of e 13 h1 rfl h (by omega) ⟨_, rfl, kf, kt⟩)
theorem C_freePosts (v : Nat) (h1 : z1 = nI v) (hv : v < 8) (h : zMo μ m a r) (k : Q (some (vI (wV r v 8 - wV r v 13))) μ) : Call G Y_X5_freePosts [vP (5, 0, m), vI z1] μ Q E :=
  S_X5_freePosts (C_ofValley v 8 h1 rfl h (by omega) ⟨_, rfl, C_ofValley v 13 h1 rfl h (by omega) ⟨_, rfl, k⟩⟩)
theorem C_trueScore (v e : Nat) (h1 : z1 = nI v) (h2 : z2 = nI e) (hv : v < 8) (he : e < 12) (h : zMo μ m a r) (k : Q (some (vI (sTrue r v e))) μ) : Call G Y_X5_trueScore [vP (5, 0, m), vI z1, vI z2] μ Q E :=
  S_X5_trueScore (C_of e 8 h2 rfl h (by omega) ⟨_, rfl, C_of e 7 h2 rfl h (by omega) ⟨_, rfl, C_ofValley v 7 h1 rfl h (by omega) ⟨_, rfl, k⟩⟩⟩)
theorem C_seen (v e : Nat) (h1 : z1 = nI v) (h2 : z2 = nI e) (hv : v < 8) (he : e < 12) (h : zMo μ m a r) (k : Q (some (vI (sSeen r v e))) μ) : Call G Y_X5_seen [vP (5, 0, m), vI z1, vI z2] μ Q E := by
  unfold sSeen at k
  refine S_X5_seen ⟨_, _, h.1, C_pair v e 0 h1 h2 rfl ⟨_, rfl, 339 + 3 * (12 * v + e) + 0, zix.eq rfl (by omega) (by omega), _, h.2 _ (by omega), fun hn => ?_, fun hy => ?_⟩⟩
  · rw [if_neg (by unfold wP; exact hn)] at k; exact k
  · rw [if_pos (by unfold wP; exact hy)] at k; exact C_trueScore v e h1 h2 hv he h ⟨_, rfl, k⟩
theorem C_reasonOf (v e : Nat) (h1 : z1 = nI v) (h2 : z2 = nI e) (hv : v < 8) (he : e < 12) (h : zMo μ m a r) (k : Q (some (vI (sReason r v e))) μ) : Call G Y_X5_reasonOf [vP (5, 0, m), vI z1, vI z2] μ Q E := by
  unfold sReason at k
  refine S_X5_reasonOf (C_ofValley v 9 h1 rfl h (by omega) ⟨_, rfl, C_of e 9 h2 rfl h (by omega) ⟨_, rfl, fun hn => ?_, fun hy => ?_⟩⟩)
  · rw [if_neg hn] at k
    refine C_seen v e h1 h2 hv he h ⟨_, rfl, fun hn2 => ?_, fun hy2 => ?_⟩
    · rw [if_neg hn2] at k
      refine ⟨_, _, h.1, C_pair v e 1 h1 h2 rfl ⟨_, rfl, 339 + 3 * (12 * v + e) + 1, zix.eq rfl (by omega) (by omega), _, h.2 _ (by omega), fun hn3 => ?_, fun hy3 => ?_⟩⟩
      · rw [if_neg (by unfold wP; exact hn3)] at k; exact k
      · rw [if_pos (by unfold wP; exact hy3)] at k; exact k
    · rw [if_pos hy2] at k; exact k
  · rw [if_pos hy] at k; exact k
theorem C_isAcceptable (v e : Nat) (h1 : z1 = nI v) (h2 : z2 = nI e) (hv : v < 8) (he : e < 12) (h : zMo μ m a r) (kt : sReason r v e = 0 → Q (some (vI 1)) μ) (kf : ¬ sReason r v e = 0 → Q (some (vI 0)) μ) : Call G Y_X5_isAcceptable [vP (5, 0, m), vI z1, vI z2] μ Q E :=
  S_X5_isAcceptable (C_reasonOf v e h1 h2 hv he h ⟨_, rfl, kf, kt⟩)
theorem C_isBetterValley (v o : Nat) (h1 : z1 = nI v) (h2 : z2 = nI o) (hv : v < 8) (ho : o < 8) (h : zMo μ m a r) (kt : sBV r v o = true → Q (some (vI 1)) μ) (kf : ¬ sBV r v o = true → Q (some (vI 0)) μ) : Call G Y_X5_isBetterValley [vP (5, 0, m), vI z1, vI z2] μ Q E := by
  unfold sBV at kt kf
  rw [decide_eq_true_eq] at kt kf
  refine S_X5_isBetterValley (C_ofValley v 9 h1 rfl h (by omega) ⟨_, rfl, C_ofValley o 9 h2 rfl h (by omega) ⟨_, rfl, fun hy => kt (Or.inl hy), fun hn => ⟨fun hn2 => kf (fun hb => hb.elim hn (fun q => hn2 q.1)), fun hy2 => ⟨fun hn3 => kf (fun hb => hb.elim hn (fun q => hn3 ?_)), fun hy3 => kt (Or.inr ⟨hy2, ?_⟩)⟩⟩⟩⟩)
  · subst h1 h2; exact (nI_ltI (by omega) (by omega)).mpr q.2
  · subst h1 h2; exact (nI_ltI (by omega) (by omega)).mp hy3
theorem C_isBetterEcho (v e o : Nat) (h1 : z1 = nI v) (h2 : z2 = nI e) (h3 : z3 = nI o) (hv : v < 8) (he : e < 12) (ho : o < 12) (h : zMo μ m a r) (kt : sBE r v e o = true → Q (some (vI 1)) μ) (kf : ¬ sBE r v e o = true → Q (some (vI 0)) μ) : Call G Y_X5_isBetterEcho [vP (5, 0, m), vI z1, vI z2, vI z3] μ Q E := by
  unfold sBE at kt kf
  rw [decide_eq_true_eq] at kt kf
  refine S_X5_isBetterEcho (C_seen v e h1 h2 hv he h ⟨_, rfl, C_seen v o h1 h3 hv ho h ⟨_, rfl, fun hy => kt (Or.inl hy), fun hn => ⟨fun hn2 => kf (fun hb => hb.elim hn (fun q => hn2 q.1)), fun hy2 => ⟨fun hn3 => kf (fun hb => hb.elim hn (fun q => hn3 ?_)), fun hy3 => kt (Or.inr ⟨hy2, ?_⟩)⟩⟩⟩⟩)
  · subst h2 h3; exact (nI_ltI (by omega) (by omega)).mpr q.2
  · subst h2 h3; exact (nI_ltI (by omega) (by omega)).mp hy3
/-- the best valley for an echo among the first n -/
def sNext (r app : Nat → Int32) (e : Nat) : Nat → Option Nat
  | 0 => none
  | n + 1 => if app (12 * n + e) = 0 ∧ sReason r n e = 0 then (match sNext r app e n with
      | none => some n
      | some b => if sBV r n b = true then some n else some b) else sNext r app e n
def o2i (x : Option Nat) : Int32 := match x with
  | none => -1
  | some v => nI v
theorem sNext_lt {app : Nat → Int32} {e : Nat} : ∀ {n b : Nat}, sNext r app e n = some b → b < n := by
  intro n
  induction n with
  | zero => intro b h; cases h
  | succ n ih =>
    intro b h
    unfold sNext at h
    split at h
    · split at h
      · cases h; omega
      · rename_i b' hb
        have := ih hb
        split at h <;> cases h <;> omega
    · have := ih h; omega
theorem o2i_neg {n : Nat} (h : n < 2147483648) : ¬ nI n = -1 := by
  intro e
  have := congrArg Int32.toInt e
  rw [nI_toInt h] at this
  have e2 : (-1 : Int32).toInt = -1 := by decide
  rw [e2] at this; omega
theorem C_nextValley {V b : Nat} (e : Nat) (h1 : z1 = nI e) (he : e < 12) (h : zMo μ m a r) (hV : r 1 = nI V) (hV8 : V ≤ 8) (happ : zfr μ 51 m = (201, 96, b)) (k : Q (some (vI (o2i (sNext r (zai μ b) e V)))) μ) : Call G Y_X5_nextValley [vP (5, 0, m), vI z1] μ Q E := by
  refine S_X5_nextValley ?_
  have key : ∀ d i, i + d = V → Wp G Y_X5_nextValley 4 [(0, vP (5, 0, m)), (1, vI z1), (2, vI (o2i (sNext r (zai μ b) e i))), (3, vI (nI i))] [] μ Q E := by
    intro d
    induction d with
    | zero =>
      intro i hi
      have hi' : i = V := by omega
      subst hi'
      exact B_X5_nextValley_4 ⟨_, _, h.1, by omega, _, h.2 1 (by omega), fun _ => k, fun hn => absurd hn (by rw [hV]; exact nI_nlt (Nat.le_refl _) (by omega))⟩
    | succ d ih =>
      intro i hi
      have nx : nI i + 1 = nI (i + 1) := nI_1 i
      have step : sNext r (zai μ b) e (i + 1) = if zai μ b (12 * i + e) = 0 ∧ sReason r i e = 0 then (match sNext r (zai μ b) e i with
        | none => some i
        | some c => if sBV r i c = true then some i else some c) else sNext r (zai μ b) e i := rfl
      have ihh := ih (i + 1) (by omega)
      refine B_X5_nextValley_4 ⟨_, _, h.1, by omega, _, h.2 1 (by omega), fun hn => absurd (by rw [hV]; exact nI_lt (by omega) (by omega)) hn, fun _ => ⟨_, _, happ, 12 * i + e, zix.eq ?_ (by omega) (by omega), _, rfl, fun hn => ?_, fun hy => C_isAcceptable i e rfl h1 (by omega) he h (fun ha => ⟨_, rfl, fun hz => absurd hz (by decide), fun _ => ⟨fun hm => ?_, fun hm => ?_⟩⟩) (fun ha => ⟨_, rfl, fun _ => ?_, fun hz => absurd rfl hz⟩)⟩⟩
      · subst h1
        show nI 12 * nI i + nI e = _
        rw [pk_mul, nI_add]
      · rw [nx]; rw [step, if_neg (fun q => hn q.1)] at ihh; exact ihh
      · rw [nx]
        rw [step, if_pos ⟨hy, ha⟩] at ihh
        cases hb : sNext r (zai μ b) e i with
        | none => rw [hb] at ihh; exact ihh
        | some c =>
          rw [hb] at hm
          exact absurd hm (o2i_neg (by have := sNext_lt hb; omega))
      · rw [step, if_pos ⟨hy, ha⟩] at ihh
        cases hb : sNext r (zai μ b) e i with
        | none => rw [hb] at hm; exact absurd rfl hm
        | some c =>
          have hc := sNext_lt hb
          rw [hb] at ihh
          refine C_isBetterValley i c rfl rfl (by omega) (by omega) h (fun hbv => ⟨_, rfl, fun hz => absurd hz (by decide), fun _ => ?_⟩) (fun hbv => ⟨_, rfl, fun _ => ?_, fun hz => absurd rfl hz⟩)
          · rw [nx]; dsimp only at ihh; rw [if_pos hbv] at ihh; exact ihh
          · rw [nx]; dsimp only at ihh; rw [if_neg hbv] at ihh; exact ihh
      · rw [nx]; rw [step, if_neg (fun q => ha q.2)] at ihh; exact ihh
  exact key V 0 (by omega)
end ZR
