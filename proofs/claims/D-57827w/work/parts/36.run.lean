/-! CONTRACTS, 7: the model's queue runs empty -/
/-- applied, as an array -/
def bA (ap : Nat → Nat → Bool) : Nat → Int32 := fun j => if ap (j / 12) (j % 12) = true then 1 else 0
/-- how many have not applied -/
def sCnt (ap : Nat → Nat → Bool) : Nat := (List.range 96).countP (fun j => !ap (j / 12) (j % 12))
theorem countP_upd {l : List Nat} {p p' : Nat → Bool} {i : Nat} (hi : i ∈ l) (hnd : l.Nodup) (h1 : p i = true) (h2 : p' i = false) (h3 : ∀ j, j ≠ i → p' j = p j) : l.countP p' + 1 = l.countP p := by
  induction l with
  | nil => cases hi
  | cons x l ih =>
    obtain ⟨hx, hl⟩ := List.nodup_cons.mp hnd
    by_cases hxi : x = i
    · subst hxi
      have e1 : l.countP p' = l.countP p := by
        apply List.countP_congr
        intro j hj
        have : j ≠ x := by intro q; rw [q] at hj; exact hx hj
        rw [h3 j this]
      rw [List.countP_cons_of_neg (by rw [h2]; decide), List.countP_cons_of_pos h1, e1]
    · have hm : i ∈ l := by
        rcases List.mem_cons.mp hi with q | q
        · exact absurd q.symm hxi
        · exact q
      have := ih hm hl
      by_cases hp : p x = true
      · rw [List.countP_cons_of_pos (by rw [h3 x hxi]; exact hp), List.countP_cons_of_pos hp]; omega
      · rw [List.countP_cons_of_neg (by rw [h3 x hxi]; exact hp), List.countP_cons_of_neg hp]; omega
theorem sCnt_upd {ap : Nat → Nat → Bool} {v e : Nat} (hv : v < 8) (he : e < 12) (h : ap v e = false) : sCnt (aU ap v e) + 1 = sCnt ap := by
  refine countP_upd (i := 12 * v + e) (List.mem_range.mpr (by omega)) List.nodup_range ?_ ?_ fun j hj => ?_
  · have e1 : (12 * v + e) / 12 = v := by omega
    have e2 : (12 * v + e) % 12 = e := by omega
    rw [e1, e2, h]; rfl
  · have e1 : (12 * v + e) / 12 = v := by omega
    have e2 : (12 * v + e) % 12 = e := by omega
    rw [e1, e2]; unfold aU; rw [if_pos ⟨rfl, rfl⟩]; rfl
  · unfold aU
    rw [if_neg (by intro q; omega)]
theorem sCnt_le (ap : Nat → Nat → Bool) : sCnt ap ≤ 96 := by
  have := List.countP_le_length (p := fun j => !ap (j / 12) (j % 12)) (l := List.range 96)
  rw [List.length_range] at this; exact this
theorem sNext_congr {r f g : Nat → Int32} {e : Nat} : ∀ n, (∀ v, v < n → f (12 * v + e) = g (12 * v + e)) → sNext r f e n = sNext r g e n := by
  intro n
  induction n with
  | zero => intro _; rfl
  | succ n ih =>
    intro h
    unfold sNext
    rw [h n (by omega), ih (fun v hv => h v (by omega))]
theorem sNext_free {r f : Nat → Int32} {e : Nat} : ∀ {n v : Nat}, sNext r f e n = some v → f (12 * v + e) = 0 := by
  intro n
  induction n with
  | zero => intro v h; cases h
  | succ n ih =>
    intro v h
    unfold sNext at h
    split at h
    · rename_i hh
      split at h
      · cases h; exact hh.1
      · rename_i b hb
        split at h
        · cases h; exact hh.1
        · cases h; exact ih hb
    · exact ih h
/-- the free posts of a valley -/
def sPosts (r : Nat → Int32) (v : Nat) : Nat := (wV r v 8 - wV r v 13).toNatClampNeg
/-- the queue runs: what is kept in the end -/
def sRun (r : Nat → Int32) (V : Nat) : Nat → List Nat → (Nat → Nat → Bool) → (Nat → List Nat) → (Nat → List Nat)
  | 0, _, _, kl => kl
  | _ + 1, [], _, kl => kl
  | n + 1, e :: q, ap, kl => match sNext r (bA ap) e V with
    | none => sRun r V n q ap kl
    | some v => sRun r V n (sApply r (sPosts r v) q kl e v).1 (aU ap v e) (sApply r (sPosts r v) q kl e v).2
theorem sApply_len (r : Nat → Int32) (fr : Nat) (q : List Nat) (kl : Nat → List Nat) (e v : Nat) : (sApply r fr q kl e v).1.length ≤ q.length + 1 := by
  unfold sApply
  split
  · exact Nat.le_succ _
  · split
    · simp
    · split <;> simp
section ZV1
variable {G : ZG} {μ : ZM} {Q : Option ZV → ZM → Prop} {E : ZP → ZM → Prop} {m a aq ak ac ab : Nat}
theorem zRi.len {q : List Nat} (h : zRi μ m aq q) : q.length ≤ 12 := h.choose_spec.2.1
theorem zRi.el {e : Nat} {q : List Nat} (h : zRi μ m aq (e :: q)) : e < 12 := (h.choose_spec.2.2.2.2 0 (by simp)).2
theorem C_fairQueue {V : Nat} (h : zfr μ 40 m = (200, 627, a)) (hV : zai μ a 1 = nI V) (hV8 : V ≤ 8) (hD : zDa a aq ak ac ab) (hp : ∀ v, v < V → ∃ n, n ≤ 3 ∧ wV (zai μ a) v 8 - wV (zai μ a) v 13 = nI n) :
    ∀ n q ap kl ν, 2 * sCnt ap + q.length < n → zFa ν m aq ak ac ab q ap kl → zW (zFq m) (zA4 aq ak ac ab) μ ν → (∀ ρ ap', zFa ρ m aq ak ac ab [] ap' (sRun (zai μ a) V n q ap kl) → zW (zFq m) (zA4 aq ak ac ab) μ ρ → Wp G Y_X5_fairNow 38 [(0, vP (5, 0, m)), (1, vI 0)] [] ρ Q E) → Wp G Y_X5_fairNow 4 [(0, vP (5, 0, m))] [] ν Q E := by
  have hD' := hD
  obtain ⟨⟨d1, d2, d3, d4⟩, ⟨d5, d6, d7⟩, ⟨d8, d9⟩, d10⟩ := hD'
  intro n
  induction n with
  | zero => intro q ap kl ν hn; omega
  | succ n ih =>
    intro q ap kl ν hn hF hW k
    obtain ⟨g1, g2, g3, g4, g5, g6, g7⟩ := id hF
    have hl := g5.len
    have ea : zai ν a = zai μ a := hW.ai (fun q => by rcases q with q | q | q | q <;> omega)
    have hcnt := g5.choose_spec.2.2.2.1
    cases q with
    | nil =>
      refine B_X5_fairNow_4 ⟨_, hcnt, fun _ => k ν ap hF hW, fun hpos => absurd hpos (by decide)⟩
    | cons e q =>
      have he := g5.el
      refine B_X5_fairNow_4 ⟨_, hcnt, fun hpos => absurd (show (0 : Int32) < nI (e :: q).length from nI_lt (a := 0) (by simp) (by omega)) hpos, fun _ => C_dequeues e g1 g5 fun ρ hρ hWρ => ⟨_, rfl, ?_⟩⟩
      have W2 : zW (zFq m) (zA4 aq ak ac ab) ν ρ := hWρ.mono (fun _ _ q => q) (fun b hb => Or.inl hb)
      have W3 := hW.trans W2
      have ea3 : zai ρ a = zai μ a := W3.ai (fun q => by rcases q with q | q | q | q <;> omega)
      have eb3 : zai ρ ab = zai ν ab := hWρ.ai (Ne.symm d7)
      have hrow : zMo ρ m a (zai μ a) := ⟨by rw [W3.fr]; exact h, fun j _ => by rw [ea3]⟩
      have hF3 : zFa ρ m aq ak ac ab q ap kl := ⟨by rw [W2.fr]; exact g1, by rw [W2.fr]; exact g2, by rw [W2.fr]; exact g3, by rw [W2.fr]; exact g4, hρ, g6.same (hWρ.ai (Ne.symm d5)) (hWρ.ai (Ne.symm d6)), fun v e hv he => by rw [eb3]; exact g7 v e hv he⟩
      have hnx : sNext (zai μ a) (zai ρ ab) e V = sNext (zai μ a) (bA ap) e V := by
        refine sNext_congr V fun v hv => ?_
        rw [eb3, g7 v e (by omega) he]
        unfold bA
        rw [show (12 * v + e) / 12 = v by omega, show (12 * v + e) % 12 = e by omega]
      simp only [List.length_cons] at hn
      refine C_nextValley e rfl he hrow hV hV8 (by rw [W3.fr, ← hW.fr]; exact g4) ⟨_, rfl, fun hm => ?_, fun hm => ?_⟩
      · rw [hnx] at hm
        cases hs : sNext (zai μ a) (bA ap) e V with
        | none =>
          refine ih q ap kl ρ (by omega) hF3 W3 fun σ ap' hσ hWσ => k σ ap' ?_ hWσ
          unfold sRun; rw [hs]; exact hσ
        | some v => rw [hs] at hm; exact absurd hm (o2i_neg (by have := sNext_lt hs; omega))
      · rw [hnx] at hm
        cases hs : sNext (zai μ a) (bA ap) e V with
        | none => rw [hs] at hm; exact absurd rfl hm
        | some v =>
          have hvV := sNext_lt hs
          have hfree := sNext_free hs
          have hap : ap v e = false := by
            unfold bA at hfree
            rw [show (12 * v + e) / 12 = v by omega, show (12 * v + e) % 12 = e by omega] at hfree
            cases hh : ap v e with
            | false => rfl
            | true => rw [hh] at hfree; exact absurd hfree (by decide)
          obtain ⟨fr, fr3, hfr⟩ := hp v hvV
          have hsp : sPosts (zai μ a) v = fr := by unfold sPosts; rw [hfr]; exact nI_clamp (by omega)
          have hcn := sCnt_upd (by omega : v < 8) he hap
          have hal := sApply_len (zai μ a) fr q kl e v
          rw [hnx, hs]
          refine C_applies e v fr rfl rfl he (by omega) (by rw [W3.fr]; exact h) hD hF3 (by simp only [List.length_cons] at hl; omega) (by rw [ea3]; exact hfr) fr3 fun σ hσ hWσ => ⟨rfl, ?_⟩
          rw [ea3] at hσ
          refine ih _ _ _ σ (by omega) hσ (W3.trans hWσ) fun τ ap' hτ hWτ => k τ ap' ?_ hWτ
          unfold sRun; rw [hs]; dsimp only; rw [hsp]; exact hτ
end ZV1
