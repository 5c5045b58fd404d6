/-! CONTRACTS, 8: the model's fair -/
/-- the kept echoes of a valley among the first n sign -/
def sSignE (kl : Nat → List Nat) (v : Nat) : Nat → (Nat → Int32) → (Nat → Int32)
  | 0, r => r
  | n + 1, r => if n ∈ kl v then sComes (sSignE kl v n r) v n (wV (sSignE kl v n r) v 13).toNatClampNeg else sSignE kl v n r
def sSignV (kl : Nat → List Nat) (K : Nat) : Nat → (Nat → Int32) → (Nat → Int32)
  | 0, r => r
  | v + 1, r => sSignE kl v K (sSignV kl K v r)
/-- a fair -/
def sFair (r : Nat → Int32) (K V : Nat) : Nat → Int32 := sSignV (sRun r V 300 (sFree r K) (fun _ _ => false) (fun _ => [])) K V r
/-- how many of the first n are in l -/
def sHas (l : List Nat) (n : Nat) : Nat := (List.range n).countP (fun i => decide (i ∈ l))
theorem sHas_succ (l : List Nat) (n : Nat) : sHas l (n + 1) = sHas l n + if n ∈ l then 1 else 0 := by
  unfold sHas
  rw [List.range_succ, List.countP_append]
  by_cases h : n ∈ l <;> simp [h]
theorem sHas_le (l : List Nat) : ∀ n, sHas l n ≤ l.length := by
  induction l with
  | nil => intro n; unfold sHas; simp
  | cons x l ih =>
    intro n
    have h1 : sHas (x :: l) n ≤ sHas l n + 1 := by
      clear ih
      have : ∀ n, sHas (x :: l) n ≤ sHas l n + (if x < n then 1 else 0) := by
        intro n
        induction n with
        | zero => unfold sHas; simp
        | succ n ih =>
          rw [sHas_succ, sHas_succ]
          by_cases hx : n = x
          · subst hx
            rw [if_neg (by omega)] at ih
            rw [if_pos (show n ∈ n :: l from List.mem_cons_self), if_pos (show n < n + 1 by omega)]
            split <;> omega
          · have e1 : (n ∈ x :: l) ↔ n ∈ l := by simp [hx]
            by_cases hl : n ∈ l
            · rw [if_pos (e1.mpr hl), if_pos hl]
              by_cases h2 : x < n
              · rw [if_pos h2] at ih; rw [if_pos (by omega)]; omega
              · rw [if_neg h2] at ih; split <;> omega
            · rw [if_neg (fun q => hl (e1.mp q)), if_neg hl]
              by_cases h2 : x < n
              · rw [if_pos h2] at ih; rw [if_pos (by omega)]; omega
              · rw [if_neg h2] at ih; split <;> omega
      have := this n
      split at this <;> omega
    have := ih n
    simp only [List.length_cons]; omega
theorem sRun_len (r : Nat → Int32) (V : Nat) : ∀ n q ap kl, (∀ v, v < V → (kl v).length ≤ sPosts r v) → (∀ v, ¬ v < V → kl v = []) → (∀ v, v < V → (sRun r V n q ap kl v).length ≤ sPosts r v) ∧ ∀ v, ¬ v < V → sRun r V n q ap kl v = [] := by
  intro n
  induction n with
  | zero => intro q ap kl h1 h2; exact ⟨h1, h2⟩
  | succ n ih =>
    intro q ap kl h1 h2
    cases q with
    | nil => exact ⟨h1, h2⟩
    | cons e q =>
      unfold sRun
      cases hs : sNext r (bA ap) e V with
      | none => exact ih _ _ _ h1 h2
      | some v =>
        have hv := sNext_lt hs
        refine ih _ _ _ (fun w hw => ?_) (fun w hw => ?_)
        · unfold sApply
          split
          · unfold kU; dsimp only
            split
            · rename_i hh; subst hh; rw [List.length_append]; simp; omega
            · exact h1 w hw
          · split
            · exact h1 w hw
            · split
              · unfold kU; dsimp only
                split
                · rename_i hh; subst hh; rw [List.length_set]; exact h1 w hw
                · exact h1 w hw
              · exact h1 w hw
        · have hne : w ≠ v := by intro q; rw [q] at hw; exact hw hv
          unfold sApply
          split
          · unfold kU; dsimp only; rw [if_neg hne]; exact h2 w hw
          · split
            · exact h2 w hw
            · split
              · unfold kU; dsimp only; rw [if_neg hne]; exact h2 w hw
              · exact h2 w hw
