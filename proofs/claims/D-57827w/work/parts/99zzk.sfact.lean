set_option maxRecDepth 100000
/-! THE START, 8: what stands there -/
/-- a cell of the start, of a class with a name -/
def zSl (s : State) (C : String) (a : Nat) (cell : Cell) : Prop := s.vm.findClass C = some cell.cls ∧ s.heap[a]? = some cell ∧ cell.vm.isStatics = false ∧ cell.vm ≠ .unknown
def zSc (s : State) (y : ZSR) (a v : Nat) : Prop := (zsO y).eval #[] s none [] s = some (.ref a) ∧ (∃ cell, zSl s "java/lang/String" a cell) ∧ s.fieldOf? a "java/lang/String" "value" "[B" = some (.ref v) ∧ s.fieldOf? a "java/lang/String" "coder" "B" = some (.int 0) ∧ s.fieldOf? a "java/lang/String" "hash" "I" = some (.int y.2.2.2.1) ∧ s.fieldOf? a "java/lang/String" "hashIsZero" "Z" = some (.int y.2.2.2.2.1) ∧ ∃ cell, zSl s "[B" v cell ∧ s.isArrayOf cell .byte ∧ cell.slots.size = y.2.2.1.length ∧ ∀ j, j < y.2.2.1.length → cell.slots[j]? = some (.int (nI (y.2.2.1.getD j 0)))
section ZJ
variable {args : Array Value} {s : State}
theorem zeval_f {t : Term} {a : Nat} {C n d : String} (h : t.eval args s none [] s = some (.ref a)) : (Term.field t C n d).eval args s none [] s = s.fieldOf? a C n d := by
  simp [Term.eval, h]
theorem zfOf_kn {a : Nat} {C n d : String} {v : Value} {cell : Cell} (h : s.fieldOf? a C n d = some v) (hc : s.heap[a]? = some cell) : cell.vm ≠ .unknown := by
  intro e
  unfold State.fieldOf? at h
  simp only [hc, Option.bind_eq_bind, Option.bind_some, Option.bind_eq_some_iff] at h
  obtain ⟨x, -, h⟩ := h
  rw [if_pos (Or.inl e)] at h
  cases h
theorem zlen_of {t : Term} {v n : Nat} (h : t.eval args s none [] s = some (.ref v)) (k : (Term.length t).eval args s none [] s = some (.int (nI n))) (hn : n < 2147483648) : ∃ cell, s.arrayAt? v = some cell ∧ cell.slots.size = n := by
  simp only [Term.eval, h, Option.bind_eq_bind, Option.bind_some] at k
  cases hc : s.arrayAt? v with
  | none => simp [hc] at k
  | some cell =>
    refine ⟨cell, rfl, ?_⟩
    simp only [hc, Option.bind_some] at k
    split at k
    · rename_i hs
      simp at k
      exact (nI_eq (by omega) hn).mp k
    · cases k
theorem zelem_of {t : Term} {v j : Nat} {x : Value} {cell : Cell} (h : t.eval args s none [] s = some (.ref v)) (hc : s.arrayAt? v = some cell) (hj : j < 2147483648) (k : (Term.elem t (.int (nI j))).eval args s none [] s = some x) : cell.slots[j]? = some x := by
  simp only [Term.eval, h, Option.bind_eq_bind, Option.bind_some, hc] at k
  rw [if_neg (show ¬ nI j < nI 0 from nI_nlt (Nat.zero_le _) hj), nI_clamp hj] at k
  exact k
theorem zSc_of {y : ZSR} (hy : zsOk y = true) (hn : y.2.2.1.length < 1000) (h : zT0C.before args s = true) : ∃ a v, zSc s y a v := by
  unfold zsOk at hy
  rw [Bool.and_eq_true] at hy
  obtain ⟨h7, hE⟩ := hy
  have q := fun k (hk : k < 7) => ckC_of (List.all_eq_true.mp h7 k (List.mem_range.mpr hk)) h
  have qE := fun j (hj : j < y.2.2.1.length) => ckC_of (List.all_eq_true.mp hE j (List.mem_range.mpr hj)) h
  obtain ⟨a, c, cell, k, e1, e2, e3, e4, e5, e6, -⟩ := Cond.exactly_spec (show (Cond.exactly (zsO y) "java/lang/String").holds args s none s [] = true from q 0 (by decide))
  have f1 := Cond.eq_int (show (Cond.eq (.field (zsO y) "java/lang/String" "coder" "B") (.int 0)).holds args s none s [] = true from q 1 (by decide)) rfl
  have f2 := Cond.eq_int (show (Cond.eq (.field (zsO y) "java/lang/String" "hash" "I") (.int y.2.2.2.1)).holds args s none s [] = true from q 2 (by decide)) rfl
  have f3 := Cond.eq_int (show (Cond.eq (.field (zsO y) "java/lang/String" "hashIsZero" "Z") (.int y.2.2.2.2.1)).holds args s none s [] = true from q 3 (by decide)) rfl
  obtain ⟨v, cB, cv, kB, g1, g2, g3, g4, g5, g6, -⟩ := Cond.exactly_spec (show (Cond.exactly (zsV y) "[B").holds args s none s [] = true from q 4 (by decide))
  obtain ⟨i1, i2⟩ := Cond.arrayOf_spec (show (Cond.arrayOf (zsV y) .byte).holds args s none s [] = true from q 5 (by decide)) g1 g3
  have i3 := Cond.eq_int (show (Cond.eq (.length (zsV y)) (.int (nI y.2.2.1.length))).holds args s none s [] = true from q 6 (by decide)) rfl
  obtain ⟨cv', j1, j2⟩ := zlen_of g1 i3 (by omega)
  have e9 : cv' = cv := by
    have := (State.arrayAt?_spec j1).1
    rw [g3] at this; cases this; rfl
  subst e9
  rw [zeval_f e1] at f1 f2 f3
  have gv := g1
  unfold zsV at gv
  rw [zeval_f e1] at gv
  subst e6
  subst g6
  exact ⟨a, v, e1, ⟨cell, e2, e3, e5, zfOf_kn f1 e3⟩, gv, f1, f2, f3, cv', ⟨g2, g3, g5, i2⟩, i1, j2, fun j hj => zelem_of g1 j1 (by omega) (Cond.eq_int (show (zsE y j).holds args s none s [] = true from qE j hj) rfl)⟩
theorem zlen_ref {t : Term} {x : Value} (h : (Term.length t).eval args s none [] s = some x) : ∃ a, t.eval args s none [] s = some (.ref a) := by
  cases ht : t.eval args s none [] s with
  | none => simp [Term.eval, ht] at h
  | some v => cases v <;> simp [Term.eval, ht] at h ⊢
/-- the cache of small numbers -/
def tIC : Term := .static "java/lang/Integer$IntegerCache" "cache" "[Ljava/lang/Integer;"
theorem zIC_of (h : zT0C.before args s = true) : ∃ a cell, tIC.eval args s none [] s = some (.ref a) ∧ s.heap[a]? = some cell ∧ s.isArrayOf cell (.object "java/lang/Integer") ∧ (cell.vm.isStatics = false ∧ cell.vm ≠ .unknown) ∧ cell.slots.size = 256 ∧ ∀ j, j < 256 → ∃ b ci, cell.slots[j]? = some (.ref b) ∧ zSl s "java/lang/Integer" b ci ∧ s.fieldOf? b "java/lang/Integer" "value" "I" = some (.int (nI j - 128)) := by
  have hl := Cond.eq_int (show (Cond.eq (.length tIC) (.int (nI 256))).holds args s none s [] = true from pr_lenC h) rfl
  obtain ⟨a, ha⟩ := zlen_ref hl
  obtain ⟨cell, j1, j2⟩ := zlen_of ha hl (by decide)
  obtain ⟨k1, k2, k3, -⟩ := State.arrayAt?_spec j1
  obtain ⟨i1, -⟩ := Cond.arrayOf_spec (show (Cond.arrayOf tIC (.object "java/lang/Integer")).holds args s none s [] = true from pr_arrC h) ha k1
  have hv : (Cond.all tIC (.and (.exactly (.elem tIC (.index 0)) "java/lang/Integer") (.eq (.field (.elem tIC (.index 0)) "java/lang/Integer" "value" "I") (.sub (.index 0) (.int 128))))).value args s none s [] = some true := by
    have := pr_all h
    unfold Cond.before Cond.holds at this
    exact eq_of_beq this
  refine ⟨a, cell, ha, k1, i1, ⟨k3, k2⟩, j2, fun j hj => ?_⟩
  have hw := Cond.all_elim ha j1 hv j (by rw [j2]; exact hj)
  have hh : (Cond.and (.exactly (.elem tIC (.index 0)) "java/lang/Integer") (.eq (.field (.elem tIC (.index 0)) "java/lang/Integer" "value" "I") (.sub (.index 0) (.int 128)))).holds args s none s [j] = true := by
    unfold Cond.holds; rw [hw]; rfl
  rw [Cond.holds_and, Bool.and_eq_true] at hh
  obtain ⟨b, c, ci, k, e1, e2, e3, e4, e5, e6, -⟩ := Cond.exactly_spec hh.1
  have f1 := Cond.eq_int (n := nI j - 128) hh.2 (by simp [Term.eval]; rfl)
  have e1' := e1
  have ha' : tIC.eval args s none [j] s = some (.ref a) := ha
  simp only [Term.eval, e1] at f1
  simp only [Term.eval, ha', Option.bind_eq_bind, Option.bind_some, j1] at e1'
  sorry
end ZJ
