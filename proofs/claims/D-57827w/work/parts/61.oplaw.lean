/-! LAWS OF ROWS, 6: operations keep rows good; commands -/
theorem sW.oth {r r' : Nat → Int32} {K V : Nat} {po : Nat → Nat} {B : Nat} (h : sW r K V po B) (h0 : ∀ j, j < 5 → r' j = r j) (hV : ∀ v w, v < 8 → (w = 8 ∨ 13 ≤ w) → w < 17 → wV r' v w = wV r v w) (hE : ∀ e u, e < 12 → (u = 12 ∨ u = 13) → wE r' e u = wE r e u) : sW r' K V po B := by
  obtain ⟨a1, ⟨a2, a2'⟩, ⟨S, a3⟩, ⟨f, a4⟩, ⟨sl, a5⟩, a6⟩ := h
  exact ⟨a1, ⟨by rw [h0 0 (by omega)]; exact a2, by rw [h0 1 (by omega)]; exact a2'⟩, ⟨S, by rw [h0 3 (by omega)]; exact a3⟩, ⟨f, by rw [h0 4 (by omega)]; exact a4⟩, ⟨sl, a5.same a1.1 hV (fun e he => hE e 13 he (Or.inr rfl))⟩, a6.same fun e he => hE e 12 he (Or.inl rfl)⟩
theorem sGd.test {r : Nat → Int32} {K V : Nat} {po : Nat → Nat} {D v e : Nat} (h : sGd r K V po D) (hv : v < 8) (he : e < 12) : sGd (sTest r v e) K V po D := by
  obtain ⟨h1, ⟨e1, e2, e3⟩, h3, d, h4, h5⟩ := h
  have lo : ∀ j, j < 339 → sTest r v e j = r j := fun j hj => by unfold sTest wU iP; rw [if_neg (by omega)]
  have oE : ∀ x u, x < 12 → u < 15 → wE (sTest r v e) x u = wE r x u := fun x u hx hu => lo _ (by omega)
  have oV : ∀ x u, x < 8 → u < 17 → wV (sTest r v e) x u = wV r x u := fun x u hx hu => lo _ (by omega)
  have b := h1.1
  refine ⟨h1.oth (fun j hj => lo j (by omega)) (fun x w hx _ hw => oV x w hx hw) (fun x u hx hu => oE x u hx (by omega)), ⟨fun x hx => ?_, fun x hx => ?_, fun x y hx hy => ?_⟩, fun j hj => ?_, d, by rw [lo 2 (by omega)]; exact h4, h5⟩
  · obtain ⟨f1, f2, f3⟩ := e1 x hx
    exact ⟨by rw [oE x 7 (by omega) (by omega)]; exact f1, by rw [oE x 8 (by omega) (by omega)]; exact f2, f3.same fun j j1 j2 => lo j (by omega)⟩
  · obtain ⟨f1, f2, f3⟩ := e2 x hx
    exact ⟨by rw [oV x 7 (by omega) (by omega)]; exact f1, by rw [oV x 9 (by omega) (by omega)]; exact f2, f3.same fun j j1 j2 => lo j (by omega)⟩
  · show sTest r v e (iP x y 0) = 0 ∨ sTest r v e (iP x y 0) = 1
    unfold sTest wU
    split
    · exact Or.inr rfl
    · exact e3 x y hx hy
  · unfold sTest wU iP; rw [if_neg (by omega)]; exact h3 j hj
theorem sGd.wage {r : Nat → Int32} {K V : Nat} {po : Nat → Nat} {D v n : Nat} (h : sGd r K V po D) (hv : v < 8) (n1 : 1 ≤ n) (n9 : n ≤ 99) : sGd (sWage r v (nI n)) K V po D := by
  obtain ⟨h1, ⟨e1, e2, e3⟩, h3, d, h4, h5⟩ := h
  have out : ∀ j, j ≠ 203 + 17 * v + 9 → sWage r v (nI n) j = r j := fun j hj => by unfold sWage wU; rw [if_neg hj]
  have b := h1.1
  refine ⟨sWage_ok h1 hv _, ⟨fun x hx => ?_, fun x hx => ?_, fun x y hx hy => ?_⟩, fun j hj => by rw [out j (by omega)]; exact h3 j hj, d, by rw [out 2 (by omega)]; exact h4, h5⟩
  · obtain ⟨f1, f2, f3⟩ := e1 x hx
    have oE : ∀ u, u < 15 → wE (sWage r v (nI n)) x u = wE r x u := fun u hu => out _ (by omega)
    exact ⟨by rw [oE 7 (by omega)]; exact f1, by rw [oE 8 (by omega)]; exact f2, f3.same fun j j1 j2 => out j (by omega)⟩
  · obtain ⟨f1, f2, f3⟩ := e2 x hx
    have o7 : wV (sWage r v (nI n)) x 7 = wV r x 7 := out _ (by omega)
    refine ⟨by rw [o7]; exact f1, ?_, f3.same fun j j1 j2 => out j (by omega)⟩
    by_cases hxv : x = v
    · refine ⟨n, ?_, n1, n9⟩
      show sWage r v (nI n) (203 + 17 * x + 9) = _
      unfold sWage wU; rw [if_pos (by rw [hxv])]
    · have o9 : wV (sWage r v (nI n)) x 9 = wV r x 9 := out _ (by omega)
      rw [o9]; exact f2
  · have : wP (sWage r v (nI n)) x y 0 = wP r x y 0 := out _ (by omega)
    rw [this]; exact e3 x y hx hy
theorem sGd.fund {r : Nat → Int32} {K V : Nat} {po : Nat → Nat} {D v : Nat} (h : sGd r K V po D) (hv : v < 8) (x : Int32) : sGd (sFund r v x) K V po D := by
  have out : ∀ j, j ≠ 9 → j ≠ 203 + 17 * v + 10 → sFund r v x j = r j := fun j h1 h2 => by unfold sFund wU; rw [if_neg h1, if_neg h2]
  obtain ⟨h1, ⟨e1, e2, e3⟩, h3, d, h4, h5⟩ := h
  have b := h1.1
  have oE : ∀ y u, y < 12 → u < 15 → wE (sFund r v x) y u = wE r y u := fun y u hy hu => out _ (by omega) (by omega)
  have oV : ∀ y u, y < 8 → u < 17 → u ≠ 10 → wV (sFund r v x) y u = wV r y u := fun y u hy hu h10 => out _ (by omega) (by omega)
  refine ⟨h1.oth (fun j hj => out j (by omega) (by omega)) (fun y w hy hw hw2 => oV y w hy hw2 (by omega)) (fun y u hy hu => oE y u hy (by omega)), ⟨fun y hy => ?_, fun y hy => ?_, fun y y' hy hy' => ?_⟩, fun j hj => by rw [out j (by omega) (by omega)]; exact h3 j hj, d, by rw [out 2 (by omega) (by omega)]; exact h4, h5⟩
  · obtain ⟨f1, f2, f3⟩ := e1 y hy
    exact ⟨by rw [oE y 7 (by omega) (by omega)]; exact f1, by rw [oE y 8 (by omega) (by omega)]; exact f2, f3.same fun j j1 j2 => out j (by omega) (by omega)⟩
  · obtain ⟨f1, f2, f3⟩ := e2 y hy
    exact ⟨by rw [oV y 7 (by omega) (by omega) (by omega)]; exact f1, by rw [oV y 9 (by omega) (by omega) (by omega)]; exact f2, f3.same fun j j1 j2 => out j (by omega) (by omega)⟩
  · have : wP (sFund r v x) y y' 0 = wP r y y' 0 := out _ (by omega) (by omega)
    rw [this]; exact e3 y y' hy hy'
theorem sGd.train {r : Nat → Int32} {K V : Nat} {po : Nat → Nat} {D e : Nat} (h : sGd r K V po D) (he : e < K) (ok : sTrainOk r e) : sGd (sTrain r e) K V po D := by
  have out : ∀ j, j ≠ 10 → j ≠ 23 + 15 * e + 8 → j ≠ 23 + 15 * e + 11 → sTrain r e j = r j := fun j h1 h2 h3 => by unfold sTrain wU; rw [if_neg h1, if_neg h2, if_neg h3]
  obtain ⟨h1, ⟨e1, e2, e3⟩, h3, d, h4, h5⟩ := h
  have b := h1.1
  have oE : ∀ y u, y < 12 → u < 15 → (y ≠ e ∨ (u ≠ 8 ∧ u ≠ 11)) → wE (sTrain r e) y u = wE r y u := fun y u hy hu hx => out _ (by omega) (by omega) (by omega)
  have oV : ∀ y u, y < 8 → u < 17 → wV (sTrain r e) y u = wV r y u := fun y u hy hu => out _ (by omega) (by omega) (by omega)
  refine ⟨h1.oth (fun j hj => out j (by omega) (by omega) (by omega)) (fun y w hy _ hw => oV y w hy hw) (fun y u hy hu => oE y u hy (by omega) (by omega)), ⟨fun y hy => ?_, fun y hy => ?_, fun y y' hy hy' => ?_⟩, fun j hj => by rw [out j (by omega) (by omega) (by omega)]; exact h3 j hj, d, by rw [out 2 (by omega) (by omega) (by omega)]; exact h4, h5⟩
  · obtain ⟨f1, f2, f3⟩ := e1 y hy
    refine ⟨by rw [oE y 7 (by omega) (by omega) (by omega)]; exact f1, ?_, f3.same fun j j1 j2 => out j (by omega) (by omega) (by omega)⟩
    by_cases hye : y = e
    · obtain ⟨x, x1, x2, x3⟩ := f2
      subst hye
      have hlt : x < 9 := by
        have := ok.1
        rw [x1] at this
        exact (nI_ltI (b := 9) (by omega) (by omega)).mp this
      refine ⟨x + 1, ?_, by omega, by omega⟩
      show sTrain r y (23 + 15 * y + 8) = _
      unfold sTrain wU
      rw [if_neg (by omega), if_pos rfl, x1, nI_1]
    · rw [oE y 8 (by omega) (by omega) (Or.inl hye)]; exact f2
  · obtain ⟨f1, f2, f3⟩ := e2 y hy
    exact ⟨by rw [oV y 7 (by omega) (by omega)]; exact f1, by rw [oV y 9 (by omega) (by omega)]; exact f2, f3.same fun j j1 j2 => out j (by omega) (by omega) (by omega)⟩
  · have : wP (sTrain r e) y y' 0 = wP r y y' 0 := out _ (by omega) (by omega) (by omega)
    rw [this]; exact e3 y y' hy hy'
/-- a command's numbers are in range -/
def cOk (K V : Nat) (c : Nat × Nat × Nat) : Prop := c.1 < 7 ∧ (c.1 = 0 → c.2.1 ≤ 60) ∧ (c.1 = 2 ∨ c.1 = 4 ∨ c.1 = 5 → c.2.1 < V) ∧ (c.1 = 3 ∨ c.1 = 6 → c.2.1 < K) ∧ (c.1 = 2 → c.2.2 < K) ∧ (c.1 = 4 → 1 ≤ c.2.2 ∧ c.2.2 ≤ 99) ∧ (c.1 = 5 → c.2.2 ≤ 999)
/-- one command done, if it can be -/
def sDo (K V : Nat) (c : Nat × Nat × Nat) (r : Nat → Int32) : Option (Nat → Int32) :=
  if c.1 = 0 then some (sDays r K V c.2.1)
  else if c.1 = 1 then some (sFair r K V)
  else if c.1 = 2 then (if wP r c.2.1 c.2.2 0 = 0 ∧ ¬ 0 < wE r c.2.2 13 then some (sTest r c.2.1 c.2.2) else none)
  else if c.1 = 3 then (if 0 < wE r c.2.1 13 then some (sEnd r c.2.1) else none)
  else if c.1 = 4 then some (sWage r c.2.1 (nI c.2.2))
  else if c.1 = 5 then some (sFund r c.2.1 (nI c.2.2))
  else (if wE r c.2.1 8 < 9 ∧ ¬ wE r c.2.1 11 < 10 * wE r c.2.1 8 then some (sTrain r c.2.1) else none)
def sExec (K V : Nat) : List (Nat × Nat × Nat) → (Nat → Int32) → (Nat → Int32) × Nat
  | [], r => (r, 0)
  | c :: l, r => match sDo K V c r with
    | none => (r, 0)
    | some r1 => ((sExec K V l r1).1, (sExec K V l r1).2 + 1)
theorem sDo_ok {r r' : Nat → Int32} {K V : Nat} {po : Nat → Nat} {D : Nat} {c : Nat × Nat × Nat} (h : sGd r K V po D) (hD : D < 1000000) (hc : cOk K V c) (hd : sDo K V c r = some r') : sGd r' K V po (D + 60) := by
  obtain ⟨c0, c1, c2, c3, c4, c5, c6⟩ := hc
  have b := h.1.1
  unfold sDo at hd
  split at hd
  · cases hd
    have := h.days (by omega) (n := c.2.1) (by have := c1 (by assumption); omega)
    exact this.le (by have := c1 (by assumption); omega)
  · split at hd
    · cases hd; exact h.fair.le (by omega)
    · split at hd
      · split at hd
        · cases hd; exact (h.test (by have := c2 (by omega); omega) (by have := c4 (by assumption); omega)).le (by omega)
        · cases hd
      · split at hd
        · split at hd
          · cases hd; exact (h.end (by have := c3 (by omega); omega) (by assumption)).le (by omega)
          · cases hd
        · split at hd
          · cases hd; exact (h.wage (by have := c2 (by omega); omega) (c5 (by assumption)).1 (c5 (by assumption)).2).le (by omega)
          · split at hd
            · cases hd; exact (h.fund (by have := c2 (by omega); omega) _).le (by omega)
            · split at hd
              · cases hd; exact (h.train (c3 (by omega)) (by assumption)).le (by omega)
              · cases hd
theorem sExec_ok {K V : Nat} {po : Nat → Nat} : ∀ {l : List (Nat × Nat × Nat)} {r : Nat → Int32} {D : Nat}, sGd r K V po D → D + 60 * l.length < 1000000 → (∀ c, c ∈ l → cOk K V c) → sGd (sExec K V l r).1 K V po (D + 60 * l.length) := by
  intro l
  induction l with
  | nil => intro r D h _ _; exact h
  | cons c l ih =>
    intro r D h hD hc
    rw [List.length_cons] at hD ⊢
    unfold sExec
    split
    · exact h.le (by omega)
    · rename_i r1 h1
      have h2 := sDo_ok h (by omega) (hc c List.mem_cons_self) h1
      have := ih h2 (by omega) (fun c' hc' => hc c' (List.mem_cons_of_mem _ hc'))
      exact this.le (by omega)
theorem pParts_ok {b : List Nat} {r : Nat → Int32} {K V k a x y a' : Nat} (hr : sKV r K V) (hk : k < 7) (h : pParts b r k a = .ok ((x, y), a')) : cOk K V (k, x, y) ∧ a ≤ a' := by
  have two : ∀ {v a1 x}, pMust b r v a = .ok (x, a1) → x < (if v = true then V else K) ∧ a ≤ a1 := fun h => ⟨sThing_lt hr (pMust_ok h).2, (pMust_ok h).1⟩
  unfold pParts at h
  split at h
  · split at h
    · cases h
    · rename_i x a1 h1
      cases h
      have := pNum_ge h1
      exact ⟨by unfold cOk; dsimp only; omega, by omega⟩
  · cases h
    exact ⟨by unfold cOk; dsimp only; omega, by omega⟩
  · split at h
    · cases h
    · rename_i x a1 h1
      split at h
      · cases h
      · rename_i y a2 h2
        cases h
        obtain ⟨g1, g2⟩ := two h1
        rw [if_pos rfl] at g1
        have g3 := sThing_lt hr (pMust_ok h2).2
        rw [if_neg (by decide)] at g3
        have := (pMust_ok h2).1
        exact ⟨by unfold cOk; dsimp only; omega, by omega⟩
  · split at h
    · cases h
    · rename_i x a1 h1
      split at h
      · cases h
      · rename_i y a2 h2
        cases h
        obtain ⟨g1, g2⟩ := two h1
        rw [if_pos rfl] at g1
        have := pNum_ge h2
        exact ⟨by unfold cOk; dsimp only; omega, by omega⟩
  · split at h
    · cases h
    · rename_i x a1 h1
      split at h
      · cases h
      · rename_i y a2 h2
        cases h
        obtain ⟨g1, g2⟩ := two h1
        rw [if_pos rfl] at g1
        have := pNum_ge h2
        exact ⟨by unfold cOk; dsimp only; omega, by omega⟩
  · rename_i n0 n1 n2 n4 n5
    split at h
    · cases h
    · rename_i x a1 h1
      cases h
      obtain ⟨g1, g2⟩ := two h1
      rw [if_neg (by decide)] at g1
      refine ⟨?_, by omega⟩
      have q0 : k ≠ 0 := fun t => n0 t
      have q1 : k ≠ 1 := fun t => n1 t
      have q2 : k ≠ 2 := fun t => n2 t
      have q4 : k ≠ 4 := fun t => n4 t
      have q5 : k ≠ 5 := fun t => n5 t
      unfold cOk; dsimp only; omega
theorem pKind_lt {w : List Nat} {k : Nat} (h : pKind w = some k) : k < 7 ∧ 1 ≤ w.length := by
  unfold pKind at h
  split at h
  · rename_i hw; cases h; rw [hw]; decide
  · split at h
    · rename_i hw; cases h; rw [hw]; decide
    · split at h
      · rename_i hw; cases h; rw [hw]; decide
      · split at h
        · rename_i hw; cases h; rw [hw]; decide
        · split at h
          · rename_i hw; cases h; rw [hw]; decide
          · split at h
            · rename_i hw; cases h; rw [hw]; decide
            · split at h
              · rename_i hw; cases h; rw [hw]; decide
              · cases h
theorem pCmd_ok {b : List Nat} {r : Nat → Int32} {K V n a a' : Nat} {c : Nat × Nat × Nat} (hr : sKV r K V) (h : pCmd b r n a = .ok (c, a')) : cOk K V c ∧ a < a' ∧ n < 30 := by
  unfold pCmd at h
  split at h
  · cases h
  · rename_i k hk
    obtain ⟨k7, w1⟩ := pKind_lt hk
    split at h
    · cases h
    · split at h
      · cases h
      · rename_i x y a1 h1
        split at h
        · cases h
        · rename_i a2 h2
          cases h
          obtain ⟨g1, g2⟩ := pParts_ok hr k7 h1
          have := pSemi_gt h2
          have := pSk_ge b a
          exact ⟨g1, by omega, by omega⟩
theorem pCmds_ok {b : List Nat} {r : Nat → Int32} {K V : Nat} (hr : sKV r K V) : ∀ {n : Nat} {l l' : List (Nat × Nat × Nat)} {a : Nat}, l.length ≤ 30 → (∀ c, c ∈ l → cOk K V c) → pCmds b r n l a = .ok l' → l'.length ≤ 30 ∧ ∀ c, c ∈ l' → cOk K V c := by
  intro n
  induction n with
  | zero => intro l l' a _ _ h; cases h
  | succ n ih =>
    intro l l' a hl hc h
    unfold pCmds at h
    split at h
    · cases h; exact ⟨hl, hc⟩
    · split at h
      · cases h
      · rename_i c a1 h1
        obtain ⟨g1, g2, g3⟩ := pCmd_ok hr h1
        refine ih (by rw [List.length_append]; simp; omega) (fun c' hc' => ?_) h
        rcases List.mem_append.mp hc' with q | q
        · exact hc c' q
        · rw [List.mem_singleton.mp q]; exact g1
