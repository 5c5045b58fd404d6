/-! THE TEXTS: what is read of them -/
/-- behind the spaces; the word, the digits that begin there -/
def pSk (b : List Nat) (a : Nat) : Nat := a + ((b.drop a).takeWhile (fun c => c == 32)).length
def pLet (c : Nat) : Bool := decide (97 ≤ c ∧ c ≤ 122)
def pDgt (c : Nat) : Bool := decide (48 ≤ c ∧ c ≤ 57)
def pWd (b : List Nat) (p : Nat) : List Nat := (b.drop p).takeWhile pLet
def pDg (b : List Nat) (p : Nat) : List Nat := (b.drop p).takeWhile pDgt
/-- the number of the first four digits -/
def pVal (l : List Nat) : Nat := (l.take 4).foldl (fun v c => 10 * v + (c - 48)) 0
def bAt (b : List Nat) (k : Nat) : Int32 := if k < b.length then nI (b.getD k 0) else -1
abbrev PE (α : Type) : Type := Except (Int32 × Nat) α
def pKey (b w : List Nat) (a : Nat) : PE Nat := if pWd b (pSk b a) = w then .ok (pSk b a + w.length) else .error (1, pSk b a)
def pSemi (b : List Nat) (a : Nat) : PE Nat := if bAt b (pSk b a) = 59 then .ok (pSk b a + 1) else .error (1, pSk b a)
def pNum (b : List Nat) (lo hi a : Nat) : PE (Nat × Nat) :=
  if (pDg b (pSk b a)).length = 0 ∨ 4 < (pDg b (pSk b a)).length then .error (1, pSk b a)
  else if lo ≤ pVal (pDg b (pSk b a)) ∧ pVal (pDg b (pSk b a)) ≤ hi then .ok (pVal (pDg b (pSk b a)), pSk b a + (pDg b (pSk b a)).length)
  else .error (2, pSk b a)
def pName (b : List Nat) (a : Nat) : PE (List Nat × Nat) :=
  if 1 ≤ (pWd b (pSk b a)).length ∧ (pWd b (pSk b a)).length ≤ 6 then .ok (pWd b (pSk b a), pSk b a) else .error (1, pSk b a)
/-- a name in a row; the thing of that name -/
def sIs (r : Nat → Int32) (q : Nat) (w : List Nat) : Bool := decide (r q = nI w.length) && (List.range w.length).all (fun k => decide (r (q + 1 + k) = nI (w.getD k 0)))
def sFind (r : Nat → Int32) (q d : Nat) (w : List Nat) : Nat → Nat → Option Nat
  | 0, _ => none
  | n + 1, k => if sIs r (q + d * k) w = true then some k else sFind r q d w n (k + 1)
def sThing (r : Nat → Int32) (v : Bool) (w : List Nat) : Option Nat := if v = true then sFind r 203 17 w (r 1).toNatClampNeg 0 else sFind r 23 15 w (r 0).toNatClampNeg 0
def sNamed (r : Nat → Int32) (q : Nat) (w : List Nat) : Nat → Int32 := fun j => if j = q then nI w.length else if q + 1 ≤ j ∧ j < q + 1 + w.length then nI (w.getD (j - (q + 1)) 0) else r j
def pMust (b : List Nat) (r : Nat → Int32) (v : Bool) (a : Nat) : PE (Nat × Nat) := match pName b a with
  | .error e => .error e
  | .ok (w, p) => match sThing r v w with
    | none => .error (3, p)
    | some k => .ok (k, p + w.length)
def pNew (b : List Nat) (r : Nat → Int32) (v : Bool) (q a : Nat) : PE ((Nat → Int32) × Nat) := match pName b a with
  | .error e => .error e
  | .ok (w, p) => match sThing r v w with
    | none => .ok (sNamed r q w, p + w.length)
    | some _ => .error (3, p)
def tFair : List Nat := [102, 97, 105, 114]
def tFog : List Nat := [102, 111, 103]
def tEcho : List Nat := [101, 99, 104, 111]
def tValley : List Nat := [118, 97, 108, 108, 101, 121]
def tTested : List Nat := [116, 101, 115, 116, 101, 100]
def tPass : List Nat := [112, 97, 115, 115]
def tTest : List Nat := [116, 101, 115, 116]
def tDismiss : List Nat := [100, 105, 115, 109, 105, 115, 115]
def tWage : List Nat := [119, 97, 103, 101]
def tFund : List Nat := [102, 117, 110, 100]
def tTrain : List Nat := [116, 114, 97, 105, 110]
/-- the numbers of the fog line, the first one from a on; then the semicolon -/
def pFogs (b : List Nat) : Nat → (Nat → Int32) → Nat → PE ((Nat → Int32) × Nat)
  | 0, _, _ => .error (0, 0)
  | n + 1, r, a => match pNum b 0 9 a with
    | .error e => .error e
    | .ok (v, a') =>
      if 12 ≤ (r 4).toNatClampNeg then .error (4, pSk b a)
      else if (pDg b (pSk b a')).length = 0 then (match pSemi b a' with
          | .error e => .error e
          | .ok a'' => .ok (wU (wU r (11 + (r 4).toNatClampNeg) (nI v)) 4 (nI ((r 4).toNatClampNeg + 1)), a''))
        else pFogs b n (wU (wU r (11 + (r 4).toNatClampNeg) (nI v)) 4 (nI ((r 4).toNatClampNeg + 1))) a'
/-- an echo's line, behind its keyword, that begins at p -/
def pEcho (b : List Nat) (r : Nat → Int32) (p : Nat) : PE ((Nat → Int32) × Nat) :=
  if 12 ≤ (r 0).toNatClampNeg then .error (4, p) else
  match pNew b r false (23 + 15 * (r 0).toNatClampNeg) (p + 4) with
  | .error e => .error e
  | .ok (r1, a1) => match pNum b 1 9 a1 with
    | .error e => .error e
    | .ok (x7, a2) => match pNum b 1 9 a2 with
      | .error e => .error e
      | .ok (x8, a3) => match pNum b 1 99 a3 with
        | .error e => .error e
        | .ok (x9, a4) => match pNum b 0 9 a4 with
          | .error e => .error e
          | .ok (x10, a5) => .ok (wU (wU (wU (wU (wU r1 (23 + 15 * (r 0).toNatClampNeg + 7) (nI x7)) (23 + 15 * (r 0).toNatClampNeg + 8) (nI x8)) (23 + 15 * (r 0).toNatClampNeg + 9) (nI x9)) (23 + 15 * (r 0).toNatClampNeg + 10) (nI x10)) 0 (nI ((r 0).toNatClampNeg + 1)), a5)
def pValley (b : List Nat) (r : Nat → Int32) (p : Nat) : PE ((Nat → Int32) × Nat) :=
  if 8 ≤ (r 1).toNatClampNeg then .error (4, p) else
  match pNew b r true (203 + 17 * (r 1).toNatClampNeg) (p + 6) with
  | .error e => .error e
  | .ok (r1, a1) => match pNum b 1 9 a1 with
    | .error e => .error e
    | .ok (x7, a2) => match pNum b 1 3 a2 with
      | .error e => .error e
      | .ok (x8, a3) => match pNum b 1 99 a3 with
        | .error e => .error e
        | .ok (x9, a4) => match pNum b 0 9999 a4 with
          | .error e => .error e
          | .ok (x10, a5) => .ok (wU (wU (wU (wU (wU (wU r1 (203 + 17 * (r 1).toNatClampNeg + 7) (nI x7)) (203 + 17 * (r 1).toNatClampNeg + 8) (nI x8)) (203 + 17 * (r 1).toNatClampNeg + 9) (nI x9)) (203 + 17 * (r 1).toNatClampNeg + 10) (nI x10)) 7 (r 7 + nI x10)) 1 (nI ((r 1).toNatClampNeg + 1)), a5)
def pTested (b : List Nat) (r : Nat → Int32) (p : Nat) : PE ((Nat → Int32) × Nat) := match pMust b r true (p + 6) with
  | .error e => .error e
  | .ok (v, a1) => match pMust b r false a1 with
    | .error e => .error e
    | .ok (e, a2) => .ok (wU r (iP v e 0) 1, a2)
/-- a statement's kind, then its semicolon -/
def pLine (b : List Nat) (r : Nat → Int32) (a : Nat) : PE ((Nat → Int32) × Nat) :=
  if pWd b (pSk b a) = tEcho then pEcho b r (pSk b a)
  else if pWd b (pSk b a) = tValley then pValley b r (pSk b a)
  else if pWd b (pSk b a) = tTested then pTested b r (pSk b a)
  else .error (1, pSk b a)
def pStm (b : List Nat) (r : Nat → Int32) (a : Nat) : PE ((Nat → Int32) × Nat) := match pLine b r a with
  | .error e => .error e
  | .ok (r1, a1) => match pSemi b a1 with
    | .error e => .error e
    | .ok a2 => .ok (r1, a2)
def pStms (b : List Nat) : Nat → (Nat → Int32) → Nat → PE (Nat → Int32)
  | 0, _, _ => .error (0, 0)
  | n + 1, r, a => if ¬ r 0 = 0 ∧ ¬ r 1 = 0 ∧ b.length ≤ pSk b a then .ok r else
    match pStm b r a with
    | .error e => .error e
    | .ok (r1, a1) => pStms b n r1 a1
def pLoad (b : List Nat) : PE (Nat → Int32) := match pKey b tFair 0 with
  | .error e => .error e
  | .ok a1 => match pNum b 1 30 a1 with
    | .error e => .error e
    | .ok (s, a2) => match pSemi b a2 with
      | .error e => .error e
      | .ok a3 => match pKey b tFog a3 with
        | .error e => .error e
        | .ok a4 => match pFogs b 13 (wU (fun _ => 0) 3 (nI s)) a4 with
          | .error e => .error e
          | .ok (r, a5) => pStms b 1000 r a5
/-- the number of a command -/
def pKind (w : List Nat) : Option Nat := if w = tPass then some 0 else if w = tFair then some 1 else if w = tTest then some 2 else if w = tDismiss then some 3 else if w = tWage then some 4 else if w = tFund then some 5 else if w = tTrain then some 6 else none
/-- a command's two numbers -/
def pParts (b : List Nat) (r : Nat → Int32) (k a : Nat) : PE ((Nat × Nat) × Nat) := match k with
  | 0 => match pNum b 1 60 a with
    | .error e => .error e
    | .ok (x, a1) => .ok ((x, 0), a1)
  | 1 => .ok ((0, 0), a)
  | 2 => match pMust b r true a with
    | .error e => .error e
    | .ok (x, a1) => match pMust b r false a1 with
      | .error e => .error e
      | .ok (y, a2) => .ok ((x, y), a2)
  | 4 => match pMust b r true a with
    | .error e => .error e
    | .ok (x, a1) => match pNum b 1 99 a1 with
      | .error e => .error e
      | .ok (y, a2) => .ok ((x, y), a2)
  | 5 => match pMust b r true a with
    | .error e => .error e
    | .ok (x, a1) => match pNum b 1 999 a1 with
      | .error e => .error e
      | .ok (y, a2) => .ok ((x, y), a2)
  | _ => match pMust b r false a with
    | .error e => .error e
    | .ok (x, a1) => .ok ((x, 0), a1)
/-- one command, the c-th -/
def pCmd (b : List Nat) (r : Nat → Int32) (c a : Nat) : PE ((Nat × Nat × Nat) × Nat) := match pKind (pWd b (pSk b a)) with
  | none => .error (1, pSk b a)
  | some k => if 30 ≤ c then .error (4, pSk b a) else match pParts b r k (pSk b a + (pWd b (pSk b a)).length) with
    | .error e => .error e
    | .ok ((x, y), a1) => match pSemi b a1 with
      | .error e => .error e
      | .ok a2 => .ok ((k, x, y), a2)
def pCmds (b : List Nat) (r : Nat → Int32) : Nat → List (Nat × Nat × Nat) → Nat → PE (List (Nat × Nat × Nat))
  | 0, _, _ => .error (0, 0)
  | n + 1, l, a => if b.length ≤ pSk b a then .ok l else match pCmd b r l.length a with
    | .error e => .error e
    | .ok (c, a1) => pCmds b r n (l ++ [c]) a1
/-! laws of the readers -/
theorem pTw_step {f : Nat → Bool} {b : List Nat} {a : Nat} (ha : a < b.length) (h : f (b.getD a 0) = true) : (b.drop a).takeWhile f = b.getD a 0 :: (b.drop (a + 1)).takeWhile f := by
  rw [List.drop_eq_getElem_cons ha]
  rw [List.getD_eq_getElem?_getD, List.getElem?_eq_getElem ha, Option.getD_some] at h ⊢
  rw [List.takeWhile_cons, if_pos h]
theorem pTw_stop {f : Nat → Bool} {b : List Nat} {a : Nat} (h : a < b.length → ¬ f (b.getD a 0) = true) : (b.drop a).takeWhile f = [] := by
  by_cases ha : a < b.length
  · have h := h ha
    rw [List.drop_eq_getElem_cons ha]
    rw [List.getD_eq_getElem?_getD, List.getElem?_eq_getElem ha, Option.getD_some] at h
    rw [List.takeWhile_cons, if_neg h]
  · rw [List.drop_eq_nil_of_le (by omega)]; rfl
theorem pTw_le (f : Nat → Bool) (b : List Nat) (a : Nat) : a < b.length → a + ((b.drop a).takeWhile f).length ≤ b.length := by
  intro h
  have h1 : ((b.drop a).takeWhile f).length ≤ (b.drop a).length := (List.takeWhile_sublist f).length_le
  rw [List.length_drop] at h1
  omega
theorem pTw_get {f : Nat → Bool} {b : List Nat} : ∀ {n a k : Nat}, b.length - a = n → k < ((b.drop a).takeWhile f).length → ((b.drop a).takeWhile f).getD k 0 = b.getD (a + k) 0 ∧ f (b.getD (a + k) 0) = true ∧ a + k < b.length := by
  intro n
  induction n with
  | zero =>
    intro a k hn hk
    rw [pTw_stop (fun h => by omega)] at hk
    simp at hk
  | succ n ih =>
    intro a k hn hk
    by_cases h : f (b.getD a 0) = true
    · rw [pTw_step (by omega) h] at hk ⊢
      cases k with
      | zero => exact ⟨rfl, h, by omega⟩
      | succ k =>
        rw [List.length_cons] at hk
        obtain ⟨i1, i2, i3⟩ := ih (a := a + 1) (k := k) (by omega) (by omega)
        rw [show a + (k + 1) = a + 1 + k by omega]
        exact ⟨by rw [← i1]; simp [List.getD_eq_getElem?_getD], i2, i3⟩
    · rw [pTw_stop (fun _ => h)] at hk
      simp at hk
theorem pSk_step {b : List Nat} {a : Nat} (ha : a < b.length) (h : b.getD a 0 = 32) : pSk b a = pSk b (a + 1) := by
  unfold pSk
  rw [pTw_step ha (by rw [h]; rfl), List.length_cons]; omega
theorem pSk_stop {b : List Nat} {a : Nat} (h : a < b.length → b.getD a 0 ≠ 32) : pSk b a = a := by
  unfold pSk
  rw [pTw_stop (fun ha q => h ha (by simpa using q))]; rfl
theorem pSk_le {b : List Nat} {a : Nat} (ha : a ≤ b.length) : pSk b a ≤ b.length := by
  by_cases h : a < b.length
  · exact pTw_le _ _ _ h
  · rw [pSk_stop (fun q => absurd q h)]; omega
theorem pSk_ge (b : List Nat) (a : Nat) : a ≤ pSk b a := Nat.le_add_right _ _
theorem pWd_le {b : List Nat} {p : Nat} (hp : p ≤ b.length) : p + (pWd b p).length ≤ b.length := by
  by_cases h : p < b.length
  · exact pTw_le _ _ _ h
  · unfold pWd; rw [pTw_stop (fun q => absurd q h)]; simpa using hp
theorem pDg_le {b : List Nat} {p : Nat} (hp : p ≤ b.length) : p + (pDg b p).length ≤ b.length := by
  by_cases h : p < b.length
  · exact pTw_le _ _ _ h
  · unfold pDg; rw [pTw_stop (fun q => absurd q h)]; simpa using hp
