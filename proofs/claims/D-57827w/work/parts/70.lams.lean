set_option maxRecDepth 100000
/-! LAMBDAS, 4: the sites of this program -/
def lmIx (n : Nat) : Nat := if n = 0 then 17 else if n = 1 then 23 else 26
def lmCi (n : Nat) : Nat := if n = 0 then 14 else if n = 1 then 19 else 22
def lmNt (n : Nat) : Nat := if n = 0 then 16 else if n = 1 then 22 else 25
def lmB (n : Nat) : ByteArray := if n = 0 then lmC0 else if n = 1 then lmC1 else lmC2
def lmFi (n j : Nat) : Nat := if n = 1 then 15 else if j = 0 then 16 else 18
def lmFld (D : ClassFile) (lay : Array Field × Array FieldType × Array FieldType) (fi j : Nat) : Bool := match D.constantPool[fi]? with
  | some (.fieldref _ b) => match D.constantPool.nameAndType? b with
    | some (nm, _) => (lay.1.findIdx? (·.name == nm) == some j) && (match lay.1[j]? with
      | some a => a.slot == j && !a.isStatic
      | none => false)
    | none => false
  | _ => false
def lmPool (D : ClassFile) (σ : Lambda.Shape) (idx ci nt : Nat) : Bool := (match D.constantPool[idx]? with
    | some (.methodref a b) => a == ci && b == nt
    | _ => false) && decide (D.constantPool.className? ci = some σ.implClass) && decide (D.constantPool.nameAndType? nt = some (σ.implName, σ.implDesc.toString)) && (match D.constantPool[ci]? with
    | some (.class_ m) => decide (D.constantPool.string? m = some σ.implClass)
    | _ => false) && !(ci == D.thisClass)
/-- the class file that a site makes, looked at -/
def lmChk (σ : Lambda.Shape) (C : String) (n : Nat) : Bool := match σ.file C with
  | none => false
  | some D => match (layoutMethods D).bind (·[1]?) with
    | none => false
    | some fwd => match layoutFields D 0 with
      | none => false
      | some lay => decide ((fwd.code.map fun c => (c.code.data, c.maxLocals)) = some ((lmB n).data, 2)) && decide ((fwd.accessFlags, fwd.sig.returnType) = (0x0001, some FieldType.int)) && lmPool D σ (lmIx n) (lmCi n) (lmNt n) && decide (lay.2.1 = Array.replicate n FieldType.int) && (List.range n).all (fun j => lmFld D lay (lmFi n j) j)
theorem lmFld_spec {D : ClassFile} {lay : Array Field × Array FieldType × Array FieldType} {fi j : Nat} (h : lmFld D lay fi j = true) : ∃ a b nm ds f, D.constantPool[fi]? = some (.fieldref a b) ∧ D.constantPool.nameAndType? b = some (nm, ds) ∧ lay.1.findIdx? (·.name == nm) = some j ∧ lay.1[j]? = some f ∧ f.slot = j ∧ f.isStatic = false := by
  unfold lmFld at h
  split at h
  · rename_i a b h1
    split at h
    · rename_i nm ds h2
      simp only [Bool.and_eq_true, beq_iff_eq] at h
      obtain ⟨h3, h4⟩ := h
      split at h4
      · rename_i f h5
        simp only [Bool.and_eq_true, beq_iff_eq, Bool.not_eq_true'] at h4
        exact ⟨a, b, nm, ds, f, h1, h2, h3, h5, h4.1, h4.2⟩
      · cases h4
    · cases h
  · cases h
theorem lmPool_spec {D : ClassFile} {σ : Lambda.Shape} {idx ci nt : Nat} (h : lmPool D σ idx ci nt = true) : (D.constantPool[idx]? = some (.methodref ci nt) ∧ D.constantPool.className? ci = some σ.implClass ∧ D.constantPool.nameAndType? nt = some (σ.implName, σ.implDesc.toString)) ∧ ∃ m, D.constantPool[ci]? = some (.class_ m) ∧ D.constantPool.string? m = some σ.implClass ∧ ci ≠ D.thisClass := by
  simp only [lmPool, Bool.and_eq_true, decide_eq_true_eq, Bool.not_eq_true', beq_eq_false_iff_ne] at h
  obtain ⟨⟨⟨⟨h1, h2⟩, h3⟩, h4⟩, h5⟩ := h
  split at h1
  · rename_i a b e1
    simp only [Bool.and_eq_true, beq_iff_eq] at h1
    obtain ⟨rfl, rfl⟩ := h1
    split at h4
    · rename_i m e2
      exact ⟨⟨e1, h2, h3⟩, m, e2, by simpa using h4, h5⟩
    · cases h4
  · cases h1
theorem lmChk_spec {σ : Lambda.Shape} {C : String} {n : Nat} (h : lmChk σ C n = true) : ∃ D fwd lay m, σ.file C = some D ∧ (layoutMethods D).bind (·[1]?) = some fwd ∧ (fwd.code.map fun c => (c.code.data, c.maxLocals)) = some ((lmB n).data, 2) ∧ (fwd.accessFlags, fwd.sig.returnType) = (0x0001, some FieldType.int) ∧
    (D.constantPool[lmIx n]? = some (.methodref (lmCi n) (lmNt n)) ∧ D.constantPool.className? (lmCi n) = some σ.implClass ∧ D.constantPool.nameAndType? (lmNt n) = some (σ.implName, σ.implDesc.toString)) ∧ (D.constantPool[lmCi n]? = some (.class_ m) ∧ D.constantPool.string? m = some σ.implClass ∧ lmCi n ≠ D.thisClass) ∧
    layoutFields D 0 = some lay ∧ lay.2.1 = Array.replicate n FieldType.int ∧ ∀ j, j < n → lmFld D lay (lmFi n j) j = true := by
  unfold lmChk at h
  split at h
  · cases h
  · rename_i D e1
    split at h
    · cases h
    · rename_i fwd e2
      split at h
      · cases h
      · rename_i lay e3
        simp only [Bool.and_eq_true, decide_eq_true_eq, List.all_eq_true, List.mem_range] at h
        obtain ⟨⟨⟨⟨h1, h2⟩, h3⟩, h4⟩, h5⟩ := h
        obtain ⟨p1, m, p2⟩ := lmPool_spec h3
        exact ⟨D, fwd, lay, m, e1, e2, h1, h2, p1, p2, e3, h4, h5⟩
/-- what a site is -/
def lmGood (x : MethodName × Nat × Nat × Lambda.Shape) (Y' : ZY) (n : Nat) : Prop := lmChk x.2.2.2 x.1.cls n = true ∧ zyn Y' = ⟨x.2.2.2.implClass, x.2.2.2.implName, x.2.2.2.implDesc.toString⟩ ∧ zyc Y' (n + 1) ∧ Cond.static (zyn Y') ∈ lw_all ∧ (parseMethodDescriptor (zyn Y').desc).isSome = true ∧ x.2.2.2.iface = "EchoFair$Operation" ∧ x.2.2.2.name = "apply" ∧ x.2.2.2.sam.toString = "(LEchoFair$State;)I"
/-- the sites: what they run, how many ints they keep -/
def zlmI : List (ZY × Nat) := [(Y_X1_lambda_holdFair_1, 0), (Y_X6_lambda_passCommand_1, 1), (Y_X6_lambda_command_0, 0), (Y_X6_lambda_testCommand_2, 2), (Y_X6_lambda_dismissCommand_3, 1), (Y_X6_lambda_wageCommand_4, 2), (Y_X6_lambda_fundCommand_5, 2), (Y_X6_lambda_trainCommand_6, 1), (Y_X1_lambda_passDays_0, 1), (Y_X1_lambda_test_2, 2), (Y_X1_lambda_dismiss_3, 1), (Y_X1_lambda_setWage_4, 2), (Y_X1_lambda_fund_5, 2), (Y_X1_lambda_train_6, 1)]
theorem lmG_0 : ∃ x, zlmT[0]? = some x ∧ lmGood x Y_X1_lambda_holdFair_1 0 := ⟨_, rfl, by decide +kernel, rfl, K_X1_lambda_holdFair_1, KT_X1_lambda_holdFair_1, KS_X1_lambda_holdFair_1, rfl, rfl, by decide +kernel⟩
theorem lmG_1 : ∃ x, zlmT[1]? = some x ∧ lmGood x Y_X6_lambda_passCommand_1 1 := ⟨_, rfl, by decide +kernel, rfl, K_X6_lambda_passCommand_1, KT_X6_lambda_passCommand_1, KS_X6_lambda_passCommand_1, rfl, rfl, by decide +kernel⟩
theorem lmG_2 : ∃ x, zlmT[2]? = some x ∧ lmGood x Y_X6_lambda_command_0 0 := ⟨_, rfl, by decide +kernel, rfl, K_X6_lambda_command_0, KT_X6_lambda_command_0, KS_X6_lambda_command_0, rfl, rfl, by decide +kernel⟩
theorem lmG_3 : ∃ x, zlmT[3]? = some x ∧ lmGood x Y_X6_lambda_testCommand_2 2 := ⟨_, rfl, by decide +kernel, rfl, K_X6_lambda_testCommand_2, KT_X6_lambda_testCommand_2, KS_X6_lambda_testCommand_2, rfl, rfl, by decide +kernel⟩
theorem lmG_4 : ∃ x, zlmT[4]? = some x ∧ lmGood x Y_X6_lambda_dismissCommand_3 1 := ⟨_, rfl, by decide +kernel, rfl, K_X6_lambda_dismissCommand_3, KT_X6_lambda_dismissCommand_3, KS_X6_lambda_dismissCommand_3, rfl, rfl, by decide +kernel⟩
theorem lmG_5 : ∃ x, zlmT[5]? = some x ∧ lmGood x Y_X6_lambda_wageCommand_4 2 := ⟨_, rfl, by decide +kernel, rfl, K_X6_lambda_wageCommand_4, KT_X6_lambda_wageCommand_4, KS_X6_lambda_wageCommand_4, rfl, rfl, by decide +kernel⟩
theorem lmG_6 : ∃ x, zlmT[6]? = some x ∧ lmGood x Y_X6_lambda_fundCommand_5 2 := ⟨_, rfl, by decide +kernel, rfl, K_X6_lambda_fundCommand_5, KT_X6_lambda_fundCommand_5, KS_X6_lambda_fundCommand_5, rfl, rfl, by decide +kernel⟩
theorem lmG_7 : ∃ x, zlmT[7]? = some x ∧ lmGood x Y_X6_lambda_trainCommand_6 1 := ⟨_, rfl, by decide +kernel, rfl, K_X6_lambda_trainCommand_6, KT_X6_lambda_trainCommand_6, KS_X6_lambda_trainCommand_6, rfl, rfl, by decide +kernel⟩
theorem lmG_8 : ∃ x, zlmT[8]? = some x ∧ lmGood x Y_X1_lambda_passDays_0 1 := ⟨_, rfl, by decide +kernel, rfl, K_X1_lambda_passDays_0, KT_X1_lambda_passDays_0, KS_X1_lambda_passDays_0, rfl, rfl, by decide +kernel⟩
theorem lmG_9 : ∃ x, zlmT[9]? = some x ∧ lmGood x Y_X1_lambda_test_2 2 := ⟨_, rfl, by decide +kernel, rfl, K_X1_lambda_test_2, KT_X1_lambda_test_2, KS_X1_lambda_test_2, rfl, rfl, by decide +kernel⟩
theorem lmG_10 : ∃ x, zlmT[10]? = some x ∧ lmGood x Y_X1_lambda_dismiss_3 1 := ⟨_, rfl, by decide +kernel, rfl, K_X1_lambda_dismiss_3, KT_X1_lambda_dismiss_3, KS_X1_lambda_dismiss_3, rfl, rfl, by decide +kernel⟩
theorem lmG_11 : ∃ x, zlmT[11]? = some x ∧ lmGood x Y_X1_lambda_setWage_4 2 := ⟨_, rfl, by decide +kernel, rfl, K_X1_lambda_setWage_4, KT_X1_lambda_setWage_4, KS_X1_lambda_setWage_4, rfl, rfl, by decide +kernel⟩
theorem lmG_12 : ∃ x, zlmT[12]? = some x ∧ lmGood x Y_X1_lambda_fund_5 2 := ⟨_, rfl, by decide +kernel, rfl, K_X1_lambda_fund_5, KT_X1_lambda_fund_5, KS_X1_lambda_fund_5, rfl, rfl, by decide +kernel⟩
theorem lmG_13 : ∃ x, zlmT[13]? = some x ∧ lmGood x Y_X1_lambda_train_6 1 := ⟨_, rfl, by decide +kernel, rfl, K_X1_lambda_train_6, KT_X1_lambda_train_6, KS_X1_lambda_train_6, rfl, rfl, by decide +kernel⟩
theorem lmG_at {k : Nat} {Y' : ZY} {n : Nat} (h : zlmI[k]? = some (Y', n)) : k < 14 ∧ n < 3 ∧ ∃ x, zlmT[k]? = some x ∧ lmGood x Y' n := by
  match k, h with
  | 0, h => cases h; exact ⟨by omega, by omega, lmG_0⟩
  | 1, h => cases h; exact ⟨by omega, by omega, lmG_1⟩
  | 2, h => cases h; exact ⟨by omega, by omega, lmG_2⟩
  | 3, h => cases h; exact ⟨by omega, by omega, lmG_3⟩
  | 4, h => cases h; exact ⟨by omega, by omega, lmG_4⟩
  | 5, h => cases h; exact ⟨by omega, by omega, lmG_5⟩
  | 6, h => cases h; exact ⟨by omega, by omega, lmG_6⟩
  | 7, h => cases h; exact ⟨by omega, by omega, lmG_7⟩
  | 8, h => cases h; exact ⟨by omega, by omega, lmG_8⟩
  | 9, h => cases h; exact ⟨by omega, by omega, lmG_9⟩
  | 10, h => cases h; exact ⟨by omega, by omega, lmG_10⟩
  | 11, h => cases h; exact ⟨by omega, by omega, lmG_11⟩
  | 12, h => cases h; exact ⟨by omega, by omega, lmG_12⟩
  | 13, h => cases h; exact ⟨by omega, by omega, lmG_13⟩
  | k + 14, h => cases h
