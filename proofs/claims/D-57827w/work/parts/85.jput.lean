set_option maxRecDepth 100000
/-! THE COMPONENT, 6: HashMap.put -/
def upd1 {α : Type} (f : Nat → α) (k : Nat) (v : α) : Nat → α := fun x => if x = k then v else f x
theorem upd1_s {α : Type} {f : Nat → α} {k : Nat} {v : α} : upd1 f k v k = v := if_pos rfl
theorem upd1_n {α : Type} {f : Nat → α} {k x : Nat} {v : α} (h : x ≠ k) : upd1 f k v x = f x := if_neg h
/-- LinkedHashMap: the nodes in the order of their coming -/
def zLn (μ : ZM) (T m : Nat) (ks : List Nat) (nd : Nat → Nat) : Prop := T = 17 → zfi μ 116 m = 0 ∧ zfi μ 115 m = 0 ∧ zfr μ 113 m = zpt 17 nd ks.head? ∧ zfr μ 114 m = zpt 17 nd ks.getLast? ∧ ∀ (i x : Nat), ks[i]? = some x → zfr μ 122 (nd x) = zpt 17 nd ks[i + 1]?
theorem zLn.no {μ : ZM} {m : Nat} {ks : List Nat} {nd : Nat → Nat} : zLn μ 16 m ks nd := fun e => absurd e (by decide)
theorem zLn.kp {μ ν : ZM} {T m : Nat} {ks : List Nat} {nd : Nat → Nat} (h : zLn μ T m ks nd) (h1 : zfi ν 116 m = zfi μ 116 m) (h2 : zfi ν 115 m = zfi μ 115 m) (h3 : zfr ν 113 m = zfr μ 113 m) (h4 : zfr ν 114 m = zfr μ 114 m) (h5 : ∀ x ∈ ks, zfr ν 122 (nd x) = zfr μ 122 (nd x)) : zLn ν T m ks nd := fun e =>
  ⟨h1.trans (h e).1, h2.trans (h e).2.1, h3.trans (h e).2.2.1, h4.trans (h e).2.2.2.1, fun i x hi => (h5 x (List.mem_of_getElem? hi)).trans ((h e).2.2.2.2 i x hi)⟩
/-- a new node, not yet in the table -/
def zNw (μ ν : ZM) (T m k r : Nat) (p : ZP) (ks : List Nat) (nd : Nat → Nat) : Prop := zsz ν = zsz μ + 1 ∧ zG (fun a => a = m ∨ ∃ x ∈ ks, a = nd x) 1 6 μ ν ∧ (∀ f a, f ≠ 117 ∨ a ≠ zsz μ → zfi ν f a = zfi μ f a) ∧ zfi ν 117 (zsz μ) = nI k ∧ zfr ν 118 (zsz μ) = (9, 0, r) ∧ zfr ν 119 (zsz μ) = p ∧ zfr ν 120 (zsz μ) = zN ∧ (∀ f a, f ≠ 113 → f ≠ 114 → f ≠ 121 → f ≠ 122 → a ≠ zsz μ → zfr ν f a = zfr μ f a) ∧ (∀ a i, zar ν a i = zar μ a i) ∧ zLn ν T m (ks ++ [k]) (upd1 nd k (zsz μ))
section ZJ
variable {G : ZG} {μ : ZM} {Q : Option ZV → ZM → Prop} {E : ZP → ZM → Prop}
theorem C_hmAcc_14 {m x : Nat} {ks : List Nat} {nd : Nat → Nat} (_ : zLn μ 16 m ks nd) (k : Q none μ) : Call G Y_J22_afterNodeAccess [vP (14, 0, m), vP (16, 0, x)] μ Q E := S_J22_afterNodeAccess_14 k
theorem C_hmAcc_15 {m x : Nat} {ks : List Nat} {nd : Nat → Nat} (h : zLn μ 17 m ks nd) (k : Q none μ) : Call G Y_J23_afterNodeAccess [vP (15, 0, m), vP (17, 0, x)] μ Q E := by
  have h := h rfl
  exact S_J23_afterNodeAccess ⟨_, h.1, fun e => absurd e (by decide), fun _ => ⟨fun e => absurd rfl e, fun _ => ⟨_, h.2.1, fun _ => B_J23_afterNodeAccess_141 ⟨_, h.1, fun _ => k, fun e => absurd e (by decide)⟩, fun e => absurd rfl e⟩⟩⟩
theorem C_hmIns_14 {m : Nat} {z : Int32} {ks : List Nat} {nd : Nat → Nat} (_ : zLn μ 16 m ks nd) (k : Q none μ) : Call G Y_J22_afterNodeInsertion [vP (14, 0, m), vI z] μ Q E := S_J22_afterNodeInsertion_14 k
theorem C_hmIns_15 {m : Nat} {z : Int32} {ks : List Nat} {nd : Nat → Nat} (h : zLn μ 17 m ks nd) (k : Q none μ) : Call G Y_J23_afterNodeInsertion [vP (15, 0, m), vI z] μ Q E := by
  have h := (h rfl).2.2.1
  refine nS_J23_afterNodeInsertion ⟨fun _ => k, fun _ => ⟨_, h, ?_⟩⟩
  cases ks.head? with
  | none => exact Or.inl ⟨rfl, k⟩
  | some y => exact Or.inr ⟨_, rfl, nS_J23_removeEldestEntry ⟨_, rfl, fun _ => k, fun e => absurd rfl e⟩⟩
theorem C_hmNew_14 {m k r : Nat} {p : ZP} {ks : List Nat} {nd : Nat → Nat} (hok : zok μ) (hm : m < zsz μ) (hz : zis 24 p) (_ : ∀ x ∈ ks, nd x < zsz μ) (_ : zLn μ 16 m ks nd) (_ : k ∉ ks)
    (K : ∀ ν, zNw μ ν 16 m k r p ks nd → Q (some (vP (16, 0, zsz μ))) ν) : Call G Y_J22_newNode [vP (14, 0, m), vI (nI k), vP (9, 0, r), vP p, vP zN] μ Q E := by
  refine S_J22_newNode_14 ⟨hz, S_J36_init ⟨hz, rfl, K _ ⟨rfl, ?_, fun f a hf => ?_, ?_, ?_, ?_, ?_, fun f a _ _ _ _ ha => ?_, fun _ _ => rfl, zLn.no⟩⟩⟩
  · exact (zG.trN (W := fun a => a = m ∨ ∃ x ∈ ks, a = nd x) (zG.nw (t := 16) (n := 0)) ((((zG.fi (Or.inr (Nat.le_refl _))).tr (zG.fr (Or.inr (Nat.le_refl _)))).tr (zG.fr (Or.inr (Nat.le_refl _)))).tr (zG.fr (Or.inr (Nat.le_refl _))))).mono (fun _ _ h => h) (Nat.le_refl _) (by omega)
  · rw [zfi_zFr, zfi_zFr, zfi_zFr, zfi_zFi, if_neg (fun e => hf.elim (fun q => q e.1) (fun q => q e.2))]; rfl
  · rw [zfi_zFr, zfi_zFr, zfi_zFr, zfi_zFi, if_pos ⟨rfl, rfl⟩]
  · rw [zfr_zFr, if_neg (fun e => by cases e.1), zfr_zFr, if_neg (fun e => by cases e.1), zfr_zFr, if_pos ⟨rfl, rfl⟩]
  · rw [zfr_zFr, if_neg (fun e => by cases e.1), zfr_zFr, if_pos ⟨rfl, rfl⟩]
  · rw [zfr_zFr, if_pos ⟨rfl, rfl⟩]
  · rw [zfr_zFr, if_neg (fun e => ha e.2), zfr_zFr, if_neg (fun e => ha e.2), zfr_zFr, if_neg (fun e => ha e.2)]; rfl
theorem C_hmNew_15 {m k r : Nat} {p : ZP} {ks : List Nat} {nd : Nat → Nat} (hok : zok μ) (hm : m < zsz μ) (hnd : ∀ x ∈ ks, nd x < zsz μ) (hl : zLn μ 17 m ks nd) (hk : k ∉ ks)
    (hc : ∀ x ∈ ks, ∀ y ∈ ks, x ≠ y → nd x ≠ nd y) (hN : ks.Nodup)
    (K : ∀ ν, zNw μ ν 17 m k r p ks nd → Q (some (vP (17, 0, zsz μ))) ν) : Call G Y_J23_newNode [vP (15, 0, m), vI (nI k), vP (9, 0, r), vP p, vP zN] μ Q E := by
  obtain ⟨l1, l2, l3, l4, l5⟩ := hl rfl
  have g1 : zG (fun a => a = m ∨ ∃ x ∈ ks, a = nd x) 1 6 μ (zFr (zFr (zFr (zFi (zNew μ 17 0 6) 117 (zsz μ) (nI k)) 118 (zsz μ) (9, 0, r)) 119 (zsz μ) p) 120 (zsz μ) zN) := (zG.trN (zG.nw (t := 17) (n := 0)) ((((zG.fi (Or.inr (Nat.le_refl _))).tr (zG.fr (Or.inr (Nat.le_refl _)))).tr (zG.fr (Or.inr (Nat.le_refl _)))).tr (zG.fr (Or.inr (Nat.le_refl _)))))
  refine S_J23_newNode (S_J37_init (S_J36_init_17 ⟨rfl, rfl, S_J23_linkNodeAtEnd ⟨(0 : Int32), ?_, fun _ => ⟨zpt 17 nd ks.getLast?, ?_, ?_⟩, fun e => absurd e (by decide)⟩⟩))
  · rw [zfi_zFr, zfi_zFr, zfi_zFr, zfi_zFi, if_neg (fun e => by cases e.1)]; exact l1
  · rw [zfr_ne (Nat.ne_of_lt hm), zfr_ne (Nat.ne_of_lt hm), zfr_ne (Nat.ne_of_lt hm)]; exact l4
  rcases List.eq_nil_or_concat ks with rfl | ⟨I, z, rfl⟩
  · refine Or.inl ⟨rfl, rfl, K _ ⟨rfl, (g1.tr (zG.fr (Or.inl rfl))).tr (zG.fr (Or.inl rfl)), fun f a hf => ?_, ?_, ?_, ?_, ?_, fun f a h1 h2 _ _ ha => ?_, fun _ _ => rfl, fun _ => ⟨?_, ?_, ?_, ?_, fun i x hi => ?_⟩⟩⟩
    · rw [zfi_zFr, zfi_zFr, zfi_zFr, zfi_zFr, zfi_zFr, zfi_zFi, if_neg (fun e => hf.elim (fun q => q e.1) (fun q => q e.2))]; rfl
    · rw [zfi_zFr, zfi_zFr, zfi_zFr, zfi_zFr, zfi_zFr, zfi_zFi, if_pos ⟨rfl, rfl⟩]
    · simp [zfr_zFr]
    · simp [zfr_zFr]
    · simp [zfr_zFr]
    · simp [zfr_zFr, h1, h2, ha, zfr_zFi, zfr_zNew]
    · rw [zfi_zFr, zfi_zFr, zfi_zFr, zfi_zFr, zfi_zFr, zfi_zFi, if_neg (fun e => by cases e.1)]; exact l1
    · rw [zfi_zFr, zfi_zFr, zfi_zFr, zfi_zFr, zfi_zFr, zfi_zFi, if_neg (fun e => by cases e.1)]; exact l2
    · simp [zfr_zFr, zpt, upd1]
    · simp [zfr_zFr, zpt, upd1]
    · cases i with
      | succ i => simp at hi
      | zero =>
        cases hi
        simp [zfr_zFr, zpt, upd1_s, zfr_zFi, zfr_zNew]
        exact hok.2.1 _ _ (Nat.le_refl _)
  · rw [List.concat_eq_append] at *
    have hzm : z ∈ I ++ [z] := List.mem_append_right _ (List.mem_singleton.mpr rfl)
    have hzb := hnd z hzm
    have hzk : z ≠ k := by rintro rfl; exact hk hzm
    refine Or.inr ⟨nd z, by simp [zpt], rfl, K _ ⟨rfl, ((g1.tr (zG.fr (Or.inl rfl))).trans (V := fun a => (a = m ∨ ∃ x ∈ I ++ [z], a = nd x) ∨ a = zsz μ) (c' := 0) (d' := 0) (zG.fr (Or.inr rfl)) (fun a ha q => q.elim id (fun e => absurd e (Nat.ne_of_lt ha)))).tr (zG.fr (Or.inr ⟨z, hzm, rfl⟩)), fun f a hf => ?_, ?_, ?_, ?_, ?_, fun f a h1 h2 h3 h4 ha => ?_, fun _ _ => rfl, fun _ => ⟨?_, ?_, ?_, ?_, fun i x hi => ?_⟩⟩⟩
    · rw [zfi_zFr, zfi_zFr, zfi_zFr, zfi_zFr, zfi_zFr, zfi_zFr, zfi_zFi, if_neg (fun e => hf.elim (fun q => q e.1) (fun q => q e.2))]; rfl
    · rw [zfi_zFr, zfi_zFr, zfi_zFr, zfi_zFr, zfi_zFr, zfi_zFr, zfi_zFi, if_pos ⟨rfl, rfl⟩]
    · simp [zfr_zFr]
    · simp [zfr_zFr]
    · simp [zfr_zFr]
    · simp [zfr_zFr, h1, h2, h3, h4, ha, zfr_zFi, zfr_zNew]
    · rw [zfi_zFr, zfi_zFr, zfi_zFr, zfi_zFr, zfi_zFr, zfi_zFr, zfi_zFi, if_neg (fun e => by cases e.1)]; exact l1
    · rw [zfi_zFr, zfi_zFr, zfi_zFr, zfi_zFr, zfi_zFr, zfi_zFr, zfi_zFi, if_neg (fun e => by cases e.1)]; exact l2
    · have : zfr μ 113 m = zpt 17 (upd1 nd k (zsz μ)) ((I ++ [z]) ++ [k]).head? := by
        rw [l3]
        cases hI : I with
        | nil => simp [zpt, upd1, hzk]
        | cons y I' =>
          have : y ≠ k := by rintro rfl; exact hk (by rw [hI]; exact List.mem_cons_self)
          simp [zpt, upd1, this]
      rw [← this]
      simp [zfr_zFr, zfr_zFi, zfr_zNew]
    · simp [zfr_zFr, zpt, upd1]
    · rw [List.getElem?_append] at hi
      split at hi
      · rename_i hlt
        have hx : x ∈ I ++ [z] := List.mem_of_getElem? hi
        have hxk : x ≠ k := by rintro rfl; exact hk hx
        have hxb := hnd x hx
        rw [upd1_n hxk]
        have e1 : zfr (zFr (zFr (zFr (zFr (zFr (zFr (zFi (zNew μ 17 0 6) 117 (zsz μ) (nI k)) 118 (zsz μ) (9, 0, r)) 119 (zsz μ) p) 120 (zsz μ) zN) 114 m (17, 0, zsz μ)) 121 (zsz μ) (17, 0, nd z)) 122 (nd z) (17, 0, zsz μ)) 122 (nd x) = if nd x = nd z then (17, 0, zsz μ) else zfr μ 122 (nd x) := by
          simp [zfr_zFr, zfr_zFi, zfr_zNew, Nat.ne_of_lt hxb]
        rw [e1]
        by_cases hxz : x = z
        · subst hxz
          rw [if_pos rfl]
          have hil : i = I.length := by
            have h1 : (I ++ [x])[I.length]? = some x := by simp
            exact (List.getElem?_inj hlt hN).mp (hi.trans h1.symm)
          subst hil
          simp [zpt, upd1_s]
        · rw [if_neg (hc x hx z hzm hxz), l5 i x hi]
          have hil : i + 1 < (I ++ [z]).length := by
            rcases Nat.lt_or_ge (i + 1) (I ++ [z]).length with q | q
            · exact q
            · exfalso
              have : i = I.length := by simp at q hlt; omega
              subst this
              simp at hi
              exact hxz hi.symm
          rw [List.getElem?_append_left hil, List.getElem?_eq_getElem hil]
          have : (I ++ [z])[i + 1] ≠ k := fun e => hk (e ▸ List.getElem_mem hil)
          simp [zpt, upd1_n this]
      · rename_i hge
        have h0 : i - (I ++ [z]).length = 0 := by
          have := (List.getElem?_eq_some_iff.mp hi).1
          simp at this; simp; omega
        rw [h0] at hi
        cases hi
        rw [upd1_s]
        have : ((I ++ [z]) ++ [k])[i + 1]? = none := by rw [List.getElem?_eq_none]; simp at hge ⊢; omega
        rw [this]
        have e1 : zfr (zFr (zFr (zFr (zFr (zFr (zFr (zFi (zNew μ 17 0 6) 117 (zsz μ) (nI k)) 118 (zsz μ) (9, 0, r)) 119 (zsz μ) p) 120 (zsz μ) zN) 114 m (17, 0, zsz μ)) 121 (zsz μ) (17, 0, nd z)) 122 (nd z) (17, 0, zsz μ)) 122 (zsz μ) = zfr μ 122 (zsz μ) := by
          simp [zfr_zFr, zfr_zFi, zfr_zNew, Nat.ne_of_gt hzb]
        rw [e1]
        exact hok.2.1 _ _ (Nat.le_refl _)
end ZJ
