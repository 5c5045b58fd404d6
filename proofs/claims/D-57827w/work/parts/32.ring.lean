/-! CONTRACTS, 3: what the model writes; its queue -/
/-- only int fields in F and int arrays in A have changed -/
def zW (F : Nat → Nat → Prop) (A : Nat → Prop) (μ ν : ZM) : Prop := zsz ν = zsz μ ∧ zsl ν = zsl μ ∧ ztg ν = ztg μ ∧ zfr ν = zfr μ ∧ zar ν = zar μ ∧ zal ν = zal μ ∧ (∀ f b, ¬ F f b → zfi ν f b = zfi μ f b) ∧ ∀ b j, ¬ A b → zai ν b j = zai μ b j
theorem zW.rf (F : Nat → Nat → Prop) (A : Nat → Prop) (μ : ZM) : zW F A μ μ := ⟨rfl, rfl, rfl, rfl, rfl, rfl, fun _ _ _ => rfl, fun _ _ _ => rfl⟩
theorem zW.trans {F : Nat → Nat → Prop} {A : Nat → Prop} {μ ν ρ : ZM} (h : zW F A μ ν) (k : zW F A ν ρ) : zW F A μ ρ := by
  obtain ⟨h1, h2, h3, h4, h5, h6, h7, h8⟩ := h
  obtain ⟨k1, k2, k3, k4, k5, k6, k7, k8⟩ := k
  exact ⟨k1.trans h1, k2.trans h2, k3.trans h3, k4.trans h4, k5.trans h5, k6.trans h6, fun f b n => (k7 f b n).trans (h7 f b n), fun b j n => (k8 b j n).trans (h8 b j n)⟩
theorem zW.mono {F F' : Nat → Nat → Prop} {A A' : Nat → Prop} {μ ν : ZM} (h : zW F A μ ν) (hF : ∀ f b, F f b → F' f b) (hA : ∀ b, A b → A' b) : zW F' A' μ ν := by
  obtain ⟨h1, h2, h3, h4, h5, h6, h7, h8⟩ := h
  exact ⟨h1, h2, h3, h4, h5, h6, fun f b n => h7 f b (fun q => n (hF f b q)), fun b j n => h8 b j (fun q => n (hA b q))⟩
theorem zW_Fi {F : Nat → Nat → Prop} {A : Nat → Prop} {f a : Nat} (h : F f a) (μ : ZM) (x : Int32) : zW F A μ (zFi μ f a x) := ⟨rfl, rfl, rfl, rfl, rfl, rfl, fun g b n => by rw [zfi_zFi, if_neg]; rintro ⟨rfl, rfl⟩; exact n h, fun _ _ _ => rfl⟩
theorem zW_Ai {F : Nat → Nat → Prop} {A : Nat → Prop} {a : Nat} (h : A a) (μ : ZM) (j : Nat) (x : Int32) : zW F A μ (zAi μ a j x) := ⟨rfl, rfl, rfl, rfl, rfl, rfl, fun _ _ _ => rfl, fun b i n => by rw [zai_zAi, if_neg]; rintro ⟨rfl, rfl⟩; exact n h⟩
/-- a table with one place set -/
def wU (f : Nat → Int32) (j : Nat) (x : Int32) : Nat → Int32 := fun i => if i = j then x else f i
theorem zai_set (μ : ZM) (a j : Nat) (x : Int32) : zai (zAi μ a j x) a = wU (zai μ a) j x := by
  funext i; rw [zai_zAi]; unfold wU; simp
theorem zai_oth {μ : ZM} {a b : Nat} (h : b ≠ a) (j : Nat) (x : Int32) : zai (zAi μ a j x) b = zai μ b := by
  funext i; rw [zai_zAi, if_neg (fun e => h e.1)]
/-- the ring holds a queue -/
def zRi (μ : ZM) (m a : Nat) (l : List Nat) : Prop := ∃ f : Nat, f < 16 ∧ l.length ≤ 12 ∧ zfi μ 52 m = nI f ∧ zfi μ 53 m = nI l.length ∧ ∀ k, k < l.length → zai μ a ((f + k) % 16) = nI (l.getD k 0) ∧ l.getD k 0 < 12
section ZQ
variable {G : ZG} {μ : ZM} {Q : Option ZV → ZM → Prop} {E : ZP → ZM → Prop} {m a : Nat} {z1 : Int32} {l : List Nat}
/-- the places that the queue's methods write -/
def zFq (m : Nat) (f b : Nat) : Prop := b = m ∧ (f = 52 ∨ f = 53)
theorem nI_mod16 (n : Nat) (h : n < 2147483648) : nI n - nI n / 16 * 16 = nI (n % 16) := pk_rem (d := 16) h (by omega) (by omega)
theorem C_enqueues (e : Nat) (h1 : z1 = nI e) (he : e < 12) (hq : zfr μ 48 m = (200, 16, a)) (hr : zRi μ m a l) (hl : l.length < 12) (k : ∀ ν, zRi ν m a (l ++ [e]) → zW (zFq m) (fun b => b = a) μ ν → Q none ν) : Call G Y_X5_enqueues [vP (5, 0, m), vI z1] μ Q E := by
  obtain ⟨f, f1, f2, f3, f4, f5⟩ := hr
  subst h1
  refine S_X5_enqueues ⟨_, _, hq, _, f3, _, f4, (f + l.length) % 16, zix.eq ?_ (by omega) (by omega), k _ ⟨f, f1, by simp; omega, ?_, ?_, fun i hi => ?_⟩ (zW.trans (zW_Ai (A := fun b => b = a) rfl μ _ _) (zW_Fi (F := zFq m) ⟨rfl, Or.inr rfl⟩ _ _))⟩
  · rw [nI_add, nI_mod16 _ (by omega)]
  · rw [zfi_zFi, if_neg (by simp)]; exact f3
  · rw [zfi_zFi, if_pos ⟨rfl, rfl⟩, List.length_append]; exact nI_1 _
  · rw [List.length_append] at hi
    simp only [List.length_cons, List.length_nil] at hi
    show zai (zAi μ a _ _) a _ = _ ∧ _
    rw [zai_zAi]
    by_cases e1 : i = l.length
    · subst e1
      rw [if_pos ⟨rfl, rfl⟩]
      have : (l ++ [e]).getD l.length 0 = e := by simp
      rw [this]; exact ⟨rfl, he⟩
    · obtain ⟨g1, g2⟩ := f5 i (by omega)
      have : (l ++ [e]).getD i 0 = l.getD i 0 := by simp [List.getElem?_append_left (show i < l.length by omega)]
      rw [if_neg (by omega), this]
      exact ⟨g1, g2⟩
theorem C_dequeues (e : Nat) (hq : zfr μ 48 m = (200, 16, a)) (hr : zRi μ m a (e :: l)) (k : ∀ ν, zRi ν m a l → zW (zFq m) (fun b => b = a) μ ν → Q (some (vI (nI e))) ν) : Call G Y_X5_dequeues [vP (5, 0, m)] μ Q E := by
  obtain ⟨f, f1, f2, f3, f4, f5⟩ := hr
  obtain ⟨g1, g2⟩ := f5 0 (by simp)
  have hlen : (e :: l).length = l.length + 1 := rfl
  refine S_X5_dequeues ⟨_, _, hq, _, f3, f, zix.eq rfl f1 (by omega), nI e, ?_, _, f4, k _ ⟨(f + 1) % 16, by omega, by rw [hlen] at f2; omega, ?_, ?_, fun i hi => ?_⟩ (zW.trans (zW_Fi (F := zFq m) ⟨rfl, Or.inl rfl⟩ μ _) (zW_Fi (F := zFq m) ⟨rfl, Or.inr rfl⟩ _ _))⟩
  · have e1 : (f + 0) % 16 = f := by omega
    rw [e1] at g1; exact g1
  · rw [zfi_zFi, if_neg (by simp), zfi_zFi, if_pos ⟨rfl, rfl⟩]
    have : nI f + 1 = nI (f + 1) := nI_1 f
    rw [this, nI_mod16 _ (by omega)]
  · rw [zfi_zFi, if_pos ⟨rfl, rfl⟩, hlen]; exact nI_pred _
  · obtain ⟨g3, g4⟩ := f5 (i + 1) (by rw [hlen]; omega)
    have e1 : ((f + 1) % 16 + i) % 16 = (f + (i + 1)) % 16 := by omega
    rw [e1]
    exact ⟨g3, g4⟩
end ZQ
