/-! THE OWN LAYER, 1: pointers, values, memory -/
/-- a pointer: its tag, its length (arrays), its address; null = (0, 0, 0) -/
abbrev ZP : Type := Nat × Nat × Nat
/-- a value: int, pointer, long, float, double -/
abbrev ZV : Type := Int32 ⊕ (ZP ⊕ (Int64 ⊕ (UInt32 ⊕ UInt64)))
abbrev vI (x : Int32) : ZV := Sum.inl x
abbrev vP (p : ZP) : ZV := Sum.inr (Sum.inl p)
abbrev vL (x : Int64) : ZV := Sum.inr (Sum.inr (Sum.inl x))
abbrev vF (x : UInt32) : ZV := Sum.inr (Sum.inr (Sum.inr (Sum.inl x)))
abbrev vD (x : UInt64) : ZV := Sum.inr (Sum.inr (Sum.inr (Sum.inr x)))
abbrev zN : ZP := (0, 0, 0)
/-- a pointer in the machine -/
def zcp (p : ZP) : Value := match p.1 with
  | 0 => .null
  | _ + 1 => .ref p.2.2
def zc (v : ZV) : Value := match v with
  | .inl x => .int x
  | .inr (.inl p) => zcp p
  | .inr (.inr (.inl x)) => .long x
  | .inr (.inr (.inr (.inl x))) => .float x
  | .inr (.inr (.inr (.inr x))) => .double x
theorem zcp_ref {p : ZP} (h : p.1 ≠ 0) : zcp p = .ref p.2.2 := by
  obtain ⟨t, n, a⟩ := p
  cases t with
  | zero => exact absurd rfl h
  | succ t => rfl
theorem zcp_null {p : ZP} (h : p.1 = 0) : zcp p = .null := by
  obtain ⟨t, n, a⟩ := p
  cases t with
  | zero => rfl
  | succ t => cases h
/-- memory: size in cells, slots in use, tags and lengths, int fields, reference fields, int arrays, reference arrays, long arrays -/
abbrev ZM : Type := Nat × Nat × (Nat → Nat × Nat) × (Nat → Nat → Int32) × (Nat → Nat → ZP) × (Nat → Nat → Int32) × (Nat → Nat → ZP) × (Nat → Nat → Int64)
def zsz (μ : ZM) : Nat := μ.1
def zsl (μ : ZM) : Nat := μ.2.1
def ztg (μ : ZM) : Nat → Nat × Nat := μ.2.2.1
def zfi (μ : ZM) : Nat → Nat → Int32 := μ.2.2.2.1
def zfr (μ : ZM) : Nat → Nat → ZP := μ.2.2.2.2.1
def zai (μ : ZM) : Nat → Nat → Int32 := μ.2.2.2.2.2.1
def zar (μ : ZM) : Nat → Nat → ZP := μ.2.2.2.2.2.2.1
def zal (μ : ZM) : Nat → Nat → Int64 := μ.2.2.2.2.2.2.2
/-- one place of a table of tables set -/
def zup {α : Type} (g : Nat → Nat → α) (i j : Nat) (v : α) : Nat → Nat → α := fun x y => if x = i ∧ y = j then v else g x y
def zFi (μ : ZM) (f a : Nat) (v : Int32) : ZM := (μ.1, μ.2.1, μ.2.2.1, zup μ.2.2.2.1 f a v, μ.2.2.2.2.1, μ.2.2.2.2.2.1, μ.2.2.2.2.2.2.1, μ.2.2.2.2.2.2.2)
def zFr (μ : ZM) (f a : Nat) (v : ZP) : ZM := (μ.1, μ.2.1, μ.2.2.1, μ.2.2.2.1, zup μ.2.2.2.2.1 f a v, μ.2.2.2.2.2.1, μ.2.2.2.2.2.2.1, μ.2.2.2.2.2.2.2)
def zAi (μ : ZM) (a i : Nat) (v : Int32) : ZM := (μ.1, μ.2.1, μ.2.2.1, μ.2.2.2.1, μ.2.2.2.2.1, zup μ.2.2.2.2.2.1 a i v, μ.2.2.2.2.2.2.1, μ.2.2.2.2.2.2.2)
def zAr (μ : ZM) (a i : Nat) (v : ZP) : ZM := (μ.1, μ.2.1, μ.2.2.1, μ.2.2.2.1, μ.2.2.2.2.1, μ.2.2.2.2.2.1, zup μ.2.2.2.2.2.2.1 a i v, μ.2.2.2.2.2.2.2)
def zAl (μ : ZM) (a i : Nat) (v : Int64) : ZM := (μ.1, μ.2.1, μ.2.2.1, μ.2.2.2.1, μ.2.2.2.2.1, μ.2.2.2.2.2.1, μ.2.2.2.2.2.2.1, zup μ.2.2.2.2.2.2.2 a i v)
/-- a new cell of tag t, length n, that takes k slots -/
def zNew (μ : ZM) (t n k : Nat) : ZM := (μ.1 + 1, μ.2.1 + k, (fun b => if b = μ.1 then (t, n) else μ.2.2.1 b), μ.2.2.2.1, μ.2.2.2.2.1, μ.2.2.2.2.2.1, μ.2.2.2.2.2.2.1, μ.2.2.2.2.2.2.2)
/-- a run of places copied within a table of arrays -/
def zcpy {α : Type} (g : Nat → Nat → α) (a i b j n : Nat) : Nat → Nat → α := fun x y => if x = b ∧ j ≤ y ∧ y < j + n then g a (i + (y - j)) else g x y
def zCi (μ : ZM) (a i b j n : Nat) : ZM := (μ.1, μ.2.1, μ.2.2.1, μ.2.2.2.1, μ.2.2.2.2.1, zcpy μ.2.2.2.2.2.1 a i b j n, μ.2.2.2.2.2.2.1, μ.2.2.2.2.2.2.2)
theorem zsz_zFi (μ : ZM) (f a : Nat) (v : Int32) : zsz (zFi μ f a v) = zsz μ := rfl
theorem zsl_zFi (μ : ZM) (f a : Nat) (v : Int32) : zsl (zFi μ f a v) = zsl μ := rfl
theorem ztg_zFi (μ : ZM) (f a : Nat) (v : Int32) : ztg (zFi μ f a v) = ztg μ := rfl
theorem zfi_zFi (μ : ZM) (f a : Nat) (v : Int32) (g b : Nat) : zfi (zFi μ f a v) g b = if g = f ∧ b = a then v else zfi μ g b := rfl
theorem zfr_zFi (μ : ZM) (f a : Nat) (v : Int32) : zfr (zFi μ f a v) = zfr μ := rfl
theorem zai_zFi (μ : ZM) (f a : Nat) (v : Int32) : zai (zFi μ f a v) = zai μ := rfl
theorem zar_zFi (μ : ZM) (f a : Nat) (v : Int32) : zar (zFi μ f a v) = zar μ := rfl
theorem zal_zFi (μ : ZM) (f a : Nat) (v : Int32) : zal (zFi μ f a v) = zal μ := rfl
theorem zsz_zFr (μ : ZM) (f a : Nat) (v : ZP) : zsz (zFr μ f a v) = zsz μ := rfl
theorem zsl_zFr (μ : ZM) (f a : Nat) (v : ZP) : zsl (zFr μ f a v) = zsl μ := rfl
theorem ztg_zFr (μ : ZM) (f a : Nat) (v : ZP) : ztg (zFr μ f a v) = ztg μ := rfl
theorem zfi_zFr (μ : ZM) (f a : Nat) (v : ZP) : zfi (zFr μ f a v) = zfi μ := rfl
theorem zfr_zFr (μ : ZM) (f a : Nat) (v : ZP) (g b : Nat) : zfr (zFr μ f a v) g b = if g = f ∧ b = a then v else zfr μ g b := rfl
theorem zai_zFr (μ : ZM) (f a : Nat) (v : ZP) : zai (zFr μ f a v) = zai μ := rfl
theorem zar_zFr (μ : ZM) (f a : Nat) (v : ZP) : zar (zFr μ f a v) = zar μ := rfl
theorem zal_zFr (μ : ZM) (f a : Nat) (v : ZP) : zal (zFr μ f a v) = zal μ := rfl
theorem zsz_zAi (μ : ZM) (a i : Nat) (v : Int32) : zsz (zAi μ a i v) = zsz μ := rfl
theorem zsl_zAi (μ : ZM) (a i : Nat) (v : Int32) : zsl (zAi μ a i v) = zsl μ := rfl
theorem ztg_zAi (μ : ZM) (a i : Nat) (v : Int32) : ztg (zAi μ a i v) = ztg μ := rfl
theorem zfi_zAi (μ : ZM) (a i : Nat) (v : Int32) : zfi (zAi μ a i v) = zfi μ := rfl
theorem zfr_zAi (μ : ZM) (a i : Nat) (v : Int32) : zfr (zAi μ a i v) = zfr μ := rfl
theorem zai_zAi (μ : ZM) (a i : Nat) (v : Int32) (b j : Nat) : zai (zAi μ a i v) b j = if b = a ∧ j = i then v else zai μ b j := rfl
theorem zar_zAi (μ : ZM) (a i : Nat) (v : Int32) : zar (zAi μ a i v) = zar μ := rfl
theorem zal_zAi (μ : ZM) (a i : Nat) (v : Int32) : zal (zAi μ a i v) = zal μ := rfl
theorem zsz_zAr (μ : ZM) (a i : Nat) (v : ZP) : zsz (zAr μ a i v) = zsz μ := rfl
theorem zsl_zAr (μ : ZM) (a i : Nat) (v : ZP) : zsl (zAr μ a i v) = zsl μ := rfl
theorem ztg_zAr (μ : ZM) (a i : Nat) (v : ZP) : ztg (zAr μ a i v) = ztg μ := rfl
theorem zfi_zAr (μ : ZM) (a i : Nat) (v : ZP) : zfi (zAr μ a i v) = zfi μ := rfl
theorem zfr_zAr (μ : ZM) (a i : Nat) (v : ZP) : zfr (zAr μ a i v) = zfr μ := rfl
theorem zai_zAr (μ : ZM) (a i : Nat) (v : ZP) : zai (zAr μ a i v) = zai μ := rfl
theorem zar_zAr (μ : ZM) (a i : Nat) (v : ZP) (b j : Nat) : zar (zAr μ a i v) b j = if b = a ∧ j = i then v else zar μ b j := rfl
theorem zal_zAr (μ : ZM) (a i : Nat) (v : ZP) : zal (zAr μ a i v) = zal μ := rfl
theorem zsz_zAl (μ : ZM) (a i : Nat) (v : Int64) : zsz (zAl μ a i v) = zsz μ := rfl
theorem zsl_zAl (μ : ZM) (a i : Nat) (v : Int64) : zsl (zAl μ a i v) = zsl μ := rfl
theorem ztg_zAl (μ : ZM) (a i : Nat) (v : Int64) : ztg (zAl μ a i v) = ztg μ := rfl
theorem zfi_zAl (μ : ZM) (a i : Nat) (v : Int64) : zfi (zAl μ a i v) = zfi μ := rfl
theorem zfr_zAl (μ : ZM) (a i : Nat) (v : Int64) : zfr (zAl μ a i v) = zfr μ := rfl
theorem zai_zAl (μ : ZM) (a i : Nat) (v : Int64) : zai (zAl μ a i v) = zai μ := rfl
theorem zar_zAl (μ : ZM) (a i : Nat) (v : Int64) : zar (zAl μ a i v) = zar μ := rfl
theorem zal_zAl (μ : ZM) (a i : Nat) (v : Int64) (b j : Nat) : zal (zAl μ a i v) b j = if b = a ∧ j = i then v else zal μ b j := rfl
theorem zsz_zNew (μ : ZM) (t n k : Nat) : zsz (zNew μ t n k) = zsz μ + 1 := rfl
theorem zsl_zNew (μ : ZM) (t n k : Nat) : zsl (zNew μ t n k) = zsl μ + k := rfl
theorem ztg_zNew (μ : ZM) (t n k : Nat) (b : Nat) : ztg (zNew μ t n k) b = if b = zsz μ then (t, n) else ztg μ b := rfl
theorem zfi_zNew (μ : ZM) (t n k : Nat) : zfi (zNew μ t n k) = zfi μ := rfl
theorem zfr_zNew (μ : ZM) (t n k : Nat) : zfr (zNew μ t n k) = zfr μ := rfl
theorem zai_zNew (μ : ZM) (t n k : Nat) : zai (zNew μ t n k) = zai μ := rfl
theorem zar_zNew (μ : ZM) (t n k : Nat) : zar (zNew μ t n k) = zar μ := rfl
theorem zal_zNew (μ : ZM) (t n k : Nat) : zal (zNew μ t n k) = zal μ := rfl
theorem zsz_zCi (μ : ZM) (a i b j n : Nat) : zsz (zCi μ a i b j n) = zsz μ := rfl
theorem zsl_zCi (μ : ZM) (a i b j n : Nat) : zsl (zCi μ a i b j n) = zsl μ := rfl
theorem ztg_zCi (μ : ZM) (a i b j n : Nat) : ztg (zCi μ a i b j n) = ztg μ := rfl
theorem zfi_zCi (μ : ZM) (a i b j n : Nat) : zfi (zCi μ a i b j n) = zfi μ := rfl
theorem zfr_zCi (μ : ZM) (a i b j n : Nat) : zfr (zCi μ a i b j n) = zfr μ := rfl
theorem zai_zCi (μ : ZM) (a i b j n x y : Nat) : zai (zCi μ a i b j n) x y = if x = b ∧ j ≤ y ∧ y < j + n then zai μ a (i + (y - j)) else zai μ x y := rfl
theorem zar_zCi (μ : ZM) (a i b j n : Nat) : zar (zCi μ a i b j n) = zar μ := rfl
theorem zal_zCi (μ : ZM) (a i b j n : Nat) : zal (zCi μ a i b j n) = zal μ := rfl
/-- a pointer that memory knows -/
def zpk (μ : ZM) (p : ZP) : Prop := p = zN ∨ p.1 = 251 ∨ (p.1 ≠ 0 ∧ p.2.2 < zsz μ ∧ ztg μ p.2.2 = (p.1, p.2.1))
def zvk (μ : ZM) (v : ZV) : Prop := match v with
  | .inr (.inl p) => zpk μ p
  | _ => True
/-- memory is in order: nothing stands behind its end; all pointers in it are known -/
def zok (μ : ZM) : Prop := (∀ f a, zsz μ ≤ a → zfi μ f a = 0) ∧ (∀ f a, zsz μ ≤ a → zfr μ f a = zN) ∧ (∀ a j, zsz μ ≤ a → zai μ a j = 0) ∧ (∀ a j, zsz μ ≤ a → zar μ a j = zN) ∧ (∀ a j, zsz μ ≤ a → zal μ a j = 0) ∧ (∀ f a, zpk μ (zfr μ f a)) ∧ ∀ a j, zpk μ (zar μ a j)
/-- memory has grown: tags stay -/
def zext (μ ν : ZM) : Prop := zsz μ ≤ zsz ν ∧ zsl μ ≤ zsl ν ∧ ∀ a, a < zsz μ → ztg ν a = ztg μ a
theorem zext.rf (μ : ZM) : zext μ μ := ⟨Nat.le_refl _, Nat.le_refl _, fun _ _ => rfl⟩
theorem zext.trans {μ ν ρ : ZM} (h : zext μ ν) (k : zext ν ρ) : zext μ ρ := ⟨Nat.le_trans h.1 k.1, Nat.le_trans h.2.1 k.2.1, fun a ha => (k.2.2 a (Nat.lt_of_lt_of_le ha h.1)).trans (h.2.2 a ha)⟩
theorem zpk.ext {μ ν : ZM} (h : zext μ ν) {p : ZP} (k : zpk μ p) : zpk ν p := by
  rcases k with k | k | ⟨k1, k2, k3⟩
  · exact Or.inl k
  · exact Or.inr (Or.inl k)
  · exact Or.inr (Or.inr ⟨k1, Nat.lt_of_lt_of_le k2 h.1, (h.2.2 _ k2).trans k3⟩)
theorem zvk.ext {μ ν : ZM} (h : zext μ ν) {v : ZV} (k : zvk μ v) : zvk ν v := by
  match v, k with
  | .inl _, _ => exact True.intro
  | .inr (.inl p), k => exact zpk.ext h k
  | .inr (.inr _), _ => exact True.intro
theorem zext_zFi (μ : ZM) (f a : Nat) (v : Int32) : zext μ (zFi μ f a v) := zext.rf μ
theorem zext_zFr (μ : ZM) (f a : Nat) (v : ZP) : zext μ (zFr μ f a v) := zext.rf μ
theorem zext_zAi (μ : ZM) (a i : Nat) (v : Int32) : zext μ (zAi μ a i v) := zext.rf μ
theorem zext_zAr (μ : ZM) (a i : Nat) (v : ZP) : zext μ (zAr μ a i v) := zext.rf μ
theorem zext_zAl (μ : ZM) (a i : Nat) (v : Int64) : zext μ (zAl μ a i v) := zext.rf μ
theorem zext_zCi (μ : ZM) (a i b j n : Nat) : zext μ (zCi μ a i b j n) := zext.rf μ
theorem zext_zNew (μ : ZM) (t n k : Nat) : zext μ (zNew μ t n k) := ⟨Nat.le_succ _, Nat.le_add_right _ _, fun a ha => by rw [ztg_zNew, if_neg (Nat.ne_of_lt ha)]⟩
theorem zok.zFi {μ : ZM} (h : zok μ) (f : Nat) {a : Nat} (ha : a < zsz μ) (v : Int32) : zok (zFi μ f a v) := by
  obtain ⟨h1, h2, h3, h4, h5, h6, h7⟩ := h
  refine ⟨fun g b hb => ?_, h2, h3, h4, h5, h6, h7⟩
  rw [zfi_zFi, if_neg (fun e => by have : zsz μ ≤ b := hb; omega)]
  exact h1 g b hb
theorem zok.zFr {μ : ZM} (h : zok μ) (f : Nat) {a : Nat} (ha : a < zsz μ) {v : ZP} (hv : zpk μ v) : zok (zFr μ f a v) := by
  obtain ⟨h1, h2, h3, h4, h5, h6, h7⟩ := h
  refine ⟨h1, fun g b hb => ?_, h3, h4, h5, fun g b => ?_, h7⟩
  · rw [zfr_zFr, if_neg (fun e => by have : zsz μ ≤ b := hb; omega)]
    exact h2 g b hb
  · rw [zfr_zFr]
    split
    · exact hv
    · exact h6 g b
theorem zok.zAi {μ : ZM} (h : zok μ) {a : Nat} (ha : a < zsz μ) (i : Nat) (v : Int32) : zok (zAi μ a i v) := by
  obtain ⟨h1, h2, h3, h4, h5, h6, h7⟩ := h
  refine ⟨h1, h2, fun b j hb => ?_, h4, h5, h6, h7⟩
  rw [zai_zAi, if_neg (fun e => by have : zsz μ ≤ b := hb; omega)]
  exact h3 b j hb
theorem zok.zAr {μ : ZM} (h : zok μ) {a : Nat} (ha : a < zsz μ) (i : Nat) {v : ZP} (hv : zpk μ v) : zok (zAr μ a i v) := by
  obtain ⟨h1, h2, h3, h4, h5, h6, h7⟩ := h
  refine ⟨h1, h2, h3, fun b j hb => ?_, h5, h6, fun b j => ?_⟩
  · rw [zar_zAr, if_neg (fun e => by have : zsz μ ≤ b := hb; omega)]
    exact h4 b j hb
  · rw [zar_zAr]
    split
    · exact hv
    · exact h7 b j
theorem zok.zAl {μ : ZM} (h : zok μ) {a : Nat} (ha : a < zsz μ) (i : Nat) (v : Int64) : zok (zAl μ a i v) := by
  obtain ⟨h1, h2, h3, h4, h5, h6, h7⟩ := h
  refine ⟨h1, h2, h3, h4, fun b j hb => ?_, h6, h7⟩
  rw [zal_zAl, if_neg (fun e => by have : zsz μ ≤ b := hb; omega)]
  exact h5 b j hb
theorem zok.zCi {μ : ZM} (h : zok μ) (a i : Nat) {b : Nat} (hb : b < zsz μ) (j n : Nat) : zok (zCi μ a i b j n) := by
  obtain ⟨h1, h2, h3, h4, h5, h6, h7⟩ := h
  refine ⟨h1, h2, fun c k hc => ?_, h4, h5, h6, h7⟩
  rw [zai_zCi, if_neg (fun e => by have : zsz μ ≤ c := hc; omega)]
  exact h3 c k hc
theorem zok.zNew {μ : ZM} (h : zok μ) (t n k : Nat) : zok (zNew μ t n k) := by
  obtain ⟨h1, h2, h3, h4, h5, h6, h7⟩ := h
  exact ⟨fun f a ha => h1 f a (Nat.le_of_succ_le ha), fun f a ha => h2 f a (Nat.le_of_succ_le ha), fun a j ha => h3 a j (Nat.le_of_succ_le ha), fun a j ha => h4 a j (Nat.le_of_succ_le ha), fun a j ha => h5 a j (Nat.le_of_succ_le ha),
    fun f a => (h6 f a).ext (zext_zNew μ t n k), fun a j => (h7 a j).ext (zext_zNew μ t n k)⟩
theorem zpk_new (μ : ZM) {t : Nat} (ht : t ≠ 0) (n k : Nat) : zpk (zNew μ t n k) (t, n, zsz μ) := Or.inr (Or.inr ⟨ht, Nat.lt_succ_self _, by rw [ztg_zNew, if_pos rfl]⟩)
theorem zpk.lt {μ : ZM} {p : ZP} (h : zpk μ p) (hp : p.1 ≠ 0) (ho : p.1 ≠ 251) : p.2.2 < zsz μ ∧ ztg μ p.2.2 = (p.1, p.2.1) := by
  rcases h with h | h | h
  · rw [h] at hp; exact absurd rfl hp
  · exact absurd h ho
  · exact h.2
theorem zpk.inj {μ : ZM} {p q : ZP} (hp : zpk μ p) (hq : zpk μ q) (h1 : p.1 ≠ 0) (h2 : q.1 ≠ 0) (o1 : p.1 ≠ 251) (o2 : q.1 ≠ 251) (h : p.2.2 = q.2.2) : p = q := by
  obtain ⟨-, e1⟩ := hp.lt h1 o1
  obtain ⟨-, e2⟩ := hq.lt h2 o2
  rw [h, e2] at e1
  obtain ⟨a, b, c⟩ := p
  obtain ⟨d, e, f⟩ := q
  cases e1
  cases h
  rfl
theorem zpk.nul {μ : ZM} {p : ZP} (h : zpk μ p) (h0 : p.1 = 0) : p = zN := by
  rcases h with h | h | h
  · exact h
  · rw [h0] at h; cases h
  · exact absurd h0 h.1
theorem zcp_inj {μ : ZM} {p q : ZP} (hp : zpk μ p) (hq : zpk μ q) (o1 : p.1 ≠ 251) (o2 : q.1 ≠ 251) (h : zcp p = zcp q) : p = q := by
  by_cases h1 : p.1 = 0
  · by_cases h2 : q.1 = 0
    · rw [hp.nul h1, hq.nul h2]
    · rw [zcp_null h1, zcp_ref h2] at h; cases h
  · by_cases h2 : q.1 = 0
    · rw [zcp_ref h1, zcp_null h2] at h; cases h
    · rw [zcp_ref h1, zcp_ref h2] at h
      exact hp.inj hq h1 h2 o1 o2 (Value.ref.inj h)
