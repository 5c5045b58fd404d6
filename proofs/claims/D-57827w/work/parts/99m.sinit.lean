set_option maxRecDepth 100000
/-! THE COMPONENT, 32: new State(season, fogs) -/
/-- two maps without a pair -/
def zEm (μ : ZM) (dm sm : Nat) : Prop := ((∀ nd kp vl, zMp μ 17 dm [] nd kp vl) ∧ zfr μ 107 dm = zN ∧ zfr μ 105 dm = zN) ∧ (∀ nd kp vl, zMp μ 16 sm [] nd kp vl) ∧ zfr μ 107 sm = zN ∧ zfr μ 108 sm = zN ∧ zfi μ 111 sm = 0 ∧ zfi μ 112 sm = (1061158912 : UInt32).toInt32
theorem zEm.kp {μ ν : ZM} {dm sm : Nat} (h : zEm μ dm sm) (hs : zsz μ ≤ zsz ν) (k1 : zsame μ ν dm) (k2 : zsame μ ν sm) : zEm ν dm sm := by
  obtain ⟨⟨a1, a2, a3⟩, b1, b2, b3, b4, b5⟩ := h
  refine ⟨⟨fun nd kp vl => (a1 nd kp vl).kp hs k1.1 (fun f _ _ => k1.2.1 f) (fun n t e => by rw [a2] at e; cases e) (fun x hx => by cases hx), (k1.2.1 _).trans a2, (k1.2.1 _).trans a3⟩, fun nd kp vl => (b1 nd kp vl).kp hs k2.1 (fun f _ _ => k2.2.1 f) (fun n t e => by rw [b2] at e; cases e) (fun x hx => by cases hx), (k2.2.1 _).trans b2, (k2.2.1 _).trans b3, (k2.1 _).trans b4, (k2.1 _).trans b5⟩
/-- a State without echoes and valleys; z: what is behind it -/
def zSi (ν : ZM) (s z : Nat) (x : Int32) (n fg : Nat) : Prop := (zfr ν 10 s = (10, 0, z) ∧ zfr ν 11 s = (10, 0, z + 2) ∧ zfr ν 12 s = (13, 0, z + 4) ∧ zfr ν 13 s = (14, 0, z + 6)) ∧ (zfi ν 8 s = x ∧ zfr ν 9 s = (200, n, fg)) ∧ zLs ν z (z + 1) 12 0 (fun _ => zN) ∧ zLs ν (z + 2) (z + 3) 8 0 (fun _ => zN) ∧ zfr ν 104 (z + 4) = (15, 0, z + 5) ∧ zEm ν (z + 5) (z + 6)
section ZJ
variable {G : ZG} {μ : ZM} {Q : Option ZV → ZM → Prop} {E : ZP → ZM → Prop} {z1 : Int32}
theorem C_sInit {s n fg : Nat} (hs : s < zsz μ)
    (k : ∀ ν, zsz ν = zsz μ + 7 → zG (fun a => a = s) 7 47 μ ν → (∀ f, f ≠ 8 → zfi ν f s = zfi μ f s) → zSi ν s (zsz μ) z1 n fg → Q none ν) : Call G Y_X2_init [vP (2, 0, s), vI z1, vP (200, n, fg)] μ Q E := by
  refine Call.zo fun hok hargs => S_X2_init ?_
  have hz := Nat.le_refl (zsz μ)
  have zS : ∀ {ν : ZM} {f t n k : Nat} {v : ZP} {a : Nat}, a ≠ s → zsame ν (zNew (zFr ν f s v) t n k) a := fun h => (zsame_zFr h _).trans zsame_zNew
  -- the echoes' list
  refine Call.zo fun hok1 _ => Call.zq (C_alInit (c := 12) rfl (by decide) (by decide) hok1 (Nat.lt_succ_self _) (hok.1 _ _ hz) fun ν1 j1 l1 e1 okν1 _ => ⟨rfl, ?_⟩)
  have e1' : zsz ν1 = zsz μ + 2 := e1
  have gA : zG (fun a => a = s) (1 + 1) (3 + 12) μ ν1 := zG.trN (W := fun a => a = s) (zG.nw (t := 10) (n := 0) (k := 3)) (j1.mono (fun a _ q => Or.inr (by rw [q]; exact hz)) (Nat.le_refl _) (Nat.le_refl _))
  have s1 : zsame μ ν1 s := zsame_zNew.trans (j1.same (by show s < zsz μ + 1; omega) (by omega))
  -- the valleys' list
  refine Call.zo fun hok2 _ => Call.zq (C_alInit (c := 8) rfl (by decide) (by decide) hok2 (Nat.lt_succ_self _) (okν1.1 _ _ (Nat.le_refl _)) fun ν2 j2 l2 e2 okν2 _ => ⟨rfl, ?_⟩)
  have e2' : zsz ν2 = zsz μ + 4 := by have : zsz ν2 = zsz ν1 + 1 + 1 := e2; omega
  have gB : zG (fun a => a = s) (0 + 1 + 1) (0 + 3 + 8) ν1 ν2 := zG.trN (W := fun a => a = s) ((zG.fr (W := fun a => a = s) (f := 10) (v := (10, 0, zsz μ)) rfl).tr (zG.nw (t := 10) (n := 0) (k := 3))) (j2.mono (fun a _ q => Or.inr (by rw [q]; exact Nat.le_refl _)) (Nat.le_refl _) (Nat.le_refl _))
  have s2 : zsame (zFr ν1 10 s (10, 0, zsz μ)) ν2 s := zsame_zNew.trans (j2.same (by show s < zsz ν1 + 1; omega) (by omega))
  -- the pairs deserted
  refine Call.zo fun hok3 _ => Call.zq (C_lsInit hok3 (Nat.lt_succ_self _) fun ν3 m1 m2 m3 m4 e3 j3 okν3 _ => ⟨rfl, ?_⟩)
  have e3' : zsz ν3 = zsz μ + 6 := by have : zsz ν3 = zsz ν2 + 1 + 1 := e3; omega
  have gC : zG (fun a => a = s) (0 + 1 + 1) (0 + 1 + 12) ν2 ν3 := zG.trN (W := fun a => a = s) ((zG.fr (W := fun a => a = s) (f := 11) (v := (10, 0, zsz ν1)) rfl).tr (zG.nw (t := 13) (n := 0) (k := 1))) (j3.mono (fun a _ q => Or.inr (by rw [q]; exact Nat.le_refl _)) (Nat.le_refl _) (Nat.le_refl _))
  have s3 : zsame (zFr ν2 11 s (10, 0, zsz ν1)) ν3 s := zsame_zNew.trans (j3.same (by show s < zsz ν2 + 1; omega) (by omega))
  -- the days served
  have hz3 := Nat.le_refl (zsz ν3)
  have r4 : ∀ f a, f ≠ 12 → zfr (zNew (zFr ν3 12 s (13, 0, zsz ν2)) 14 0 8) f a = zfr ν3 f a := fun f a hf => by rw [zfr_zNew, zfr_zFr, if_neg (fun q => hf q.1)]
  refine C_hmInit ((r4 _ _ (by decide)).trans (okν3.2.1 _ _ hz3)) (okν3.1 _ _ hz3) (okν3.1 _ _ hz3) fun ν4 q4 m5 => ⟨rfl, ?_⟩
  have gD : zG (fun a => a = s) (0 + 1 + 0) (0 + 8 + 0) ν3 ν4 := by
    rw [q4]
    exact zG.trN (W := fun a => a = s) ((zG.fr (W := fun a => a = s) (f := 12) (v := (13, 0, zsz ν2)) rfl).tr (zG.nw (t := 14) (n := 0) (k := 8))) (zG.fi (Or.inr (Nat.le_refl _)))
  have e4' : zsz ν4 = zsz μ + 7 := by rw [q4]; show zsz ν3 + 1 = _; omega
  have s4 : zsame (zFr ν3 12 s (13, 0, zsz ν2)) ν4 s := by
    rw [q4]
    exact zsame_zNew.trans (zsame_zFi (by omega) _)
  -- the end
  have sE : ∀ a, a ≠ s → zsame ν4 (zFr (zFi (zFr ν4 13 s (14, 0, zsz ν3)) 8 s z1) 9 s (200, n, fg)) a := fun a ha => ((zsame_zFr ha _).trans (zsame_zFi ha _)).trans (zsame_zFr ha _)
  have iE : ∀ f a, f ≠ 8 → zfi (zFr (zFi (zFr ν4 13 s (14, 0, zsz ν3)) 8 s z1) 9 s (200, n, fg)) f a = zfi ν4 f a := fun f a hf => by rw [zfi_zFr, zfi_zFi, if_neg (fun q => hf q.1), zfi_zFr]
  have rE : ∀ f a, f ≠ 9 → f ≠ 13 → zfr (zFr (zFi (zFr ν4 13 s (14, 0, zsz ν3)) 8 s z1) 9 s (200, n, fg)) f a = zfr ν4 f a := fun f a h1 h2 => by rw [zfr_zFr, if_neg (fun q => h1 q.1), zfr_zFi, zfr_zFr, if_neg (fun q => h2 q.1)]
  have k2 : ∀ a, a ≠ s → a < zsz ν1 → zsame ν1 ν2 a := fun a h1 h2 => gB.same h2 h1
  have k3 : ∀ a, a ≠ s → a < zsz ν2 → zsame ν2 ν3 a := fun a h1 h2 => gC.same h2 h1
  have k4 : ∀ a, a ≠ s → a < zsz ν3 → zsame ν3 ν4 a := fun a h1 h2 => gD.same h2 h1
  have a1 : zsz μ + 2 = zsz ν1 := e1'.symm
  have a2 : zsz μ + 4 = zsz ν2 := e2'.symm
  have a3 : zsz μ + 6 = zsz ν3 := e3'.symm
  refine k _ e4' (((((gA.tr gB).tr gC).tr gD).tr (((zG.fr (W := fun a => a = s) rfl).tr (zG.fi rfl)).tr (zG.fr rfl))).mono (fun _ _ q => q) (by omega) (by omega)) (fun f hf => ?_) ⟨⟨?_, ?_, ?_, ?_⟩, ⟨?_, ?_⟩, ?_, ?_, ?_, ⟨?_, ?_, ?_⟩, ?_, ?_, ?_, ?_, ?_⟩
  · rw [iE f s hf, s4.1, zfi_zFr, s3.1, zfi_zFr, s2.1, zfi_zFr, s1.1]
  · rw [rE 10 s (by decide) (by decide), s4.2.1, zfr_zFr, if_neg (fun q => by cases q.1), s3.2.1, zfr_zFr, if_neg (fun q => by cases q.1), s2.2.1, zfr_zFr, if_pos ⟨rfl, rfl⟩]
  · rw [rE 11 s (by decide) (by decide), s4.2.1, zfr_zFr, if_neg (fun q => by cases q.1), s3.2.1, zfr_zFr, if_pos ⟨rfl, rfl⟩, a1]
  · rw [rE 12 s (by decide) (by decide), s4.2.1, zfr_zFr, if_pos ⟨rfl, rfl⟩, a2]
  · rw [zfr_zFr, if_neg (fun q => by cases q.1), zfr_zFi, zfr_zFr, if_pos ⟨rfl, rfl⟩, a3]
  · rw [zfi_zFr, zfi_zFi, if_pos ⟨rfl, rfl⟩]
  · rw [zfr_zFr, if_pos ⟨rfl, rfl⟩]
  · have t : ∀ a, a ≠ s → a < zsz ν1 → zsame ν1 _ a := fun a h1 h2 => (((k2 a h1 h2).trans (k3 a h1 (by omega))).trans (k4 a h1 (by omega))).trans (sE a h1)
    exact l1.kp (t _ (by omega) (by omega)) (t _ (by show zsz μ + 1 ≠ s; omega) (by show zsz μ + 1 < _; omega))
  · have t : ∀ a, a ≠ s → a < zsz ν2 → zsame ν2 _ a := fun a h1 h2 => ((k3 a h1 h2).trans (k4 a h1 (by omega))).trans (sE a h1)
    have := l2.kp (t _ (by show zsz ν1 ≠ s; omega) (by show zsz ν1 < _; omega)) (t _ (by show zsz ν1 + 1 ≠ s; omega) (by show zsz ν1 + 1 < _; omega))
    rw [a1, show zsz μ + 3 = zsz ν1 + 1 by omega]
    exact this
  · have t : ∀ a, a ≠ s → a < zsz ν3 → zsame ν3 _ a := fun a h1 h2 => (k4 a h1 h2).trans (sE a h1)
    rw [a2, show zsz μ + 5 = zsz ν2 + 1 by omega]
    exact ((t (zsz ν2) (by omega) (by omega)).2.1 _).trans m2
  · have t : ∀ a, a ≠ s → a < zsz ν3 → zsame ν3 _ a := fun a h1 h2 => (k4 a h1 h2).trans (sE a h1)
    rw [show zsz μ + 5 = zsz ν2 + 1 by omega]
    have t5 := t (zsz ν2 + 1) (by omega) (by omega)
    intro nd kp vl
    refine (m1 nd kp vl).kp (by show _ ≤ zsz ν4; omega) t5.1 (fun f _ _ => t5.2.1 f) (fun n t e => ?_) (fun x hx => by cases hx)
    have e9 : zfr ν3 107 (zsz ν2 + 1) = zN := m4
    rw [show zsz (zNew (zFr ν2 11 s (10, 0, zsz ν1)) 13 0 1) = zsz ν2 + 1 from rfl] at e
    rw [e9] at e; cases e
  · have t5 := (k4 (zsz ν2 + 1) (by omega) (by omega)).trans (sE (zsz ν2 + 1) (by omega))
    rw [show zsz μ + 5 = zsz ν2 + 1 by omega]
    exact (t5.2.1 _).trans m4
  · have t5 := (k4 (zsz ν2 + 1) (by omega) (by omega)).trans (sE (zsz ν2 + 1) (by omega))
    rw [show zsz μ + 5 = zsz ν2 + 1 by omega]
    exact (t5.2.1 _).trans m3
  · have t6 := sE (zsz ν3) (by omega)
    rw [a3]
    intro nd kp vl
    refine (m5 nd kp vl).kp (by show zsz ν4 ≤ zsz ν4; omega) t6.1 (fun f _ _ => t6.2.1 f) (fun n t e => ?_) (fun x hx => by cases hx)
    have e9 : zfr ν4 107 (zsz ν3) = zN := by rw [q4, zfr_zFi]; exact (r4 _ _ (by decide)).trans (okν3.2.1 _ _ hz3)
    rw [e9] at e; cases e
  · rw [a3, rE _ _ (by decide) (by decide), q4, zfr_zFi]; exact (r4 _ _ (by decide)).trans (okν3.2.1 _ _ hz3)
  · rw [a3, rE _ _ (by decide) (by decide), q4, zfr_zFi]; exact (r4 _ _ (by decide)).trans (okν3.2.1 _ _ hz3)
  · rw [a3, iE _ _ (by decide), q4, zfi_zFi, if_neg (fun q => by cases q.1)]; exact okν3.1 _ _ hz3
  · rw [a3, iE _ _ (by decide), q4, zfi_zFi, if_pos ⟨rfl, rfl⟩]
end ZJ
