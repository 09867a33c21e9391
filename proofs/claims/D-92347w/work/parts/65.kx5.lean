/-! THE COMPONENT HAS THE STATE SO: w tells whose a cell is (a tag); a part speaks of the cells of its own tags alone -/
abbrev xF (th ke ta fa tr sta : Nat) : List am_W := [am_R 33, am_I (th : Int), am_R 34, am_R 35, am_R 36, am_R 42, am_I (ke : Int), am_R 43, am_R 49, am_R 62, am_R 63, am_R 64, am_R 65, am_I (ta : Int), am_I (fa : Int), am_R 66, am_R tr, am_I (sta : Int), am_R 69, am_R 70]
abbrev xF_Z (Z : sp_Z) (tr : Nat) : List am_W := xF (zn Z) (zK Z) (zP Z) (zF Z) tr (zSt Z)
def sp_byte (x : Nat) : Int := if x < 128 then x else x - 256
/-- the arrays of a table, whatever they hold -/
def xs (h : Nat → Option ah_C) (a : Nat) : Prop := ∃ p hi ce bo ho, xo h a p hi ce bo ho
/-- a list at a, of n elements, its element i is told by P -/
def xl (h : Nat → Option ah_C) (w : Nat → Nat) (t a n : Nat) (P : Nat → Nat → Prop) : Prop :=
  w a = t ∧ ∃ (mc e cap : Nat) (f : Nat → Option Nat), h a = some (.inl (15, [am_I (mc : Int), am_R e, am_I (n : Int)])) ∧ h e = some (.inr (5, cap, .inr f)) ∧ mc ≤ n ∧ n ≤ cap ∧ cap ≤ 100 ∧ (e = 1 ∧ cap = 0 ∨ 647 ≤ e ∧ w e = t ∧ 10 ≤ cap) ∧ ∀ i, i < n → ∃ o, f i = some o ∧ P i o
def xI (h : Nat → Option ah_C) (w : Nat → Nat) (tr : Nat) (Z : sp_Z) : Prop := w 32 = 0 ∧ h 32 = some (.inl (1, xF_Z Z tr))
def xA (h : Nat → Option ah_C) (w : Nat → Nat) (Z : sp_Z) : Prop := (w 34 = 1 ∧ w 35 = 1) ∧ ∃ f g, h 34 = some (.inr (0, 6, .inl f)) ∧ h 35 = some (.inr (0, 6, .inl g)) ∧ ∀ k, k < zn Z → (f k).toInt = zs Z k ∧ (g k).toInt = zw Z k
def xB (h : Nat → Option ah_C) (w : Nat → Nat) (Z : sp_Z) : Prop := (∀ q, 36 ≤ q → q ≤ 41 → w q = 2) ∧ xt h 36 (zn Z) (zs Z) (zT Z)
def xK (h : Nat → Option ah_C) (w : Nat → Nat) (Z : sp_Z) : Prop := w 42 = 3 ∧ ∃ (f : Nat → Option Nat) (kt : Nat → Nat), h 42 = some (.inr (3, 8, .inr f)) ∧ ∀ i, i < zK Z → f i = some (kt i) ∧ 647 ≤ kt i ∧ (∀ q, kt i ≤ q → q ≤ kt i + 5 → w q = 100 + i) ∧ xt h (kt i) (zn Z) (zs Z) (zKT Z i)
def xC (h : Nat → Option ah_C) (w : Nat → Nat) (Z : sp_Z) : Prop := w 63 = 5 ∧ ∃ f, h 63 = some (.inr (0, 2, .inl f)) ∧ ∀ i, i < 2 → (f i).toInt = zR Z i
def xD (h : Nat → Option ah_C) (w : Nat → Nat) (Z : sp_Z) : Prop := xl h w 6 64 (zL Z) (fun i o => 647 ≤ o ∧ w o = 300 + i ∧ h o = some (.inl (6, [am_I ((zLf Z i).1 : Int), am_I ((zLf Z i).2.1 : Int), am_I (am_b (zLf Z i).2.2.1), am_I ((zLf Z i).2.2.2.1 : Int), am_I (am_b (zLf Z i).2.2.2.2)])))
def xE (h : Nat → Option ah_C) (w : Nat → Nat) (Z : sp_Z) : Prop := w 33 = 8 ∧ ∃ (f : Nat → Option Nat) (sh : Nat → Nat), h 33 = some (.inr (4, 8, .inr f)) ∧ ∀ i, i < 8 → (zSh Z i = none → f i = none) ∧ ∀ x, zSh Z i = some x → f i = some (sh i) ∧ 647 ≤ sh i ∧ w (sh i) = 200 + i ∧ w (sh i + 1) = 200 + i ∧ h (sh i) = some (.inl (5, [am_I (x.1 : Int), am_R (sh i + 1)])) ∧ ∃ it, h (sh i + 1) = some (.inr (0, x.2.1, .inl it)) ∧ ∀ j, j < x.2.1 → (it j).toInt = x.2.2 j
def xN (h : Nat → Option ah_C) (w : Nat → Nat) (Z : sp_Z) : Prop := xl h w 9 66 (zN Z) (fun i o => 647 ≤ o ∧ w o = 10 ∧ h o = some (.inl (9, [am_I ((zNf Z i).2.1 : Int), am_I ((zNf Z i).1 : Int), am_I ((zNf Z i).2.2 : Int)])))
def xG (h : Nat → Option ah_C) (w : Nat → Nat) (Z : sp_Z) : Prop := w 65 = 11 ∧ ∃ f, h 65 = some (.inr (2, 300, .inl f)) ∧ ∀ i, i < zP Z → (f i).toInt = sp_byte (zPf Z i)
def xY (h : Nat → Option ah_C) (w : Nat → Nat) (tr : Nat) (Z : sp_Z) : Prop := (w tr = 12 ∧ w (tr + 1) = 12 ∧ 36 ≤ tr) ∧ ∃ f, h tr = some (.inl (3, [am_R (tr + 1), am_I (zY Z : Int)])) ∧ h (tr + 1) = some (.inr (0, 16, .inl f)) ∧ ∀ i, i < zY Z → (f i).toInt = zYf Z i
def xU (h : Nat → Option ah_C) (w : Nat → Nat) : Prop := ((∀ q, 43 ≤ q → q ≤ 62 → w q = 4) ∧ ∀ q, 69 ≤ q → q < 647 → w q = 4) ∧ (xs h 43 ∧ xs h 50 ∧ xs h 56 ∧ ∀ k, k < 96 → xs h (71 + 6 * k)) ∧
  (∃ f, h 49 = some (.inr (3, 2, .inr f)) ∧ f 0 = some 50 ∧ f 1 = some 56) ∧ (∃ f, h 62 = some (.inr (3, 96, .inr f)) ∧ ∀ k, k < 96 → f k = some (71 + 6 * k)) ∧ (∃ f, h 69 = some (.inr (1, 96, .inl f))) ∧ ∃ f, h 70 = some (.inr (0, 144, .inl f))
/-- what the start holds: an empty array, the two arrays of words, the words -/
def xwd : Nat → List Nat := fun i => match i with
  | 4 => [99, 117, 112]
  | 5 => [99, 108, 111, 116, 104]
  | 6 => [98, 111, 120]
  | 7 => [108, 105, 100]
  | 8 => [111, 110]
  | 9 => [105, 110]
  | 10 => [98, 101, 115, 105, 100, 101]
  | 11 => [97, 116]
  | 12 => []
  | 13 => [110, 101, 118, 101, 114]
  | 14 => [109, 111, 115, 116]
  | _ => []
def xX (h : Nat → Option ah_C) (w : Nat → Nat) : Prop := (∀ q, q < 32 → w q = 13) ∧ (∃ f, h 1 = some (.inr (5, 0, .inr f))) ∧ (∃ f, h 2 = some (.inr (6, 4, .inr f)) ∧ ∀ i, i < 4 → f i = some (4 + i)) ∧ (∃ f, h 3 = some (.inr (6, 4, .inr f)) ∧ ∀ i, i < 4 → f i = some (8 + i)) ∧
  ∀ i, 4 ≤ i → i < 15 → (∃ hs hz, h i = some (.inl (17, [am_R (i + 12), am_I 0, am_I hs, am_I (am_b hz)])) ∧ am_r hs) ∧ ∃ f, h (i + 12) = some (.inr (2, (xwd i).length, .inl f)) ∧ ∀ j k : Nat, (xwd i)[j]? = some k → (f j).toInt = k
def xR (h : Nat → Option ah_C) (w : Nat → Nat) (tr : Nat) (Z : sp_Z) : Prop := xI h w tr Z ∧ xA h w Z ∧ xB h w Z ∧ xK h w Z ∧ xC h w Z ∧ xD h w Z ∧ xE h w Z ∧ xN h w Z ∧ xG h w Z ∧ xY h w tr Z ∧ xU h w ∧ xX h w
def xr_ (S : ah_H) (w : Nat → Nat) (tr : Nat) (Z : sp_Z) : Prop := z_ok Z ∧ (647 ≤ S.2 ∧ ∀ q, S.2 ≤ q → S.1 q = none) ∧ xR S.1 w tr Z
def xr (S : ah_H) (Z : sp_Z) : Prop := ∃ w tr, xr_ S w tr Z
/-- nothing has changed but cells of the tags L; new cells may have come -/
def xch (L : List Nat) (S S' : ah_H) (w w' : Nat → Nat) : Prop := (S.2 ≤ S'.2 ∧ ∀ q, S'.2 ≤ q → S'.1 q = none) ∧ ∀ q, S.1 q ≠ none → w q ∉ L → S'.1 q = S.1 q ∧ w' q = w q
section KX5
variable {h h' : Nat → Option ah_C} {w w' : Nat → Nat} {L : List Nat} {Z : sp_Z} {tr : Nat}
theorem xc_at {a : Nat} {c : ah_C} {t : Nat} (fr : ∀ q, h q ≠ none → w q ∉ L → h' q = h q ∧ w' q = w q) (hw : w a = t) (hL : t ∉ L) (hc : h a = some c) : h' a = some c ∧ w' a = t := by
  obtain ⟨g1, g2⟩ := fr a (by rw [hc]; exact fun z => by cases z) (by rw [hw]; exact hL)
  exact ⟨g1.trans hc, g2.trans hw⟩
theorem xI.kept (k : xI h w tr Z) (fr : ∀ q, h q ≠ none → w q ∉ L → h' q = h q ∧ w' q = w q) (hL : 0 ∉ L) : xI h' w' tr Z := by
  obtain ⟨k1, k2⟩ := k
  obtain ⟨g1, g2⟩ := xc_at fr k1 hL k2
  exact ⟨g2, g1⟩
theorem xA.kept (k : xA h w Z) (fr : ∀ q, h q ≠ none → w q ∉ L → h' q = h q ∧ w' q = w q) (hL : 1 ∉ L) : xA h' w' Z := by
  obtain ⟨⟨k1, k2⟩, f, g, k3, k4, k5⟩ := k
  obtain ⟨g1, g2⟩ := xc_at fr k1 hL k3
  obtain ⟨g3, g4⟩ := xc_at fr k2 hL k4
  exact ⟨⟨g2, g4⟩, f, g, g1, g3, k5⟩
theorem xo.kept {a t : Nat} {p hi ce bo ho : Nat → Int32} (k : xo h a p hi ce bo ho) (hw : ∀ q, a ≤ q → q ≤ a + 5 → w q = t) (fr : ∀ q, h q ≠ none → w q ∉ L → h' q = h q ∧ w' q = w q) (hL : t ∉ L) : xo h' a p hi ce bo ho ∧ ∀ q, a ≤ q → q ≤ a + 5 → w' q = t := by
  obtain ⟨k0, k1, k2, k3, k4, k5⟩ := k
  obtain ⟨a0, b0⟩ := xc_at fr (hw a (by omega) (by omega)) hL k0
  obtain ⟨a1, b1⟩ := xc_at fr (hw (a + 1) (by omega) (by omega)) hL k1
  obtain ⟨a2, b2⟩ := xc_at fr (hw (a + 2) (by omega) (by omega)) hL k2
  obtain ⟨a3, b3⟩ := xc_at fr (hw (a + 3) (by omega) (by omega)) hL k3
  obtain ⟨a4, b4⟩ := xc_at fr (hw (a + 4) (by omega) (by omega)) hL k4
  obtain ⟨a5, b5⟩ := xc_at fr (hw (a + 5) (by omega) (by omega)) hL k5
  refine ⟨⟨a0, a1, a2, a3, a4, a5⟩, fun q h1 h2 => ?_⟩
  have : q = a ∨ q = a + 1 ∨ q = a + 2 ∨ q = a + 3 ∨ q = a + 4 ∨ q = a + 5 := by omega
  rcases this with rfl | rfl | rfl | rfl | rfl | rfl <;> assumption
theorem xt.kept' {a t n : Nat} {s : Nat → Nat} {T : sp_T} (k : xt h a n s T) (hw : ∀ q, a ≤ q → q ≤ a + 5 → w q = t) (fr : ∀ q, h q ≠ none → w q ∉ L → h' q = h q ∧ w' q = w q) (hL : t ∉ L) : xt h' a n s T ∧ ∀ q, a ≤ q → q ≤ a + 5 → w' q = t := by
  obtain ⟨k1, k2, p, hi, ce, bo, ho, k3, k4⟩ := k
  obtain ⟨g1, g2⟩ := k3.kept hw fr hL
  exact ⟨⟨k1, k2, p, hi, ce, bo, ho, g1, k4⟩, g2⟩
theorem xB.kept (k : xB h w Z) (fr : ∀ q, h q ≠ none → w q ∉ L → h' q = h q ∧ w' q = w q) (hL : 2 ∉ L) : xB h' w' Z := by
  obtain ⟨k1, k2⟩ := k
  obtain ⟨g1, g2⟩ := k2.kept' k1 fr hL
  exact ⟨g2, g1⟩
theorem xK.kept (k : xK h w Z) (hK : zK Z ≤ 8) (fr : ∀ q, h q ≠ none → w q ∉ L → h' q = h q ∧ w' q = w q) (hL : 3 ∉ L) (hL2 : ∀ i, i < 8 → 100 + i ∉ L) : xK h' w' Z := by
  obtain ⟨k1, f, kt, k2, k3⟩ := k
  obtain ⟨g1, g2⟩ := xc_at fr k1 hL k2
  refine ⟨g2, f, kt, g1, fun i hi => ?_⟩
  obtain ⟨m1, m2, m3, m4⟩ := k3 i hi
  obtain ⟨q1, q2⟩ := m4.kept' m3 fr (hL2 i (by omega))
  exact ⟨m1, m2, q2, q1⟩
theorem xC.kept (k : xC h w Z) (fr : ∀ q, h q ≠ none → w q ∉ L → h' q = h q ∧ w' q = w q) (hL : 5 ∉ L) : xC h' w' Z := by
  obtain ⟨k1, f, k2, k3⟩ := k
  obtain ⟨g1, g2⟩ := xc_at fr k1 hL k2
  exact ⟨g2, f, g1, k3⟩
theorem xl.kept {t a n : Nat} {P P' : Nat → Nat → Prop} (k : xl h w t a n P) (h1 : (∃ f, h 1 = some (.inr (5, 0, .inr f))) ∧ w 1 = 13) (fr : ∀ q, h q ≠ none → w q ∉ L → h' q = h q ∧ w' q = w q) (hL : t ∉ L) (hL13 : 13 ∉ L) (hP : ∀ i o, i < n → P i o → P' i o) : xl h' w' t a n P' := by
  obtain ⟨k1, mc, e, cap, f, k2, k3, k4, k5, k6, k7, k8⟩ := k
  obtain ⟨g1, g2⟩ := xc_at fr k1 hL k2
  refine ⟨g2, mc, e, cap, f, g1, ?_, k4, k5, k6, ?_, fun i hi => ?_⟩
  · rcases k7 with ⟨rfl, -⟩ | ⟨-, m, -⟩
    · exact (xc_at fr h1.2 hL13 k3).1
    · exact (xc_at fr m hL k3).1
  · rcases k7 with m | ⟨m1, m2, m3⟩
    · exact Or.inl m
    · exact Or.inr ⟨m1, (xc_at fr m2 hL k3).2, m3⟩
  · obtain ⟨o, m1, m2⟩ := k8 i hi
    exact ⟨o, m1, hP i o hi m2⟩
theorem xD.kept (k : xD h w Z) (h8 : zL Z ≤ 8) (h1 : (∃ f, h 1 = some (.inr (5, 0, .inr f))) ∧ w 1 = 13) (fr : ∀ q, h q ≠ none → w q ∉ L → h' q = h q ∧ w' q = w q) (hL : 6 ∉ L) (hL13 : 13 ∉ L) (hL2 : ∀ i, i < 8 → 300 + i ∉ L) : xD h' w' Z :=
  xl.kept k h1 fr hL hL13 (fun i o hi hP => by
    obtain ⟨m1, m2, m3⟩ := hP
    obtain ⟨g1, g2⟩ := xc_at fr m2 (hL2 i (by omega)) m3
    exact ⟨m1, g2, g1⟩)
theorem xE.kept (k : xE h w Z) (fr : ∀ q, h q ≠ none → w q ∉ L → h' q = h q ∧ w' q = w q) (hL : 8 ∉ L) (hL2 : ∀ i, i < 8 → 200 + i ∉ L) : xE h' w' Z := by
  obtain ⟨k1, f, sh, k2, k3⟩ := k
  obtain ⟨g1, g2⟩ := xc_at fr k1 hL k2
  refine ⟨g2, f, sh, g1, fun i hi => ⟨(k3 i hi).1, fun x hx => ?_⟩⟩
  obtain ⟨m1, m2, m3, m4, m5, it, m6, m7⟩ := (k3 i hi).2 x hx
  obtain ⟨q1, q2⟩ := xc_at fr m3 (hL2 i hi) m5
  obtain ⟨q3, q4⟩ := xc_at fr m4 (hL2 i hi) m6
  exact ⟨m1, m2, q2, q4, q1, it, q3, m7⟩
theorem xN.kept (k : xN h w Z) (h1 : (∃ f, h 1 = some (.inr (5, 0, .inr f))) ∧ w 1 = 13) (fr : ∀ q, h q ≠ none → w q ∉ L → h' q = h q ∧ w' q = w q) (hL : 9 ∉ L) (hL13 : 13 ∉ L) (hL2 : 10 ∉ L) : xN h' w' Z :=
  xl.kept k h1 fr hL hL13 (fun i o hi hP => by
    obtain ⟨m1, m2, m3⟩ := hP
    obtain ⟨g1, g2⟩ := xc_at fr m2 hL2 m3
    exact ⟨m1, g2, g1⟩)
theorem xG.kept (k : xG h w Z) (fr : ∀ q, h q ≠ none → w q ∉ L → h' q = h q ∧ w' q = w q) (hL : 11 ∉ L) : xG h' w' Z := by
  obtain ⟨k1, f, k2, k3⟩ := k
  obtain ⟨g1, g2⟩ := xc_at fr k1 hL k2
  exact ⟨g2, f, g1, k3⟩
theorem xY.kept (k : xY h w tr Z) (fr : ∀ q, h q ≠ none → w q ∉ L → h' q = h q ∧ w' q = w q) (hL : 12 ∉ L) : xY h' w' tr Z := by
  obtain ⟨⟨k1, k2, k0⟩, f, k3, k4, k5⟩ := k
  obtain ⟨g1, g2⟩ := xc_at fr k1 hL k3
  obtain ⟨g3, g4⟩ := xc_at fr k2 hL k4
  exact ⟨⟨g2, g4, k0⟩, f, g1, g3, k5⟩
theorem xs.kept {a t : Nat} (k : xs h a) (hw : ∀ q, a ≤ q → q ≤ a + 5 → w q = t) (fr : ∀ q, h q ≠ none → w q ∉ L → h' q = h q ∧ w' q = w q) (hL : t ∉ L) : xs h' a ∧ ∀ q, a ≤ q → q ≤ a + 5 → w' q = t := by
  obtain ⟨p, hi, ce, bo, ho, k⟩ := k
  obtain ⟨g1, g2⟩ := k.kept hw fr hL
  exact ⟨⟨p, hi, ce, bo, ho, g1⟩, g2⟩
theorem xU.kept (k : xU h w) (fr : ∀ q, h q ≠ none → w q ∉ L → h' q = h q ∧ w' q = w q) (hL : 4 ∉ L) : xU h' w' := by
  obtain ⟨⟨k1, k2⟩, ⟨k3, k4, k5, k6⟩, ⟨f, k7, k8⟩, ⟨g, k9, k10⟩, ⟨u, k11⟩, v, k12⟩ := k
  obtain ⟨a3, b3⟩ := k3.kept (fun q h1 h2 => k1 q h1 (by omega)) fr hL
  obtain ⟨a4, b4⟩ := k4.kept (fun q h1 h2 => k1 q (by omega) (by omega)) fr hL
  obtain ⟨a5, b5⟩ := k5.kept (fun q h1 h2 => k1 q (by omega) (by omega)) fr hL
  have a6 := fun k (hk : k < 96) => (k6 k hk).kept (fun q h1 h2 => k2 q (by omega) (by omega)) fr hL
  obtain ⟨a7, b7⟩ := xc_at fr (k1 49 (by omega) (by omega)) hL k7
  obtain ⟨a9, b9⟩ := xc_at fr (k1 62 (by omega) (by omega)) hL k9
  obtain ⟨a11, b11⟩ := xc_at fr (k2 69 (by omega) (by omega)) hL k11
  obtain ⟨a12, b12⟩ := xc_at fr (k2 70 (by omega) (by omega)) hL k12
  refine ⟨⟨fun q h1 h2 => ?_, fun q h1 h2 => ?_⟩, ⟨a3, a4, a5, fun k hk => (a6 k hk).1⟩, ⟨f, a7, k8⟩, ⟨g, a9, k10⟩, ⟨u, a11⟩, v, a12⟩
  · by_cases e1 : q ≤ 48
    · exact b3 q h1 (by omega)
    · by_cases e2 : q = 49
      · rw [e2]; exact b7
      · by_cases e3 : q ≤ 55
        · exact b4 q (by omega) (by omega)
        · by_cases e4 : q ≤ 61
          · exact b5 q (by omega) (by omega)
          · rw [show q = 62 by omega]; exact b9
  · by_cases e1 : q = 69
    · rw [e1]; exact b11
    · by_cases e2 : q = 70
      · rw [e2]; exact b12
      · exact (a6 ((q - 71) / 6) (by omega)).2 q (by omega) (by omega)
theorem xX.kept (k : xX h w) (fr : ∀ q, h q ≠ none → w q ∉ L → h' q = h q ∧ w' q = w q) (hL : 13 ∉ L) (hw : ∀ q, q < 32 → w' q = 13) : xX h' w' := by
  obtain ⟨k1, ⟨f, k2⟩, ⟨g, k3, k4⟩, ⟨u, k5, k6⟩, k7⟩ := k
  refine ⟨hw, ⟨f, (xc_at fr (k1 1 (by omega)) hL k2).1⟩, ⟨g, (xc_at fr (k1 2 (by omega)) hL k3).1, k4⟩, ⟨u, (xc_at fr (k1 3 (by omega)) hL k5).1, k6⟩, fun i h1 h2 => ?_⟩
  obtain ⟨⟨hs, hz, m1, m2⟩, v, m3, m4⟩ := k7 i h1 h2
  exact ⟨⟨hs, hz, (xc_at fr (k1 i (by omega)) hL m1).1, m2⟩, v, (xc_at fr (k1 (i + 12) (by omega)) hL m3).1, m4⟩
end KX5
section KX5b
variable {S S' : ah_H} {w : Nat → Nat} {Z : sp_Z} {tr : Nat}
theorem xr_.ok (k : xr_ S w tr Z) : z_ok Z := k.1
theorem xr_.I (k : xr_ S w tr Z) : xI S.1 w tr Z := k.2.2.1
theorem xr_.A (k : xr_ S w tr Z) : xA S.1 w Z := k.2.2.2.1
theorem xr_.B (k : xr_ S w tr Z) : xB S.1 w Z := k.2.2.2.2.1
theorem xr_.K (k : xr_ S w tr Z) : xK S.1 w Z := k.2.2.2.2.2.1
theorem xr_.C (k : xr_ S w tr Z) : xC S.1 w Z := k.2.2.2.2.2.2.1
theorem xr_.D (k : xr_ S w tr Z) : xD S.1 w Z := k.2.2.2.2.2.2.2.1
theorem xr_.E (k : xr_ S w tr Z) : xE S.1 w Z := k.2.2.2.2.2.2.2.2.1
theorem xr_.N (k : xr_ S w tr Z) : xN S.1 w Z := k.2.2.2.2.2.2.2.2.2.1
theorem xr_.G (k : xr_ S w tr Z) : xG S.1 w Z := k.2.2.2.2.2.2.2.2.2.2.1
theorem xr_.Y (k : xr_ S w tr Z) : xY S.1 w tr Z := k.2.2.2.2.2.2.2.2.2.2.2.1
theorem xr_.U (k : xr_ S w tr Z) : xU S.1 w := k.2.2.2.2.2.2.2.2.2.2.2.2.1
theorem xr_.X (k : xr_ S w tr Z) : xX S.1 w := k.2.2.2.2.2.2.2.2.2.2.2.2.2
theorem xr_.n6 (k : xr_ S w tr Z) : zn Z ≤ 6 := k.1.1.1
theorem xr_.K8 (k : xr_ S w tr Z) : zK Z ≤ 8 := k.1.2.1.2.1
theorem xr_.L8 (k : xr_ S w tr Z) : zL Z ≤ 8 := k.1.2.2.2.1.1
theorem xr_.N16 (k : xr_ S w tr Z) : zN Z ≤ 16 := k.1.2.2.2.2.2.1.1
theorem xr_.P300 (k : xr_ S w tr Z) : zP Z ≤ 300 := k.1.2.2.2.2.2.2.1.1
theorem xr_.e1 (k : xr_ S w tr Z) : (∃ f, S.1 1 = some (.inr (5, 0, .inr f))) ∧ w 1 = 13 := ⟨k.X.2.1, k.X.1 1 (by omega)⟩
/-- every part of the state that doesn't lie in the tags L -/
theorem xr_.all (k : xr_ S w tr Z) {L : List Nat} {w' : Nat → Nat} (f : xch L S S' w w') (hw : ∀ q, q < 32 → w' q = 13) (h13 : 13 ∉ L) : (647 ≤ S'.2 ∧ ∀ q, S'.2 ≤ q → S'.1 q = none) ∧ xX S'.1 w' :=
  ⟨⟨Nat.le_trans k.2.1.1 f.1.1, f.1.2⟩, k.X.kept f.2 h13 hw⟩
/-- only scratch has changed -/
theorem xr_.scr (k : xr_ S w tr Z) (e : S'.2 = S.2) (f : ∀ q, w q ≠ 4 → S'.1 q = S.1 q) (u : xU S'.1 w) (hn : ∀ q, S.2 ≤ q → S'.1 q = none) : xr_ S' w tr Z := by
  have fr : ∀ q, S.1 q ≠ none → w q ∉ [4] → S'.1 q = S.1 q ∧ w q = w q := fun q _ hq => ⟨f q (by simpa using hq), rfl⟩
  exact ⟨k.1, ⟨by rw [e]; exact k.2.1.1, fun q hq => hn q (by rw [← e]; exact hq)⟩, k.I.kept fr (by decide), k.A.kept fr (by decide), k.B.kept fr (by decide), k.K.kept k.K8 fr (by decide) (by decide), k.C.kept fr (by decide), k.D.kept k.L8 k.e1 fr (by decide) (by decide) (by decide), k.E.kept fr (by decide) (by decide), k.N.kept k.e1 fr (by decide) (by decide) (by decide), k.G.kept fr (by decide), k.Y.kept fr (by decide), u, k.X.kept fr (by decide) k.X.1⟩
theorem xs.of {h : Nat → Option ah_C} {a n : Nat} {s : Nat → Nat} {T : sp_T} (k : xt h a n s T) : xs h a := by
  obtain ⟨-, -, p, hi, ce, bo, ho, h0, -⟩ := k
  exact ⟨p, hi, ce, bo, ho, h0⟩
theorem xs.fr {a b : Nat} (k : xs S.1 a) (f : xw b S S') (hab : a + 5 < b ∨ b + 5 < a) : xs S'.1 a := by
  obtain ⟨p, hi, ce, bo, ho, k0, k1, k2, k3, k4, k5⟩ := k
  exact ⟨p, hi, ce, bo, ho, (f.2 _ (by omega)).trans k0, (f.2 _ (by omega)).trans k1, (f.2 _ (by omega)).trans k2, (f.2 _ (by omega)).trans k3, (f.2 _ (by omega)).trans k4, (f.2 _ (by omega)).trans k5⟩
/-- a table of the scratch ones -/
def xsc (a : Nat) : Prop := a = 43 ∨ a = 50 ∨ a = 56 ∨ ∃ k, k < 96 ∧ a = 71 + 6 * k
theorem xU.xs (u : xU S.1 w) {a : Nat} (ha : xsc a) : xs S.1 a := by
  rcases ha with rfl | rfl | rfl | ⟨k, hk, rfl⟩
  · exact u.2.1.1
  · exact u.2.1.2.1
  · exact u.2.1.2.2.1
  · exact u.2.1.2.2.2 k hk
theorem xr_.tab (k : xr_ S w tr Z) {a : Nat} (ha : xsc a) (f : xw a S S') (x : xs S'.1 a) : xr_ S' w tr Z := by
  have hw : ∀ q, a < q → q ≤ a + 5 → w q = 4 := fun q h1 h2 => by
    rcases ha with rfl | rfl | rfl | ⟨j, hj, rfl⟩
    · exact k.U.1.1 q (by omega) (by omega)
    · exact k.U.1.1 q (by omega) (by omega)
    · exact k.U.1.1 q (by omega) (by omega)
    · exact k.U.1.2 q (by omega) (by omega)
  have lt : a + 5 < 647 := by
    rcases ha with rfl | rfl | rfl | ⟨j, hj, rfl⟩ <;> omega
  have ge : 43 ≤ a := by
    rcases ha with rfl | rfl | rfl | ⟨j, hj, rfl⟩ <;> omega
  have fr : ∀ q, w q ≠ 4 → S'.1 q = S.1 q := fun q hq => f.2 q (by
    by_cases h1 : q ≤ a
    · exact Or.inl h1
    · by_cases h2 : a + 5 < q
      · exact Or.inr h2
      · exact absurd (hw q (by omega) (by omega)) hq)
  have sk : ∀ b, xsc b → xs S'.1 b := fun b hb => by
    by_cases e : b = a
    · rw [e]; exact x
    · refine (k.U.xs hb).fr f ?_
      rcases ha with rfl | rfl | rfl | ⟨j, hj, rfl⟩ <;> rcases hb with rfl | rfl | rfl | ⟨i, hi, rfl⟩ <;> omega
  have al : ∀ q, q = 49 ∨ q = 62 ∨ q = 69 ∨ q = 70 → S'.1 q = S.1 q := fun q hq => f.2 q (by
    rcases ha with rfl | rfl | rfl | ⟨j, hj, rfl⟩ <;> omega)
  obtain ⟨u1, -, ⟨g1, u2, u3⟩, ⟨g2, u4, u5⟩, ⟨g3, u6⟩, g4, u7⟩ := k.U
  refine k.scr f.1 fr ⟨u1, ⟨sk _ (Or.inl rfl), sk _ (Or.inr (Or.inl rfl)), sk _ (Or.inr (Or.inr (Or.inl rfl))), fun j hj => sk _ (Or.inr (Or.inr (Or.inr ⟨j, hj, rfl⟩)))⟩, ⟨g1, (al _ (by omega)).trans u2, u3⟩, ⟨g2, (al _ (by omega)).trans u4, u5⟩, ⟨g3, (al _ (by omega)).trans u6⟩, g4, (al _ (by omega)).trans u7⟩ (fun q hq => ?_)
  have h6 := k.2.1.1
  rw [f.2 q (by omega)]
  exact k.2.1.2 q hq
/-- the table is another now -/
theorem xr_.t0 (k : xr_ S w tr Z) {T : sp_T} (f : xw 36 S S') (x : xt S'.1 36 (zn Z) (zs Z) T) : xr_ S' w tr (z_T Z T) := by
  have fr : ∀ q, S.1 q ≠ none → w q ∉ [2] → S'.1 q = S.1 q ∧ w q = w q := fun q _ hq => ⟨f.2 q (by
    by_cases h1 : q ≤ 36
    · exact Or.inl h1
    · by_cases h2 : 36 + 5 < q
      · exact Or.inr h2
      · exact absurd (k.B.1 q (by omega) (by omega)) (by simpa using hq)), rfl⟩
  have h6 := k.2.1.1
  refine ⟨⟨k.1.1, ⟨x.2.1, k.1.2.1.2⟩, k.1.2.2⟩, ⟨by rw [f.1]; exact h6, fun q hq => by rw [f.1] at hq; rw [f.2 q (by omega)]; exact k.2.1.2 q hq⟩, k.I.kept fr (by decide), k.A.kept fr (by decide), ⟨k.B.1, x⟩, k.K.kept k.K8 fr (by decide) (by decide), k.C.kept fr (by decide), k.D.kept k.L8 k.e1 fr (by decide) (by decide) (by decide), k.E.kept fr (by decide) (by decide), k.N.kept k.e1 fr (by decide) (by decide) (by decide), k.G.kept fr (by decide), k.Y.kept fr (by decide), k.U.kept fr (by decide), k.X.kept fr (by decide) k.X.1⟩
theorem xr_.xn (k : xr_ S w tr Z) : xn S.1 (zn Z) (zs Z) := by
  obtain ⟨-, f, g, h1, h2, h3⟩ := k.A
  exact ⟨_, f, k.I.2, rfl, rfl, h1, fun i hi => ⟨(h3 i hi).1, (k.1.1.2 i hi).1⟩⟩
end KX5b
