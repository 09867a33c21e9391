theorem am_shr0 {x : Int} (h : am_r x) : am_shr x 0 = x := by
  unfold am_shr
  rw [show (Int32.ofInt 0 &&& 31) = 0 by decide]
  have : Int32.ofInt x >>> 0 = Int32.ofInt x := by simp
  rw [this, am_ti h]
theorem am_shl0 {x : Int} (h : am_r x) : am_shl x 0 = x := by
  unfold am_shl
  rw [show (Int32.ofInt 0 &&& 31) = 0 by decide]
  have : Int32.ofInt x <<< 0 = Int32.ofInt x := by simp
  rw [this, am_ti h]
theorem am_chr : ∀ b : Fin 256, am_and (sp_byte b.val) 255 = (b.val : Int) ∧ am_i2c (b.val : Int) = (b.val : Int) := by decide +kernel
theorem fits_b {v : Int32} {b : Nat} (h : v.toInt = (b : Int)) (hb : b < 128) : fits (am_ty 2) (.int v) = true := by
  show (decide ((-128 : Int32) ≤ v) && decide (v ≤ (127 : Int32))) = true
  rw [Bool.and_eq_true, decide_eq_true_eq, decide_eq_true_eq, Int32.le_iff_toInt_le, Int32.le_iff_toInt_le, h, show (-128 : Int32).toInt = -128 from rfl, show (127 : Int32).toInt = 127 from rfl]
  omega
section KX27
variable {l : Launch} {S : ah_H} {w : Nat → Nat}
/-- a builder at s with n letters, its array at x -/
def xsb (h : Nat → Option ah_C) (s x n cap : Nat) (b : Nat → Nat) : Prop := h s = some (.inl (16, [am_R x, am_I 0, am_I 0, am_I (n : Int)])) ∧ n ≤ cap ∧ cap ≤ 1000 ∧ 32 ≤ s ∧ 32 ≤ x ∧ s ≠ x ∧ ∃ g, h x = some (.inr (2, cap, .inl g)) ∧ ∀ i, i < n → (g i).toInt = (b i : Int) ∧ b i < 128
theorem kx_sbinit {mc ms s : Nat} {P : ah_H → Prop} (hs : 32 ≤ s) (h : S.1 s = some (.inl (16, ah_dJ16))) (hS : S.2 = s + 1) (hmc : 1 ≤ mc) (hms : 16 ≤ ms)
    (hP : ∀ S', S'.2 = s + 2 → (∀ b, xsb S'.1 s (s + 1) 0 16 b) → (∀ q, q ≠ s → q ≠ s + 1 → S'.1 q = S.1 q) → P S') : kJ16_init l mc ms [am_R s] S (am_qv P) := by
  obtain ⟨h0, b⟩ := S
  have hS : b = s + 1 := hS
  subst hS
  refine bJ16_init _ ⟨mc, ms, by omega, bJ15_init _ _ (by first | exact am_rN (by omega) | exact ⟨by omega, by omega⟩ | assumption) ⟨by decide, by omega, (show 0 + 16 ≤ ms by omega), ?_⟩⟩
  rintro _ rfl
  refine ⟨_, (up_ne _ _ (by show s ≠ s + 1; omega)).trans h, hs, (show 0 < 4 by decide), ?_⟩
  rintro _ rfl
  refine ⟨_, up_at (ah_mk (h0, s + 1) _).1 s _, (show 1 < 4 by decide), ?_⟩
  rintro _ rfl
  refine am_qv_mk (am_qv_mk (hP _ rfl (fun b => ⟨up_at (ah_sf (ah_mk (h0, s + 1) _) _ _ _ _ _).1 s _, Nat.zero_le _, by decide, hs, by omega, by omega, fun _ => 0, (up_ne _ _ (by omega)).trans ((up_ne _ _ (by omega)).trans (up_at h0 (s + 1) _)), fun i hi => absurd hi (Nat.not_lt_zero _)⟩) (fun q h1 h2 => (up_ne _ _ h1).trans ((up_ne _ _ h1).trans (up_ne _ _ h2)))))
theorem kx_append {mc ms s x n cap c : Nat} {b : Nat → Nat} {P : Option Nat → ah_H → Prop} (h : xsb S.1 s x n cap b) (hn : n < 400) (hc : c < 128) (hb : b n = c) (hsS : s < S.2) (hxS : x < S.2) (hmc : n = cap → 1 ≤ mc) (hms : n = cap → 2 * cap + 2 ≤ ms)
    (hP : ∀ S' x' cap', S.2 ≤ S'.2 → (n = cap → S'.2 = S.2 + 1 ∧ x' = S.2 ∧ cap' = 2 * cap + 2) → (n ≠ cap → S'.2 = S.2 ∧ x' = x ∧ cap' = cap) → xsb S'.1 s x' (n + 1) cap' b → (∀ q, q ≠ s → q ≠ x' → S'.1 q = S.1 q) → P (some s) S') : kJ16_append l mc ms [am_R s, am_I c] S (am_qo P) := by
  obtain ⟨e1, e2, e3, e4, e5, e6, g, e7, e8⟩ := h
  have hnar : (vp_nar .byte (Int32.ofInt (am_i2b (c : Int)))).toInt = (c : Int) := by
    rw [nar_bm, Int32.toInt_ofInt, am_i2b_bm, Int.bmod_bmod_of_dvd (by decide), Int.bmod_bmod]
    exact Int.bmod_eq_of_le (by omega) (by omega)
  have fin : ∀ (S1 : ah_H) (x' cap' : Nat) (g' : Nat → Int32), S1.1 s = some (.inl (16, [am_R x', am_I 0, am_I 0, am_I (n : Int)])) → S1.1 x' = some (.inr (2, cap', .inl g')) → (∀ i, i < n → g' i = g i) → n < cap' → cap' ≤ 1000 → 32 ≤ x' → s ≠ x' → S.2 ≤ S1.2 → (n = cap → S1.2 = S.2 + 1 ∧ x' = S.2 ∧ cap' = 2 * cap + 2) → (n ≠ cap → S1.2 = S.2 ∧ x' = x ∧ cap' = cap) → (∀ q, q ≠ s → q ≠ x' → S1.1 q = S.1 q) →
      ∃ fs11, S1.1 s = some (.inl (16, fs11)) ∧ kJ15_isLatin1 l [am_R s] S1 (am_qz fun b14 G13 => ((b14 = false) → False) ∧ ((b14 = true) → kJ18_canEncode l [am_I c] G13 (am_qz fun b19 G18 => ((b19 = false) → False) ∧ ((b19 = true) → (∃ fs23, (G18.1 s = some (.inl (16, fs23))) ∧ (∃ x26, (fs23[0]? = some (am_R x26)) ∧ (∃ z28, (fs23[3]? = some (am_I z28) ∧ am_r z28) ∧ (ah_X ≤ s) ∧ (3 < fs23.length) ∧ (∀ G32, G32 = ah_sf G18 s 16 fs23 3 (am_I (z28 + 1)) → (∃ n34 f35, (G32.1 x26 = some (.inr (2, n34, .inl f35))) ∧ (ah_X ≤ x26) ∧ (0 ≤ z28 ∧ z28 < (n34 : Int)) ∧ (∀ G39, G39 = ah_si G32 x26 2 n34 f35 z28 (vp_nar .byte (Int32.ofInt (am_i2b c))) → (am_qo fun a8 G7 => ∃ y9, a8 = some y9 ∧ am_qo P (some (am_R s)) G7) (some (am_R s)) G39)))))))))) := by
    intro S1 x' cap' g' k1 k2 k3 k4 k5 k6 k7 k8 k9 k10 k11
    refine ⟨_, k1, bJ15_isLatin1 _ ⟨_, k1, _, ⟨rfl, am_r0⟩, fun z => absurd rfl z, fun _ => am_qz_mk (b := true) ⟨fun z => Bool.noConfusion z, fun _ => bJ18_canEncode _ (by first | exact am_rN (by omega) | exact ⟨by omega, by omega⟩ | assumption) ⟨fun z => absurd z (by omega), fun _ => am_qz_mk (b := true) ⟨fun z => Bool.noConfusion z, fun _ => ⟨_, k1, _, rfl, _, ⟨rfl, am_rN (by omega)⟩, e4, (show 3 < 4 by decide), ?_⟩⟩⟩⟩⟩⟩
    rintro _ rfl
    refine ⟨_, _, (up_ne _ _ (Ne.symm k7)).trans k2, k6, ⟨by omega, by omega⟩, ?_⟩
    rintro _ rfl
    refine am_qo_mk ⟨s, rfl, am_qo_mk (hP _ x' cap' k8 k9 k10 ⟨(up_ne _ _ k7).trans (up_at S1.1 s _), k4, k5, e4, k6, k7, va_up g' (n : Int).toNat (vp_nar .byte (Int32.ofInt (am_i2b c))), up_at (ah_sf S1 _ _ _ _ _).1 x' _, fun i hi => ?_⟩ (fun q q1 q2 => (up_ne _ _ q2).trans ((up_ne _ _ q1).trans (k11 q q1 q2))))⟩
    rw [Int.toNat_natCast, up_if]
    split
    · rename_i e
      rw [e, hb]
      exact ⟨hnar, hc⟩
    · rw [k3 i (by omega)]
      exact e8 i (by omega)
  refine bJ16_append _ _ (by first | exact am_rN (by omega) | exact ⟨by omega, by omega⟩ | assumption) ⟨mc, ms, by omega, _, e1, bJ15_append _ _ (by first | exact am_rN (by omega) | exact ⟨by omega, by omega⟩ | assumption) ⟨_, e1, _, ⟨rfl, am_rN (by omega)⟩, mc, ms, by omega, bJ15_ensureCapacityInternal _ _ (by first | exact am_rN (by omega) | exact ⟨by omega, by omega⟩ | assumption) ⟨_, e1, _, rfl, _, _, e7, _, ⟨rfl, am_r0⟩, ?_⟩⟩⟩
  rw [am_shr0 (am_rN (by omega))]
  refine ⟨⟨by omega, by omega⟩, fun hz => am_qv_mk ?_, fun hz => ?_⟩
  · exact fin S x cap g e1 e7 (fun _ _ => rfl) (by omega) e3 e5 e6 (Nat.le_refl _) (fun z => by omega) (fun _ => ⟨rfl, rfl, rfl⟩) (fun _ _ _ => rfl)
  · have hcap : cap = n := by omega
    subst hcap
    refine bJ15_newCapacity _ _ (by first | exact am_rN (by omega) | exact ⟨by omega, by omega⟩ | assumption) ⟨_, e1, _, rfl, _, _, e7, _, ⟨rfl, am_r0⟩, ?_⟩
    rw [am_shl0 ⟨by omega, by omega⟩, show am_shl 2 0 = 2 by decide +kernel]
    have em : am_max (((cap : Int) + 1) - (cap : Int)) ((cap : Int) + 2) = (cap : Int) + 2 := by
      unfold am_max
      rw [if_pos (by omega)]
    refine bJ10_newLength _ (by first | exact am_rN (by omega) | exact ⟨by omega, by omega⟩ | assumption) _ (by first | exact am_rN (by omega) | exact ⟨by omega, by omega⟩ | assumption) _ (by first | exact am_rN (by omega) | exact ⟨by omega, by omega⟩ | assumption) ⟨?_, fun z => ?_, fun _ => ⟨fun z => ?_, fun _ => am_qi_mk ?_ ?_⟩⟩
    · rw [em]
      exact ⟨by omega, by omega⟩
    · rw [em] at z
      omega
    · rw [em] at z
      omega
    · rw [em]
      exact ⟨by omega, by omega⟩
    rw [em]
    refine ⟨fun _ => ⟨_, e1, _, ⟨rfl, am_r0⟩, ?_⟩, fun z => by omega⟩
    rw [am_shr0 ⟨by omega, by omega⟩]
    refine am_qi_mk ⟨by omega, by omega⟩ ⟨_, e1, _, ⟨rfl, am_r0⟩, mc, ms, by omega, ?_⟩
    rw [am_shl0 ⟨by omega, by omega⟩, show (cap : Int) + ((cap : Int) + 2) = ((2 * cap + 2 : Nat) : Int) by omega]
    have hmn : am_min (cap : Int) ((2 * cap + 2 : Nat) : Int) = (cap : Int) := by
      unfold am_min
      rw [if_neg (by omega)]
    refine bJ11_copyOf_3 _ _ (by first | exact am_rN (by omega) | exact ⟨by omega, by omega⟩ | assumption) ⟨_, _, e7, fun _ => ⟨⟨by omega, by omega⟩, hmc rfl, by have := hms rfl; omega, ?_⟩, fun z => by omega⟩
    rintro _ rfl
    rw [Int.toNat_natCast]
    refine ⟨_, _, (up_ne _ _ (by omega)).trans e7, _, _, up_at S.1 S.2 _, e5, by show 32 ≤ S.2; omega, ?_⟩
    rw [hmn]
    refine ⟨by omega, by omega, by omega, fun i hi => ?_, ?_⟩
    · rw [show (0 : Int).toNat + i = i by omega]
      exact fits_b (e8 i (by omega)).1 (e8 i (by omega)).2
    · rintro _ rfl
      refine am_qo_mk ⟨S.2, rfl, _, (up_ne _ _ (by omega)).trans ((up_ne _ _ (by omega)).trans e1), e4, (show 0 < 4 by decide), ?_⟩
      rintro _ rfl
      refine am_qv_mk (fin _ S.2 (2 * cap + 2) (va_cpy g (fun _ => 0) (0 : Int).toNat (0 : Int).toNat (cap : Int).toNat) (up_at (ah_cp (ah_mk S _) _ _ _ _ _ _ _ _).1 s _) ((up_ne _ _ (by omega)).trans (up_at (ah_mk S _).1 S.2 _)) (fun i hi => ?_) (by omega) (by omega) (by omega) (by omega) (Nat.le_succ _) (fun _ => ⟨rfl, rfl, rfl⟩) (fun z => absurd rfl z) (fun q q1 q2 => (up_ne _ _ q1).trans ((up_ne _ _ q2).trans (up_ne _ _ q2))))
      show (if _ then _ else _) = _
      rw [if_pos (by omega)]
      congr 1
      omega
end KX27
section KX27b
variable {l : Launch} {S : ah_H} {w : Nat → Nat}
/-- a string at s with n letters, its array at x -/
def xst (h : Nat → Option ah_C) (s x n : Nat) (b : Nat → Nat) : Prop := (∃ hs hz, h s = some (.inl (17, [am_R x, am_I 0, am_I hs, am_I (am_b hz)])) ∧ am_r hs) ∧ ∃ g, h x = some (.inr (2, n, .inl g)) ∧ ∀ i, i < n → (g i).toInt = (b i : Int)
theorem kx_copyRange {mc ms x n cap : Nat} {b : Nat → Nat} {g : Nat → Int32} {P : Option Nat → ah_H → Prop} (h : S.1 x = some (.inr (2, cap, .inl g))) (hx : 32 ≤ x) (hxS : x < S.2) (hn : n ≤ cap) (hcap : cap ≤ 1000) (hg : ∀ i, i < n → (g i).toInt = (b i : Int) ∧ b i < 128) (hmc : 1 ≤ mc) (hms : n ≤ ms)
    (hP : ∀ S' g', S'.2 = S.2 + 1 → S'.1 S.2 = some (.inr (2, n, .inl g')) → (∀ i, i < n → (g' i).toInt = (b i : Int)) → (∀ q, q ≠ S.2 → S'.1 q = S.1 q) → P (some S.2) S') : kJ11_copyOfRange l mc ms [am_R x, am_I 0, am_I n] S (am_qo P) := by
  by_cases e : n = cap
  · subst e
    exact bJ11_copyOfRange_C x n (am_rN (by omega)) ⟨n, g, h, rfl, hx, by show 32 ≤ S.2; omega, fun i hi => fits_b (hg i hi).1 (hg i hi).2, hmc, hms, am_qo_mk (hP _ g rfl (up_at S.1 S.2 _) (fun i hi => (hg i hi).1) (fun q hq => up_ne _ _ hq))⟩
  · refine bJ11_copyOfRange _ _ (by first | exact am_rN (by omega) | exact ⟨by omega, by omega⟩ | assumption) _ (by first | exact am_rN (by omega) | exact ⟨by omega, by omega⟩ | assumption) ⟨fun z => absurd rfl z, fun _ => ⟨_, _, h, fun z => by omega, fun _ => ⟨mc, ms, by omega, ?_⟩⟩⟩
    have hmn : am_min ((cap : Int) - 0) ((n : Int) - 0) = (n : Int) := by
      unfold am_min
      rw [if_pos (by omega)]
      omega
    refine bJ11_copyOfRangeByte _ _ (by first | exact am_rN (by omega) | exact ⟨by omega, by omega⟩ | assumption) _ (by first | exact am_rN (by omega) | exact ⟨by omega, by omega⟩ | assumption) (bJ11_checkLength _ (by first | exact am_rN (by omega) | exact ⟨by omega, by omega⟩ | assumption) _ (by first | exact am_rN (by omega) | exact ⟨by omega, by omega⟩ | assumption) ⟨fun _ => am_qv_mk ⟨⟨by omega, by omega⟩, hmc, by omega, ?_⟩, fun z => by omega⟩)
    rintro _ rfl
    rw [show ((n : Int) - 0).toNat = n by omega]
    refine ⟨_, _, (up_ne _ _ (by omega)).trans h, ⟨by omega, by omega⟩, ⟨by omega, by omega⟩, _, _, up_at S.1 S.2 _, hx, by show 32 ≤ S.2; omega, by omega, ?_⟩
    rw [hmn]
    refine ⟨by omega, by omega, by omega, fun i hi => ?_, ?_⟩
    · rw [show (0 : Int).toNat + i = i by omega]
      exact fits_b (hg i (by omega)).1 (hg i (by omega)).2
    · rintro _ rfl
      refine am_qo_mk ⟨S.2, rfl, am_qo_mk (hP _ (va_cpy g (fun _ => 0) (0 : Int).toNat (0 : Int).toNat (n : Int).toNat) rfl (up_at (ah_mk S _).1 S.2 _) (fun i hi => ?_) (fun q hq => (up_ne _ _ hq).trans (up_ne _ _ hq)))⟩
      show (if _ then _ else _ : Int32).toInt = _
      rw [if_pos (by omega), show (0 : Int).toNat + (i - (0 : Int).toNat) = i by omega]
      exact (hg i hi).1
theorem kx_toString {mc ms s x n cap : Nat} {b : Nat → Nat} {P : Option Nat → ah_H → Prop} (h : xsb S.1 s x n cap b) (hsS : s < S.2) (hxS : x < S.2) (hmc : 2 ≤ mc) (hms : n + 4 ≤ ms)
    (hP : ∀ S', S'.2 = S.2 + 2 → xst S'.1 S.2 (S.2 + 1) n b → (∀ q, q < S.2 → S'.1 q = S.1 q) → (∀ q, S.2 + 2 ≤ q → S'.1 q = S.1 q) → P (some S.2) S') : kJ16_toString l mc ms [am_R s] S (am_qo P) := by
  obtain ⟨e1, e2, e3, e4, e5, e6, g, e7, e8⟩ := h
  refine bJ16_toString _ ⟨by omega, by omega, ?_⟩
  rintro _ rfl
  have f1 : (ah_mk S (.inl (17, ah_dJ8))).1 s = some (.inl (16, [am_R x, am_I 0, am_I 0, am_I (n : Int)])) := (up_ne _ _ (by omega)).trans e1
  refine ⟨mc - 1, ms - 4, by omega, bJ8_init _ _ ⟨mc - 1, ms - 4, by omega, bJ8_init_2_N _ _ ⟨_, f1, bJ15_getValue _ ⟨_, f1, _, rfl, am_qo_mk ⟨x, rfl, _, f1, bJ16_length _ ⟨_, f1, bJ15_length _ ⟨_, f1, _, ⟨rfl, am_rN (by omega)⟩, am_qi_mk (am_rN (by omega)) (am_qi_mk (am_rN (by omega)) ⟨_, f1, bJ15_isLatin1 _ ⟨_, f1, _, ⟨rfl, am_r0⟩, fun z => absurd rfl z, fun _ => am_qz_mk (b := true) ⟨fun z => Bool.noConfusion z, fun _ => ⟨_, up_at S.1 S.2 _, by show 32 ≤ S.2; omega, (show 1 < 4 by decide), ?_⟩⟩⟩⟩)⟩⟩⟩⟩⟩⟩⟩
  rintro _ rfl
  refine ⟨mc - 1, ms - 4, by omega, kx_copyRange (n := n) (cap := cap) (g := g) (b := b) ((up_ne _ _ (by omega)).trans ((up_ne _ _ (by omega)).trans e7)) e5 (by show x < S.2 + 1; omega) e2 e3 e8 (by omega) (by omega) (fun S' g' g1 g2 g3 g4 => ⟨_, rfl, _, (g4 S.2 (by show S.2 ≠ S.2 + 1; omega)).trans (up_at (ah_mk S _).1 S.2 _), (show 0 < 4 by decide), ?_⟩)⟩
  rintro _ rfl
  have g2 : S'.1 (S.2 + 1) = some (.inr (2, n, .inl g')) := g2
  have g4 : ∀ q, q ≠ S.2 + 1 → S'.1 q = (ah_sf (ah_mk S (.inl (17, ah_dJ8))) S.2 17 ah_dJ8 1 (am_I 0)).1 q := g4
  refine am_qv_mk (am_qv_mk (am_qo_mk (hP _ g1 ⟨⟨0, false, up_at S'.1 S.2 _, am_r0⟩, g', (up_ne _ _ (by omega)).trans g2, g3⟩ (fun q hq => ?_) (fun q hq => ?_))))
  · exact (up_ne _ _ (by omega)).trans ((g4 q (by omega)).trans ((up_ne _ _ (by omega)).trans (up_ne _ _ (by omega))))
  · exact (up_ne _ _ (by omega)).trans ((g4 q (by omega)).trans ((up_ne _ _ (by omega)).trans (up_ne _ _ (by omega))))
theorem kx_eqs_9 {x y n k : Nat} {f g : Nat → Int32} {P : Bool → ah_H → Prop} (h1 : S.1 x = some (.inr (2, n, .inl f))) (h2 : S.1 y = some (.inr (2, n, .inl g))) (hn : n < 1000) (hk : k ≤ n) (he : ∀ i, i < k → (f i).toInt = (g i).toInt)
    (yes : (∀ i, i < n → (f i).toInt = (g i).toInt) → P true S) (no : (∃ i, i < n ∧ (f i).toInt ≠ (g i).toInt) → P false S) : VJ18_equals l (am_qz P) 9 [(0, am_R x), (1, am_R y), (2, am_I k)] [] S := by
  generalize hq : n - k = q
  induction q generalizing k with
  | zero =>
    have e : k = n := by omega
    subst e
    exact bJ18_equals_9 _ _ _ (by first | exact am_rN (by omega) | exact ⟨by omega, by omega⟩ | assumption) ⟨_, _, h1, fun _ => am_qz_mk (b := true) (yes he), fun z => absurd z (by omega)⟩
  | succ q ih =>
    refine bJ18_equals_9 _ _ _ (by first | exact am_rN (by omega) | exact ⟨by omega, by omega⟩ | assumption) ⟨_, _, h1, fun z => absurd z (by omega), fun _ => ⟨⟨by omega, by omega⟩, _, _, h2, ⟨by omega, by omega⟩, ?_⟩⟩
    rw [Int.toNat_natCast]
    refine ⟨fun e => ih (k := k + 1) (by omega) (fun i hi => ?_) (by omega), fun e => am_qz_mk (b := false) (no ⟨k, by omega, e⟩)⟩
    by_cases e2 : i = k
    · rw [e2]; exact e
    · exact he i (by omega)
theorem ah_is17 {o : Nat} {fs : List am_W} (h : S.1 o = some (.inl (17, fs))) : ah_is S (some o) "java/lang/String" := fun y hy => by
  cases hy
  exact ⟨17, fs, _, h, rfl, Or.inl rfl⟩
/-- a made string and a word of the start -/
theorem kx_equals {s x n i : Nat} {b : Nat → Nat} {P : Bool → ah_H → Prop} (h : xst S.1 s x n b) (hs : 32 ≤ s) (hn : n < 1000) (hX : xX S.1 w) (hi : 4 ≤ i ∧ i < 15) (hP : P (decide ((List.range n).map b = xwd i)) S) : kJ8_equals l [am_R s, am_R i] S (am_qz P) := by
  obtain ⟨⟨hs', hz', e1, -⟩, f, e2, e3⟩ := h
  obtain ⟨⟨hs2, hz2, e4, -⟩, g, e5, e6⟩ := hX.2.2.2.2 i hi.1 hi.2
  have hlen : (xwd i).length < 1000 := by
    have : ∀ j : Fin 15, (xwd j.val).length < 1000 := by decide
    exact this ⟨i, hi.2⟩
  refine bJ8_equals _ _ ⟨fun a b' h1 h2 => by cases h1; exact Or.inl hs, fun _ => ⟨_, e4, ah_is17 e4, _, e1, _, ⟨rfl, am_r0⟩, _, ⟨rfl, am_r0⟩, fun z => absurd rfl z, fun _ => ⟨_, rfl, _, rfl, bJ18_equals _ _ ⟨_, _, e2, _, _, e5, fun z => ?_, fun z => ?_⟩⟩⟩, fun z => ?_⟩
  · refine am_qz_mk (b := false) ⟨fun _ => am_qz_mk (b := false) ?_, fun z => Bool.noConfusion z⟩
    rw [decide_eq_false (fun q => z (by rw [← q, List.length_map, List.length_range]))] at hP
    exact hP
  · have hl : n = (xwd i).length := by omega
    rw [← hl] at e5
    have hv : ∀ k, k < n → ∃ c, (xwd i)[k]? = some c ∧ (g k).toInt = (c : Int) := fun k hk => by
      have hx := List.getElem?_eq_getElem (l := xwd i) (i := k) (by omega)
      exact ⟨_, hx, e6 k _ hx⟩
    refine kx_eqs_9 (k := 0) e2 e5 hn (Nat.zero_le _) (fun _ q => absurd q (Nat.not_lt_zero _)) (fun q => ⟨fun z => Bool.noConfusion z, fun _ => am_qz_mk (b := true) ?_⟩) (fun q => ⟨fun _ => am_qz_mk (b := false) ?_, fun z => Bool.noConfusion z⟩)
    · rw [decide_eq_true (List.ext_getElem? (fun k => ?_))] at hP
      · exact hP
      · by_cases hk : k < n
        · obtain ⟨c, c1, c2⟩ := hv k hk
          have := q k hk
          rw [e3 k hk, c2] at this
          rw [c1, List.getElem?_map, List.getElem?_range hk]
          show some (b k) = some c
          rw [show b k = c by omega]
        · rw [List.getElem?_eq_none (by rw [List.length_map, List.length_range]; omega), List.getElem?_eq_none (by omega)]
    · obtain ⟨k, hk, hne⟩ := q
      obtain ⟨c, c1, c2⟩ := hv k hk
      rw [decide_eq_false (fun z => ?_)] at hP
      · exact hP
      · rw [← z, List.getElem?_map, List.getElem?_range hk] at c1
        have c1 : some (b k) = some c := c1
        cases c1
        exact hne ((e3 k hk).trans c2.symm)
  · have : s = i := Option.some.inj z
    omega
end KX27b
