/-! THE COMPONENT's TABLES: the table at a is the object a, its arrays are a + 1 to a + 5 -/
def xo (h : Nat → Option ah_C) (a : Nat) (p hi ce bo ho : Nat → Int32) : Prop :=
  h a = some (.inl (2, [am_R (a + 1), am_R (a + 2), am_R (a + 3), am_R (a + 4), am_R (a + 5)])) ∧ h (a + 1) = some (.inr (0, 48, .inl p)) ∧ h (a + 2) = some (.inr (0, 8, .inl hi)) ∧ h (a + 3) = some (.inr (0, 6, .inl ce)) ∧ h (a + 4) = some (.inr (0, 6, .inl bo)) ∧ h (a + 5) = some (.inr (0, 6, .inl ho))
def xq (n : Nat) (T : sp_T) (p hi ce bo ho : Nat → Int32) : Prop :=
  (∀ c, c < 8 → (hi c).toInt = (T.1 c).length ∧ ∀ i k : Nat, (T.1 c)[i]? = some k → (p (6 * c + i)).toInt = k) ∧
  ∀ k, k < n → (bo k).toInt = sp_on (T.2.2 k) ∧ (ce k).toInt = (if (T.2.2 k).isSome = true then -1000000 else (T.2.1 k : Int)) ∧ (ho k).toInt = sp_on (sp_inside n T k)
/-- the heap h has the table T at a -/
def xt (h : Nat → Option ah_C) (a n : Nat) (s : Nat → Nat) (T : sp_T) : Prop := 36 ≤ a ∧ sp_ok n s T ∧ ∃ p hi ce bo ho, xo h a p hi ce bo ho ∧ xq n T p hi ce bo ho
theorem xt.X {h : Nat → Option ah_C} {a n : Nat} {s : Nat → Nat} {T : sp_T} (k : xt h a n s T) : ah_X ≤ a := Nat.le_trans (by decide) k.1
/-- nothing has changed but the table at a -/
def xw (a : Nat) (S S' : ah_H) : Prop := S'.2 = S.2 ∧ ∀ q, q ≤ a ∨ a + 5 < q → S'.1 q = S.1 q
theorem xw.refl (a : Nat) (S : ah_H) : xw a S S := ⟨rfl, fun _ _ => rfl⟩
theorem xw.trans {a : Nat} {S S1 S2 : ah_H} (h : xw a S S1) (k : xw a S1 S2) : xw a S S2 := ⟨k.1.trans h.1, fun q hq => (k.2 q hq).trans (h.2 q hq)⟩
theorem xw.up {a b : Nat} (S : ah_H) (c : Option ah_C) (h1 : a < b) (h2 : b ≤ a + 5) : xw a S (va_up S.1 b c, S.2) := ⟨rfl, fun q hq => up_ne _ _ (by omega)⟩
/-- a table where nothing has changed -/
theorem xt.kept {h h' : Nat → Option ah_C} {a n : Nat} {s : Nat → Nat} {T : sp_T} (k : xt h a n s T) (e : ∀ q, a ≤ q → q ≤ a + 5 → h' q = h q) : xt h' a n s T := by
  obtain ⟨h1, h2, p, hi, ce, bo, ho, ⟨e0, e1, e2, e3, e4, e5⟩, h3⟩ := k
  exact ⟨h1, h2, p, hi, ce, bo, ho, ⟨(e _ (by omega) (by omega)).trans e0, (e _ (by omega) (by omega)).trans e1, (e _ (by omega) (by omega)).trans e2, (e _ (by omega) (by omega)).trans e3, (e _ (by omega) (by omega)).trans e4, (e _ (by omega) (by omega)).trans e5⟩, h3⟩
theorem xt.fr {a b n : Nat} {s : Nat → Nat} {T : sp_T} {S S' : ah_H} (k : xt S.1 a n s T) (f : xw b S S') (hab : a + 5 < b ∨ b + 5 < a) : xt S'.1 a n s T :=
  k.kept (fun q h1 h2 => f.2 q (by omega))
section XO
variable {h : Nat → Option ah_C} {a : Nat} {p hi ce bo ho f : Nat → Int32}
theorem xo.up1 (k : xo h a p hi ce bo ho) (f : Nat → Int32) : xo (va_up h (a + 1) (some (.inr (0, 48, .inl f)))) a f hi ce bo ho :=
  ⟨(up_ne _ _ (by omega)).trans k.1, up_at _ _ _, (up_ne _ _ (by omega)).trans k.2.2.1, (up_ne _ _ (by omega)).trans k.2.2.2.1, (up_ne _ _ (by omega)).trans k.2.2.2.2.1, (up_ne _ _ (by omega)).trans k.2.2.2.2.2⟩
theorem xo.up2 (k : xo h a p hi ce bo ho) (f : Nat → Int32) : xo (va_up h (a + 2) (some (.inr (0, 8, .inl f)))) a p f ce bo ho :=
  ⟨(up_ne _ _ (by omega)).trans k.1, (up_ne _ _ (by omega)).trans k.2.1, up_at _ _ _, (up_ne _ _ (by omega)).trans k.2.2.2.1, (up_ne _ _ (by omega)).trans k.2.2.2.2.1, (up_ne _ _ (by omega)).trans k.2.2.2.2.2⟩
theorem xo.up3 (k : xo h a p hi ce bo ho) (f : Nat → Int32) : xo (va_up h (a + 3) (some (.inr (0, 6, .inl f)))) a p hi f bo ho :=
  ⟨(up_ne _ _ (by omega)).trans k.1, (up_ne _ _ (by omega)).trans k.2.1, (up_ne _ _ (by omega)).trans k.2.2.1, up_at _ _ _, (up_ne _ _ (by omega)).trans k.2.2.2.2.1, (up_ne _ _ (by omega)).trans k.2.2.2.2.2⟩
theorem xo.up4 (k : xo h a p hi ce bo ho) (f : Nat → Int32) : xo (va_up h (a + 4) (some (.inr (0, 6, .inl f)))) a p hi ce f ho :=
  ⟨(up_ne _ _ (by omega)).trans k.1, (up_ne _ _ (by omega)).trans k.2.1, (up_ne _ _ (by omega)).trans k.2.2.1, (up_ne _ _ (by omega)).trans k.2.2.2.1, up_at _ _ _, (up_ne _ _ (by omega)).trans k.2.2.2.2.2⟩
theorem xo.up5 (k : xo h a p hi ce bo ho) (f : Nat → Int32) : xo (va_up h (a + 5) (some (.inr (0, 6, .inl f)))) a p hi ce bo f :=
  ⟨(up_ne _ _ (by omega)).trans k.1, (up_ne _ _ (by omega)).trans k.2.1, (up_ne _ _ (by omega)).trans k.2.2.1, (up_ne _ _ (by omega)).trans k.2.2.2.1, (up_ne _ _ (by omega)).trans k.2.2.2.2.1, up_at _ _ _⟩
end XO
theorem sp_on_none {o : Option Nat} : sp_on o = -1000000 ↔ o = none := by
  cases o with
  | none => simp [sp_on]
  | some x => exact ⟨fun h => by simp only [sp_on] at h; omega, fun h => by cases h⟩
theorem sp_on_eq {o : Option Nat} {x : Nat} : sp_on o = (x : Int) ↔ o = some x := by
  cases o with
  | none => exact ⟨fun h => by simp only [sp_on] at h; omega, fun h => by cases h⟩
  | some y => exact ⟨fun h => by simp only [sp_on] at h; rw [show y = x by omega], fun h => by rw [h]; rfl⟩
section KX1
variable {l : Launch} {S : ah_H} {a n : Nat} {s : Nat → Nat} {T : sp_T} {p hi ce bo ho : Nat → Int32}
theorem xq.bN (h : xq n T p hi ce bo ho) {k : Nat} (hk : k < n) : (bo (k : Int).toNat).toInt = -1000000 ↔ T.2.2 k = none := by
  have e : (bo (k : Int).toNat).toInt = sp_on (T.2.2 k) := (h.2 k hk).1
  rw [e]
  exact sp_on_none
theorem xq.bS (h : xq n T p hi ce bo ho) {k x : Nat} (hk : k < n) (hb : T.2.2 k = some x) : (bo (k : Int).toNat).toInt = (x : Int) := by
  have e : (bo (k : Int).toNat).toInt = sp_on (T.2.2 k) := (h.2 k hk).1
  rw [e, hb]
  rfl
theorem xq.cN (h : xq n T p hi ce bo ho) {k : Nat} (hk : k < n) (hb : T.2.2 k = none) : (ce (k : Int).toNat).toInt = (T.2.1 k : Int) := by
  have e : (ce (k : Int).toNat).toInt = (if (T.2.2 k).isSome = true then -1000000 else (T.2.1 k : Int)) := (h.2 k hk).2.1
  rw [e, hb]
  rfl
theorem xq.cS (h : xq n T p hi ce bo ho) {k x : Nat} (hk : k < n) (hb : T.2.2 k = some x) : (ce (k : Int).toNat).toInt = -1000000 := by
  have e : (ce (k : Int).toNat).toInt = (if (T.2.2 k).isSome = true then -1000000 else (T.2.1 k : Int)) := (h.2 k hk).2.1
  rw [e, hb]
  rfl
theorem xq.hN (h : xq n T p hi ce bo ho) {k : Nat} (hk : k < n) : (ho (k : Int).toNat).toInt = -1000000 ↔ sp_inside n T k = none := by
  have e : (ho (k : Int).toNat).toInt = sp_on (sp_inside n T k) := (h.2 k hk).2.2
  rw [e]
  exact sp_on_none
theorem xq.len (h : xq n T p hi ce bo ho) {c : Nat} (hc : c < 8) : (hi (c : Int).toNat).toInt = ((T.1 c).length : Int) := (h.1 c hc).1
theorem xt.tb (h : xt S.1 a n s T) {c i : Nat} (hc : c < 8) (hi : i < (T.1 c).length) : ∃ k, (T.1 c)[i]? = some k ∧ k < n ∧ T.2.2 k = none ∧ T.2.1 k = c ∧ i < n := by
  have h1 := List.getElem?_eq_getElem hi
  refine ⟨_, h1, ?_⟩
  have h2 := ((h.2.1.2.1 c hc).2 _).mp (List.mem_of_getElem? h1)
  exact ⟨h2.1, h2.2.1, h2.2.2, Nat.lt_of_lt_of_le hi (h.2.1.len hc)⟩
theorem kx_at {c i k : Nat} {P : Int → ah_H → Prop} (h : xt S.1 a n s T) (hc : c < 8) (hi : (T.1 c)[i]? = some k) (hP : P (k : Int) S) : kX1_at l [am_R a, am_I c, am_I i] S (am_qi P) := by
  have hn := h.2.1.1
  have hl := h.2.1.len hc
  have hi2 : i < (T.1 c).length := (List.getElem?_eq_some_iff.mp hi).1
  obtain ⟨hX, hok, p, hi', ce, bo, ho, ⟨e0, e1, e2, e3, e4, e5⟩, hq⟩ := h
  refine bX1_at _ _ (by first | exact am_rN (by omega) | exact ⟨by omega, by omega⟩ | assumption) _ (by first | exact am_rN (by omega) | exact ⟨by omega, by omega⟩ | assumption) ⟨_, e0, _, rfl, _, _, e1, ⟨by omega, by omega⟩, am_qi_mk (am_rt _) ?_⟩
  have e : (6 * (c : Int) + i).toNat = 6 * c + i := by omega
  rw [e, (hq.1 c hc).2 i k hi]
  exact hP
theorem kx_isClear {k : Nat} {P : Bool → ah_H → Prop} (h : xt S.1 a n s T) (hk : k < n) (hP : P (sp_clear T k) S) : kX1_isClear l [am_R a, am_I k] S (am_qz P) := by
  have hn := h.2.1.1
  have H := h
  obtain ⟨hX, hok, p, hi, ce, bo, ho, ⟨e0, e1, e2, e3, e4, e5⟩, hq⟩ := h
  cases hb : T.2.2 k with
  | some x =>
    refine bX1_isClear _ _ (by first | exact am_rN (by omega) | exact ⟨by omega, by omega⟩ | assumption) ⟨_, e0, _, rfl, _, _, e3, ⟨by omega, by omega⟩, fun _ => am_qz_mk ?_, fun hx => absurd (hq.cS hk hb) hx⟩
    have e : sp_clear T k = false := by unfold sp_clear; rw [hb]; rfl
    rw [e] at hP
    exact hP
  | none =>
    have b3 := hok.2.2.1 k hk hb
    have b4 : k ∈ T.1 (T.2.1 k) := ((hok.2.1 _ b3).2 k).mpr ⟨hk, hb, rfl⟩
    have hpos := List.length_pos_of_mem b4
    have ec := hq.cN hk hb
    have e4' : sp_clear T k = decide ((T.1 (T.2.1 k))[(T.1 (T.2.1 k)).length - 1]? = some k) := by
      unfold sp_clear
      rw [hb, List.getLast?_eq_getElem?]
      rfl
    obtain ⟨j, g1, g2, -⟩ := H.tb b3 (i := (T.1 (T.2.1 k)).length - 1) (by omega)
    rw [e4', g1] at hP
    refine bX1_isClear _ _ (by first | exact am_rN (by omega) | exact ⟨by omega, by omega⟩ | assumption) ⟨_, e0, _, rfl, _, _, e3, ⟨by omega, by omega⟩, fun hx => absurd (ec.symm.trans hx) (by omega), fun _ => ⟨_, rfl, _, _, e2, ?_⟩⟩
    rw [ec, hq.len b3, show ((T.1 (T.2.1 k)).length : Int) - 1 = (((T.1 (T.2.1 k)).length - 1 : Nat) : Int) by omega]
    refine ⟨⟨by omega, by omega⟩, kx_at H b3 g1 ⟨fun hx => ?_, fun hx => ?_⟩⟩
    · rw [decide_eq_false (fun z => hx (by rw [Option.some.inj z]))] at hP
      exact am_qz_mk hP
    · rw [decide_eq_true (by rw [show j = k by omega])] at hP
      exact am_qz_mk hP
theorem kx_isLoose {k : Nat} {P : Bool → ah_H → Prop} (h : xt S.1 a n s T) (hk : k < n) (hP : P (sp_loose T k) S) : kX1_isLoose l [am_R a, am_I k] S (am_qz P) := by
  have hn := h.2.1.1
  have H := h
  have hb1 := (h.2.1.base hk).1
  obtain ⟨hX, hok, p, hi, ce, bo, ho, ⟨e0, e1, e2, e3, e4, e5⟩, hq⟩ := h
  refine bX1_isLoose _ _ (by first | exact am_rN (by omega) | exact ⟨by omega, by omega⟩ | assumption) ⟨_, e0, _, rfl, _, _, e4, ⟨by omega, by omega⟩, fun hx => ?_, fun hx => ?_⟩
  · cases hb : T.2.2 k with
    | none => exact absurd ((hq.bN hk).mpr hb) hx
    | some x =>
      have e : sp_base T k = x := by unfold sp_base; rw [hb]; rfl
      rw [hq.bS hk hb]
      unfold sp_loose at hP
      rw [e] at hP hb1
      exact kx_isClear H hb1 (am_qz_mk hP)
  · have e : sp_base T k = k := by unfold sp_base; rw [(hq.bN hk).mp hx]; rfl
    unfold sp_loose at hP
    rw [e] at hP
    exact kx_isClear H hk (am_qz_mk hP)
theorem kx_cellOf {k : Nat} {P : Int → ah_H → Prop} (h : xt S.1 a n s T) (hk : k < n) (hP : P (sp_cell T k : Int) S) : kX1_cellOf l [am_R a, am_I k] S (am_qi P) := by
  have hn := h.2.1.1
  have hb1 := h.2.1.base hk
  obtain ⟨hX, hok, p, hi, ce, bo, ho, ⟨e0, e1, e2, e3, e4, e5⟩, hq⟩ := h
  refine bX1_cellOf _ _ (by first | exact am_rN (by omega) | exact ⟨by omega, by omega⟩ | assumption) ⟨_, e0, _, rfl, _, _, e4, ⟨by omega, by omega⟩, fun hx => ⟨_, rfl, _, _, e3, ?_⟩, fun hx => ⟨_, rfl, _, _, e3, ⟨by omega, by omega⟩, am_qi_mk (am_rt _) ?_⟩⟩
  · cases hb : T.2.2 k with
    | none => exact absurd ((hq.bN hk).mpr hb) hx
    | some x =>
      have e : sp_base T k = x := by unfold sp_base; rw [hb]; rfl
      rw [hq.bS hk hb]
      unfold sp_cell at hP
      rw [e] at hP hb1
      refine ⟨⟨by omega, by omega⟩, am_qi_mk (am_rt _) ?_⟩
      rw [hq.cN hb1.1 hb1.2.1]
      exact hP
  · have e : sp_base T k = k := by unfold sp_base; rw [(hq.bN hk).mp hx]; rfl
    unfold sp_cell at hP
    rw [e] at hP
    rw [hq.cN hk ((hq.bN hk).mp hx)]
    exact hP
theorem kx_below_2 {k i : Nat} {P : Int → ah_H → Prop} (h : xt S.1 a n s T) (hk : k < n) (hb : T.2.2 k = none) (hP : P (sp_below T k : Int) S) (hi : i ≤ sp_below T k) :
    VX1_below l (am_qi P) 2 [(0, am_R a), (1, am_I k), (2, am_I i)] [] S := by
  have hn := h.2.1.1
  have H := h
  obtain ⟨hX, hok, p, hi', ce, bo, ho, ⟨e0, e1, e2, e3, e4, e5⟩, hq⟩ := h
  have hc := hok.2.2.1 k hk hb
  have hmem : k ∈ T.1 (T.2.1 k) := ((hok.2.1 _ hc).2 k).mpr ⟨hk, hb, rfl⟩
  have hlt := sp_idx_lt hmem
  have hlen := hok.len hc
  obtain ⟨f1, f2⟩ := sp_idx hmem
  unfold sp_below at hi hP
  generalize hm : (T.1 (T.2.1 k)).idxOf k - i = m
  induction m generalizing i with
  | zero =>
    have hie : i = (T.1 (T.2.1 k)).idxOf k := by omega
    refine bX1_below_2 _ _ (by first | exact am_rN (by omega) | exact ⟨by omega, by omega⟩ | assumption) _ (by first | exact am_rN (by omega) | exact ⟨by omega, by omega⟩ | assumption) ⟨_, e0, _, rfl, _, _, e3, ⟨by omega, by omega⟩, ?_⟩
    rw [hq.cN hk hb]
    refine kx_at H hc (by rw [hie]; exact f1) ⟨fun _ => ?_, fun hne => absurd rfl hne⟩
    rw [hie]
    exact am_qi_mk (am_rN (by omega)) hP
  | succ m ih =>
    obtain ⟨j, g1, g2, -⟩ := H.tb hc (i := i) (by omega)
    refine bX1_below_2 _ _ (by first | exact am_rN (by omega) | exact ⟨by omega, by omega⟩ | assumption) _ (by first | exact am_rN (by omega) | exact ⟨by omega, by omega⟩ | assumption) ⟨_, e0, _, rfl, _, _, e3, ⟨by omega, by omega⟩, ?_⟩
    rw [hq.cN hk hb]
    refine kx_at H hc g1 ⟨fun he => ?_, fun _ => ih (i := i + 1) (by omega) (by omega)⟩
    exact absurd (g1.trans (by rw [show j = k by omega])) (f2 i (by omega))
theorem kx_below {k : Nat} {P : Int → ah_H → Prop} (h : xt S.1 a n s T) (hk : k < n) (hb : T.2.2 k = none) (hP : P (sp_below T k : Int) S) : kX1_below l [am_R a, am_I k] S (am_qi P) := by
  have hn := h.2.1.1
  exact bX1_below _ _ (by first | exact am_rN (by omega) | exact ⟨by omega, by omega⟩ | assumption) (kx_below_2 (i := 0) h hk hb hP (Nat.zero_le _))
theorem kx_isFor {k x : Nat} {P : Bool → ah_H → Prop} (h : xt S.1 a n s T) (hk : k < n) (hx : x < n) (hP : P (decide (x ≠ k) && sp_clear T x && (sp_inside n T x).isNone && (sp_inside n T k).isNone) S) : kX1_isFor l [am_R a, am_I k, am_I x] S (am_qz P) := by
  have hn := h.2.1.1
  have H := h
  obtain ⟨hX, hok, p, hi, ce, bo, ho, ⟨e0, e1, e2, e3, e4, e5⟩, hq⟩ := h
  refine bX1_isFor _ _ (by first | exact am_rN (by omega) | exact ⟨by omega, by omega⟩ | assumption) _ (by first | exact am_rN (by omega) | exact ⟨by omega, by omega⟩ | assumption) ⟨fun he => ?_, fun hne => ⟨_, e0, kx_isClear H hx ⟨fun hc => ?_, fun hc => ⟨_, e0, _, rfl, _, _, e5, ⟨by omega, by omega⟩, fun h1 => ?_, fun h1 => ⟨⟨by omega, by omega⟩, fun h2 => ?_, fun h2 => ?_⟩⟩⟩⟩⟩
  · rw [decide_eq_false (by omega)] at hP
    exact am_qz_mk hP
  · rw [decide_eq_true (by omega), hc] at hP
    exact am_qz_mk hP
  · have g1 : (sp_inside n T x).isNone = false := by
      rw [Bool.eq_false_iff]
      exact fun z => h1 ((hq.hN hx).mpr (Option.isNone_iff_eq_none.mp z))
    rw [decide_eq_true (by omega), hc, g1] at hP
    exact am_qz_mk hP
  · have g1 : (sp_inside n T k).isNone = false := by
      rw [Bool.eq_false_iff]
      exact fun z => h2 ((hq.hN hk).mpr (Option.isNone_iff_eq_none.mp z))
    rw [decide_eq_true (by omega), hc, (hq.hN hx).mp h1, g1] at hP
    exact am_qz_mk hP
  · rw [decide_eq_true (by omega), hc, (hq.hN hx).mp h1, (hq.hN hk).mp h2] at hP
    exact am_qz_mk hP
/-! what changes a table -/
theorem kx_push {k c m : Nat} {P : ah_H → Prop} (hX : ah_X ≤ a) (h : xo S.1 a p hi ce bo ho) (hk : k < 6) (hc : c < 8) (hm : (hi c).toInt = m) (hm6 : m < 6)
    (hP : ∀ S', xo S'.1 a (va_up p (6 * c + m) (Int32.ofInt k)) (va_up hi c (Int32.ofInt (m + 1))) (va_up ce k (Int32.ofInt c)) (va_up bo k (Int32.ofInt (-1000000))) ho → xw a S S' → P S') : kX1_push l [am_R a, am_I k, am_I c] S (am_qv P) := by
  have em : (hi (c : Int).toNat).toInt = (m : Int) := hm
  have h1 := h.up2 (va_up hi c (Int32.ofInt ((m : Int) + 1)))
  have h2 := h1.up1 (va_up p (6 * c + m) (Int32.ofInt k))
  have h3 := h2.up3 (va_up ce k (Int32.ofInt c))
  have h4 := h3.up4 (va_up bo k (Int32.ofInt (-1000000)))
  have ei : (6 * (c : Int) + m).toNat = 6 * c + m := by omega
  refine bX1_push _ _ (by first | exact am_rN (by omega) | exact ⟨by omega, by omega⟩ | assumption) _ (by first | exact am_rN (by omega) | exact ⟨by omega, by omega⟩ | assumption) ⟨_, h.1, _, rfl, _, rfl, _, _, h.2.2.1, ⟨by omega, by omega⟩, by omega, ?_⟩
  rw [em]
  rintro G1 rfl
  refine ⟨_, _, h1.2.1, by omega, ⟨by omega, by omega⟩, ?_⟩
  rintro G2 rfl
  unfold ah_si
  rw [ei]
  refine ⟨_, h2.1, _, rfl, _, _, h2.2.2.2.1, by omega, ⟨by omega, by omega⟩, ?_⟩
  rintro G3 rfl
  refine ⟨_, h3.1, _, rfl, _, _, h3.2.2.2.2.1, by omega, ⟨by omega, by omega⟩, ?_⟩
  rintro G4 rfl
  refine am_qv_mk (hP _ h4 ?_)
  exact (((xw.up S _ (by omega) (by omega)).trans (xw.up _ _ (by omega) (by omega))).trans (xw.up _ _ (by omega) (by omega))).trans (xw.up _ _ (by omega) (by omega))
theorem kx_leave {k : Nat} {P : ah_H → Prop} (h : xt S.1 a n s T) (hk : k < n) (h0 : xo S.1 a p hi ce bo ho) (hq : xq n T p hi ce bo ho)
    (hP : ∀ S' hi' ho', xo S'.1 a p hi' ce bo ho' → xw a S S' → (∀ x, T.2.2 k = some x → hi' = hi ∧ ho' = va_up ho x (Int32.ofInt (-1000000))) → (T.2.2 k = none → ho' = ho ∧ hi' = va_up hi (T.2.1 k) (Int32.ofInt ((T.1 (T.2.1 k)).length - 1))) → P S') : kX1_leave l [am_R a, am_I k] S (am_qv P) := by
  have hn := h.2.1.1
  have hX := h.X
  have hok := h.2.1
  refine bX1_leave _ _ (by first | exact am_rN (by omega) | exact ⟨by omega, by omega⟩ | assumption) ⟨_, h0.1, _, rfl, _, _, h0.2.2.2.2.1, ⟨by omega, by omega⟩, fun hx => ?_, fun hx => ?_⟩
  · cases hb : T.2.2 k with
    | none => exact absurd ((hq.bN hk).mpr hb) hx
    | some x =>
      have hx := (hok.2.2.2.1 k x hb).2.1
      rw [hq.bS hk hb]
      refine ⟨_, rfl, _, _, h0.2.2.2.2.2, by omega, ⟨by omega, by omega⟩, ?_⟩
      rintro G rfl
      refine am_qv_mk (hP _ _ _ (h0.up5 (va_up ho x (Int32.ofInt (-1000000)))) (xw.up S _ (by omega) (by omega)) (fun y hy => ?_) (fun z => by rw [hb] at z; cases z))
      rw [hb] at hy
      cases hy
      exact ⟨rfl, rfl⟩
  · have hb := (hq.bN hk).mp hx
    have hc := hok.2.2.1 k hk hb
    refine ⟨_, rfl, _, rfl, _, _, h0.2.2.2.1, ⟨by omega, by omega⟩, _, _, h0.2.2.1, ?_⟩
    rw [hq.cN hk hb, hq.len hc]
    refine ⟨⟨by omega, by omega⟩, by omega, ?_⟩
    rintro G rfl
    refine am_qv_mk (hP _ _ _ (h0.up2 (va_up hi (T.2.1 k) (Int32.ofInt (((T.1 (T.2.1 k)).length : Int) - 1)))) (xw.up S _ (by omega) (by omega)) (fun y hy => ?_) (fun _ => ⟨rfl, rfl⟩))
    rw [hb] at hy
    cases hy
end KX1
