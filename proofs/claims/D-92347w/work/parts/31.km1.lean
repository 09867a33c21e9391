/-! THE MODEL's TABLES -/
def md (S : am_M) (i : Nat) : Int := (S.2 0 i).toInt
def mt_r (S : am_M) (t : Nat) (T : sp_T) : Prop := (∀ c, c < 8 → md S (62 * t + 7 * c) = (T.1 c).length ∧ ∀ i, i < 6 → md S (62 * t + 7 * c + 1 + i) = sp_ob (T.1 c)[i]?) ∧ ∀ k, k < 6 → md S (62 * t + 56 + k) = sp_ob (T.2.2 k)
/-- nothing but the table t has changed -/
def md_fr (t : Nat) (S S' : am_M) : Prop := S'.1 = S.1 ∧ (∀ j, j ≠ 0 → S'.2 j = S.2 j) ∧ ∀ i, i < 62 * t ∨ 62 * t + 62 ≤ i → S'.2 0 i = S.2 0 i
/-- how many things there are, and their sorts -/
def mn_r (S : am_M) (n : Nat) (s : Nat → Nat) : Prop := (S.1 2).toInt = n ∧ n ≤ 6 ∧ ∀ k, k < n → (S.2 1 k).toInt = s k ∧ s k < 4
/-- the model's table t is T -/
def mt (S : am_M) (t n : Nat) (s : Nat → Nat) (T : sp_T) : Prop := t < 108 ∧ mn_r S n s ∧ mt_r S t T ∧ sp_ok n s T
theorem am_rN {n : Nat} (h : n < 2147483648) : am_r (n : Int) := ⟨by omega, by omega⟩
section KM1
variable {l : Launch} {S : am_M} {n t : Nat} {s : Nat → Nat} {T : sp_T}
theorem km_boxOf {k : Nat} {P : Int → am_M → Prop} (ht : t < 108) (hk : k < 6) (hr : mt_r S t T) (hP : P (sp_ob (T.2.2 k)) S) : kX3_boxOf l [am_R 0, am_I t, am_I k] S (am_qi P) := by
  refine bX3_boxOf _ (am_rN (by omega)) _ (am_rN (by omega)) ⟨by omega, am_qi_mk (am_rt _) ?_⟩
  have e : (62 * (t : Int) + 56 + k).toNat = 62 * t + 56 + k := by omega
  rw [e, show (S.2 0 (62 * t + 56 + k)).toInt = md S (62 * t + 56 + k) from rfl, hr.2 k hk]
  exact hP
theorem km_sizeOf {c : Nat} {P : Int → am_M → Prop} (ht : t < 108) (hc : c < 8) (hr : mt_r S t T) (hP : P ((T.1 c).length : Int) S) : kX3_sizeOf l [am_R 0, am_I t, am_I c] S (am_qi P) := by
  refine bX3_sizeOf _ (am_rN (by omega)) _ (am_rN (by omega)) ⟨by omega, am_qi_mk (am_rt _) ?_⟩
  have e : (62 * (t : Int) + 7 * c).toNat = 62 * t + 7 * c := by omega
  rw [e, show (S.2 0 (62 * t + 7 * c)).toInt = md S (62 * t + 7 * c) from rfl, (hr.1 c hc).1]
  exact hP
theorem km_thingAt {c i : Nat} {P : Int → am_M → Prop} (ht : t < 108) (hc : c < 8) (hi : i < 6) (hr : mt_r S t T) (hP : P (sp_ob (T.1 c)[i]?) S) : kX3_thingAt l [am_R 0, am_I t, am_I c, am_I i] S (am_qi P) := by
  refine bX3_thingAt _ (am_rN (by omega)) _ (am_rN (by omega)) _ (am_rN (by omega)) ⟨by omega, am_qi_mk (am_rt _) ?_⟩
  have e : (62 * (t : Int) + 7 * c + 1 + i).toNat = 62 * t + 7 * c + 1 + i := by omega
  rw [e, show (S.2 0 (62 * t + 7 * c + 1 + i)).toInt = md S (62 * t + 7 * c + 1 + i) from rfl, (hr.1 c hc).2 i hi]
  exact hP
theorem sp_ob_lt {o : Option Nat} : sp_ob o < 0 ↔ o = none := by
  cases o with
  | none => simp [sp_ob]
  | some x => simp [sp_ob]
theorem sp_ob_eq {o : Option Nat} {x : Nat} : sp_ob o = (x : Int) ↔ o = some x := by
  cases o with
  | none => simp [sp_ob]
  | some y => simp [sp_ob]; omega
theorem km_cellOf_33 {q c i : Nat} {P : Int → am_M → Prop} (ht : t < 108) (hr : mt_r S t T) (hok : sp_ok n s T) (hq : q < n) (hb : T.2.2 q = none) (hP : P (T.2.1 q : Int) S)
    (hc : c < 8) (hi : i ≤ (T.1 c).length) (hno : ∀ j, j < i → (T.1 c)[j]? ≠ some q) (hno2 : ∀ d, d < c → q ∉ T.1 d)
    (next : q ∉ T.1 c → VX3_cellOf l (am_qi P) 23 [(0, am_R 0), (1, am_I t), (3, am_I q), (4, am_I ((c : Int) + 1))] [] S) :
    VX3_cellOf l (am_qi P) 33 [(0, am_R 0), (1, am_I t), (3, am_I q), (4, am_I c), (5, am_I i)] [] S := by
  have hlen := hok.len hc
  have hn := hok.1
  generalize hm : (T.1 c).length - i = m
  induction m generalizing i with
  | zero =>
    refine bX3_cellOf_33 _ (am_rN (by omega)) _ (am_rN (by omega)) _ (am_rN (by omega)) _ (am_rN (by omega)) (km_sizeOf ht hc hr ⟨fun _ => next ?_, fun h => absurd h (by omega)⟩)
    intro hmem
    obtain ⟨j, hj⟩ := List.getElem?_of_mem hmem
    have := (List.getElem?_eq_some_iff.mp hj).1
    exact hno j (by omega) hj
  | succ m ih =>
    refine bX3_cellOf_33 _ (am_rN (by omega)) _ (am_rN (by omega)) _ (am_rN (by omega)) _ (am_rN (by omega)) (km_sizeOf ht hc hr ⟨fun h => absurd h (by omega), fun _ => km_thingAt ht hc (by omega) hr ⟨fun h => ?_, fun h => ?_⟩⟩)
    · refine ih (i := i + 1) (by omega) (fun j hj => ?_) (by omega)
      by_cases hji : j = i
      · subst hji
        exact fun z => h (sp_ob_eq.mpr z)
      · exact hno j (by omega)
    · have hm : q ∈ T.1 c := List.mem_of_getElem? (sp_ob_eq.mp h)
      have := ((hok.2.1 c hc).2 q).mp hm
      rw [this.2.2] at hP
      exact am_qi_mk (am_rN (by omega)) hP
theorem km_cellOf_23 {q c : Nat} {P : Int → am_M → Prop} (ht : t < 108) (hr : mt_r S t T) (hok : sp_ok n s T) (hq : q < n) (hb : T.2.2 q = none) (hP : P (T.2.1 q : Int) S)
    (hc : c ≤ 8) (hno2 : ∀ d, d < c → q ∉ T.1 d) : VX3_cellOf l (am_qi P) 23 [(0, am_R 0), (1, am_I t), (3, am_I q), (4, am_I c)] [] S := by
  have hn := hok.1
  generalize hm : 8 - c = m
  induction m generalizing c with
  | zero =>
    exact absurd (((hok.2.1 _ (hok.2.2.1 q hq hb)).2 q).mpr ⟨hq, hb, rfl⟩) (hno2 _ (by have := hok.2.2.1 q hq hb; omega))
  | succ m ih =>
    refine bX3_cellOf_23 _ (am_rN (by omega)) _ (am_rN (by omega)) _ (am_rN (by omega)) ⟨fun h => absurd h (by omega), fun _ => ?_⟩
    refine km_cellOf_33 (i := 0) ht hr hok hq hb hP (by omega) (Nat.zero_le _) (fun j hj => absurd hj (by omega)) hno2 (fun hnm => ?_)
    refine ih (c := c + 1) (by omega) (fun d hd => ?_) (by omega)
    by_cases h : d = c
    · rw [h]; exact hnm
    · exact hno2 d (by omega)
theorem km_cellOf {k : Nat} {P : Int → am_M → Prop} (ht : t < 108) (hr : mt_r S t T) (hok : sp_ok n s T) (hk : k < n) (hP : P (sp_cell T k : Int) S) : kX3_cellOf l [am_R 0, am_I t, am_I k] S (am_qi P) := by
  have hn := hok.1
  obtain ⟨b1, b2, b3, b4⟩ := hok.base hk
  refine bX3_cellOf _ (am_rN (by omega)) _ (am_rN (by omega)) (km_boxOf ht (by omega) hr ⟨fun h => ?_, fun h => km_boxOf ht (by omega) hr ?_⟩)
  · have e : sp_base T k = k := by unfold sp_base; rw [sp_ob_lt.mp h]; rfl
    unfold sp_cell at hP
    rw [e] at hP b2
    exact km_cellOf_23 (c := 0) ht hr hok hk b2 hP (by omega) (fun d hd => absurd hd (by omega))
  · cases hb : T.2.2 k with
    | none => rw [hb] at h; exact absurd (show sp_ob none < 0 by decide) h
    | some x =>
      have e : sp_base T k = x := by unfold sp_base; rw [hb]; rfl
      unfold sp_cell at hP
      rw [e] at hP b2 b1
      exact km_cellOf_23 (c := 0) ht hr hok b1 b2 hP (by omega) (fun d hd => absurd hd (by omega))
end KM1
