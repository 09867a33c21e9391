def sp_cnt (p : Nat → Bool) : Nat → Nat
  | 0 => 0
  | m + 1 => sp_cnt p m + if p m = true then 1 else 0
theorem sp_cnt_le (p : Nat → Bool) (m : Nat) : sp_cnt p m ≤ m := by
  induction m with
  | zero => exact Nat.le_refl _
  | succ m ih =>
    rw [sp_cnt]
    split <;> omega
def sp_end (n : Nat) (s : Nat → Nat) (T : sp_T) (o : Nat) : Bool := if o % 2 = 0 then decide (0 < sp_cnt (fun k => decide (s k = o / 2 % 4) && sp_told s T k (o / 8 % 3) (o / 24)) n) else decide (0 < sp_cnt (fun k => decide (s k = o / 2 % 4)) n ∧ sp_cnt (fun k => decide (s k = o / 2 % 4) && sp_told s T k (o / 8 % 3) (o / 24)) n = sp_cnt (fun k => decide (s k = o / 2 % 4)) n)
def z_some (Z : sp_Z) (T : sp_T) (k to : Nat) : Bool := z_isTo Z to && sp_can (zn Z) (zs Z) T k to && (z_reaches Z T 0 k to || z_reaches Z T 1 k to)
def z_f1 (Z : sp_Z) (T : sp_T) (o m : Nat) : Bool := z_some Z T (m / 16) (m % 16) && sp_end (zn Z) (zs Z) (sp_move T (m / 16) (m % 16)) o
def z_first1 (Z : sp_Z) (T : sp_T) (o : Nat) : Option Nat := (List.range (16 * zn Z)).find? (z_f1 Z T o)
def z_f2 (Z : sp_Z) (T : sp_T) (o m : Nat) : Bool := z_some Z T (m / 16) (m % 16) && (z_first1 Z (sp_move T (m / 16) (m % 16)) o).isSome
def z_first2 (Z : sp_Z) (T : sp_T) (o : Nat) : Option Nat := (List.range (16 * zn Z)).find? (z_f2 Z T o)
def zo_plan (Z : sp_Z) (o w : Int) : Int × sp_Z := if (0 ≤ o ∧ o ≤ 95) ∧ 0 ≤ w ∧ w ≤ 1 then (if sp_end (zn Z) (zs Z) (zT Z) o.toNat = true then (if w = 0 then 0 else -1000000) else match z_first1 Z (zT Z) o.toNat with
  | some m => if w = 0 then 1 else (m : Int)
  | none => match z_first2 Z (zT Z) o.toNat with
    | some m => if w = 0 then 2 else (m : Int)
    | none => -1000000, Z) else (-1000001, Z)
section KM11
variable {l : Launch} {S : am_M} {Z : sp_Z}
theorem km_isEnd_15 {t n o k : Nat} {s : Nat → Nat} {T : sp_T} {P : Bool → am_M → Prop} (h : mt S t n s T) (ho : o < 96) (hk : k ≤ n) (hP : P (sp_end n s T o) S) :
    VX3_isEnd l (am_qz P) 15 [(0, am_R 0), (1, am_I t), (2, am_I o), (3, am_I (o / 2 % 4 : Nat)), (4, am_I (sp_cnt (fun k => decide (s k = o / 2 % 4) && sp_told s T k (o / 8 % 3) (o / 24)) k : Nat)), (5, am_I (sp_cnt (fun k => decide (s k = o / 2 % 4)) k : Nat)), (6, am_I k)] [] S := by
  have hn := h.2.2.2.1
  have ht := h.1
  have en := h.2.1.1
  have c1 := sp_cnt_le (fun k => decide (s k = o / 2 % 4) && sp_told s T k (o / 8 % 3) (o / 24)) k
  have c2 := sp_cnt_le (fun k => decide (s k = o / 2 % 4)) k
  generalize hm : n - k = m
  induction m generalizing k with
  | zero =>
    have e : k = n := by omega
    subst e
    unfold sp_end at hP
    refine bX3_isEnd_15 _ (by first | exact am_rN (by omega) | exact ⟨by omega, by omega⟩ | assumption) _ (by first | exact am_rN (by omega) | exact ⟨by omega, by omega⟩ | assumption) _ (by first | exact am_rN (by omega) | exact ⟨by omega, by omega⟩ | assumption) _ (by first | exact am_rN (by omega) | exact ⟨by omega, by omega⟩ | assumption) _ (by first | exact am_rN (by omega) | exact ⟨by omega, by omega⟩ | assumption) _ (by first | exact am_rN (by omega) | exact ⟨by omega, by omega⟩ | assumption) ⟨fun _ => ⟨by omega, fun h2 => ⟨fun h3 => ?_, fun h3 => ⟨fun h4 => ?_, fun h4 => ?_⟩⟩, fun h2 => ⟨fun h3 => ?_, fun h3 => ?_⟩⟩, fun z => absurd z (by omega)⟩
    · rw [if_neg (by omega), decide_eq_false (by omega)] at hP
      exact am_qz_mk hP
    · rw [if_neg (by omega), decide_eq_false (by omega)] at hP
      exact am_qz_mk hP
    · rw [if_neg (by omega), decide_eq_true (by omega)] at hP
      exact am_qz_mk hP
    · rw [if_pos (by omega), decide_eq_false (by omega)] at hP
      exact am_qz_mk hP
    · rw [if_pos (by omega), decide_eq_true (by omega)] at hP
      exact am_qz_mk hP
  | succ m ih =>
    have hkn : k < n := by omega
    have nx := ih (k := k + 1) (by omega) (sp_cnt_le _ _) (sp_cnt_le _ _) (by omega)
    rw [sp_cnt, sp_cnt] at nx
    have e2 : ((o : Int) / 8 % 3) = ((o / 8 % 3 : Nat) : Int) := by omega
    have e3 : ((o : Int) / 24) = ((o / 24 : Nat) : Int) := by omega
    refine bX3_isEnd_15 _ (by first | exact am_rN (by omega) | exact ⟨by omega, by omega⟩ | assumption) _ (by first | exact am_rN (by omega) | exact ⟨by omega, by omega⟩ | assumption) _ (by first | exact am_rN (by omega) | exact ⟨by omega, by omega⟩ | assumption) _ (by first | exact am_rN (by omega) | exact ⟨by omega, by omega⟩ | assumption) _ (by first | exact am_rN (by omega) | exact ⟨by omega, by omega⟩ | assumption) _ (by first | exact am_rN (by omega) | exact ⟨by omega, by omega⟩ | assumption) ⟨fun z => absurd z (by omega), fun _ => ⟨⟨by omega, by omega⟩, fun hs => ?_, fun hs => ⟨by omega, by omega, ?_⟩⟩⟩
    · rw [h.sort hkn] at hs
      have e : decide (s k = o / 2 % 4) = false := decide_eq_false (by omega)
      simp only [e, Bool.false_and] at nx
      exact nx
    · rw [h.sort hkn] at hs
      have e : decide (s k = o / 2 % 4) = true := decide_eq_true (by omega)
      simp only [e, Bool.true_and] at nx
      rw [e2, e3]
      refine km_isAsTold h hkn (by omega) (by omega) ⟨fun hb => ?_, fun hb => ?_⟩
      · rw [hb] at nx
        exact nx
      · rw [hb] at nx
        exact nx
theorem km_isEnd {t n o : Nat} {s : Nat → Nat} {T : sp_T} {P : Bool → am_M → Prop} (h : mt S t n s T) (ho : o < 96) (hP : P (sp_end n s T o) S) : kX3_isEnd l [am_R 0, am_I t, am_I o] S (am_qz P) := by
  have ht := h.1
  refine bX3_isEnd _ (by first | exact am_rN (by omega) | exact ⟨by omega, by omega⟩ | assumption) _ (by first | exact am_rN (by omega) | exact ⟨by omega, by omega⟩ | assumption) ⟨by omega, by omega, ?_⟩
  rw [show ((o : Int) / 2 % 4) = ((o / 2 % 4 : Nat) : Int) by omega]
  exact km_isEnd_15 (k := 0) h ho (Nat.zero_le _) hP
theorem km_canBySome {t k to : Nat} {T : sp_T} {P : Bool → am_M → Prop} (h : mr S Z) (m : mt S t (zn Z) (zs Z) T) (hk : k < zn Z) (hto : to < 16) (hP : P (z_some Z T k to) S) : kX3_canBySome l [am_R 0, am_I t, am_I k, am_I to] S (am_qz P) := by
  have h6 := h.n6
  have ht := m.1
  unfold z_some at hP
  refine bX3_canBySome _ (by first | exact am_rN (by omega) | exact ⟨by omega, by omega⟩ | assumption) _ (by first | exact am_rN (by omega) | exact ⟨by omega, by omega⟩ | assumption) _ (by first | exact am_rN (by omega) | exact ⟨by omega, by omega⟩ | assumption) (km_isTo h (am_rN (by omega)) ⟨fun h1 => ?_, fun h1 => ?_⟩)
  · rw [h1] at hP
    exact am_qz_mk hP
  · rw [h1] at hP
    obtain ⟨t1, t2⟩ := z_isTo_lt h1
    refine km_canMove m hk t1 ⟨fun h2 => ?_, fun h2 => km_doesReach h m (arm := 0) (by decide) hk t1 ⟨fun h3 => ?_, fun h3 => km_doesReach h m (arm := 1) (by decide) hk t1 ⟨fun h4 => ?_, fun h4 => ?_⟩⟩⟩
    · rw [h2] at hP
      exact am_qz_mk hP
    · rw [h2, h3] at hP
      exact am_qz_mk hP
    · rw [h2, h3, h4] at hP
      exact am_qz_mk hP
    · rw [h2, h3, h4] at hP
      exact am_qz_mk hP
theorem z_some_14 {T : sp_T} {k to : Nat} (h : zn Z ≤ 6) (ht : 14 ≤ to) : z_some Z T k to = false := by
  have : z_isTo Z to = false := by
    unfold z_isTo
    rw [decide_eq_false (by omega), decide_eq_false (by omega)]
    rfl
  unfold z_some
  rw [this]
  rfl
theorem z_some_ok {T : sp_T} {k to : Nat} (hs : z_some Z T k to = true) : sp_can (zn Z) (zs Z) T k to = true ∧ to < 8 + zn Z ∧ (8 ≤ to → zs Z (to - 8) = 2) := by
  unfold z_some at hs
  rw [Bool.and_eq_true, Bool.and_eq_true] at hs
  exact ⟨hs.1.2, z_isTo_lt hs.1.1⟩
theorem km_endsByOne_13 {o k to : Nat} {S0 : am_M} {T : sp_T} {P : Bool → am_M → Prop} (h : mr S Z) (m : mt S 9 (zn Z) (zs Z) T) (ho : o < 96) (hk : k < zn Z) (hto : to ≤ 14) (hf : md_fr 10 S0 S) (hno : ∀ j, j < 16 * k + to → z_f1 Z T o j = false)
    (hP : ∀ S', mr S' Z → mt S' 9 (zn Z) (zs Z) T → md_fr 10 S0 S' → P ((z_first1 Z T o).isSome) S')
    (next : ∀ S', mr S' Z → mt S' 9 (zn Z) (zs Z) T → md_fr 10 S0 S' → (∀ j, j < 16 * (k + 1) → z_f1 Z T o j = false) → VX3_endsByOne l (am_qz P) 2 [(0, am_R 0), (1, am_I 9), (2, am_I o), (3, am_I ((k : Int) + 1))] [] S') :
    VX3_endsByOne l (am_qz P) 13 [(0, am_R 0), (1, am_I 9), (2, am_I o), (3, am_I k), (4, am_I to)] [] S := by
  have h6 := h.n6
  generalize hm : 14 - to = q
  induction q generalizing to S with
  | zero =>
    refine bX3_endsByOne_13 _ (by first | exact am_rN (by omega) | exact ⟨by omega, by omega⟩ | assumption) _ (by first | exact am_rN (by omega) | exact ⟨by omega, by omega⟩ | assumption) _ (by first | exact am_rN (by omega) | exact ⟨by omega, by omega⟩ | assumption) _ (by first | exact am_rN (by omega) | exact ⟨by omega, by omega⟩ | assumption) ⟨fun _ => next S h m hf (fun j hj => ?_), fun z => absurd z (by omega)⟩
    by_cases e : j < 16 * k + 14
    · exact hno j (by omega)
    · unfold z_f1
      rw [z_some_14 h6 (by omega)]
      rfl
  | succ q ih =>
    have ej1 : (16 * k + to) / 16 = k := by omega
    have ej2 : (16 * k + to) % 16 = to := by omega
    have nx : z_f1 Z T o (16 * k + to) = false → ∀ S', mr S' Z → mt S' 9 (zn Z) (zs Z) T → md_fr 10 S0 S' → VX3_endsByOne l (am_qz P) 13 [(0, am_R 0), (1, am_I 9), (2, am_I o), (3, am_I k), (4, am_I ((to : Int) + 1))] [] S' := by
      intro hx S' h' m' f'
      refine ih (to := to + 1) h' m' (by omega) f' (fun j hj => ?_) (by omega)
      by_cases e : j = 16 * k + to
      · rw [e]; exact hx
      · exact hno j (by omega)
    refine bX3_endsByOne_13 _ (by first | exact am_rN (by omega) | exact ⟨by omega, by omega⟩ | assumption) _ (by first | exact am_rN (by omega) | exact ⟨by omega, by omega⟩ | assumption) _ (by first | exact am_rN (by omega) | exact ⟨by omega, by omega⟩ | assumption) _ (by first | exact am_rN (by omega) | exact ⟨by omega, by omega⟩ | assumption) ⟨fun z => absurd z (by omega), fun _ => km_canBySome h m hk (by omega) ⟨fun h1 => nx ?_ S h m hf, fun h1 => ?_⟩⟩
    · unfold z_f1
      rw [ej1, ej2, h1]
      rfl
    · obtain ⟨c1, c2, c3⟩ := z_some_ok h1
      refine km_copyTable (a := 9) (b := 10) (by decide) (by decide) (by decide) m.2.2.1 (fun S1 r1 f1 => ?_)
      have h1' := h.fr f1 (by decide)
      refine km_doMove (t := 10) ⟨by decide, h1'.mn, r1, m.2.2.2⟩ hk c2 c3 c1 (fun S2 m2 f2 => ?_)
      have h2' := h1'.fr f2 (by decide)
      have f12 := (hf.trans f1).trans f2
      have m9 : mt S2 9 (zn Z) (zs Z) T := ⟨by decide, h2'.mn, (f1.trans f2).tab (by decide) m.2.2.1, m.2.2.2⟩
      refine km_isEnd m2 ho ⟨fun h2 => nx ?_ S2 h2' m9 f12, fun h2 => ?_⟩
      · unfold z_f1
        rw [ej1, ej2, h2, Bool.and_false]
      · have e : z_first1 Z T o = some (16 * k + to) := sp_find_some (by omega) (by unfold z_f1; rw [ej1, ej2, h1, h2]; rfl) hno
        have hP := hP _ h2' m9 f12
        rw [e] at hP
        exact am_qz_mk hP
theorem km_endsByOne_2 {o k : Nat} {S0 : am_M} {T : sp_T} {P : Bool → am_M → Prop} (h : mr S Z) (m : mt S 9 (zn Z) (zs Z) T) (ho : o < 96) (hk : k ≤ zn Z) (hf : md_fr 10 S0 S) (hno : ∀ j, j < 16 * k → z_f1 Z T o j = false)
    (hP : ∀ S', mr S' Z → mt S' 9 (zn Z) (zs Z) T → md_fr 10 S0 S' → P ((z_first1 Z T o).isSome) S') :
    VX3_endsByOne l (am_qz P) 2 [(0, am_R 0), (1, am_I 9), (2, am_I o), (3, am_I k)] [] S := by
  have h6 := h.n6
  generalize hm : zn Z - k = q
  induction q generalizing k S with
  | zero =>
    have en := h.en
    refine bX3_endsByOne_2 _ (by first | exact am_rN (by omega) | exact ⟨by omega, by omega⟩ | assumption) _ (by first | exact am_rN (by omega) | exact ⟨by omega, by omega⟩ | assumption) _ (by first | exact am_rN (by omega) | exact ⟨by omega, by omega⟩ | assumption) ⟨fun _ => ?_, fun z => absurd z (by omega)⟩
    have e : z_first1 Z T o = none := sp_find_none (fun j hj => hno j (by omega))
    have hP := hP _ h m hf
    rw [e] at hP
    exact am_qz_mk hP
  | succ q ih =>
    have en := h.en
    refine bX3_endsByOne_2 _ (by first | exact am_rN (by omega) | exact ⟨by omega, by omega⟩ | assumption) _ (by first | exact am_rN (by omega) | exact ⟨by omega, by omega⟩ | assumption) _ (by first | exact am_rN (by omega) | exact ⟨by omega, by omega⟩ | assumption) ⟨fun z => absurd z (by omega), fun _ => km_endsByOne_13 (to := 0) h m ho (by omega) (by decide) hf (fun j hj => hno j (by omega)) hP (fun S' h' m' f' hno' => ?_)⟩
    exact ih (k := k + 1) h' m' (by omega) f' hno' (by omega)
theorem km_endsByOne {o : Nat} {T : sp_T} {P : Bool → am_M → Prop} (h : mr S Z) (m : mt S 9 (zn Z) (zs Z) T) (ho : o < 96) (hP : ∀ S', mr S' Z → mt S' 9 (zn Z) (zs Z) T → md_fr 10 S S' → P ((z_first1 Z T o).isSome) S') : kX3_endsByOne l [am_R 0, am_I 9, am_I o] S (am_qz P) :=
  bX3_endsByOne _ (by first | exact am_rN (by omega) | exact ⟨by omega, by omega⟩ | assumption) _ (by first | exact am_rN (by omega) | exact ⟨by omega, by omega⟩ | assumption) (km_endsByOne_2 (k := 0) h m ho (Nat.zero_le _) (md_fr.refl 10 S) (fun _ z => absurd z (Nat.not_lt_zero _)) hP)
def z_f (Z : sp_Z) (T : sp_T) (o mv m : Nat) : Bool := if mv = 1 then z_f1 Z T o m else z_f2 Z T o m
theorem z_f_no {T : sp_T} {o mv m : Nat} (h : z_some Z T (m / 16) (m % 16) = false) : z_f Z T o mv m = false := by
  unfold z_f z_f1 z_f2
  rw [h]
  split <;> rfl
theorem km_plan_67 {w : Int} {o mv k to : Nat} {P : Int → am_M → Prop} (h : mr S Z) (hw : w = 0 ∨ w = 1) (ho : o < 96) (hv : mv = 1 ∨ mv = 2) (hk : k < zn Z) (hto : to ≤ 14) (hno : ∀ j, j < 16 * k + to → z_f Z (zT Z) o mv j = false)
    (hP : ∀ S' j, mr S' Z → j < 16 * zn Z → z_f Z (zT Z) o mv j = true → (∀ i, i < j → z_f Z (zT Z) o mv i = false) → P (if w = 0 then (mv : Int) else (j : Int)) S')
    (next : ∀ S', mr S' Z → (∀ j, j < 16 * (k + 1) → z_f Z (zT Z) o mv j = false) → VX3_plan l (am_qi P) 55 [(0, am_R 0), (1, am_I o), (2, am_I w), (3, am_I mv), (4, am_I ((k : Int) + 1))] [] S') :
    VX3_plan l (am_qi P) 67 [(0, am_R 0), (1, am_I o), (2, am_I w), (3, am_I mv), (4, am_I k), (5, am_I to)] [] S := by
  have h6 := h.n6
  generalize hm : 14 - to = q
  induction q generalizing to S with
  | zero =>
    refine bX3_plan_67 _ (by first | exact am_rN (by omega) | exact ⟨by omega, by omega⟩ | assumption) _ (by first | exact am_rN (by omega) | exact ⟨by omega, by omega⟩ | assumption) _ (by first | exact am_rN (by omega) | exact ⟨by omega, by omega⟩ | assumption) _ (by first | exact am_rN (by omega) | exact ⟨by omega, by omega⟩ | assumption) _ (by first | exact am_rN (by omega) | exact ⟨by omega, by omega⟩ | assumption) ⟨fun _ => next S h (fun j hj => ?_), fun z => absurd z (by omega)⟩
    by_cases e : j < 16 * k + 14
    · exact hno j (by omega)
    · exact z_f_no (z_some_14 h6 (by omega))
  | succ q ih =>
    have ej1 : (16 * k + to) / 16 = k := by omega
    have ej2 : (16 * k + to) % 16 = to := by omega
    have nx : z_f Z (zT Z) o mv (16 * k + to) = false → ∀ S', mr S' Z → VX3_plan l (am_qi P) 67 [(0, am_R 0), (1, am_I o), (2, am_I w), (3, am_I mv), (4, am_I k), (5, am_I ((to : Int) + 1))] [] S' := by
      intro hx S' h'
      refine ih (to := to + 1) h' (by omega) (fun j hj => ?_) (by omega)
      by_cases e : j = 16 * k + to
      · rw [e]; exact hx
      · exact hno j (by omega)
    have fin : z_f Z (zT Z) o mv (16 * k + to) = true → ∀ S', mr S' Z → ((¬ w = 0) → am_qi P (some (am_I ((16 * (k : Int)) + to))) S') ∧ ((w = 0) → am_qi P (some (am_I mv)) S') := by
      intro hx S' h'
      have hP := hP S' _ h' (by omega) hx hno
      refine ⟨fun h1 => ?_, fun h1 => ?_⟩
      · rw [if_neg h1] at hP
        rw [show (16 * (k : Int) + to) = ((16 * k + to : Nat) : Int) by omega]
        exact am_qi_mk (am_rN (by omega)) hP
      · rw [if_pos h1] at hP
        exact am_qi_mk (am_rN (by omega)) hP
    refine bX3_plan_67 _ (by first | exact am_rN (by omega) | exact ⟨by omega, by omega⟩ | assumption) _ (by first | exact am_rN (by omega) | exact ⟨by omega, by omega⟩ | assumption) _ (by first | exact am_rN (by omega) | exact ⟨by omega, by omega⟩ | assumption) _ (by first | exact am_rN (by omega) | exact ⟨by omega, by omega⟩ | assumption) _ (by first | exact am_rN (by omega) | exact ⟨by omega, by omega⟩ | assumption) ⟨fun z => absurd z (by omega), fun _ => km_canBySome h h.t0 hk (by omega) ⟨fun h1 => nx (z_f_no (by rw [ej1, ej2]; exact h1)) S h, fun h1 => ?_⟩⟩
    obtain ⟨c1, c2, c3⟩ := z_some_ok h1
    refine km_copyTable (a := 0) (b := 9) (by decide) (by decide) (by decide) h.t0.2.2.1 (fun S1 r1 f1 => ?_)
    have h1' := h.fr f1 (by decide)
    refine km_doMove (t := 9) ⟨by decide, h1'.mn, r1, h.1.2.1.1⟩ hk c2 c3 c1 (fun S2 m2 f2 => ?_)
    have h2' := h1'.fr f2 (by decide)
    refine ⟨fun e1 => km_endsByOne h2' m2 ho (fun S3 h3 m3 f3 => ⟨fun h2 => nx ?_ S3 h3, fun h2 => fin ?_ S3 h3⟩), fun e1 => km_isEnd m2 ho ⟨fun h2 => nx ?_ S2 h2', fun h2 => fin ?_ S2 h2'⟩⟩
    · unfold z_f z_f2
      rw [if_neg (by omega), ej1, ej2, h2, Bool.and_false]
    · unfold z_f z_f2
      rw [if_neg (by omega), ej1, ej2, h2, h1]
      rfl
    · unfold z_f z_f1
      rw [if_pos (by omega), ej1, ej2, h2, Bool.and_false]
    · unfold z_f z_f1
      rw [if_pos (by omega), ej1, ej2, h2, h1]
      rfl
theorem km_plan_55 {w : Int} {o mv k : Nat} {P : Int → am_M → Prop} (h : mr S Z) (hw : w = 0 ∨ w = 1) (ho : o < 96) (hv : mv = 1 ∨ mv = 2) (hk : k ≤ zn Z) (hno : ∀ j, j < 16 * k → z_f Z (zT Z) o mv j = false)
    (hP : ∀ S' j, mr S' Z → j < 16 * zn Z → z_f Z (zT Z) o mv j = true → (∀ i, i < j → z_f Z (zT Z) o mv i = false) → P (if w = 0 then (mv : Int) else (j : Int)) S')
    (next : ∀ S', mr S' Z → (∀ j, j < 16 * zn Z → z_f Z (zT Z) o mv j = false) → VX3_plan l (am_qi P) 47 [(0, am_R 0), (1, am_I o), (2, am_I w), (3, am_I ((mv : Int) + 1))] [] S') :
    VX3_plan l (am_qi P) 55 [(0, am_R 0), (1, am_I o), (2, am_I w), (3, am_I mv), (4, am_I k)] [] S := by
  have h6 := h.n6
  generalize hm : zn Z - k = q
  induction q generalizing k S with
  | zero =>
    have en := h.en
    exact bX3_plan_55 _ (by first | exact am_rN (by omega) | exact ⟨by omega, by omega⟩ | assumption) _ (by first | exact am_rN (by omega) | exact ⟨by omega, by omega⟩ | assumption) _ (by first | exact am_rN (by omega) | exact ⟨by omega, by omega⟩ | assumption) _ (by first | exact am_rN (by omega) | exact ⟨by omega, by omega⟩ | assumption) ⟨fun _ => next S h (fun j hj => hno j (by omega)), fun z => absurd z (by omega)⟩
  | succ q ih =>
    have en := h.en
    refine bX3_plan_55 _ (by first | exact am_rN (by omega) | exact ⟨by omega, by omega⟩ | assumption) _ (by first | exact am_rN (by omega) | exact ⟨by omega, by omega⟩ | assumption) _ (by first | exact am_rN (by omega) | exact ⟨by omega, by omega⟩ | assumption) _ (by first | exact am_rN (by omega) | exact ⟨by omega, by omega⟩ | assumption) ⟨fun z => absurd z (by omega), fun _ => km_plan_67 (to := 0) h hw ho hv (by omega) (by decide) (fun j hj => hno j (by omega)) hP (fun S' h' hno' => ?_)⟩
    exact ih (k := k + 1) h' (by omega) hno' (by omega)
theorem km_plan {o w : Int} {P : Int → am_M → Prop} (h : mr S Z) (ho : am_r o) (hw : am_r w) (hP : ∀ S', mr S' (zo_plan Z o w).2 → P (zo_plan Z o w).1 S') : kX3_plan l [am_R 0, am_I o, am_I w] S (am_qi P) := by
  have h6 := h.n6
  unfold zo_plan at hP
  refine bX3_plan _ (by first | exact am_rN (by omega) | exact ⟨by omega, by omega⟩ | assumption) _ (by first | exact am_rN (by omega) | exact ⟨by omega, by omega⟩ | assumption) (km_isOrder ho ⟨fun h1 => ?_, fun h1 => km_in ⟨fun h2 => ?_, fun h2 => ?_⟩⟩)
  · have h1 := of_decide_eq_false h1
    rw [if_neg (by omega)] at hP
    exact am_qi_mk ⟨by decide, by decide⟩ (hP _ h.th)
  · have h1 := of_decide_eq_true h1
    have h2 := of_decide_eq_true h2
    rw [if_pos ⟨h1, h2⟩] at hP
    obtain ⟨o, rfl⟩ : ∃ q : Nat, o = q := ⟨o.toNat, by omega⟩
    rw [Int.toNat_natCast] at hP
    refine km_isEnd h.th.t0 (by omega) ⟨fun h3 => ?_, fun h3 => ⟨fun h4 => ?_, fun h4 => ?_⟩⟩
    · rw [h3, if_neg (show ¬ false = true by decide)] at hP
      refine bX3_plan_47 _ (by first | exact am_rN (by omega) | exact ⟨by omega, by omega⟩ | assumption) _ (by first | exact am_rN (by omega) | exact ⟨by omega, by omega⟩ | assumption) _ (by first | exact am_rN (by omega) | exact ⟨by omega, by omega⟩ | assumption) ⟨fun z => absurd z (by omega), fun _ => km_plan_55 (mv := 1) (k := 0) h.th (by omega) (by omega) (Or.inl rfl) (Nat.zero_le _) (fun _ z => absurd z (Nat.not_lt_zero _)) (fun S' j h' hj h4 h5 => ?_) (fun S' h' hno => ?_)⟩
      · have e : z_first1 Z (zT Z) o = some j := sp_find_some hj h4 h5
        have hP := hP _ h'
        rw [e] at hP
        exact hP
      · have e : z_first1 Z (zT Z) o = none := sp_find_none hno
        rw [e] at hP
        refine bX3_plan_47 _ (by first | exact am_rN (by omega) | exact ⟨by omega, by omega⟩ | assumption) _ (by first | exact am_rN (by omega) | exact ⟨by omega, by omega⟩ | assumption) _ (by first | exact am_rN (by omega) | exact ⟨by omega, by omega⟩ | assumption) ⟨fun z => absurd z (by omega), fun _ => km_plan_55 (mv := 2) (k := 0) h' (by omega) (by omega) (Or.inr rfl) (Nat.zero_le _) (fun _ z => absurd z (Nat.not_lt_zero _)) (fun S' j h' hj h4 h5 => ?_) (fun S' h' hno => ?_)⟩
        · have e : z_first2 Z (zT Z) o = some j := sp_find_some hj h4 h5
          have hP := hP _ h'
          rw [e] at hP
          exact hP
        · have e : z_first2 Z (zT Z) o = none := sp_find_none hno
          rw [e] at hP
          exact bX3_plan_47 _ (by first | exact am_rN (by omega) | exact ⟨by omega, by omega⟩ | assumption) _ (by first | exact am_rN (by omega) | exact ⟨by omega, by omega⟩ | assumption) _ (by first | exact am_rN (by omega) | exact ⟨by omega, by omega⟩ | assumption) ⟨fun _ => am_qi_mk ⟨by decide, by decide⟩ (hP _ h'), fun z => absurd z (by omega)⟩
    · rw [h3, if_pos rfl, if_neg h4] at hP
      exact am_qi_mk ⟨by decide, by decide⟩ (hP _ h.th)
    · rw [h3, if_pos rfl, if_pos h4] at hP
      exact am_qi_mk ⟨by decide, by decide⟩ (hP _ h.th)
  · have h2 := of_decide_eq_false h2
    rw [if_neg (by omega)] at hP
    exact am_qi_mk ⟨by decide, by decide⟩ (hP _ h.th)
end KM11
