def sp_sum (f : Nat → Nat) : Nat → Nat
  | 0 => 0
  | m + 1 => sp_sum f m + f m
theorem sp_sum_le {f : Nat → Nat} {b : Nat} (m : Nat) (h : ∀ k, k < m → f k ≤ b) : sp_sum f m ≤ b * m := by
  induction m with
  | zero => exact Nat.zero_le _
  | succ m ih =>
    have h1 := ih (fun k hk => h k (by omega))
    have h2 := h m (Nat.lt_succ_self m)
    rw [sp_sum, Nat.mul_succ]
    omega
def z_weightOn (Z : sp_Z) (T : sp_T) (a m : Nat) : Nat := sp_sum (fun k => if sp_cell T k = a then zw Z k else 0) m
def z_brk (Z : sp_Z) (T : sp_T) (a what b k : Nat) : Bool := (decide (zs Z k = a)) && (if what = 3 then (T.2.2 k).isNone && decide (sp_cell T k = b) else sp_told (zs Z) T k what b)
def z_broken (Z : sp_Z) (T : sp_T) (i : Nat) : Bool := if (zNf Z i).2.1 = 4 then decide ((zNf Z i).2.2 < z_weightOn Z T (zNf Z i).1 (zn Z)) else (List.range (zn Z)).any (z_brk Z T (zNf Z i).1 (zNf Z i).2.1 (zNf Z i).2.2)
def z_brokenOn (Z : sp_Z) (T : sp_T) : Nat := sp_cnt (z_broken Z T) (zN Z)
def z_safe (Z : sp_Z) (k to : Nat) : Bool := decide (z_brokenOn Z (sp_move (zT Z) k to) = 0)
def z_let (Z : sp_Z) (k to m : Nat) : Bool := z_safe Z k to && (List.range m).all (fun c => !sp_near to c || z_safe Z k c)
def zo_let (Z : sp_Z) (a k to : Int) : Int × sp_Z := if z_mayMove Z a k to = true then if z_canMove Z a k to = true then (if z_let Z k.toNat to.toNat (if to < 8 then 8 else 0) = true then 1 else 0, Z) else (-1000002, Z) else (-1000001, Z)
def zo_broken (Z : sp_Z) : Int × sp_Z := ((z_brokenOn Z (zT Z) : Nat), Z)
theorem bo_all_range {d : Nat} {f : Nat → Bool} : (List.range (d + 1)).all f = ((List.range d).all f && f d) := by
  rw [List.range_succ]
  simp
section KM15
variable {l : Launch} {S : am_M} {Z : sp_Z}
theorem mr.wt (h : mr S Z) {k : Nat} (hk : k < zn Z) : (S.2 2 (Int.toNat k)).toInt = zw Z k ∧ 1 ≤ zw Z k ∧ zw Z k ≤ 20 := ⟨(h.2.1.2 k hk).2, (h.1.1.2 k hk).2⟩
theorem km_isBroken_4 {t a b k : Nat} {v : Bool} {T : sp_T} {P : Bool → am_M → Prop} (h : mr S Z) (m : mt S t (zn Z) (zs Z) T) (ha : a < 8) (hb : b ≤ 200) (hk : k ≤ zn Z) (hP : P (decide (b < z_weightOn Z T a (zn Z))) S) :
    VX3_isBroken l (am_qz P) 42 [(0, am_R 0), (1, am_I t), (3, am_I a), (4, am_I 4), (5, am_I b), (6, am_I (z_weightOn Z T a k : Nat)), (7, am_I (am_b v)), (8, am_I k)] [] S := by
  have h6 := h.n6
  have ht := m.1
  have en := h.en
  have hle : ∀ j, j ≤ zn Z → z_weightOn Z T a j ≤ 20 * j := fun j hj => sp_sum_le j (fun i hi => by
    have := (h.wt (show i < zn Z by omega)).2.2
    split <;> omega)
  have hlk := hle k hk
  generalize hq : zn Z - k = q
  induction q generalizing k with
  | zero =>
    have e : k = zn Z := by omega
    subst e
    refine bX3_isBroken_42 _ (by first | exact am_rN (by omega) | exact ⟨by omega, by omega⟩ | assumption) _ (by first | exact am_rN (by omega) | exact ⟨by omega, by omega⟩ | assumption) _ (by first | exact am_rN (by omega) | exact ⟨by omega, by omega⟩ | assumption) _ (by first | exact am_rN (by omega) | exact ⟨by omega, by omega⟩ | assumption) _ (by first | exact am_rN (by omega) | exact ⟨by omega, by omega⟩ | assumption) _ _ (by first | exact am_rN (by omega) | exact ⟨by omega, by omega⟩ | assumption) ⟨fun _ => ⟨fun z => absurd rfl z, fun _ => ⟨fun h1 => ?_, fun h1 => ?_⟩⟩, fun z => absurd z (by omega)⟩
    · rw [decide_eq_false (by omega)] at hP
      exact am_qz_mk hP
    · rw [decide_eq_true (by omega)] at hP
      exact am_qz_mk hP
  | succ q ih =>
    have hkn : k < zn Z := by omega
    have nx := ih (k := k + 1) (by omega) (hle _ (by omega)) (by omega)
    rw [z_weightOn, sp_sum] at nx
    have hcell := (m.2.2.2.base hkn).2.2.1
    refine bX3_isBroken_42 _ (by first | exact am_rN (by omega) | exact ⟨by omega, by omega⟩ | assumption) _ (by first | exact am_rN (by omega) | exact ⟨by omega, by omega⟩ | assumption) _ (by first | exact am_rN (by omega) | exact ⟨by omega, by omega⟩ | assumption) _ (by first | exact am_rN (by omega) | exact ⟨by omega, by omega⟩ | assumption) _ (by first | exact am_rN (by omega) | exact ⟨by omega, by omega⟩ | assumption) _ _ (by first | exact am_rN (by omega) | exact ⟨by omega, by omega⟩ | assumption) ⟨fun z => absurd z (by omega), fun _ => ⟨fun z => absurd rfl z, fun _ => km_cellOf ht m.2.2.1 m.2.2.2 hkn ⟨fun h1 => ?_, fun h1 => ⟨⟨by omega, by omega⟩, ?_⟩⟩⟩⟩
    · rw [if_neg (by omega)] at nx
      exact nx
    · rw [if_pos (by omega)] at nx
      rw [(h.wt hkn).1]
      exact nx
theorem km_isBroken_n {t a w b k : Nat} {v : Bool} {T : sp_T} {P : Bool → am_M → Prop} (h : mr S Z) (m : mt S t (zn Z) (zs Z) T) (ha : a < 4) (hb : b < 8) (hw : w = 3 ∨ w < 3 ∧ b < 4) (hk : k ≤ zn Z) (hv : v = (List.range k).any (z_brk Z T a w b)) (hP : P ((List.range (zn Z)).any (z_brk Z T a w b)) S) :
    VX3_isBroken l (am_qz P) 42 [(0, am_R 0), (1, am_I t), (3, am_I a), (4, am_I w), (5, am_I b), (6, am_I 0), (7, am_I (am_b v)), (8, am_I k)] [] S := by
  have h6 := h.n6
  have ht := m.1
  have en := h.en
  generalize hq : zn Z - k = q
  induction q generalizing k v with
  | zero =>
    have e : k = zn Z := by omega
    subst e
    refine bX3_isBroken_42 _ (by first | exact am_rN (by omega) | exact ⟨by omega, by omega⟩ | assumption) _ (by first | exact am_rN (by omega) | exact ⟨by omega, by omega⟩ | assumption) _ (by first | exact am_rN (by omega) | exact ⟨by omega, by omega⟩ | assumption) _ (by first | exact am_rN (by omega) | exact ⟨by omega, by omega⟩ | assumption) _ (by first | exact am_rN (by omega) | exact ⟨by omega, by omega⟩ | assumption) _ _ (by first | exact am_rN (by omega) | exact ⟨by omega, by omega⟩ | assumption) ⟨fun _ => ⟨fun _ => ?_, fun z => absurd z (by omega)⟩, fun z => absurd z (by omega)⟩
    rw [← hv] at hP
    exact am_qz_mk hP
  | succ q ih =>
    have hkn : k < zn Z := by omega
    have nx : ∀ v', v' = (v || z_brk Z T a w b k) → VX3_isBroken l (am_qz P) 42 [(0, am_R 0), (1, am_I t), (3, am_I a), (4, am_I w), (5, am_I b), (6, am_I 0), (7, am_I (am_b v')), (8, am_I ((k : Int) + 1))] [] S := by
      intro v' hv'
      exact ih (k := k + 1) (by omega) (by rw [bo_any_range, ← hv]; exact hv') (by omega)
    have es : (S.2 1 (k : Int).toNat).toInt = zs Z k := m.sort hkn
    refine bX3_isBroken_42 _ (by first | exact am_rN (by omega) | exact ⟨by omega, by omega⟩ | assumption) _ (by first | exact am_rN (by omega) | exact ⟨by omega, by omega⟩ | assumption) _ (by first | exact am_rN (by omega) | exact ⟨by omega, by omega⟩ | assumption) _ (by first | exact am_rN (by omega) | exact ⟨by omega, by omega⟩ | assumption) _ (by first | exact am_rN (by omega) | exact ⟨by omega, by omega⟩ | assumption) _ _ (by first | exact am_rN (by omega) | exact ⟨by omega, by omega⟩ | assumption) ⟨fun z => absurd z (by omega), fun _ => ⟨fun _ => ⟨fun h3 => ⟨fun hv1 => nx true (by rw [hv1]; rfl), fun hv1 => ⟨⟨by omega, by omega⟩, ?_⟩⟩, fun h3 => ⟨fun hv1 => nx true (by rw [hv1]; rfl), fun hv1 => ⟨⟨by omega, by omega⟩, ?_⟩⟩⟩, fun z => absurd z (by omega)⟩⟩
    · rw [es]
      refine ⟨fun hs => nx false ?_, fun hs => km_isAsTold m hkn (by omega) (by omega) ⟨fun ht => nx false ?_, fun ht => nx true ?_⟩⟩
      · unfold z_brk
        rw [hv1, decide_eq_false (by omega)]
        rfl
      · unfold z_brk
        rw [hv1, if_neg (by omega), ht, Bool.and_false]
        rfl
      · unfold z_brk
        rw [hv1, if_neg (by omega), ht, decide_eq_true (by omega)]
        rfl
    · rw [es]
      refine ⟨fun hs => nx false ?_, fun hs => km_box m (by omega) ⟨fun hx => nx false ?_, fun hx => km_cellOf ht m.2.2.1 m.2.2.2 hkn ⟨fun hc => nx false ?_, fun hc => nx true ?_⟩⟩⟩
      · unfold z_brk
        rw [hv1, decide_eq_false (by omega)]
        rfl
      · obtain ⟨x, hx⟩ := sp_ob_ge (by omega : ¬ sp_ob (T.2.2 k) < 0)
        unfold z_brk
        rw [hv1, if_pos (by omega), hx, Option.isNone_some, Bool.false_and, Bool.and_false]
        rfl
      · unfold z_brk
        rw [hv1, if_pos (by omega), decide_eq_false (show ¬ sp_cell T k = b by omega), Bool.and_false, Bool.and_false]
        rfl
      · unfold z_brk
        rw [hv1, if_pos (by omega), decide_eq_true (show sp_cell T k = b by omega), sp_ob_lt.mp (by omega : sp_ob (T.2.2 k) < 0), decide_eq_true (by omega)]
        rfl
theorem km_isBroken {t i : Nat} {T : sp_T} {P : Bool → am_M → Prop} (h : mr S Z) (m : mt S t (zn Z) (zs Z) T) (hi : i < zN Z) (hP : P (z_broken Z T i) S) : kX3_isBroken l [am_R 0, am_I t, am_I i] S (am_qz P) := by
  have ht := m.1
  have N16 := h.1.2.2.2.2.2.1.1
  obtain ⟨w4, wa, wb, wc⟩ := h.1.2.2.2.2.2.1.2 i hi
  obtain ⟨e0, e1, e2⟩ := h.2.2.2.2.2.2.1.2 i hi
  unfold z_broken at hP
  refine bX3_isBroken _ (by first | exact am_rN (by omega) | exact ⟨by omega, by omega⟩ | assumption) _ (by first | exact am_rN (by omega) | exact ⟨by omega, by omega⟩ | assumption) ⟨by omega, by omega, by omega, ?_⟩
  rw [show (3 * (i : Int)).toNat = 3 * i by omega, show (3 * (i : Int) + 1).toNat = 3 * i + 1 by omega, show (3 * (i : Int) + 2).toNat = 3 * i + 2 by omega, e0, e1, e2]
  by_cases e : (zNf Z i).2.1 = 4
  · rw [if_pos e] at hP
    rw [e]
    obtain ⟨q1, q2⟩ := wa e
    exact km_isBroken_4 (k := 0) (v := false) h m q1 q2 (Nat.zero_le _) hP
  · rw [if_neg e] at hP
    by_cases e3 : (zNf Z i).2.1 = 3
    · obtain ⟨q1, q2⟩ := wb e3
      exact km_isBroken_n (k := 0) (v := false) h m q1 q2 (Or.inl e3) (Nat.zero_le _) rfl hP
    · obtain ⟨q1, q2⟩ := wc (by omega)
      exact km_isBroken_n (k := 0) (v := false) h m q1 (by omega) (Or.inr ⟨by omega, q2⟩) (Nat.zero_le _) rfl hP
theorem km_brokenOn_4 {t i : Nat} {T : sp_T} {P : Int → am_M → Prop} (h : mr S Z) (m : mt S t (zn Z) (zs Z) T) (hi : i ≤ zN Z) (hP : P (z_brokenOn Z T : Nat) S) :
    VX3_brokenOn l (am_qi P) 4 [(0, am_R 0), (1, am_I t), (2, am_I (sp_cnt (z_broken Z T) i : Nat)), (3, am_I i)] [] S := by
  have ht := m.1
  have N16 := h.1.2.2.2.2.2.1.1
  have eN : (S.1 5).toInt = zN Z := h.2.2.2.2.2.2.1.1
  have hle := sp_cnt_le (z_broken Z T) i
  generalize hq : zN Z - i = q
  induction q generalizing i with
  | zero =>
    have e : i = zN Z := by omega
    subst e
    exact bX3_brokenOn_4 _ (by first | exact am_rN (by omega) | exact ⟨by omega, by omega⟩ | assumption) _ (by first | exact am_rN (by omega) | exact ⟨by omega, by omega⟩ | assumption) _ (by first | exact am_rN (by omega) | exact ⟨by omega, by omega⟩ | assumption) ⟨fun _ => am_qi_mk (am_rN (by omega)) hP, fun z => absurd z (by omega)⟩
  | succ q ih =>
    have nx := ih (i := i + 1) (by omega) (sp_cnt_le _ _) (by omega)
    rw [sp_cnt] at nx
    refine bX3_brokenOn_4 _ (by first | exact am_rN (by omega) | exact ⟨by omega, by omega⟩ | assumption) _ (by first | exact am_rN (by omega) | exact ⟨by omega, by omega⟩ | assumption) _ (by first | exact am_rN (by omega) | exact ⟨by omega, by omega⟩ | assumption) ⟨fun z => absurd z (by omega), fun _ => km_isBroken h m (by omega) ⟨fun hb => ?_, fun hb => ?_⟩⟩
    · rw [hb] at nx
      exact nx
    · rw [hb] at nx
      exact nx
theorem km_brokenOn {t : Nat} {T : sp_T} {P : Int → am_M → Prop} (h : mr S Z) (m : mt S t (zn Z) (zs Z) T) (hP : P (z_brokenOn Z T : Nat) S) : kX3_brokenOn l [am_R 0, am_I t] S (am_qi P) := by
  have ht := m.1
  exact bX3_brokenOn _ (by first | exact am_rN (by omega) | exact ⟨by omega, by omega⟩ | assumption) (km_brokenOn_4 (i := 0) h m (Nat.zero_le _) hP)
theorem z_brokenOn_le (Z : sp_Z) (T : sp_T) : z_brokenOn Z T ≤ zN Z := sp_cnt_le _ _
theorem km_broken {P : Int → am_M → Prop} (h : mr S Z) (hP : ∀ S', mr S' (zo_broken Z).2 → P (zo_broken Z).1 S') : kX3_broken l [am_R 0] S (am_qi P) := by
  have N16 := h.1.2.2.2.2.2.1.1
  have := z_brokenOn_le Z (zT Z)
  exact bX3_broken (km_brokenOn (t := 0) h.th h.th.t0 (am_qi_mk (am_rN (by omega)) (hP _ h.th)))
theorem km_isSafe {k to : Nat} {P : Bool → am_M → Prop} (h : mr S Z) (hk : k < zn Z) (hto : to < 8 + zn Z) (hs : 8 ≤ to → zs Z (to - 8) = 2) (hc : sp_can (zn Z) (zs Z) (zT Z) k to = true) (hP : ∀ S', mr S' Z → P (z_safe Z k to) S') : kX3_isSafeBehind l [am_R 0, am_I k, am_I to] S (am_qz P) := by
  have h6 := h.n6
  unfold z_safe at hP
  refine bX3_isSafeBehind _ (by first | exact am_rN (by omega) | exact ⟨by omega, by omega⟩ | assumption) _ (by first | exact am_rN (by omega) | exact ⟨by omega, by omega⟩ | assumption) (km_copyTable (a := 0) (b := 9) (by decide) (by decide) (by decide) h.t0.2.2.1 (fun S1 r1 f1 => ?_))
  have h1 := h.fr f1 (by decide)
  refine km_doMove (t := 9) ⟨by decide, h1.mn, r1, h.1.2.1.1⟩ hk hto hs hc (fun S2 m2 f2 => ?_)
  have h2 := h1.fr f2 (by decide)
  refine km_brokenOn (t := 9) h2 m2 ⟨fun e => ?_, fun e => ?_⟩
  · have hP := hP _ h2
    rw [decide_eq_false (by omega)] at hP
    exact am_qz_mk hP
  · have hP := hP _ h2
    rw [decide_eq_true (by omega)] at hP
    exact am_qz_mk hP
theorem km_let_66 {k to c : Nat} {v : Bool} {P : Int → am_M → Prop} (h : mr S Z) (hk : k < zn Z) (hto : to < 8 + zn Z) (hl : sp_loose (zT Z) k = true) (hc : c ≤ (if to < 8 then 8 else 0)) (hv : v = z_let Z k to c) (hP : ∀ S', mr S' Z → P (if z_let Z k to (if to < 8 then 8 else 0) = true then 1 else 0) S') :
    VX3_let l (am_qi P) 66 [(0, am_R 0), (2, am_I k), (3, am_I to), (4, am_I (am_b v)), (5, am_I c)] [] S := by
  have h6 := h.n6
  have fin : ∀ S', mr S' Z → v = z_let Z k to (if to < 8 then 8 else 0) → (v = false → am_qi P (some (am_I 0)) S') ∧ (v = true → am_qi P (some (am_I 1)) S') := by
    intro S' h' e
    have hP := hP S' h'
    rw [← e] at hP
    refine ⟨fun q => ?_, fun q => ?_⟩
    · rw [q] at hP
      exact am_qi_mk ⟨by decide, by decide⟩ hP
    · rw [q] at hP
      exact am_qi_mk ⟨by decide, by decide⟩ hP
  by_cases h8 : to < 8
  · rw [if_pos h8] at hc fin
    generalize hq : 8 - c = q
    induction q generalizing c v S with
    | zero =>
      have e : c = 8 := by omega
      subst e
      exact bX3_let_66 _ (by first | exact am_rN (by omega) | exact ⟨by omega, by omega⟩ | assumption) _ (by first | exact am_rN (by omega) | exact ⟨by omega, by omega⟩ | assumption) _ _ (by first | exact am_rN (by omega) | exact ⟨by omega, by omega⟩ | assumption) ⟨fun _ => fin S h hv, fun z => absurd z (by omega)⟩
    | succ q ih =>
      have hfin' : ∀ v', ∀ S', mr S' Z → v' = z_let Z k to 8 → (v' = false → am_qi P (some (am_I 0)) S') ∧ (v' = true → am_qi P (some (am_I 1)) S') := by
        intro v' S' h' e
        have hP := hP S' h'
        rw [if_pos h8, ← e] at hP
        refine ⟨fun q => ?_, fun q => ?_⟩
        · rw [q] at hP
          exact am_qi_mk ⟨by decide, by decide⟩ hP
        · rw [q] at hP
          exact am_qi_mk ⟨by decide, by decide⟩ hP
      have nx : ∀ v' S', mr S' Z → v' = (v && (!sp_near to c || z_safe Z k c)) → VX3_let l (am_qi P) 66 [(0, am_R 0), (2, am_I k), (3, am_I to), (4, am_I (am_b v')), (5, am_I ((c : Int) + 1))] [] S' := by
        intro v' S' h' e
        refine ih (c := c + 1) h' (by omega) ?_ (hfin' v') (by omega)
        rw [e, hv]
        unfold z_let
        rw [bo_all_range, Bool.and_assoc]
      refine bX3_let_66 _ (by first | exact am_rN (by omega) | exact ⟨by omega, by omega⟩ | assumption) _ (by first | exact am_rN (by omega) | exact ⟨by omega, by omega⟩ | assumption) _ _ (by first | exact am_rN (by omega) | exact ⟨by omega, by omega⟩ | assumption) ⟨fun z => absurd z (by omega), fun _ => ⟨fun z => absurd z (by omega), fun _ => ⟨fun hf => nx false S h (by rw [hf]; rfl), fun ht => km_isNeighbour h8 (by omega) ⟨fun hn => nx true S h (by rw [ht, hn]; rfl), fun hn => km_isSafe h hk (by omega) (fun z => absurd z (by omega)) ?_ (fun S' h' => ⟨fun hs => nx false S' h' (by rw [ht, hn, hs]; rfl), fun hs => nx true S' h' (by rw [ht, hn, hs]; rfl)⟩)⟩⟩⟩⟩
      unfold sp_can
      rw [if_pos (by omega)]
      exact hl
  · rw [if_neg h8] at hc fin
    have e : c = 0 := by omega
    subst e
    exact bX3_let_66 _ (by first | exact am_rN (by omega) | exact ⟨by omega, by omega⟩ | assumption) _ (by first | exact am_rN (by omega) | exact ⟨by omega, by omega⟩ | assumption) _ _ (by first | exact am_rN (by omega) | exact ⟨by omega, by omega⟩ | assumption) ⟨fun _ => fin S h hv, fun _ => ⟨fun _ => fin S h hv, fun z => absurd z (by omega)⟩⟩
theorem km_let {a k to : Int} {P : Int → am_M → Prop} (h : mr S Z) (ha : am_r a) (hk : am_r k) (hto : am_r to) (hP : ∀ S', mr S' (zo_let Z a k to).2 → P (zo_let Z a k to).1 S') : kX3_let l [am_R 0, am_I a, am_I k, am_I to] S (am_qi P) := by
  have h6 := h.n6
  unfold zo_let z_mayMove z_canMove at hP
  refine bX3_let _ (by first | exact am_rN (by omega) | exact ⟨by omega, by omega⟩ | assumption) _ (by first | exact am_rN (by omega) | exact ⟨by omega, by omega⟩ | assumption) _ (by first | exact am_rN (by omega) | exact ⟨by omega, by omega⟩ | assumption) (km_isArm ha ⟨fun hb => ?_, fun hb => km_isThing h.th hk ⟨fun hc => ?_, fun hc => km_isTo h.th hto ⟨fun hd => ?_, fun hd => ?_⟩⟩⟩)
  · have hb := of_decide_eq_false hb
    rw [decide_eq_false (by omega)] at hP
    exact am_qi_mk ⟨by decide, by decide⟩ (hP _ h.th)
  · have hc := of_decide_eq_false hc
    rw [decide_eq_false (by omega)] at hP
    exact am_qi_mk ⟨by decide, by decide⟩ (hP _ h.th)
  · have hb := of_decide_eq_true hb
    have hc := of_decide_eq_true hc
    have hp := z_isTo_pos hd
    rw [decide_eq_true ⟨hb, hc⟩, hd, if_pos (show (true && true) = true from rfl)] at hP
    obtain ⟨a, rfl⟩ : ∃ o : Nat, a = o := ⟨a.toNat, by omega⟩
    obtain ⟨k, rfl⟩ : ∃ o : Nat, k = o := ⟨k.toNat, by omega⟩
    obtain ⟨to, rfl⟩ : ∃ o : Nat, to = o := ⟨to.toNat, by omega⟩
    simp only [Int.toNat_natCast] at hP
    obtain ⟨t1, t2⟩ := z_isTo_lt hd
    have e8 : (if (to : Int) < 8 then 8 else 0) = (if to < 8 then 8 else 0) := by
      by_cases e : to < 8
      · rw [if_pos e, if_pos (by omega)]
      · rw [if_neg e, if_neg (by omega)]
    rw [e8] at hP
    refine km_canMove h.th.t0 (by omega) t1 ⟨fun he => ?_, fun he => km_doesReach h.th h.th.t0 (by omega) (by omega) t1 ⟨fun hr => ?_, fun hr => ?_⟩⟩
    · rw [he] at hP
      exact am_qi_mk ⟨by decide, by decide⟩ (hP _ h.th)
    · rw [he, hr, if_pos (show (true && true) = true from rfl)] at hP
      refine km_isSafe h.th (by omega) t1 t2 he (fun S1 h1 => km_let_66 (c := 0) h1 (by omega) t1 (sp_can_loose he) (Nat.zero_le _) ?_ hP)
      unfold z_let
      simp
    · rw [he, hr] at hP
      exact am_qi_mk ⟨by decide, by decide⟩ (hP _ h.th)
  · rw [hd, Bool.and_false] at hP
    exact am_qi_mk ⟨by decide, by decide⟩ (hP _ h.th)
end KM15
