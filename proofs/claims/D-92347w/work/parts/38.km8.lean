theorem sp_new_ok {n a c : Nat} {s : Nat → Nat} {T : sp_T} (h : sp_ok n s T) (hn : n < 6) (hc0 : c < 8) : sp_ok (n + 1) (va_up s n a) (sp_put T n c) := by
  have hb : T.2.2 n = none := by
    cases q : T.2.2 n with
    | none => rfl
    | some x => exact absurd (h.2.2.2.1 n x q).1 (Nat.lt_irrefl _)
  refine ⟨by omega, fun d hd => ?_, fun j hj hj2 => ?_, fun j x hj => ?_, fun j i x hj hi => h.2.2.2.2 j i x hj hi⟩
  · obtain ⟨h1, h2⟩ := h.2.1 d hd
    have hnk : n ∉ T.1 d := fun z => absurd ((h2 n).mp z).1 (Nat.lt_irrefl _)
    show (va_up T.1 c _ d).Nodup ∧ ∀ j, j ∈ va_up T.1 c _ d ↔ (j < n + 1 ∧ T.2.2 j = none ∧ va_up T.2.1 n c j = d)
    have hr : ∀ j, (j < n + 1 ∧ T.2.2 j = none ∧ va_up T.2.1 n c j = d) ↔ (j ∈ T.1 d ∨ (j = n ∧ c = d)) := by
      intro j
      rw [h2, up_if]
      by_cases e : j = n
      · subst e
        simp [hb]
      · rw [if_neg e]
        constructor
        · exact fun z => Or.inl ⟨by omega, z.2⟩
        · exact fun z => z.elim (fun z => ⟨by omega, z.2⟩) (fun z => absurd z.1 e)
    by_cases e : d = c
    · subst e
      rw [up_at]
      refine ⟨List.nodup_append.mpr ⟨h1, List.nodup_cons.mpr ⟨List.not_mem_nil, List.nodup_nil⟩, fun x hx y hy => ?_⟩, fun j => ?_⟩
      · rw [List.mem_singleton.mp hy]
        exact fun z => hnk (z ▸ hx)
      · rw [hr, List.mem_append, List.mem_singleton]
        simp
    · rw [up_ne _ _ e]
      refine ⟨h1, fun j => ?_⟩
      rw [hr]
      exact ⟨Or.inl, fun z => z.elim id (fun z => absurd z.2.symm e)⟩
  · show va_up T.2.1 n c j < 8
    rw [up_if]
    split
    · exact hc0
    · exact h.2.2.1 j (by omega) hj2
  · obtain ⟨q1, q2, q3, q4, q5⟩ := h.2.2.2.1 j x hj
    refine ⟨by omega, by omega, q3, ?_, ?_⟩
    · rw [up_ne _ _ (by omega)]
      exact q4
    · rw [up_ne _ _ (by omega)]
      exact q5
def zo_teach (Z : sp_Z) (a b no who : Int) : Int × sp_Z := if (0 ≤ a ∧ a < zK Z) ∧ (0 ≤ b ∧ b < zK Z) ∧ (0 ≤ no ∧ no ≤ 1) ∧ 0 ≤ who ∧ who ≤ 9 then if zL Z = 8 then (-1000003, Z) else ((zL Z : Int), z_D Z (zL Z + 1, va_up (zLf Z) (zL Z) (a.toNat, b.toNat, decide (no = 1), who.toNat, true))) else (-1000001, Z)
def zo_unteach (Z : sp_Z) (k : Int) : Int × sp_Z := if 0 ≤ k ∧ k < zL Z then if (zLf Z k.toNat).2.2.2.2 = true then (1, z_D Z (zL Z, va_up (zLf Z) k.toNat ((zLf Z k.toNat).1, (zLf Z k.toNat).2.1, (zLf Z k.toNat).2.2.1, (zLf Z k.toNat).2.2.2.1, false))) else (-1000002, Z) else (-1000001, Z)
def z_gives (Z : sp_Z) (k o : Nat) : Bool := (sp_order (zn Z) (zs Z) (zKT Z (zLf Z k).1) o).1.isSome && sp_same (zn Z) (sp_order (zn Z) (zs Z) (zKT Z (zLf Z k).1) o).2 (zKT Z (zLf Z k).2.1)
def z_barr (Z : sp_Z) (k o : Nat) : Bool := if (zLf Z k).2.2.1 = true then z_gives Z k o else !z_gives Z k o
def z_bars (Z : sp_Z) (o k : Nat) : Bool := (zLf Z k).2.2.2.2 && z_barr Z k o
def z_barredBy (Z : sp_Z) (o : Nat) : Option Nat := (List.range (zL Z)).find? (z_bars Z o)
def sp_set (p : Nat → Bool) : Nat → Nat
  | 0 => 0
  | m + 1 => sp_set p m + if p m = true then 2 ^ m else 0
theorem sp_set_lt (p : Nat → Bool) (m : Nat) : sp_set p m < 2 ^ m := by
  induction m with
  | zero => exact Nat.one_pos
  | succ m ih =>
    rw [sp_set, Nat.pow_succ]
    split <;> omega
theorem sp_set_bit (p : Nat → Bool) (m k : Nat) : (sp_set p m).testBit k = (decide (k < m) && p k) := by
  induction m with
  | zero => simp [sp_set]
  | succ m ih =>
    have hl := sp_set_lt p m
    rw [sp_set]
    cases hp : p m with
    | false =>
      rw [if_neg (by decide), Nat.add_zero, ih]
      by_cases h1 : k < m
      · simp [h1, Nat.lt_succ_of_lt h1]
      · by_cases h2 : k = m
        · subst h2
          simp [hp]
        · simp [h1, show ¬ k < m + 1 by omega]
    | true =>
      rw [if_pos rfl, Nat.add_comm]
      by_cases h1 : k < m
      · rw [Nat.testBit_two_pow_add_gt h1, ih]
        simp [h1, Nat.lt_succ_of_lt h1]
      · by_cases h2 : k = m
        · subst h2
          rw [Nat.testBit_two_pow_add_eq, ih]
          simp [hp]
        · have : (2 ^ m + sp_set p m).testBit k = false := by
            refine Nat.testBit_lt_two_pow (Nat.lt_of_lt_of_le (show _ < 2 ^ (m + 1) by rw [Nat.pow_succ]; omega) (Nat.pow_le_pow_right (by decide) (by omega)))
          rw [this]
          simp [show ¬ k < m + 1 by omega]
def z_stand (Z : sp_Z) : Nat := sp_set (fun k => (zLf Z k).2.2.2.2) (zL Z)
def z_fits (f : Nat → Bool) (i : Int) : Nat → Nat → Int
  | 0, n => if i = -1 then (n : Int) else -1000000
  | m + 1, n => if f (96 - (m + 1)) = true then if (n : Int) = i then ((96 - (m + 1) : Nat) : Int) else z_fits f i m (n + 1) else z_fits f i m n
def zo_fits (Z : sp_Z) (i : Int) : Int × sp_Z := if i < -1 then (-1000001, Z) else (z_fits (fun o => (z_barredBy Z o).isNone) i 96 0, Z)
def zo_barred (Z : sp_Z) (o w : Int) : Int × sp_Z := if (0 ≤ o ∧ o ≤ 95) ∧ 0 ≤ w ∧ w ≤ 1 then (match z_barredBy Z o.toNat with
  | none => -1000000
  | some k => if w = 0 then (k : Int) else (zLf Z k).2.2.2.1, Z) else (-1000001, Z)
section KM8
variable {l : Launch} {S : am_M} {Z : sp_Z}
theorem mr.Zeq {S : am_M} {Z Z' : sp_Z} (h : mr S Z) (e : Z = Z') : mr S Z' := e ▸ h
theorem km_thing_74 {a b c t : Nat} {S0 : am_M} {P : Int → am_M → Prop} (h0 : mr S0 Z) (ha : a < 4) (hb : 1 ≤ b ∧ b ≤ 20) (hc : c < 8) (hn : zn Z < 6) (ht : t ≤ zK Z + 1)
    (e1 : S.1 = S0.1) (e2 : S.2 1 = va_up (S0.2 1) (zn Z) (Int32.ofInt a)) (e3 : S.2 2 = va_up (S0.2 2) (zn Z) (Int32.ofInt b)) (e4 : ∀ j, j ≠ 0 → j ≠ 1 → j ≠ 2 → S.2 j = S0.2 j)
    (hold : ∀ u, t ≤ u → u ≤ zK Z → mt_r S u (if u = 0 then zT Z else zKT Z (u - 1))) (hnew : ∀ u, u < t → mt_r S u (sp_put (if u = 0 then zT Z else zKT Z (u - 1)) (zn Z) c))
    (hP : ∀ S', mr S' (z_B (z_A Z (zn Z + 1, va_up (zs Z) (zn Z) a, va_up (zw Z) (zn Z) b)) (sp_put (zT Z) (zn Z) c, zK Z, fun i => sp_put (zKT Z i) (zn Z) c)) → P (zn Z : Int) S') :
    VX3_thing l (am_qi P) 74 [(0, am_R 0), (3, am_I c), (4, am_I t)] [] S := by
  have hK := h0.K8
  have hK1 := h0.eK
  have hn1 := h0.en
  generalize hm : zK Z + 1 - t = m
  induction m generalizing t S with
  | zero =>
    have htK : t = zK Z + 1 := by omega
    subst htK
    have f1 : (S.1 2).toInt = zn Z := by rw [e1]; exact hn1
    have f2 : (S.1 3).toInt = zK Z := by rw [e1]; exact hK1
    refine bX3_thing_74 _ (by first | exact am_rN (by omega) | exact ⟨by omega, by omega⟩ | assumption) _ (by first | exact am_rN (by omega) | exact ⟨by omega, by omega⟩ | assumption) ⟨fun _ => ?_, fun z => absurd z (by omega)⟩
    rw [f1, show ((zn Z : Int) + 1) = ((zn Z + 1 : Nat) : Int) by omega, am_ti (am_rN (by omega)), show (((zn Z + 1 : Nat) : Int) - 1) = (zn Z : Int) by omega]
    refine am_qi_mk (am_rN (by omega)) (hP _ ?_)
    obtain ⟨S1, S2⟩ := S
    have e1 : S1 = S0.1 := e1
    subst e1
    have e2 : S2 1 = va_up (S0.2 1) (zn Z) (Int32.ofInt a) := e2
    have e3 : S2 2 = va_up (S0.2 2) (zn Z) (Int32.ofInt b) := e3
    have e4 : ∀ j, j ≠ 0 → j ≠ 1 → j ≠ 2 → S2 j = S0.2 j := e4
    obtain ⟨z, za, zb, zc, zd, ze, zg, zi, zj, zy⟩ := h0
    refine ⟨⟨⟨by show zn Z + 1 ≤ 6; omega, fun k hk => ?_⟩, ⟨sp_new_ok z.2.1.1 hn hc, z.2.1.2.1, fun i hi => sp_new_ok (z.2.1.2.2 i hi) hn hc⟩, z.2.2⟩, ⟨?_, fun k hk => ?_⟩, ⟨zb.1, ?_, fun i hi => ?_⟩, ?_, ?_, ?_, ?_, ?_, zj, ?_⟩
    · show va_up (zs Z) (zn Z) a k < 4 ∧ 1 ≤ va_up (zw Z) (zn Z) b k ∧ va_up (zw Z) (zn Z) b k ≤ 20
      have hk : k < zn Z + 1 := hk
      rw [up_if, up_if]
      by_cases e : k = zn Z
      · simp only [e, if_true]
        exact ⟨ha, hb⟩
      · simp only [e, if_false]
        exact z.1.2 k (by omega)
    · show (va_up S0.1 2 (Int32.ofInt ((zn Z + 1 : Nat) : Int)) 2).toInt = (zn Z + 1 : Nat)
      rw [up_at]
      exact am_ti (am_rN (by omega))
    · show (S2 1 k).toInt = (va_up (zs Z) (zn Z) a k : Nat) ∧ (S2 2 k).toInt = (va_up (zw Z) (zn Z) b k : Nat)
      have hk : k < zn Z + 1 := hk
      rw [e2, e3, up_if, up_if, up_if, up_if]
      by_cases e : k = zn Z
      · simp only [e, if_true]
        exact ⟨am_ti (am_rN (by omega)), am_ti (am_rN (by omega))⟩
      · simp only [e, if_false]
        exact za.2 k (by omega)
    · exact hnew 0 (by omega)
    · exact hnew (i + 1) (by have hi : i < zK Z := hi; omega)
    · show mrC (S2 3) Z
      rw [e4 3 (by decide) (by decide) (by decide)]
      exact zc
    · show mrD (S0.1 4) (S2 4) (S2 5) (S2 6) (S2 7) (S2 8) Z
      rw [e4 4 (by decide) (by decide) (by decide), e4 5 (by decide) (by decide) (by decide), e4 6 (by decide) (by decide) (by decide), e4 7 (by decide) (by decide) (by decide), e4 8 (by decide) (by decide) (by decide)]
      exact zd
    · show mrE (S2 9) (S2 10) (S2 11) Z
      rw [e4 9 (by decide) (by decide) (by decide), e4 10 (by decide) (by decide) (by decide), e4 11 (by decide) (by decide) (by decide)]
      exact ze
    · show mrF (S0.1 5) (S2 12) Z
      rw [e4 12 (by decide) (by decide) (by decide)]
      exact zg
    · show mrG (S0.1 7) (S2 13) Z
      rw [e4 13 (by decide) (by decide) (by decide)]
      exact zi
    · show mrY (S0.1 16) (S2 16) Z
      rw [e4 16 (by decide) (by decide) (by decide)]
      exact zy
  | succ m ih =>
    have f1 : (S.1 2).toInt = zn Z := by rw [e1]; exact hn1
    have f2 : (S.1 3).toInt = zK Z := by rw [e1]; exact hK1
    refine bX3_thing_74 _ (by first | exact am_rN (by omega) | exact ⟨by omega, by omega⟩ | assumption) _ (by first | exact am_rN (by omega) | exact ⟨by omega, by omega⟩ | assumption) ⟨fun z => absurd z (by omega), fun _ => ?_⟩
    rw [f1]
    have hok : sp_ok (zn Z) (zs Z) (if t = 0 then zT Z else zKT Z (t - 1)) := by
      split
      · exact h0.1.2.1.1
      · exact h0.1.2.1.2.2 (t - 1) (by omega)
    refine km_putOn (by omega) (by omega) hc (hold t (Nat.le_refl _) (by omega)) (Nat.lt_of_le_of_lt (hok.len hc) hn) (fun S' r' f' => ?_)
    refine ih (t := t + 1) (by omega) (f'.1.trans e1) ((f'.2.1 1 (by decide)).trans e2) ((f'.2.1 2 (by decide)).trans e3) (fun j j0 j1 j2 => (f'.2.1 j j0).trans (e4 j j0 j1 j2)) (fun u hu hu2 => f'.tab (by omega) (hold u (by omega) hu2)) (fun u hu => ?_) (by omega)
    by_cases e : u = t
    · rw [e]
      exact r'
    · exact f'.tab e (hnew u (by omega))
theorem km_thing {a b c : Int} {P : Int → am_M → Prop} (h : mr S Z) (ha : am_r a) (hb : am_r b) (hc : am_r c) (hP : ∀ S', mr S' (zo_thing Z a b c).2 → P (zo_thing Z a b c).1 S') : kX3_thing l [am_R 0, am_I a, am_I b, am_I c] S (am_qi P) := by
  have h6 := h.n6
  have en := h.th.en
  unfold zo_thing at hP
  refine bX3_thing _ (by first | exact am_rN (by omega) | exact ⟨by omega, by omega⟩ | assumption) _ (by first | exact am_rN (by omega) | exact ⟨by omega, by omega⟩ | assumption) _ (by first | exact am_rN (by omega) | exact ⟨by omega, by omega⟩ | assumption) (km_in ⟨fun h1 => ?_, fun h1 => km_in ⟨fun h2 => ?_, fun h2 => km_isCell hc ⟨fun h3 => ⟨fun h4 => ⟨by rw [en]; omega, ?_⟩, fun h4 => ?_⟩, fun h3 => ?_⟩⟩⟩)
  · have h1 := of_decide_eq_false h1
    rw [if_neg (by omega)] at hP
    exact am_qi_mk ⟨by decide, by decide⟩ (hP _ h.th)
  · have h2 := of_decide_eq_false h2
    rw [if_neg (by omega)] at hP
    exact am_qi_mk ⟨by decide, by decide⟩ (hP _ h.th)
  · have h1 := of_decide_eq_true h1
    have h2 := of_decide_eq_true h2
    have h3 := of_decide_eq_true h3
    rw [if_pos ⟨h1, h2, h3⟩, if_neg (by omega)] at hP
    obtain ⟨a, rfl⟩ : ∃ o : Nat, a = o := ⟨a.toNat, by omega⟩
    obtain ⟨b, rfl⟩ : ∃ o : Nat, b = o := ⟨b.toNat, by omega⟩
    obtain ⟨c, rfl⟩ : ∃ o : Nat, c = o := ⟨c.toNat, by omega⟩
    simp only [Int.toNat_natCast] at hP
    rw [en]
    refine km_thing_74 (t := 0) (S0 := am_sv S 0 0) (a := a) (b := b) (c := c) h.th (by omega) (by omega) (by omega) (by omega) (Nat.zero_le _) rfl ?_ ?_ (fun j j0 j1 j2 => ?_) (fun u _ hu => ?_) (fun u hu => absurd hu (Nat.not_lt_zero _)) hP
    · rfl
    · rfl
    · show va_up (va_up S.2 1 _) 2 _ j = _
      rw [up_ne _ _ j2, up_ne _ _ j1]
      rfl
    · cases u with
      | zero => exact h.t0.2.2.1
      | succ u => exact (h.tk (show u < zK Z by omega)).2.2.1
  · have h1 := of_decide_eq_true h1
    have h2 := of_decide_eq_true h2
    have h3 := of_decide_eq_true h3
    rw [if_pos ⟨h1, h2, h3⟩, if_pos (by omega)] at hP
    exact am_qi_mk ⟨by decide, by decide⟩ (hP _ h.th)
  · have h3 := of_decide_eq_false h3
    rw [if_neg (by omega)] at hP
    exact am_qi_mk ⟨by decide, by decide⟩ (hP _ h.th)
theorem sp_on_r {n : Nat} {o : Option Nat} (hn : n ≤ 1000) (h : ∀ x, o = some x → x ≤ n) : am_r (sp_on o) := by
  cases o with
  | none => exact ⟨by decide, by decide⟩
  | some x =>
    have := h x rfl
    exact am_rN (n := x) (by omega)
theorem km_where {k w : Int} {P : Int → am_M → Prop} (h : mr S Z) (hk : am_r k) (hw : am_r w) (hP : ∀ S', mr S' (zo_where Z k w).2 → P (zo_where Z k w).1 S') : kX3_where l [am_R 0, am_I k, am_I w] S (am_qi P) := by
  have h6 := h.n6
  have m := h.th.t0
  unfold zo_where at hP
  refine bX3_where _ (by first | exact am_rN (by omega) | exact ⟨by omega, by omega⟩ | assumption) _ (by first | exact am_rN (by omega) | exact ⟨by omega, by omega⟩ | assumption) (km_isThing h.th hk ⟨fun h1 => ?_, fun h1 => km_in ⟨fun h2 => ?_, fun h2 => ?_⟩⟩)
  · have h1 := of_decide_eq_false h1
    rw [if_neg (by omega)] at hP
    exact am_qi_mk ⟨by decide, by decide⟩ (hP _ h.th)
  · have h1 := of_decide_eq_true h1
    have h2 := of_decide_eq_true h2
    rw [if_pos ⟨h1, h2⟩] at hP
    obtain ⟨k, rfl⟩ : ∃ o : Nat, k = o := ⟨k.toNat, by omega⟩
    obtain ⟨w, rfl⟩ : ∃ o : Nat, w = o := ⟨w.toNat, by omega⟩
    simp only [Int.toNat_natCast] at hP
    have hkn : k < zn Z := by omega
    have hP' : P (zo_whereV Z k w) (am_sv S 0 0) := hP _ h.th
    have ca := h.th.2.1.2 k hkn
    have ca2 := h.1.1.2 k hkn
    have v0 : w = 0 → am_qi P (some (am_I ((am_sv S 0 0).2 1 (k : Int).toNat).toInt)) (am_sv S 0 0) := by
      intro e
      subst e
      rw [Int.toNat_natCast, ca.1]
      exact am_qi_mk (am_rN (by omega)) hP'
    have v1 : w = 1 → am_qi P (some (am_I ((am_sv S 0 0).2 2 (k : Int).toNat).toInt)) (am_sv S 0 0) := by
      intro e
      subst e
      rw [Int.toNat_natCast, ca.2]
      exact am_qi_mk (am_rN (by omega)) hP'
    have hcell := (m.2.2.2.base hkn).2.2.1
    have v5 : w = 5 → ∀ b : Bool, b = sp_clear (zT Z) k → (b = false → am_qi P (some (am_I 0)) (am_sv S 0 0)) ∧ (b = true → am_qi P (some (am_I 1)) (am_sv S 0 0)) := by
      intro e b hb
      subst e
      unfold zo_whereV at hP'
      refine ⟨fun q => ?_, fun q => ?_⟩
      · rw [← hb, q] at hP'
        exact am_qi_mk ⟨by decide, by decide⟩ hP'
      · rw [← hb, q] at hP'
        exact am_qi_mk ⟨by decide, by decide⟩ hP'
    have hins : ∀ x, sp_inside (zn Z) (zT Z) k = some x → x < zn Z := fun x hx => List.mem_range.mp (List.mem_of_find?_eq_some hx)
    have v6 : 6 = w → kX3_insideOf l [am_R 0, am_I 0, am_I k] (am_sv S 0 0) (am_qi fun r26 S25 => ((0 ≤ r26) → kX3_insideOf l [am_R 0, am_I 0, am_I k] S25 (am_qi fun r32 S31 => am_qi P (some (am_I r32)) S31)) ∧ ((¬ 0 ≤ r26) → am_qi P (some (am_I (-1000000))) S25)) := by
      intro e
      subst e
      have hP' : P (sp_on (sp_inside (zn Z) (zT Z) k)) (am_sv S 0 0) := hP'
      refine km_insideOf (t := 0) m hkn ⟨fun q => km_insideOf (t := 0) m hkn ?_, fun q => ?_⟩
      · obtain ⟨x, hx⟩ := sp_ob_ge (by omega : ¬ sp_ob (sp_inside (zn Z) (zT Z) k) < 0)
        have := hins x hx
        rw [hx] at hP' ⊢
        exact am_qi_mk (am_rN (n := x) (by omega)) hP'
      · rw [sp_ob_lt.mp (by omega : sp_ob (sp_inside (zn Z) (zT Z) k) < 0)] at hP'
        exact am_qi_mk ⟨by decide, by decide⟩ hP'
    refine km_box (t := 0) m (by omega) ⟨fun hb => ⟨fun e => ⟨⟨by omega, by omega⟩, v0 (by omega)⟩, fun e => ⟨⟨by omega, by omega⟩, v1 (by omega)⟩, fun e => ?_, fun e => ?_, fun e => ?_, fun e => km_isClear (t := 0) m hkn (v5 (by omega) _ rfl), fun e => v6 (by omega)⟩, fun hb => ⟨fun e => ⟨⟨by omega, by omega⟩, v0 (by omega)⟩, fun e => ⟨⟨by omega, by omega⟩, v1 (by omega)⟩, fun e => ?_, fun e => ?_, fun e => ?_, fun e => km_isClear (t := 0) m hkn (v5 (by omega) _ rfl), fun e => v6 (by omega)⟩⟩
    · have e : w = 2 := by omega
      subst e
      exact km_cellOf (by decide) m.2.2.1 m.2.2.2 hkn (am_qi_mk (am_rN (by omega)) hP')
    · have e : w = 3 := by omega
      subst e
      have hb' := sp_ob_lt.mp hb
      have hl := m.on hkn hb'
      have hP' : P (if (zT Z).2.2 k = none then (sp_below (zT Z) k : Int) else -1000000) (am_sv S 0 0) := hP'
      rw [if_pos hb'] at hP'
      exact km_below (t := 0) m hkn hb' (am_qi_mk (am_rN (by omega)) hP')
    · have e : w = 4 := by omega
      subst e
      have hP' : P (sp_on ((zT Z).2.2 k)) (am_sv S 0 0) := hP'
      rw [sp_ob_lt.mp hb] at hP'
      exact am_qi_mk ⟨by decide, by decide⟩ hP'
    · have e : w = 2 := by omega
      subst e
      exact km_cellOf (by decide) m.2.2.1 m.2.2.2 hkn (am_qi_mk (am_rN (by omega)) hP')
    · have e : w = 3 := by omega
      subst e
      obtain ⟨x, hx⟩ := sp_ob_ge hb
      have hP' : P (if (zT Z).2.2 k = none then (sp_below (zT Z) k : Int) else -1000000) (am_sv S 0 0) := hP'
      rw [if_neg (by rw [hx]; simp)] at hP'
      exact am_qi_mk ⟨by decide, by decide⟩ hP'
    · have e : w = 4 := by omega
      subst e
      obtain ⟨x, hx⟩ := sp_ob_ge hb
      have hP' : P (sp_on ((zT Z).2.2 k)) (am_sv S 0 0) := hP'
      have hxn := (m.2.2.2.2.2.2.1 k x hx).2.1
      refine km_box (t := 0) m (by omega) ?_
      rw [hx] at hP' ⊢
      exact am_qi_mk (am_rN (n := x) (by omega)) hP'
  · have h2 := of_decide_eq_false h2
    rw [if_neg (by omega)] at hP
    exact am_qi_mk ⟨by decide, by decide⟩ (hP _ h.th)
end KM8
