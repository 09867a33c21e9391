section KM21
variable {l : Launch} {S : am_M} {Z : sp_Z} {f : Nat → Nat} {L n : Nat} {F : Nat → Nat × Nat × Nat}
def mo2 (S : am_M) (Z : sp_Z) (f : Nat → Nat) (L n : Nat) (F : Nat → Nat × Nat × Nat) (o : (Nat × Nat) ⊕ (Nat × sp_tk)) (r : Int) : Prop := match o with
  | .inl e => mo S Z f L n F (.inl e)
  | .inr (v, t) => r = v ∧ mo S Z f L n F (.inr t)
theorem km_numberTo_16 {hi k : Nat} {tk : sp_tk} {P : Int → am_M → Prop} (h : mo S Z f L n F (.inr tk)) (hh : hi ≤ 300) (hk : tk.2.1 + k ≤ tk.2.2) (hk3 : tk.1 ≠ 3 → k = 0) (hP : ∀ r S', S'.2 = S.2 → mo2 S' Z f L n F (p_num f L hi tk) r → am_r r → P r S') :
    VX3_numberTo l (am_qi P) 16 [(0, am_R 0), (1, am_I hi), (2, am_I (sp_num f tk.2.1 k : Nat)), (3, am_I (tk.2.1 + k : Nat))] [] S := by
  have hm := h
  obtain ⟨g1, g2, g3, g4, g5, p, g6, g7⟩ := h
  have ht := z_tok_ok (f := f) (L := L) g6
  rw [← g7] at ht
  have hL := g2.2.1
  obtain ⟨e11, e12, e13, e10⟩ := g5
  have hlt : ∀ k, k ≤ 3 → tk.1 = 3 → tk.2.1 + k ≤ tk.2.2 → sp_num f tk.2.1 k < 1000 := fun k hk3 h3 hk => by
    have q1 := sp_num_lt (f := f) (a := tk.2.1) k (fun i hi => by
      have := of_decide_eq_true ((ht.2.2.2.2.2 h3).2 (tk.2.1 + i) (by omega) (by omega))
      omega)
    have q2 : 10 ^ k ≤ 10 ^ 3 := Nat.pow_le_pow_right (by decide) hk3
    omega
  have no3 : tk.1 ≠ 3 → p_num f L hi tk = .inl (1, tk.2.1) := fun z => if_neg z
  by_cases h3 : tk.1 = 3
  · have hlen := (ht.2.2.2.2.2 h3).1
    generalize hq : tk.2.2 - (tk.2.1 + k) = q
    induction q generalizing k with
    | zero =>
      have hv := hlt k (by omega) h3 hk
      have ev : z_num f tk = sp_num f tk.2.1 k := by
        unfold z_num
        rw [show tk.2.2 - tk.2.1 = k by omega]
      refine bX3_numberTo_16 _ (by first | exact am_rN (by omega) | exact ⟨by omega, by omega⟩ | assumption) _ (by first | exact am_rN (by omega) | exact ⟨by omega, by omega⟩ | assumption) _ (by first | exact am_rN (by omega) | exact ⟨by omega, by omega⟩ | assumption) ⟨fun _ => ⟨fun z => absurd (show (S.1 11).toInt = 3 by omega) z, fun _ => ⟨fun hle => ⟨fun z => absurd (show (S.1 11).toInt = 3 by omega) z, fun _ => km_must (so := true) hm (fun S' e' m' => ?_)⟩, fun hgt => km_bad (k := 2) hm (by decide) (fun S' e' m' => ⟨fun _ => km_must_e (so := false) m' (fun m' => ?_), fun _ => km_must_e (so := true) m' (fun m' => ?_)⟩)⟩⟩, fun z => absurd z (by omega)⟩
      · have e : p_num f L hi tk = .inr (z_num f tk, z_tok f L tk.2.2) := by
          unfold p_num
          rw [if_pos h3, if_pos (by omega)]
        rw [e, ev] at hP
        exact am_qi_mk (am_rN (by omega)) (hP _ S' e' ⟨rfl, m'⟩ (am_rN (by omega)))
      · have e : p_num f L hi tk = .inl (2, tk.2.1) := by
          unfold p_num
          rw [if_pos h3, if_neg (by omega)]
        rw [e] at hP
        exact am_qi_mk (am_rN (by omega)) (hP _ S' e' m' (am_rN (by omega)))
      · have e : p_num f L hi tk = .inl (2, tk.2.1) := by
          unfold p_num
          rw [if_pos h3, if_neg (by omega)]
        rw [e] at hP
        exact am_qi_mk (am_rN (by omega)) (hP _ S' e' m' (am_rN (by omega)))
    | succ q ih =>
      have hv := hlt k (by omega) h3 hk
      obtain ⟨c1, c2⟩ := g2.2.2 (tk.2.1 + k) (by omega)
      have c3 := of_decide_eq_true ((ht.2.2.2.2.2 h3).2 (tk.2.1 + k) (by omega) (by omega))
      have nx := ih (k := k + 1) (by omega) (fun z => absurd h3 z) (by omega)
      rw [sp_num] at nx
      refine bX3_numberTo_16 _ (by first | exact am_rN (by omega) | exact ⟨by omega, by omega⟩ | assumption) _ (by first | exact am_rN (by omega) | exact ⟨by omega, by omega⟩ | assumption) _ (by first | exact am_rN (by omega) | exact ⟨by omega, by omega⟩ | assumption) ⟨fun z => absurd z (by omega), fun _ => ⟨fun z => absurd (show (S.1 11).toInt = 3 by omega) z, fun _ => ⟨by omega, ?_⟩⟩⟩
      rw [Int.toNat_natCast, c1, show ((tk.2.1 + k : Nat) : Int) + 1 = ((tk.2.1 + (k + 1) : Nat) : Int) by omega, show (10 * (sp_num f tk.2.1 k : Int) + (f (tk.2.1 + k) : Int) - 48) = ((10 * sp_num f tk.2.1 k + (f (tk.2.1 + k) - 48) : Nat) : Int) by omega]
      exact nx
  · have k0 := hk3 h3
    subst k0
    rw [no3 h3] at hP
    have h3' : ¬ (S.1 11).toInt = 3 := by omega
    have r0 : am_r (sp_num f tk.2.1 0 : Nat) := am_rN (n := 0) (by decide)
    have fin : kX3_must l [am_R 0, am_I (am_b false)] S (am_qv fun S10 => am_qi P (some (am_I (sp_num f tk.2.1 0 : Nat))) S10) := km_must (so := false) hm (fun S' e' m' => am_qi_mk r0 (hP _ S' e' m' r0))
    refine bX3_numberTo_16 _ (am_rN (by omega)) _ r0 _ (am_rN (by omega)) ⟨fun _ => ⟨fun _ => ⟨fun _ => fin, fun z => absurd z h3'⟩, fun z => absurd z h3'⟩, fun _ => ⟨fun _ => ⟨fun _ => ⟨fun _ => fin, fun z => absurd z h3'⟩, fun z => absurd z h3'⟩, fun z => absurd z h3'⟩⟩
theorem km_numberTo {hi : Nat} {tk : sp_tk} {P : Int → am_M → Prop} (h : mo S Z f L n F (.inr tk)) (hh : hi ≤ 300) (hP : ∀ r S', S'.2 = S.2 → mo2 S' Z f L n F (p_num f L hi tk) r → am_r r → P r S') : kX3_numberTo l [am_R 0, am_I hi] S (am_qi P) := by
  have hm := h
  obtain ⟨g1, g2, g3, g4, g5, p, g6, g7⟩ := h
  have ht := z_tok_ok (f := f) (L := L) g6
  rw [← g7] at ht
  refine bX3_numberTo _ (by first | exact am_rN (by omega) | exact ⟨by omega, by omega⟩ | assumption) ⟨fun _ => ?_, fun z => absurd z (by omega)⟩
  rw [g5.2.1]
  exact km_numberTo_16 (k := 0) hm hh (by omega) (fun _ => rfl) hP
theorem km_numberTo_e {hi : Nat} {e : Nat × Nat} {P : Int → am_M → Prop} (h : mo S Z f L n F (.inl e)) (hh : hi ≤ 300) (hP : ∀ r S', mo S' Z f L n F (.inl e) → am_r r → P r S') : kX3_numberTo l [am_R 0, am_I hi] S (am_qi P) := by
  have h1 : (S.1 14).toInt = e.1 := h.2.2.2.1
  have h2 : 1 ≤ e.1 := h.2.2.2.2.1
  exact bX3_numberTo _ (by first | exact am_rN (by omega) | exact ⟨by omega, by omega⟩ | assumption) ⟨fun z => absurd z (by omega), fun _ => am_qi_mk ⟨by decide, by decide⟩ (hP _ S h ⟨by decide, by decide⟩)⟩
theorem km_sortHere {tk : sp_tk} {P : Int → am_M → Prop} (h : mo S Z f L n F (.inr tk)) (hP : ∀ r S', S'.2 = S.2 → mo2 S' Z f L n F (p_sort f L tk) r → am_r r → P r S') : kX3_sortHere l [am_R 0] S (am_qi P) := by
  have ht : mo_t S f L tk := h.2.2.2
  have h0 := ht.1
  have yes : ∀ s : Nat, s < 4 → z_sortOf (z_wd f tk) = some s → kX3_must l [am_R 0, am_I (am_b true)] S (am_qv fun S38 => am_qi P (some (am_I s)) S38) := by
    intro s hs e
    refine km_must (so := true) h (fun S' e' m' => am_qi_mk (am_rN (by omega)) (hP _ S' e' ?_ (am_rN (by omega))))
    unfold p_sort
    rw [e]
    exact ⟨rfl, m'⟩
  refine bX3_sortHere ⟨fun _ => km_word h ⟨fun n1 => ⟨fun n2 => ⟨fun n3 => ⟨fun n4 => ?_, fun e4 => ?_⟩, fun e3 => ?_⟩, fun e2 => ?_⟩, fun e1 => ?_⟩, fun z => absurd z (by omega)⟩
  · have m1 : ¬ z_wd f tk = w_cup := fun z => n1 (by have := (zw_cup ht).mpr z; omega)
    have m2 : ¬ z_wd f tk = w_cloth := fun z => n2 (by have := (zw_cloth ht).mpr z; omega)
    have m3 : ¬ z_wd f tk = w_box := fun z => n3 (by have := (zw_box ht).mpr z; omega)
    have m4 : ¬ z_wd f tk = w_lid := fun z => n4 (by have := (zw_lid ht).mpr z; omega)
    refine km_must (so := false) h (fun S' e' m' => am_qi_mk ⟨by decide, by decide⟩ (hP _ S' e' ?_ ⟨by decide, by decide⟩))
    unfold p_sort z_sortOf
    rw [if_neg m1, if_neg m2, if_neg m3, if_neg m4]
    exact m'
  · have m4 := (zw_lid ht).mp (by omega)
    refine yes 3 (by decide) ?_
    rw [m4]
    decide
  · have m3 := (zw_box ht).mp (by omega)
    refine yes 2 (by decide) ?_
    rw [m3]
    decide
  · have m2 := (zw_cloth ht).mp (by omega)
    refine yes 1 (by decide) ?_
    rw [m2]
    decide
  · have m1 := (zw_cup ht).mp (by omega)
    refine yes 0 (by decide) ?_
    rw [m1]
    decide
theorem km_sortHere_e {e : Nat × Nat} {P : Int → am_M → Prop} (h : mo S Z f L n F (.inl e)) (hP : ∀ r S', mo S' Z f L n F (.inl e) → am_r r → P r S') : kX3_sortHere l [am_R 0] S (am_qi P) := by
  have h1 : (S.1 14).toInt = e.1 := h.2.2.2.1
  have h2 : 1 ≤ e.1 := h.2.2.2.2.1
  exact bX3_sortHere ⟨fun z => absurd z (by omega), fun _ => am_qi_mk ⟨by decide, by decide⟩ (hP _ S h ⟨by decide, by decide⟩)⟩
/-- a row of a never that isn't read to its end is free -/
theorem mo.never {o : (Nat × Nat) ⊕ sp_tk} (h : mo S Z f L n F o) {u x : Int} (hu : (3 * n : Nat) ≤ u) : mo (am_sa S 12 u x) Z f L n F o := by
  obtain ⟨h1, h2, h3, h4⟩ := h
  obtain ⟨z, za, zb, zc, zd, ze, zf, zg, zj, zy⟩ := h1
  obtain ⟨m1, m2, m3, m4⟩ := h3
  have e : ∀ q, q < 3 * n → (am_sa S 12 u x).2 12 q = S.2 12 q := fun q hq => by
    show va_up S.2 12 (va_up (S.2 12) u.toNat (Int32.ofInt x)) 12 q = _
    rw [up_at, up_ne _ _ (by omega)]
  refine ⟨⟨z, za, zb, zc, zd, ze, ⟨zf.1, fun k hk => ?_⟩, zg, zj, zy⟩, h2, ⟨m1, m2, m3, fun k hk => ?_⟩, ?_⟩
  · rw [e _ (by omega), e _ (by omega), e _ (by omega)]
    exact zf.2 k hk
  · rw [e _ (by omega), e _ (by omega), e _ (by omega)]
    exact m4 k hk
  · cases o with
    | inl e => exact h4
    | inr t => exact h4
/-- a never's three places -/
def mo_v (S : am_M) (n : Nat) (v : Nat × Nat × Nat) : Prop := (S.2 12 (3 * n)).toInt = v.1 ∧ (S.2 12 (3 * n + 1)).toInt = v.2.1 ∧ (S.2 12 (3 * n + 2)).toInt = v.2.2
def mo3 (S : am_M) (Z : sp_Z) (f : Nat → Nat) (L n : Nat) (F : Nat → Nat × Nat × Nat) (o : (Nat × Nat) ⊕ ((Nat × Nat × Nat) × sp_tk)) : Prop := match o with
  | .inl e => mr S Z ∧ mo_e S e
  | .inr (v, t) => mo S Z f L (n + 1) (va_up F n v) (.inr t)
theorem km_rn_261e {e : Nat × Nat} {P : am_M → Prop} (h : mo S Z f L n F (.inl e)) (hn : n < 16) (hP : ∀ S', mr S' Z → mo_e S' e → P S') : VX3_readNever l (am_qv P) 261 [(0, am_R 0)] [] S := by
  have h1 : (S.1 14).toInt = e.1 := h.2.2.2.1
  have h2 : 1 ≤ e.1 := h.2.2.2.2.1
  refine bX3_readNever_261 ⟨fun _ => bX3_readNever_285 (am_qv_mk (hP _ ?_ ?_)), fun z => absurd z (by omega)⟩
  · exact h.1
  · exact h.2.2.2
theorem km_rn_261 {tk : sp_tk} {v : Nat × Nat × Nat} {P : am_M → Prop} (h : mo S Z f L n F (.inr tk)) (hn : n < 16) (hv : mo_v S n v) (hP : ∀ S', mo3 S' Z f L n F (p_end f L v tk) → P S') : VX3_readNever l (am_qv P) 261 [(0, am_R 0)] [] S := by
  have ht : mo_t S f L tk := h.2.2.2
  have fin : ∀ S', mo S' Z f L n F (p_must f L (decide (tk.1 = 4)) tk) → mo_v S' n v → VX3_readNever l (am_qv P) 285 [(0, am_R 0)] [] S' := by
    intro S' m' hv
    refine bX3_readNever_285 (am_qv_mk (hP _ ?_))
    unfold p_end
    cases q : p_must f L (decide (tk.1 = 4)) tk with
    | inl e =>
      rw [q] at m'
      exact ⟨m'.1, m'.2.2.2⟩
    | inr t =>
      rw [q] at m'
      obtain ⟨m1, m2, ⟨n1, n2, n3, n4⟩, m3⟩ := m'
      show mo (am_sv S' 6 ((S'.1 6).toInt + 1)) Z f L (n + 1) (va_up F n v) (.inr t)
      refine ⟨m1, m2, ⟨?_, by omega, by omega, fun k hk => ?_⟩, m3⟩
      · rw [n1, sv_at _ _ ⟨by omega, by omega⟩]
        omega
      · rw [up_if]
        by_cases e : k = n
        · rw [if_pos e, e]
          exact hv
        · rw [if_neg e]
          exact n4 k (by omega)
  have hkeep : ∀ S' : am_M, S'.2 = S.2 → mo_v S' n v := fun S' z => by
    unfold mo_v
    rw [z]
    exact hv
  refine bX3_readNever_261 ⟨fun z => absurd ht.1 z, fun _ => ⟨fun h4 => km_must (so := false) h (fun S' e' m' => fin S' ?_ (hkeep S' e')), fun h4 => km_must (so := true) h (fun S' e' m' => fin S' ?_ (hkeep S' e'))⟩⟩
  · have := ht.2.1.1
    rw [decide_eq_false (by omega)]
    exact m'
  · have := ht.2.1.1
    rw [decide_eq_true (by omega)]
    exact m'
theorem sa12_at {S : am_M} {u x : Int} {q : Nat} (hx : am_r x) (hu : u = (q : Int)) : ((am_sa S 12 u x).2 12 q).toInt = x := by
  rw [sa_val _ _ _ _ _ hx, hu, Int.toNat_natCast, if_pos rfl]
theorem sa12_ne {S : am_M} {u x : Int} {q : Nat} (hx : am_r x) (hu0 : 0 ≤ u) (hu : u ≠ (q : Int)) : ((am_sa S 12 u x).2 12 q).toInt = (S.2 12 q).toInt := by
  rw [sa_val _ _ _ _ _ hx, if_neg (by omega)]
/-- the last part of a never, once a sort and a rel stand -/
theorem km_rn_226 {a r : Nat} {tk : sp_tk} {P : am_M → Prop} (h : mo S Z f L n F (.inr tk)) (hn : n < 16) (ha : (S.2 12 (3 * n)).toInt = a) (hr : (S.2 12 (3 * n + 1)).toInt = r)
    (hP : ∀ S', mo3 S' Z f L n F (match (if r = 3 then p_num f L 7 tk else p_sort f L tk) with
      | .inl e => .inl e
      | .inr (b, t3) => p_end f L (a, r, b) t3) → P S') : VX3_readNever l (am_qv P) 226 [(0, am_R 0), (4, am_I (3 * (n : Int)))] [] S := by
  have key : ∀ o : (Nat × Nat) ⊕ (Nat × sp_tk), (∀ S', mo3 S' Z f L n F (match o with
      | .inl e => .inl e
      | .inr (b, t3) => p_end f L (a, r, b) t3) → P S') → ∀ (q : Int) (S' : am_M), S'.2 = S.2 → mo2 S' Z f L n F o q → am_r q → (0 ≤ (3 * (n : Int) + 2) ∧ (3 * (n : Int) + 2) < 48) ∧ VX3_readNever l (am_qv P) 261 [(0, am_R 0)] [] (am_sa S' 12 (3 * (n : Int) + 2) q) := by
    intro o hP q S' e' m' hq
    refine ⟨by omega, ?_⟩
    cases o with
    | inl e =>
      have m' : mo S' Z f L n F (.inl e) := m'
      exact km_rn_261e (mo.never m' (by omega)) hn (fun S2 m2 e2 => hP S2 ⟨m2, e2⟩)
    | inr w =>
      obtain ⟨b, t3⟩ := w
      have m' : q = b ∧ mo S' Z f L n F (.inr t3) := m'
      obtain ⟨eq, m'⟩ := m'
      refine km_rn_261 (v := (a, r, b)) (mo.never m' (by omega)) hn ⟨?_, ?_, ?_⟩ hP
      · rw [sa12_ne hq (by omega) (by omega), e']
        exact ha
      · rw [sa12_ne hq (by omega) (by omega), e']
        exact hr
      · rw [sa12_at hq (by omega)]
        exact eq
  have e1 : (S.2 12 (3 * (n : Int) + 1).toNat).toInt = r := by
    rw [show (3 * (n : Int) + 1).toNat = 3 * n + 1 by omega]
    exact hr
  refine bX3_readNever_226 _ (by first | exact am_rN (by omega) | exact ⟨by omega, by omega⟩ | assumption) ⟨by omega, ?_⟩
  rw [e1]
  refine ⟨fun h3 => km_sortHere h (fun q S' e' m' hq => key (p_sort f L tk) ?_ q S' e' m' hq), fun h3 => km_numberTo (hi := 7) h (by decide) (fun q S' e' m' hq => key (p_num f L 7 tk) ?_ q S' e' m' hq)⟩
  · rw [if_neg (by omega)] at hP
    exact hP
  · rw [if_pos (by omega)] at hP
    exact hP
theorem km_rn_226e {e : Nat × Nat} {P : am_M → Prop} (h : mo S Z f L n F (.inl e)) (hn : n < 16) (hP : ∀ S', mr S' Z → mo_e S' e → P S') : VX3_readNever l (am_qv P) 226 [(0, am_R 0), (4, am_I (3 * (n : Int)))] [] S :=
  bX3_readNever_226 _ (by first | exact am_rN (by omega) | exact ⟨by omega, by omega⟩ | assumption) ⟨by omega, fun _ => km_sortHere_e h (fun q S' m' hq => ⟨by omega, km_rn_261e (mo.never m' (by omega)) hn hP⟩), fun _ => km_numberTo_e (hi := 7) h (by decide) (fun q S' m' hq => ⟨by omega, km_rn_261e (mo.never m' (by omega)) hn hP⟩)⟩
end KM21
