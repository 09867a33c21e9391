section KM22
variable {l : Launch} {S : am_M} {Z : sp_Z} {f : Nat → Nat} {L n : Nat} {F : Nat → Nat × Nat × Nat}
theorem km_rn_203 {a : Nat} {q : Int} {tk : sp_tk} {P : am_M → Prop} (h : mo S Z f L n F (.inr tk)) (hn : n < 16) (ha : (S.2 12 (3 * n)).toInt = a) (hq : (S.2 12 (3 * n + 1)).toInt = q) (hq2 : q = sp_on (z_relOf (z_wd f tk)))
    (hP : ∀ S', mo3 S' Z f L n F (match p_rel f L tk with
      | .inl e => .inl e
      | .inr (r, t2) => match (if r = 3 then p_num f L 7 t2 else p_sort f L t2) with
        | .inl e => .inl e
        | .inr (b, t3) => p_end f L (a, r, b) t3) → P S') : VX3_readNever l (am_qv P) 203 [(0, am_R 0), (4, am_I (3 * (n : Int)))] [] S := by
  have e1 : (S.2 12 (3 * (n : Int) + 1).toNat).toInt = q := by
    rw [show (3 * (n : Int) + 1).toNat = 3 * n + 1 by omega]
    exact hq
  unfold p_rel at hP
  refine bX3_readNever_203 _ (by first | exact am_rN (by omega) | exact ⟨by omega, by omega⟩ | assumption) ⟨by omega, ?_⟩
  rw [e1]
  cases hw : z_relOf (z_wd f tk) with
  | none =>
    rw [hw] at hP hq2
    refine ⟨fun _ => km_must (so := false) h (fun S' e' m' => km_rn_226e m' hn (fun S2 m2 e2 => hP S2 ⟨m2, e2⟩)), fun z => absurd hq2 z⟩
  | some r =>
    rw [hw] at hP hq2
    have hq2 : q = (r : Int) := hq2
    refine ⟨fun z => absurd z (by omega), fun _ => km_must (so := true) h (fun S' e' m' => km_rn_226 (a := a) (r := r) m' hn ?_ ?_ hP)⟩
    · rw [e']
      exact ha
    · rw [e', hq, hq2]
def z_one (f : Nat → Nat) (L n : Nat) (tk : sp_tk) : (Nat × Nat) ⊕ ((Nat × Nat × Nat) × sp_tk) := if z_wd f tk = w_never ∨ z_wd f tk = w_most then if n = 16 then .inl (3, tk.2.1) else if z_wd f tk = w_never then p_never f L (z_tok f L tk.2.2) else p_most f L (z_tok f L tk.2.2) else .inl (1, tk.2.1)
theorem km_rn_45e {e : Nat × Nat} {so : Bool} {w : Int} {P : am_M → Prop} (h : mo S Z f L n F (.inl e)) (hw : am_r64 w) (hP : ∀ S', mr S' Z → mo_e S' e → P S') : VX3_readNever l (am_qv P) 45 [(0, am_R 0), (1, am_J w), (3, am_I (am_b so))] [] S := by
  have h1 : (S.1 14).toInt = e.1 := h.2.2.2.1
  have h2 : 1 ≤ e.1 := h.2.2.2.2.1
  exact bX3_readNever_45 _ hw _ (km_must_e h (fun h => ⟨fun z => absurd z (by omega), fun _ => am_qv_mk (hP _ h.1 h.2.2.2)⟩))
theorem km_rn_45 {tk : sp_tk} {so : Bool} {P : am_M → Prop} (h : mo S Z f L n F (.inr tk)) (hw : am_r64 (z_wv f tk : Nat)) (hso : so = decide (z_wd f tk = w_never ∨ z_wd f tk = w_most)) (hn : so = true → n < 16) (hP : ∀ S', mo3 S' Z f L n F (z_one f L n tk) → P S') : VX3_readNever l (am_qv P) 45 [(0, am_R 0), (1, am_J (z_wv f tk : Nat)), (3, am_I (am_b so))] [] S := by
  have ht : mo_t S f L tk := h.2.2.2
  refine bX3_readNever_45 _ hw _ (km_must h (fun S1 e1 m1 => ?_))
  unfold z_one at hP
  cases so with
  | false =>
    have hno := of_decide_eq_false hso.symm
    rw [if_neg hno] at hP
    have m1 : mo S1 Z f L n F (.inl (1, tk.2.1)) := m1
    have z1 : (S1.1 14).toInt = (1 : Nat) := m1.2.2.2.1
    exact ⟨fun z => absurd z (by omega), fun _ => am_qv_mk (hP _ ⟨m1.1, m1.2.2.2⟩)⟩
  | true =>
    have hyes := of_decide_eq_true hso.symm
    have hn16 := hn rfl
    rw [if_pos hyes, if_neg (by omega)] at hP
    have m1 : mo S1 Z f L n F (.inr (z_tok f L tk.2.2)) := m1
    have z1 : (S1.1 14).toInt = 0 := m1.2.2.2.1
    have en : (S1.1 6).toInt = n := m1.2.2.1.1
    rw [en]
    refine ⟨fun _ => ⟨fun hne => ?_, fun heq => ?_⟩, fun z => absurd z (by omega)⟩
    · have hnm : ¬ z_wd f tk = w_most := fun z => hne (by have := (zw_most ht).mpr z; omega)
      have hnv : z_wd f tk = w_never := hyes.elim id (fun z => absurd z hnm)
      rw [if_pos hnv] at hP
      generalize z_tok f L tk.2.2 = t0 at *
      refine km_sortHere m1 (fun r9 S8 e8 m8 hr9 => ⟨by omega, ?_⟩)
      unfold p_never at hP
      cases hs : p_sort f L t0 with
      | inl e =>
        rw [hs] at hP m8
        have m8 : mo S8 Z f L n F (.inl e) := m8
        have z8 : (S8.1 14).toInt = e.1 := m8.2.2.2.1
        have z9 : 1 ≤ e.1 := m8.2.2.2.2.1
        exact ⟨fun _ => km_rn_226e (mo.never m8 (by omega)) hn16 (fun S2 m2 e2 => hP S2 ⟨m2, e2⟩), fun z => absurd z (by omega)⟩
      | inr w =>
        obtain ⟨a, t1⟩ := w
        rw [hs] at hP m8
        have m8 : r9 = a ∧ mo S8 Z f L n F (.inr t1) := m8
        obtain ⟨ea, m8⟩ := m8
        have z8 : (S8.1 14).toInt = 0 := m8.2.2.2.1
        have mA := mo.never (u := 3 * (n : Int)) (x := r9) m8 (by omega)
        have ht1 : mo_t (am_sa S8 12 (3 * (n : Int)) r9) f L t1 := mA.2.2.2
        have go : ∀ q : Int, am_r q → q = sp_on (z_relOf (z_wd f t1)) → (0 ≤ (3 * (n : Int) + 1) ∧ (3 * (n : Int) + 1) < 48) ∧ VX3_readNever l (am_qv P) 203 [(0, am_R 0), (4, am_I (3 * (n : Int)))] [] (am_sa (am_sa S8 12 (3 * (n : Int)) r9) 12 (3 * (n : Int) + 1) q) := by
          intro q hq hq2
          refine ⟨by omega, km_rn_203 (a := a) (q := q) (mo.never mA (by omega)) hn16 ?_ (sa12_at hq (by omega)) hq2 hP⟩
          rw [sa12_ne hq (by omega) (by omega), sa12_at hr9 (by omega)]
          exact ea
        refine ⟨fun z => absurd z8 z, fun _ => km_word mA ⟨fun n1 => ⟨fun n2 => ⟨fun n3 => ⟨fun n4 => ?_, fun e4 => ?_⟩, fun e3 => ?_⟩, fun e2 => ?_⟩, fun e1 => ?_⟩⟩
        · have q1 : ¬ z_wd f t1 = w_on := fun z => n1 (by have := (zw_on ht1).mpr z; omega)
          have q2 : ¬ z_wd f t1 = w_in := fun z => n2 (by have := (zw_in ht1).mpr z; omega)
          have q3 : ¬ z_wd f t1 = w_beside := fun z => n3 (by have := (zw_beside ht1).mpr z; omega)
          have q4 : ¬ z_wd f t1 = w_at := fun z => n4 (by have := (zw_at ht1).mpr z; omega)
          refine go _ ⟨by decide, by decide⟩ ?_
          unfold z_relOf
          rw [if_neg q1, if_neg q2, if_neg q3, if_neg q4]
          rfl
        · have q4 := (zw_at ht1).mp (by omega)
          refine go 3 ⟨by decide, by decide⟩ ?_
          rw [q4]
          decide
        · have q3 := (zw_beside ht1).mp (by omega)
          refine go 2 ⟨by decide, by decide⟩ ?_
          rw [q3]
          decide
        · have q2 := (zw_in ht1).mp (by omega)
          refine go 1 ⟨by decide, by decide⟩ ?_
          rw [q2]
          decide
        · have q1 := (zw_on ht1).mp (by omega)
          refine go 0 ⟨by decide, by decide⟩ ?_
          rw [q1]
          decide
    · have hm : z_wd f tk = w_most := (zw_most ht).mp (by omega)
      have hnn : ¬ z_wd f tk = w_never := by rw [hm]; decide
      rw [if_neg hnn] at hP
      generalize z_tok f L tk.2.2 = t0 at *
      refine km_numberTo (hi := 7) m1 (by decide) (fun r9 S8 e8 m8 hr9 => ⟨by omega, by omega, ?_⟩)
      unfold p_most at hP
      cases hs : p_num f L 7 t0 with
      | inl e =>
        rw [hs] at hP m8
        have m8 : mo S8 Z f L n F (.inl e) := m8
        exact km_numberTo_e (hi := 200) (mo.never (mo.never m8 (by omega)) (by omega)) (by decide) (fun q S' m' hq => ⟨by omega, km_rn_261e (mo.never m' (by omega)) hn16 (fun S2 m2 e2 => hP S2 ⟨m2, e2⟩)⟩)
      | inr w =>
        obtain ⟨a, t1⟩ := w
        rw [hs] at hP m8
        have m8 : r9 = a ∧ mo S8 Z f L n F (.inr t1) := m8
        obtain ⟨ea, m8⟩ := m8
        refine km_numberTo (hi := 200) (mo.never (mo.never m8 (by omega)) (by omega)) (by decide) (fun q S' e' m' hq => ⟨by omega, ?_⟩)
        have hP : ∀ S', mo3 S' Z f L n F (match p_num f L 200 t1 with
          | .inl e => .inl e
          | .inr (b, t2) => p_end f L (a, 4, b) t2) → P S' := hP
        cases hs2 : p_num f L 200 t1 with
        | inl e =>
          rw [hs2] at hP m'
          have m' : mo S' Z f L n F (.inl e) := m'
          exact km_rn_261e (mo.never m' (by omega)) hn16 (fun S2 m2 e2 => hP S2 ⟨m2, e2⟩)
        | inr w =>
          obtain ⟨b, t2⟩ := w
          rw [hs2] at hP m'
          have m' : q = b ∧ mo S' Z f L n F (.inr t2) := m'
          obtain ⟨eb, m'⟩ := m'
          refine km_rn_261 (v := (a, 4, b)) (mo.never m' (by omega)) hn16 ⟨?_, ?_, ?_⟩ hP
          · rw [sa12_ne hq (by omega) (by omega), e', sa12_ne ⟨by decide, by decide⟩ (by omega) (by omega), sa12_at hr9 (by omega)]
            exact ea
          · rw [sa12_ne hq (by omega) (by omega), e', sa12_at ⟨by decide, by decide⟩ (by omega)]
            rfl
          · rw [sa12_at hq (by omega)]
            exact eb
theorem z_wv_r {tk : sp_tk} (h : mo S Z f L n F (.inr tk)) : am_r64 (z_wv f tk : Nat) := by
  obtain ⟨g1, g2, g3, g4, g5, p, g6, g7⟩ := h
  have ht := z_tok_ok (f := f) (L := L) g6
  rw [← g7] at ht
  unfold z_wv
  split
  · rename_i hx
    have q1 := sp_pk_lt (f := f) (a := tk.2.1) (tk.2.2 - tk.2.1) (fun i hi => by
      have := (g2.2.2 (tk.2.1 + i) (by omega)).2
      omega)
    have q2 : 256 ^ (tk.2.2 - tk.2.1) ≤ 256 ^ 7 := Nat.pow_le_pow_right (by decide) (by omega)
    exact ⟨by omega, by omega⟩
  · exact ⟨by decide, by decide⟩
theorem km_readNever {tk : sp_tk} {P : am_M → Prop} (h : mo S Z f L n F (.inr tk)) (hP : ∀ S', mo3 S' Z f L n F (z_one f L n tk) → P S') : kX3_readNever l [am_R 0] S (am_qv P) := by
  have ht : mo_t S f L tk := h.2.2.2
  have hw := z_wv_r h
  have n16 := h.2.2.1.2.1
  have en := h.2.2.1.1
  have b27 : ∀ so : Bool, so = decide (z_wd f tk = w_never ∨ z_wd f tk = w_most) → VX3_readNever l (am_qv P) 27 [(0, am_R 0), (1, am_J (z_wv f tk : Nat)), (3, am_I (am_b so))] [] S := by
    intro so hso
    refine bX3_readNever_27 _ hw _ ⟨fun q => km_rn_45 h hw hso (fun z => absurd (q.symm.trans z) (by decide)) hP, fun q => ⟨fun hn => km_rn_45 h hw hso (fun _ => by omega) hP, fun hn => km_bad (k := 3) h (by decide) (fun S' e' m' => km_rn_45e m' hw (fun S2 m2 e2 => hP S2 ?_))⟩⟩
    rw [q] at hso
    unfold z_one
    rw [if_pos (of_decide_eq_true hso.symm), if_pos (by omega)]
    exact ⟨m2, e2⟩
  refine bX3_readNever (km_word h ⟨fun e1 => b27 true ?_, fun n1 => ⟨fun n2 => b27 false ?_, fun e2 => b27 true ?_⟩⟩)
  · exact (decide_eq_true (Or.inl ((zw_never ht).mp (by omega)))).symm
  · refine (decide_eq_false (fun z => ?_)).symm
    rcases z with z | z
    · have := (zw_never ht).mpr z
      omega
    · have := (zw_most ht).mpr z
      omega
  · exact (decide_eq_true (Or.inr ((zw_most ht).mp (by omega)))).symm
end KM22
