def nv_ok (v : Nat × Nat × Nat) : Prop := v.2.1 ≤ 4 ∧ (v.2.1 = 4 → v.1 < 8 ∧ v.2.2 ≤ 200) ∧ (v.2.1 = 3 → v.1 < 4 ∧ v.2.2 < 8) ∧ (v.2.1 < 3 → v.1 < 4 ∧ v.2.2 < 4)
theorem z_sortOf_lt {w : List Nat} {s : Nat} (h : z_sortOf w = some s) : s < 4 := by
  unfold z_sortOf at h
  split at h
  · cases h; decide
  · split at h
    · cases h; decide
    · split at h
      · cases h; decide
      · split at h
        · cases h; decide
        · cases h
theorem z_relOf_lt {w : List Nat} {s : Nat} (h : z_relOf w = some s) : s < 4 := by
  unfold z_relOf at h
  split at h
  · cases h; decide
  · split at h
    · cases h; decide
    · split at h
      · cases h; decide
      · split at h
        · cases h; decide
        · cases h
theorem p_opt_some {f : Nat → Nat} {L : Nat} {tk : sp_tk} {o : Option Nat} {s : Nat} {t : sp_tk} (h : p_opt f L tk o = .inr (s, t)) : o = some s ∧ t = z_tok f L tk.2.2 := by
  cases o with
  | none => cases h
  | some x => cases h; exact ⟨rfl, rfl⟩
theorem p_num_le {f : Nat → Nat} {L hi : Nat} {tk : sp_tk} {s : Nat} {t : sp_tk} (h : p_num f L hi tk = .inr (s, t)) : s ≤ hi ∧ t = z_tok f L tk.2.2 := by
  unfold p_num at h
  split at h
  · split at h
    · cases h
      exact ⟨by assumption, rfl⟩
    · cases h
  · cases h
theorem p_end_v {f : Nat → Nat} {L : Nat} {v v' : Nat × Nat × Nat} {tk t : sp_tk} (h : p_end f L v tk = .inr (v', t)) : v' = v := by
  unfold p_end at h
  split at h
  · cases h
  · cases h
    rfl
theorem p_never_ok {f : Nat → Nat} {L : Nat} {v : Nat × Nat × Nat} {tk t : sp_tk} (h : p_never f L tk = .inr (v, t)) : nv_ok v := by
  unfold p_never at h
  split at h
  · cases h
  · rename_i a t1 ha
    have a4 := z_sortOf_lt (p_opt_some ha).1
    split at h
    · cases h
    · rename_i r t2 hr
      have r4 := z_relOf_lt (p_opt_some hr).1
      split at h
      · cases h
      · rename_i b t3 hb
        rw [p_end_v h]
        by_cases e : r = 3
        · rw [if_pos e] at hb
          have b7 := (p_num_le hb).1
          exact ⟨by show r ≤ 4; omega, fun z => absurd (show r = 4 from z) (by omega), fun _ => ⟨a4, by show b < 8; omega⟩, fun z => absurd (show r < 3 from z) (by omega)⟩
        · rw [if_neg e] at hb
          have b4 := z_sortOf_lt (p_opt_some hb).1
          exact ⟨by show r ≤ 4; omega, fun z => absurd (show r = 4 from z) (by omega), fun z => absurd (show r = 3 from z) e, fun _ => ⟨a4, b4⟩⟩
theorem p_most_ok {f : Nat → Nat} {L : Nat} {v : Nat × Nat × Nat} {tk t : sp_tk} (h : p_most f L tk = .inr (v, t)) : nv_ok v := by
  unfold p_most at h
  split at h
  · cases h
  · rename_i a t1 ha
    have a7 := (p_num_le ha).1
    split at h
    · cases h
    · rename_i b t2 hb
      have b2 := (p_num_le hb).1
      rw [p_end_v h]
      exact ⟨Nat.le_refl 4, fun _ => ⟨by show a < 8; omega, b2⟩, fun z => absurd (show (4 : Nat) = 3 from z) (by decide), fun z => absurd (show (4 : Nat) < 3 from z) (by decide)⟩
section KM23
variable {l : Launch} {S : am_M} {Z : sp_Z} {f : Nat → Nat} {L n : Nat} {F : Nat → Nat × Nat × Nat}
theorem km_nevers_e {e : Nat × Nat} {P : Int → am_M → Prop} (h : mr S Z) (he : mo_e S e) (hP : ∀ S', mr S' (z_H Z (e.1, zSt Z)) → P (-1000100 - (e.2 : Int)) S') : VX3_nevers l (am_qi P) 40 [(0, am_R 0)] [] S := by
  obtain ⟨e1, e2, e3, e4, e5⟩ := he
  refine bX3_nevers_40 ⟨fun _ => ⟨fun z => absurd z (by omega), fun _ => ?_⟩, fun z => absurd z (by omega)⟩
  rw [e4, e1]
  refine am_qi_mk ⟨by omega, by omega⟩ (hP _ ?_)
  obtain ⟨z, za, zb, zc, zd, ze, zf, zg, zj, zy⟩ := h
  refine ⟨⟨z.1, z.2.1, z.2.2.1, z.2.2.2.1, z.2.2.2.2.1, z.2.2.2.2.2.1, z.2.2.2.2.2.2.1, ⟨e3, z.2.2.2.2.2.2.2.1.2⟩, z.2.2.2.2.2.2.2.2⟩, za, zb, zc, zd, ze, zf, zg, ⟨?_, zj.2⟩, zy⟩
  exact sv_at _ _ (am_rN (by omega))
theorem km_nevers_40 {m : Nat} {tk : sp_tk} {P : Int → am_M → Prop} (h : mo S Z f L n F (.inr tk)) (hm : m = 16 - n) (hF : ∀ k, k < n → nv_ok (F k))
    (hP : match z_par f L m n F tk with
      | .inl e => ∀ S', mr S' (z_H Z (e.1, zSt Z)) → P (-1000100 - (e.2 : Int)) S'
      | .inr x => ∀ S', mr S' (z_F Z x) → P (x.1 : Int) S') : VX3_nevers l (am_qi P) 40 [(0, am_R 0)] [] S := by
  induction m generalizing S n F tk with
  | zero =>
    have ht : mo_t S f L tk := h.2.2.2
    have n16 := h.2.2.1.2.1
    have en := h.2.2.1.1
    rw [z_par] at hP
    refine bX3_nevers_40 ⟨fun z => absurd ht.1 z, fun _ => ⟨fun h1 => ⟨fun _ => ?_, fun z => absurd (show (S.1 14).toInt ≤ 0 by rw [ht.1]; decide) z⟩, fun h1 => km_readNever h (fun S1 m1 => ?_)⟩⟩
    · rw [if_pos (by have := ht.2.1.1; omega)] at hP
      rw [en, am_ti (am_rN (by omega))]
      refine am_qi_mk (am_rN (by omega)) (hP _ ?_)
      obtain ⟨⟨z, za, zb, zc, zd, ze, zf, zg, zj, zy⟩, b, ⟨n1, n2, n3, n4⟩, _⟩ := h
      exact ⟨⟨z.1, z.2.1, z.2.2.1, z.2.2.2.1, z.2.2.2.2.1, ⟨n2, hF⟩, z.2.2.2.2.2.2⟩, za, zb, zc, zd, ze, ⟨sv_at _ _ (am_rN (by omega)), n4⟩, zg, zj, zy⟩
    · rw [if_neg (by have := ht.2.1.1; omega)] at hP
      unfold z_one at m1
      by_cases hw : z_wd f tk = w_never ∨ z_wd f tk = w_most
      · rw [if_pos hw] at hP
        rw [if_pos hw, if_pos (by omega)] at m1
        exact km_nevers_e m1.1 m1.2 hP
      · rw [if_neg hw] at hP m1
        exact km_nevers_e m1.1 m1.2 hP
  | succ m ih =>
    have ht : mo_t S f L tk := h.2.2.2
    have n16 := h.2.2.1.2.1
    have en := h.2.2.1.1
    rw [z_par] at hP
    refine bX3_nevers_40 ⟨fun z => absurd ht.1 z, fun _ => ⟨fun h1 => ⟨fun _ => ?_, fun z => absurd (show (S.1 14).toInt ≤ 0 by rw [ht.1]; decide) z⟩, fun h1 => km_readNever h (fun S1 m1 => ?_)⟩⟩
    · rw [if_pos (by have := ht.2.1.1; omega)] at hP
      rw [en, am_ti (am_rN (by omega))]
      refine am_qi_mk (am_rN (by omega)) (hP _ ?_)
      obtain ⟨⟨z, za, zb, zc, zd, ze, zf, zg, zj, zy⟩, b, ⟨n1, n2, n3, n4⟩, _⟩ := h
      exact ⟨⟨z.1, z.2.1, z.2.2.1, z.2.2.2.1, z.2.2.2.2.1, ⟨n2, hF⟩, z.2.2.2.2.2.2⟩, za, zb, zc, zd, ze, ⟨sv_at _ _ (am_rN (by omega)), n4⟩, zg, zj, zy⟩
    · rw [if_neg (by have := ht.2.1.1; omega)] at hP
      unfold z_one at m1
      by_cases hw : z_wd f tk = w_never ∨ z_wd f tk = w_most
      · rw [if_pos hw] at hP
        rw [if_pos hw, if_neg (by omega)] at m1
        cases hs : (if z_wd f tk = w_never then p_never f L (z_tok f L tk.2.2) else p_most f L (z_tok f L tk.2.2)) with
        | inl e =>
          rw [hs] at m1 hP
          exact km_nevers_e m1.1 m1.2 hP
        | inr x =>
          obtain ⟨v, t⟩ := x
          rw [hs] at m1 hP
          have hv : nv_ok v := by
            by_cases e : z_wd f tk = w_never
            · rw [if_pos e] at hs
              exact p_never_ok hs
            · rw [if_neg e] at hs
              exact p_most_ok hs
          refine ih (n := n + 1) (F := va_up F n v) (tk := t) m1 (by omega) (fun k hk => ?_) hP
          rw [up_if]
          split
          · exact hv
          · exact hF k (by omega)
      · rw [if_neg hw] at hP m1
        exact km_nevers_e m1.1 m1.2 hP
theorem km_nevers {P : Int → am_M → Prop} (h : mr S Z) (hP : ∀ S', mr S' (zo_nevers Z).2 → P (zo_nevers Z).1 S') : kX3_nevers l [am_R 0] S (am_qi P) := by
  have eP := h.eP
  have P3 := h.1.2.2.2.2.2.2.1
  have eN : (S.1 5).toInt = zN Z := h.2.2.2.2.2.2.1.1
  have N16 := h.1.2.2.2.2.2.1.1
  unfold zo_nevers at hP
  refine bX3_nevers ?_
  rw [eP, eN]
  generalize hS1 : (am_sv (am_sv (am_sv (am_sv (am_sv (am_sv S 0 0) 9 (zP Z)) 7 0) 10 0) 14 0) 6 (zN Z) : am_M) = S1
  have a9 : (S1.1 9).toInt = zP Z := by
    rw [← hS1]
    show ((am_sv (am_sv S 0 0) 9 (zP Z)).1 9).toInt = zP Z
    exact sv_at _ _ (am_rN (by omega))
  have a10 : (S1.1 10).toInt = (0 : Nat) := by
    rw [← hS1]
    show ((am_sv (am_sv (am_sv (am_sv S 0 0) 9 (zP Z)) 7 0) 10 0).1 10).toInt = 0
    exact sv_at _ _ ⟨by decide, by decide⟩
  have a14 : (S1.1 14).toInt = 0 := by
    rw [← hS1]
    show ((am_sv (am_sv (am_sv (am_sv (am_sv S 0 0) 9 (zP Z)) 7 0) 10 0) 14 0).1 14).toInt = 0
    exact sv_at _ _ ⟨by decide, by decide⟩
  have a6 : (S1.1 6).toInt = zN Z := by
    rw [← hS1]
    exact sv_at _ _ (am_rN (by omega))
  have a2 : S1.2 = S.2 := by rw [← hS1]; rfl
  have m1 : mr S1 (z_G Z (0, zPf Z)) := by
    rw [← hS1]
    obtain ⟨z, za, zb, zc, zd, ze, zf, zg, zj, zy⟩ := h
    refine ⟨⟨z.1, z.2.1, z.2.2.1, z.2.2.2.1, z.2.2.2.2.1, z.2.2.2.2.2.1, ⟨Nat.zero_le _, fun i hi => absurd hi (Nat.not_lt_zero _)⟩, z.2.2.2.2.2.2.2⟩, za, zb, zc, zd, ze, zf, ⟨?_, fun i hi => absurd hi (Nat.not_lt_zero _)⟩, zj, zy⟩
    show ((am_sv (am_sv (am_sv S 0 0) 9 (zP Z)) 7 0).1 7).toInt = (0 : Nat)
    exact sv_at _ _ ⟨by decide, by decide⟩
  have b1 : mp_b S1 (zPf Z) (zP Z) := by
    refine ⟨a9, P3.1, fun i hi => ?_⟩
    rw [a2]
    exact ⟨h.2.2.2.2.2.2.2.1.2 i hi, P3.2 i hi⟩
  have c1 : mo_n S1 (z_G Z (0, zPf Z)) (zN Z) (zNf Z) := by
    refine ⟨a6, N16, Nat.le_refl (zN Z), ?_⟩
    rw [a2]
    exact h.2.2.2.2.2.2.1.2
  refine km_step b1 a10 (Nat.zero_le _) (fun S2 f2 t2 => ?_)
  refine km_nevers_40 (m := 16 - zN Z) (n := zN Z) (F := zNf Z) (tk := z_tok (zPf Z) (zP Z) 0) (Z := z_G Z (0, zPf Z)) ⟨f2.mr m1, f2.b b1, f2.mon c1, f2.sv6 (by omega) a14, t2, 0, Nat.zero_le _, rfl⟩ rfl h.1.2.2.2.2.2.1.2 ?_
  cases q : z_par (zPf Z) (zP Z) (16 - zN Z) (zN Z) (zNf Z) (z_tok (zPf Z) (zP Z) 0) with
  | inl e =>
    rw [q] at hP
    exact hP
  | inr x =>
    rw [q] at hP
    exact hP
end KM23
