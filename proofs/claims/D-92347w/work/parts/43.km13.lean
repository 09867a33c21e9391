section KM13
variable {l : Launch} {S : am_M} {Z : sp_Z}
/-- S is S0 but for the items that were copied: those from lo to hi -/
def mc_r (S0 S : am_M) (d e lo hi : Nat) : Prop := S.1 = S0.1 ∧ (∀ j, j ≠ 11 → S.2 j = S0.2 j) ∧ ∀ q, S.2 11 q = if d + lo ≤ q ∧ q < d + hi then S0.2 11 (q - d + e) else S0.2 11 q
theorem mc_r.add {S0 S : am_M} {d e lo hi : Nat} {u : Int} {x : Int32} (h : mc_r S0 S d e lo hi) (hu : u = (d + hi : Nat)) (hx : x = S0.2 11 (hi + e)) (hl : lo ≤ hi) : mc_r S0 (am_sa S 11 u x.toInt) d e lo (hi + 1) := by
  refine ⟨h.1, fun j hj => (up_ne _ _ hj).trans (h.2.1 j hj), fun q => ?_⟩
  show va_up S.2 11 (va_up (S.2 11) u.toNat (Int32.ofInt x.toInt)) 11 q = _
  rw [up_at, up_if, am_it, h.2.2, hu, Int.toNat_natCast]
  by_cases eq : q = d + hi
  · rw [if_pos eq, if_pos (by omega), hx, show q - d + e = hi + e by omega]
  · rw [if_neg eq]
    by_cases e2 : d + lo ≤ q ∧ q < d + hi
    · rw [if_pos e2, if_pos (by omega)]
    · rw [if_neg e2, if_neg (by omega)]
theorem mc_r.sub {S0 S : am_M} {d e lo hi : Nat} {u : Int} {x : Int32} (h : mc_r S0 S d e (lo + 1) hi) (hu : u = (d + lo : Nat)) (hx : x = S0.2 11 (lo + e)) (hl : lo < hi) : mc_r S0 (am_sa S 11 u x.toInt) d e lo hi := by
  refine ⟨h.1, fun j hj => (up_ne _ _ hj).trans (h.2.1 j hj), fun q => ?_⟩
  show va_up S.2 11 (va_up (S.2 11) u.toNat (Int32.ofInt x.toInt)) 11 q = _
  rw [up_at, up_if, am_it, h.2.2, hu, Int.toNat_natCast]
  by_cases eq : q = d + lo
  · rw [if_pos eq, if_pos (by omega), hx, show q - d + e = lo + e by omega]
  · rw [if_neg eq]
    by_cases e2 : d + (lo + 1) ≤ q ∧ q < d + hi
    · rw [if_pos e2, if_pos (by omega)]
    · rw [if_neg e2, if_neg (by omega)]
theorem km_copy_up {a b i j n k : Nat} {S0 : am_M} {P : Int → am_M → Prop} (ha : a < 8) (hb : b < 8) (hi : i + n ≤ 40) (hj : j + n ≤ 40) (hij : j ≤ i) (hk : k ≤ n) (h : mc_r S0 S (40 * b + j) (40 * a + i) 0 k) (hP : ∀ S', mc_r S0 S' (40 * b + j) (40 * a + i) 0 n → P (n : Int) S') :
    VX3_copy l (am_qi P) 143 [(0, am_R 0), (1, am_I a), (2, am_I i), (3, am_I b), (4, am_I j), (5, am_I n), (6, am_I 1), (7, am_I k)] [] S := by
  generalize hm : n - k = q
  induction q generalizing k S with
  | zero =>
    have e : k = n := by omega
    subst e
    exact bX3_copy_143 _ (by first | exact am_rN (by omega) | exact ⟨by omega, by omega⟩ | assumption) _ (by first | exact am_rN (by omega) | exact ⟨by omega, by omega⟩ | assumption) _ (by first | exact am_rN (by omega) | exact ⟨by omega, by omega⟩ | assumption) _ (by first | exact am_rN (by omega) | exact ⟨by omega, by omega⟩ | assumption) _ (by first | exact am_rN (by omega) | exact ⟨by omega, by omega⟩ | assumption) _ (by first | exact am_rN (by omega) | exact ⟨by omega, by omega⟩ | assumption) _ (by first | exact am_rN (by omega) | exact ⟨by omega, by omega⟩ | assumption) ⟨fun _ => am_qi_mk (am_rN (by omega)) (hP S h), fun z => absurd z (by omega)⟩
  | succ q ih =>
    refine bX3_copy_143 _ (by first | exact am_rN (by omega) | exact ⟨by omega, by omega⟩ | assumption) _ (by first | exact am_rN (by omega) | exact ⟨by omega, by omega⟩ | assumption) _ (by first | exact am_rN (by omega) | exact ⟨by omega, by omega⟩ | assumption) _ (by first | exact am_rN (by omega) | exact ⟨by omega, by omega⟩ | assumption) _ (by first | exact am_rN (by omega) | exact ⟨by omega, by omega⟩ | assumption) _ (by first | exact am_rN (by omega) | exact ⟨by omega, by omega⟩ | assumption) _ (by first | exact am_rN (by omega) | exact ⟨by omega, by omega⟩ | assumption) ⟨fun z => absurd z (by omega), fun _ => ⟨fun z => absurd z (by decide), fun _ => ⟨by omega, by omega, ?_⟩⟩⟩
    refine ih (k := k + 1) (by omega) (h.add (by omega) ?_ (Nat.zero_le _)) (by omega)
    rw [h.2.2, if_neg (by omega), show (40 * (a : Int) + i + k).toNat = k + (40 * a + i) by omega]
theorem km_copy_down {a b i j n k : Nat} {S0 : am_M} {P : Int → am_M → Prop} (ha : a < 8) (hb : b < 8) (hi : i + n ≤ 40) (hj : j + n ≤ 40) (hij : i < j) (hk : k ≤ n) (h : mc_r S0 S (40 * b + j) (40 * a + i) (n - k) n) (hP : ∀ S', mc_r S0 S' (40 * b + j) (40 * a + i) 0 n → P (n : Int) S') :
    VX3_copy l (am_qi P) 143 [(0, am_R 0), (1, am_I a), (2, am_I i), (3, am_I b), (4, am_I j), (5, am_I n), (6, am_I 0), (7, am_I k)] [] S := by
  generalize hm : n - k = q at h
  induction q generalizing k S with
  | zero =>
    have e : k = n := by omega
    subst e
    exact bX3_copy_143 _ (by first | exact am_rN (by omega) | exact ⟨by omega, by omega⟩ | assumption) _ (by first | exact am_rN (by omega) | exact ⟨by omega, by omega⟩ | assumption) _ (by first | exact am_rN (by omega) | exact ⟨by omega, by omega⟩ | assumption) _ (by first | exact am_rN (by omega) | exact ⟨by omega, by omega⟩ | assumption) _ (by first | exact am_rN (by omega) | exact ⟨by omega, by omega⟩ | assumption) _ (by first | exact am_rN (by omega) | exact ⟨by omega, by omega⟩ | assumption) _ (by first | exact am_rN (by omega) | exact ⟨by omega, by omega⟩ | assumption) ⟨fun _ => am_qi_mk (am_rN (by omega)) (hP S h), fun z => absurd z (by omega)⟩
  | succ q ih =>
    refine bX3_copy_143 _ (by first | exact am_rN (by omega) | exact ⟨by omega, by omega⟩ | assumption) _ (by first | exact am_rN (by omega) | exact ⟨by omega, by omega⟩ | assumption) _ (by first | exact am_rN (by omega) | exact ⟨by omega, by omega⟩ | assumption) _ (by first | exact am_rN (by omega) | exact ⟨by omega, by omega⟩ | assumption) _ (by first | exact am_rN (by omega) | exact ⟨by omega, by omega⟩ | assumption) _ (by first | exact am_rN (by omega) | exact ⟨by omega, by omega⟩ | assumption) _ (by first | exact am_rN (by omega) | exact ⟨by omega, by omega⟩ | assumption) ⟨fun z => absurd z (by omega), fun _ => ⟨fun _ => ⟨by omega, by omega, ?_⟩, fun z => absurd rfl z⟩⟩
    refine ih (k := k + 1) (by omega) (by omega) (h.sub (by omega) ?_ (by omega))
    rw [h.2.2, if_neg (by omega), show (40 * (a : Int) + i + ((n : Int) - 1 - k)).toNat = q + (40 * a + i) by omega]
theorem km_copy {a i b j n : Int} {P : Int → am_M → Prop} (h : mr S Z) (ha : am_r a) (hi : am_r i) (hb : am_r b) (hj : am_r j) (hn : am_r n) (hP : ∀ S', mr S' (zo_copy Z a i b j n).2 → P (zo_copy Z a i b j n).1 S') : kX3_copy l [am_R 0, am_I a, am_I i, am_I b, am_I j, am_I n] S (am_qi P) := by
  unfold zo_copy at hP
  have h0 : mr (am_sv (am_sv S 0 0) 1 0) (z_St Z 0) := h.th.stat (k := 0) (by decide)
  have bad : ¬ ((0 ≤ a ∧ a ≤ 7) ∧ 0 ≤ b ∧ b ≤ 7) → am_qi P (some (am_I (-1000001))) (am_sv S 0 0) := by
    intro hx
    rw [if_neg hx] at hP
    exact am_qi_mk ⟨by decide, by decide⟩ (hP _ h.th)
  refine bX3_copy _ (by first | exact am_rN (by omega) | exact ⟨by omega, by omega⟩ | assumption) _ (by first | exact am_rN (by omega) | exact ⟨by omega, by omega⟩ | assumption) _ (by first | exact am_rN (by omega) | exact ⟨by omega, by omega⟩ | assumption) _ (by first | exact am_rN (by omega) | exact ⟨by omega, by omega⟩ | assumption) _ (by first | exact am_rN (by omega) | exact ⟨by omega, by omega⟩ | assumption) (km_isSheet ha ⟨fun h1 => bad (fun z => of_decide_eq_false h1 z.1), fun h1 => km_isSheet hb ⟨fun h2 => ⟨?_, ?_⟩, fun h2 => bad (fun z => of_decide_eq_false h2 z.2)⟩⟩)
  · have h1 := of_decide_eq_true h1
    omega
  have h1 := of_decide_eq_true h1
  have h2 := of_decide_eq_true h2
  rw [if_pos ⟨h1, h2⟩] at hP
  obtain ⟨a, rfl⟩ : ∃ q : Nat, a = q := ⟨a.toNat, by omega⟩
  obtain ⟨b, rfl⟩ : ∃ q : Nat, b = q := ⟨b.toNat, by omega⟩
  simp only [Int.toNat_natCast] at hP ⊢
  obtain ⟨a1, a2⟩ := h.th.lane (i := a) (by omega)
  obtain ⟨b1, b2⟩ := h.th.lane (i := b) (by omega)
  have fin : ∀ k : Nat, k ≤ 5 → (∀ S', mr S' (z_bad Z k).2 → P (z_bad Z k).1 S') → kX3_finding l [am_R 0, am_I k] (am_sv (am_sv S 0 0) 1 0) (am_qi fun r S' => am_qi P (some (am_I r)) S') := fun k hk hp => km_finding' (Z := Z) (k := k) h0 hk (fun S' m' => am_qi_mk (z_bad_r hk) (hp S' m'))
  cases hx : zSh Z a with
  | none =>
    rw [hx] at hP
    have a1 := a1 hx
    exact ⟨fun _ => fin 1 (by decide) hP, fun z => absurd (show ((am_sv S 0 0).2 9 a).toInt < 0 by omega) z⟩
  | some x =>
    rw [hx] at hP
    obtain ⟨a3, a4, a5, a6, a7⟩ := a2 x hx
    refine ⟨fun z => absurd z (by omega), fun _ => ⟨by omega, ?_⟩⟩
    cases hy : zSh Z b with
    | none =>
      rw [hy] at hP
      have b1 := b1 hy
      exact ⟨fun z => absurd z (by omega), fun _ => fin 1 (by decide) hP⟩
    | some y =>
      rw [hy] at hP
      obtain ⟨b3, b4, b5, b6, b7⟩ := b2 y hy
      rw [a3, b3, a4, b4]
      refine ⟨fun _ => ⟨fun el => ?_, fun el => ?_⟩, fun z => absurd z (by omega)⟩
      · have el' : x.1 = y.1 := by omega
        have hP : ∀ S', mr S' (if x.1 = y.1 then if 0 ≤ i ∧ 0 ≤ j ∧ 0 ≤ n ∧ i + n ≤ x.2.1 ∧ j + n ≤ y.2.1 then (n, z_St (z_E Z (va_up (zSh Z) b (some (y.1, y.2.1, fun p => if j ≤ p ∧ (p : Int) < j + n then x.2.2 (i + p - j).toNat else y.2.2 p)))) 0) else z_bad Z 2 else z_bad Z 5).2 → P (if x.1 = y.1 then if 0 ≤ i ∧ 0 ≤ j ∧ 0 ≤ n ∧ i + n ≤ x.2.1 ∧ j + n ≤ y.2.1 then (n, z_St (z_E Z (va_up (zSh Z) b (some (y.1, y.2.1, fun p => if j ≤ p ∧ (p : Int) < j + n then x.2.2 (i + p - j).toNat else y.2.2 p)))) 0) else z_bad Z 2 else z_bad Z 5).1 S' := hP
        rw [if_pos el'] at hP
        have no : ¬ (0 ≤ i ∧ 0 ≤ j ∧ 0 ≤ n ∧ i + n ≤ x.2.1 ∧ j + n ≤ y.2.1) → kX3_finding l [am_R 0, am_I 2] (am_sv (am_sv S 0 0) 1 0) (am_qi fun r S' => am_qi P (some (am_I r)) S') := by
          intro hz
          rw [if_neg hz] at hP
          exact fin 2 (by decide) hP
        refine ⟨fun q1 => no (by omega), fun q1 => ⟨fun q2 => no (by omega), fun q2 => ⟨fun q3 => no (by omega), fun q3 => ⟨⟨by have := hi.1; have := hi.2; have := hn.1; have := hn.2; omega, by have := hi.1; have := hi.2; have := hn.1; have := hn.2; omega⟩, fun q4 => no (by omega), fun q4 => ⟨⟨by have := hj.1; have := hj.2; have := hn.1; have := hn.2; omega, by have := hj.1; have := hj.2; have := hn.1; have := hn.2; omega⟩, fun q5 => ?_, fun q5 => no (by omega)⟩⟩⟩⟩⟩
        rw [if_pos ⟨by omega, by omega, by omega, by omega, by omega⟩] at hP
        obtain ⟨i, rfl⟩ : ∃ q : Nat, i = q := ⟨i.toNat, by omega⟩
        obtain ⟨j, rfl⟩ : ∃ q : Nat, j = q := ⟨j.toNat, by omega⟩
        obtain ⟨n, rfl⟩ : ∃ q : Nat, n = q := ⟨n.toNat, by omega⟩
        have done : ∀ S', mc_r (am_sv (am_sv S 0 0) 1 0) S' (40 * b + j) (40 * a + i) 0 n → P (n : Int) S' := by
          intro S' hc
          refine hP S' (h0.sheets (Z := z_St Z 0) (E := va_up (zSh Z) b (some (y.1, y.2.1, fun p => if (j : Int) ≤ p ∧ (p : Int) < (j : Int) + n then x.2.2 ((i : Int) + p - j).toNat else y.2.2 p))) hc.1 (fun k k9 k10 k11 => hc.2.1 k k11) (fun k hk z hz => ?_) (fun k hk => ?_))
          · rw [up_if] at hz
            split at hz
            · cases hz
              exact ⟨b5, b6⟩
            · exact h.1.2.2.2.2.1 k hk z hz
          · rw [hc.2.1 9 (by decide), hc.2.1 10 (by decide)]
            show (va_up (zSh Z) b _ k = none → (S.2 9 k).toInt = -1) ∧ ∀ z, va_up (zSh Z) b _ k = some z → (S.2 9 k).toInt = z.1 ∧ (S.2 10 k).toInt = z.2.1 ∧ ∀ p, p < z.2.1 → (S'.2 11 (40 * k + p)).toInt = z.2.2 p
            rw [up_if]
            by_cases e : k = b
            · simp only [e, if_true]
              refine ⟨fun z => by simp at z, fun z hz => ?_⟩
              cases hz
              refine ⟨b3, b4, fun p hp => ?_⟩
              have hp : p < y.2.1 := hp
              show (S'.2 11 (40 * b + p)).toInt = if (j : Int) ≤ p ∧ (p : Int) < (j : Int) + n then x.2.2 ((i : Int) + p - j).toNat else y.2.2 p
              rw [hc.2.2]
              by_cases e2 : (j : Int) ≤ p ∧ (p : Int) < (j : Int) + n
              · rw [if_pos e2, if_pos (by omega), show 40 * b + p - (40 * b + j) + (40 * a + i) = 40 * a + ((i : Int) + p - j).toNat by omega]
                exact a7 _ (by omega)
              · rw [if_neg e2, if_neg (by omega)]
                exact b7 p hp
            · simp only [e, if_false]
              obtain ⟨k1, k2⟩ := h.lane hk
              refine ⟨k1, fun z hz => ?_⟩
              obtain ⟨k3, k4, k5, k6, k7⟩ := k2 z hz
              refine ⟨k3, k4, fun p hp => ?_⟩
              rw [hc.2.2, if_neg (by omega)]
              exact k7 p hp
        have c0 : ∀ d e q, mc_r (am_sv (am_sv S 0 0) 1 0) (am_sv (am_sv S 0 0) 1 0) d e q q := fun d e q => ⟨rfl, fun _ _ => rfl, fun p => by rw [if_neg (by omega)]⟩
        refine ⟨fun q6 => ?_, fun q6 => ?_⟩
        · exact km_copy_down (k := 0) (by omega) (by omega) (by omega) (by omega) (by omega) (Nat.zero_le _) (c0 _ _ _) done
        · exact km_copy_up (k := 0) (by omega) (by omega) (by omega) (by omega) (by omega) (Nat.zero_le _) (c0 _ _ _) done
      · have hP : ∀ S', mr S' (if x.1 = y.1 then if 0 ≤ i ∧ 0 ≤ j ∧ 0 ≤ n ∧ i + n ≤ x.2.1 ∧ j + n ≤ y.2.1 then (n, z_St (z_E Z (va_up (zSh Z) b (some (y.1, y.2.1, fun p => if j ≤ p ∧ (p : Int) < j + n then x.2.2 (i + p - j).toNat else y.2.2 p)))) 0) else z_bad Z 2 else z_bad Z 5).2 → P (if x.1 = y.1 then if 0 ≤ i ∧ 0 ≤ j ∧ 0 ≤ n ∧ i + n ≤ x.2.1 ∧ j + n ≤ y.2.1 then (n, z_St (z_E Z (va_up (zSh Z) b (some (y.1, y.2.1, fun p => if j ≤ p ∧ (p : Int) < j + n then x.2.2 (i + p - j).toNat else y.2.2 p)))) 0) else z_bad Z 2 else z_bad Z 5).1 S' := hP
        rw [if_neg (by omega)] at hP
        exact fin 5 (by decide) hP
theorem km_look {a : Nat} {i n : Int} {P : Int → am_M → Prop} (h : mr S Z) (ha : a < 8) (hi : am_r i) (hn : am_r n) (h0 : z_look Z a i n = 0 → P 0 S) (h1 : ∀ S', z_look Z a i n ≠ 0 → mr S' (z_bad Z (z_look Z a i n)).2 → P (z_bad Z (z_look Z a i n)).1 S') : kX3_lookItems l [am_R 0, am_I a, am_I i, am_I n] S (am_qi P) := by
  obtain ⟨a1, a2⟩ := h.lane (i := a) ha
  unfold z_look at h0 h1
  have fin : ∀ k : Nat, k ≤ 5 → (∀ S', mr S' (z_bad Z k).2 → P (z_bad Z k).1 S') → kX3_finding l [am_R 0, am_I k] S (am_qi fun r S' => am_qi P (some (am_I r)) S') := fun k hk hp => km_finding h hk (fun S' m' => am_qi_mk (z_bad_r hk) (hp S' m'))
  refine bX3_lookItems _ (by first | exact am_rN (by omega) | exact ⟨by omega, by omega⟩ | assumption) _ (by first | exact am_rN (by omega) | exact ⟨by omega, by omega⟩ | assumption) _ (by first | exact am_rN (by omega) | exact ⟨by omega, by omega⟩ | assumption) ⟨by omega, ?_⟩
  rw [Int.toNat_natCast]
  cases hx : zSh Z a with
  | none =>
    rw [hx] at h1
    have a1 := a1 hx
    exact ⟨fun z => absurd z (by omega), fun _ => fin 1 (by decide) (fun S' => h1 S' (show (1 : Nat) ≠ 0 by decide))⟩
  | some x =>
    rw [hx] at h0 h1
    obtain ⟨a3, a4, a5, a6, a7⟩ := a2 x hx
    rw [a4]
    have h0 : (if 0 ≤ i ∧ i + n ≤ x.2.1 then 0 else 2) = 0 → P 0 S := h0
    have h1 : ∀ S', (if 0 ≤ i ∧ i + n ≤ x.2.1 then 0 else 2) ≠ 0 → mr S' (z_bad Z (if 0 ≤ i ∧ i + n ≤ x.2.1 then 0 else 2)).2 → P (z_bad Z (if 0 ≤ i ∧ i + n ≤ x.2.1 then 0 else 2)).1 S' := h1
    have no : ¬ (0 ≤ i ∧ i + n ≤ x.2.1) → kX3_finding l [am_R 0, am_I 2] S (am_qi fun r S' => am_qi P (some (am_I r)) S') := by
      intro hz
      rw [if_neg hz] at h1
      exact fin 2 (by decide) (fun S' => h1 S' (by decide))
    refine ⟨fun _ => ⟨fun q => no (by omega), fun q => ⟨⟨by have := hi.1; have := hi.2; have := hn.1; have := hn.2; omega, by have := hi.1; have := hi.2; have := hn.1; have := hn.2; omega⟩, fun q2 => am_qi_mk ⟨by decide, by decide⟩ (h0 (if_pos (by omega))), fun q2 => no (by omega)⟩⟩, fun z => absurd z (by omega)⟩
theorem z_look_ok {a : Nat} {i n : Int} (h : z_look Z a i n = 0) : ∃ x, zSh Z a = some x ∧ 0 ≤ i ∧ i + n ≤ x.2.1 := by
  unfold z_look at h
  cases hx : zSh Z a with
  | none => rw [hx] at h; exact absurd (show (1 : Nat) = 0 from h) (by decide)
  | some x =>
    rw [hx] at h
    have h : (if 0 ≤ i ∧ i + n ≤ x.2.1 then 0 else 2) = 0 := h
    by_cases e : 0 ≤ i ∧ i + n ≤ x.2.1
    · exact ⟨x, rfl, e.1, e.2⟩
    · rw [if_neg e] at h
      exact absurd h (by decide)
theorem z_look_5 {a : Nat} {i n : Int} : z_look Z a i n ≤ 5 := by
  unfold z_look
  split
  · decide
  · split <;> decide
theorem zo_teach_r {a b no who : Int} (hL : zL Z ≤ 8) : am_r (zo_teach Z a b no who).1 := by
  unfold zo_teach
  split
  · split
    · exact (show am_r (-1000003) from ⟨by decide, by decide⟩)
    · exact am_rN (n := zL Z) (by omega)
  · exact (show am_r (-1000001) from ⟨by decide, by decide⟩)
theorem zo_teach_Sh {a b no who : Int} : zSh (zo_teach Z a b no who).2 = zSh Z := by
  unfold zo_teach
  split
  · split <;> rfl
  · rfl
theorem km_lessons_57 {a i n m : Nat} {c : Int} {x : Nat × Nat × (Nat → Int)} {P : Int → am_M → Prop} (h : mr S Z) (ha : a < 8) (hn : n ≤ 4) (hm : m ≤ n) (hx : zSh Z a = some x) (hi : i + 4 * n ≤ x.2.1) (hc : 0 ≤ c ∧ c ≤ 100 - m) (hP : ∀ S', mr S' (z_lsn x.2.2 i n m Z c).2 → P (z_lsn x.2.2 i n m Z c).1 S') :
    VX3_lessons l (am_qi P) 57 [(0, am_R 0), (1, am_I a), (2, am_I i), (3, am_I n), (5, am_I c), (6, am_I (n - m : Nat))] [] S := by
  induction m generalizing S Z c with
  | zero =>
    have a6 := ((h.lane ha).2 x hx).2.2.2.1
    exact bX3_lessons_57 _ (by first | exact am_rN (by omega) | exact ⟨by omega, by omega⟩ | assumption) _ (by first | exact am_rN (by omega) | exact ⟨by omega, by omega⟩ | assumption) _ (by first | exact am_rN (by omega) | exact ⟨by omega, by omega⟩ | assumption) _ (by first | exact am_rN (by omega) | exact ⟨by omega, by omega⟩ | assumption) _ (by first | exact am_rN (by omega) | exact ⟨by omega, by omega⟩ | assumption) ⟨fun _ => am_qi_mk ⟨by omega, by omega⟩ (hP S h), fun z => absurd z (by omega)⟩
  | succ m ih =>
    obtain ⟨a3, a4, a5, a6, a7⟩ := (h.lane ha).2 x hx
    have e : ∀ p : Nat, p < 4 → ∀ q : Int, q = (40 * (a : Int) + i + 4 * ((n - (m + 1) : Nat) : Int)) + p → (S.2 11 q.toNat).toInt = x.2.2 (i + 4 * (n - (m + 1)) + p) := by
      intro p hp q hq
      rw [show q.toNat = 40 * a + (i + 4 * (n - (m + 1)) + p) by omega]
      exact a7 _ (by omega)
    rw [z_lsn] at hP
    have ek : ((n - (m + 1) : Nat) : Int) + 1 = ((n - m : Nat) : Int) := by omega
    refine bX3_lessons_57 _ (by first | exact am_rN (by omega) | exact ⟨by omega, by omega⟩ | assumption) _ (by first | exact am_rN (by omega) | exact ⟨by omega, by omega⟩ | assumption) _ (by first | exact am_rN (by omega) | exact ⟨by omega, by omega⟩ | assumption) _ (by first | exact am_rN (by omega) | exact ⟨by omega, by omega⟩ | assumption) _ (by first | exact am_rN (by omega) | exact ⟨by omega, by omega⟩ | assumption) ⟨fun z => absurd z (by omega), fun _ => ⟨by omega, by omega, by omega, by omega, ?_⟩⟩
    rw [e 0 (by decide) _ (by omega), e 1 (by decide) _ (by omega), e 2 (by decide) _ (by omega), e 3 (by decide) _ (by omega)]
    have er : ∀ p, p < 4 → am_r (x.2.2 (i + 4 * (n - (m + 1)) + p)) := by
      intro p hp
      rw [← a7 _ (by omega)]
      exact am_rt _
    refine km_teach h (er 0 (by decide)) (er 1 (by decide)) (er 2 (by decide)) (er 3 (by decide)) (fun S1 h1 => ⟨fun q => ?_, fun q => ?_⟩)
    · rw [ek, show c + 0 = c by omega]
      rw [if_neg (by have q : (zo_teach Z (x.2.2 (i + 4 * (n - (m + 1)))) (x.2.2 (i + 4 * (n - (m + 1)) + 1)) (x.2.2 (i + 4 * (n - (m + 1)) + 2)) (x.2.2 (i + 4 * (n - (m + 1)) + 3))).1 < 0 := q; omega)] at hP
      exact ih h1 (by omega) (by rw [zo_teach_Sh]; exact hx) (by omega) hP
    · rw [ek]
      rw [if_pos (by have q : ¬ (zo_teach Z (x.2.2 (i + 4 * (n - (m + 1)))) (x.2.2 (i + 4 * (n - (m + 1)) + 1)) (x.2.2 (i + 4 * (n - (m + 1)) + 2)) (x.2.2 (i + 4 * (n - (m + 1)) + 3))).1 < 0 := q; omega)] at hP
      exact ih h1 (by omega) (by rw [zo_teach_Sh]; exact hx) (by omega) hP
theorem km_lessons {a i n : Int} {P : Int → am_M → Prop} (h : mr S Z) (ha : am_r a) (hi : am_r i) (hn : am_r n) (hP : ∀ S', mr S' (zo_lessons Z a i n).2 → P (zo_lessons Z a i n).1 S') : kX3_lessons l [am_R 0, am_I a, am_I i, am_I n] S (am_qi P) := by
  unfold zo_lessons at hP
  have bad : ¬ ((0 ≤ a ∧ a ≤ 7) ∧ 1 ≤ n ∧ n ≤ 4) → am_qi P (some (am_I (-1000001))) (am_sv S 0 0) := by
    intro hx
    rw [if_neg hx] at hP
    exact am_qi_mk ⟨by decide, by decide⟩ (hP _ h.th)
  refine bX3_lessons _ (by first | exact am_rN (by omega) | exact ⟨by omega, by omega⟩ | assumption) _ (by first | exact am_rN (by omega) | exact ⟨by omega, by omega⟩ | assumption) _ (by first | exact am_rN (by omega) | exact ⟨by omega, by omega⟩ | assumption) (km_isSheet ha ⟨fun h1 => bad (fun z => of_decide_eq_false h1 z.1), fun h1 => km_in ⟨fun h2 => ?_, fun h2 => bad (fun z => of_decide_eq_false h2 z.2)⟩⟩)
  have h1 := of_decide_eq_true h1
  have h2 := of_decide_eq_true h2
  rw [if_pos ⟨h1, h2⟩] at hP
  obtain ⟨a, rfl⟩ : ∃ q : Nat, a = q := ⟨a.toNat, by omega⟩
  obtain ⟨n, rfl⟩ : ∃ q : Nat, n = q := ⟨n.toNat, by omega⟩
  simp only [Int.toNat_natCast] at hP
  refine km_look h.th (by omega) hi ⟨by omega, by omega⟩ (fun h3 => ⟨fun _ => ?_, fun z => absurd (show (0 : Int) ≤ 0 by decide) z⟩) (fun S' h3 m' => ⟨fun z => absurd z ?_, fun _ => ?_⟩)
  · rw [if_pos h3] at hP
    obtain ⟨x, hx, x1, x2⟩ := z_look_ok h3
    obtain ⟨i, rfl⟩ : ∃ q : Nat, i = q := ⟨i.toNat, by omega⟩
    have ei : z_items Z a = x.2.2 := by unfold z_items; rw [hx]
    rw [ei, Int.toNat_natCast] at hP
    have := km_lessons_57 (l := l) (P := P) (a := a) (i := i) (n := n) (m := n) (c := 0) (x := x) (Z := z_St Z 0) (h.th.stat (k := 0) (by decide)) (by omega) (by omega) (Nat.le_refl _) hx (by omega) (by omega) hP
    rw [Nat.sub_self] at this
    exact this
  · show ¬ (0 : Int) ≤ -1000010 - (z_look Z a i (4 * (n : Int)) : Int)
    omega
  · rw [if_neg h3] at hP
    exact am_qi_mk (z_bad_r z_look_5) (hP _ m')
end KM13
