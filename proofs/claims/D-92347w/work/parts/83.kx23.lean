theorem zo_teach_st (Z : sp_Z) (k : Nat) (a b no who : Int) : zo_teach (z_St Z k) a b no who = ((zo_teach Z a b no who).1, z_St (zo_teach Z a b no who).2 k) := by
  unfold zo_teach
  rw [show zK (z_St Z k) = zK Z from rfl, show zL (z_St Z k) = zL Z from rfl]
  by_cases h1 : (0 ≤ a ∧ a < zK Z) ∧ (0 ≤ b ∧ b < zK Z) ∧ (0 ≤ no ∧ no ≤ 1) ∧ 0 ≤ who ∧ who ≤ 9
  · rw [if_pos h1, if_pos h1]
    by_cases h2 : zL Z = 8
    · rw [if_pos h2, if_pos h2]
    · rw [if_neg h2, if_neg h2]
      rfl
  · rw [if_neg h1, if_neg h1]
theorem z_lsn_st (f : Nat → Int) (i n k : Nat) : ∀ (m : Nat) (Z : sp_Z) (c : Int), z_lsn f i n m (z_St Z k) c = ((z_lsn f i n m Z c).1, z_St (z_lsn f i n m Z c).2 k) := by
  intro m
  induction m with
  | zero => exact fun _ _ => rfl
  | succ m ih =>
    intro Z c
    rw [z_lsn, z_lsn, zo_teach_st]
    exact ih _ _
section KX23
variable {l : Launch} {S : ah_H} {w : Nat → Nat} {Z : sp_Z} {tr : Nat}
theorem kx_row {mc ms s : Nat} {i : Int} {n : Nat} {x : Nat × Nat × (Nat → Int)} {it : Nat → Int32} {P : Option Nat → ah_H → Prop} {QX : String → Nat → ah_H → Prop} (h : xr_ S w tr Z) (hi : am_r i) (hn : n ≤ 100) (hx : x.2.1 ≤ 40) (hs : 647 ≤ s) (h4 : S.1 s = some (.inl (5, [am_I (x.1 : Int), am_R (s + 1)]))) (h5 : S.1 (s + 1) = some (.inr (0, x.2.1, .inl it))) (h6 : ∀ j, j < x.2.1 → (it j).toInt = x.2.2 j) (hmc : 1 ≤ mc) (hms : 100 ≤ ms)
    (k1 : 0 ≤ i → i + n ≤ x.2.1 → ∀ S' w' r g, xr_ S' w' tr Z → w' r = 16 → 647 ≤ r → S'.1 r = some (.inr (0, n, .inl g)) → (∀ j, j < n → (g j).toInt = x.2.2 (i.toNat + j)) → P (some r) S')
    (k2 : ¬ (0 ≤ i ∧ i + n ≤ x.2.1) → ∀ S' w' j, xr_ S' w' tr Z → 647 ≤ j → w' j = 15 → S'.1 j = some (.inl (4, ah_dX4.set 6 (am_I (2 : Int)))) → QX "TableArms$Finding" j S') : kX5_row l mc ms [am_R s, am_I i, am_I n] S (am_qo P) QX := by
  have b0 := h.2.1.1
  have hlt : s + 1 < S.2 := h.some (by rw [h5]; exact fun z => by cases z)
  refine bX5_row _ _ (by first | exact am_rN (by omega) | exact ⟨by omega, by omega⟩ | assumption) _ (by first | exact am_rN (by omega) | exact ⟨by omega, by omega⟩ | assumption) ⟨fun hneg => ⟨1, 7, by omega, kx_must (k := 2) (by decide) h (fun z => Bool.noConfusion z) (fun _ => ⟨by omega, by omega, k2 (by omega)⟩)⟩, fun hneg => ⟨_, h4, _, rfl, _, _, h5, ⟨by have := hi.2; omega, by have := hi.2; omega⟩, fun hb => ⟨1, 7, by omega, kx_must (k := 2) (by decide) h (fun z => Bool.noConfusion z) (fun _ => ⟨by omega, by omega, k2 (by omega)⟩)⟩, fun hb => ⟨0, 0, by omega, kx_must (k := 2) (by decide) h (fun _ => ?_) (fun z => Bool.noConfusion z)⟩⟩⟩
  refine bX5_row_28 _ _ (by first | exact am_rN (by omega) | exact ⟨by omega, by omega⟩ | assumption) _ (by first | exact am_rN (by omega) | exact ⟨by omega, by omega⟩ | assumption) _ _ ⟨⟨by omega, by omega⟩, by omega, by omega, ?_⟩
  rintro _ rfl
  rw [Int.toNat_natCast]
  refine ⟨_, (up_ne _ _ (by omega)).trans h4, _, rfl, _, _, (up_ne _ _ (by omega)).trans h5, _, _, up_at S.1 S.2 _, by show 32 ≤ s + 1; omega, by show 32 ≤ S.2; omega, by omega, by omega, by omega, by omega, ?_⟩
  rintro _ rfl
  refine am_qo_mk ?_
  unfold ah_cp
  rw [show (ah_mk S (.inr (0, n, .inl (fun _ => 0)))).1 = va_up S.1 S.2 (some (.inr (0, n, .inl (fun _ => 0)))) from rfl, up_up]
  obtain ⟨r1, r2⟩ := h.obj (.inr (0, n, .inl (va_cpy it (fun _ => 0) i.toNat (0 : Int).toNat (n : Int).toNat))) 16
  refine k1 (by omega) (by omega) _ _ S.2 _ r1 r2 b0 (up_at S.1 S.2 _) (fun j hj => ?_)
  show (if _ then _ else _ : Int32).toInt = _
  rw [if_pos ⟨Nat.zero_le _, by omega⟩, show i.toNat + (j - (0 : Int).toNat) = i.toNat + j by omega]
  exact h6 _ (by omega)
theorem kx_lessons_42 {mc ms r n m i cs ss : Nat} {f : Nat → Int} {g : Nat → Int32} {c : Int} {P : Int → ah_H → Prop} (h : xr_ S w tr Z) (hm : m ≤ n) (hn : n ≤ 4) (hw : w r = 16) (hr : S.1 r = some (.inr (0, 4 * n, .inl g))) (hg : ∀ j, j < 4 * n → (g j).toInt = f (i + j)) (hmc : cs + 2 * m ≤ mc) (hms : ss + 35 * m ≤ ms) (hc : 0 ≤ c ∧ c + m ≤ 8)
    (hP : ∀ S', xr S' (z_lsn f i n m (z_St Z 0) c).2 → P (z_lsn f i n m (z_St Z 0) c).1 S') :
    VX0_lessons l mc ms (am_qi P) 42 [(0, am_R 32), (4, am_R r), (5, am_I c), (6, am_I (4 * (n - m) : Nat))] [] S cs ss := by
  induction m generalizing S w Z c cs ss with
  | zero =>
    rw [z_lsn] at hP
    refine bX0_lessons_42 _ _ _ (by first | exact am_rN (by omega) | exact ⟨by omega, by omega⟩ | assumption) _ (by first | exact am_rN (by omega) | exact ⟨by omega, by omega⟩ | assumption) _ _ ⟨_, _, hr, fun _ => ⟨by omega, by omega, _, h.I.2, kx_well h ⟨by omega, by omega⟩ (am_qi_mk ⟨by omega, by omega⟩ (hP _ ⟨w, tr, h.st (k := 0) (by decide)⟩))⟩, fun z => absurd z (by omega)⟩
  | succ m ih =>
    rw [z_lsn, zo_teach_st] at hP
    have e0 : (g ((4 * (n - (m + 1)) : Nat) : Int).toNat).toInt = f (i + 4 * (n - (m + 1))) := by
      rw [Int.toNat_natCast]
      exact hg _ (by omega)
    have e1 : ∀ d : Nat, d < 4 → (g (((4 * (n - (m + 1)) : Nat) : Int) + d).toNat).toInt = f (i + 4 * (n - (m + 1)) + d) := fun d hd => by
      rw [show (((4 * (n - (m + 1)) : Nat) : Int) + d).toNat = 4 * (n - (m + 1)) + d by omega, hg _ (by omega), Nat.add_assoc]
    have e2 := e1 1 (by decide)
    have e3 := e1 2 (by decide)
    have e4 := e1 3 (by decide)
    rw [← e0, ← e2, ← e3, ← e4] at hP
    refine bX0_lessons_42 _ _ _ (by first | exact am_rN (by omega) | exact ⟨by omega, by omega⟩ | assumption) _ (by first | exact am_rN (by omega) | exact ⟨by omega, by omega⟩ | assumption) _ _ ⟨_, _, hr, fun z => absurd z (by omega), fun _ => ⟨⟨by omega, by omega⟩, ⟨by omega, by omega⟩, ⟨by omega, by omega⟩, ⟨by omega, by omega⟩, 2, 35, ⟨by omega, by omega⟩, _, h.I.2, kx_lessonF h (am_rt _) (am_rt _) (am_rt _) (am_rt _) (Nat.le_refl _) (Nat.le_refl _) (fun S' w' r' fr => ?_)⟩⟩
    have hq := fr r (by rw [hr]; exact fun z => by cases z) (by omega)
    have ev : ((4 * (n - (m + 1)) : Nat) : Int) + 4 = ((4 * (n - m) : Nat) : Int) := by omega
    rw [ev]
    refine ⟨fun hz => ih r' (by omega) (hq.2.trans hw) (hq.1.trans hr) (by omega) (by omega) (by omega) (fun S2 h2 => ?_), fun hz => ih r' (by omega) (hq.2.trans hw) (hq.1.trans hr) (by omega) (by omega) (by omega) (fun S2 h2 => ?_)⟩
    · have := hP S2
      rw [if_neg (by exact Int.not_le.mpr hz)] at this
      rw [Int.add_zero] at h2 ⊢
      exact this h2
    · have := hP S2
      rw [if_pos (by exact Int.not_lt.mp hz)] at this
      exact this h2
theorem kx_lessons {mc ms : Nat} {a i n : Int} {P : Int → ah_H → Prop} (h0 : xr S Z) (ha : am_r a) (hi : am_r i) (hn : am_r n) (hmc : 12 ≤ mc) (hms : 300 ≤ ms) (hP : ∀ S', xr S' (zo_lessons Z a i n).2 → P (zo_lessons Z a i n).1 S') : kX0_lessons l mc ms [am_R 32, am_I a, am_I i, am_I n] S (am_qi P) := by
  obtain ⟨w, tr, h⟩ := h0
  unfold zo_lessons at hP
  have bad : ¬ ((0 ≤ a ∧ a ≤ 7) ∧ 1 ≤ n ∧ n ≤ 4) → am_qi P (some (am_I (-1000001))) S := by
    intro hx
    rw [if_neg hx] at hP
    exact am_qi_mk ⟨by decide, by decide⟩ (hP _ ⟨w, tr, h⟩)
  refine bX0_lessons _ _ (by first | exact am_rN (by omega) | exact ⟨by omega, by omega⟩ | assumption) _ (by first | exact am_rN (by omega) | exact ⟨by omega, by omega⟩ | assumption) _ (by first | exact am_rN (by omega) | exact ⟨by omega, by omega⟩ | assumption) (kx_isSheet ha ⟨fun h1 => bad (fun z => of_decide_eq_false h1 z.1), fun h1 => kx_isIn ⟨fun h2 => ?_, fun h2 => bad (fun z => of_decide_eq_false h2 z.2)⟩⟩)
  have h1 := of_decide_eq_true h1
  have h2 := of_decide_eq_true h2
  rw [if_pos ⟨h1, h2⟩] at hP
  obtain ⟨a, rfl⟩ : ∃ q : Nat, a = q := ⟨a.toNat, by omega⟩
  obtain ⟨n, rfl⟩ : ∃ q : Nat, n = q := ⟨n.toNat, by omega⟩
  simp only [Int.toNat_natCast] at hP
  refine ⟨1, 7, by omega, _, h.I.2, kx_sheetAt h (by omega) (fun x s it hz kf k1 k2 k3 k4 k5 k6 => ⟨s, rfl, 1, 100, by omega, _, k4, ?_⟩) (fun hz => ⟨by omega, by omega, fun S' w' j r hj _ hc => ?_⟩)⟩
  · have hb := h.1.2.2.2.2.1 a (by omega) x hz
    rw [show (4 * (n : Int)) = ((4 * n : Nat) : Int) by omega]
    have el : z_look Z a i (4 * (n : Int)) = if 0 ≤ i ∧ i + 4 * (n : Int) ≤ x.2.1 then 0 else 2 := by
      unfold z_look
      rw [hz]
    have ei : z_items Z a = x.2.2 := by
      unfold z_items
      rw [hz]
    rw [ei] at hP
    refine kx_row h hi (by omega) hb.2 k1 k4 k5 k6 (Nat.le_refl _) (Nat.le_refl _) (fun i1 i2 S' w' r g r1 hw hr hc hg => ⟨r, rfl, ?_⟩) (fun hno S' w' j r hj _ hc => ?_)
    · obtain ⟨i, rfl⟩ : ∃ q : Nat, i = q := ⟨i.toNat, by omega⟩
      rw [el.trans (if_pos ⟨by omega, by omega⟩), if_pos rfl] at hP
      have := kx_lessons_42 (l := l) (m := n) (mc := mc) (ms := ms) (cs := 0 + 1 + 1) (ss := 0 + 7 + 100) (c := 0) (i := i) (f := x.2.2) (P := P) r1 (Nat.le_refl _) (by omega) hw hc hg (by omega) (by omega) (by omega) (fun S2 h2 => ?_)
      · rw [Nat.sub_self] at this
        exact this
      · rw [Int.toNat_natCast] at hP
        exact hP S2 h2
    · rw [el.trans (if_neg (by omega)), if_neg (by decide)] at hP
      exact kx_hand r (k := 2) (by decide) hj hc hP rfl
  · have el : z_look Z a i (4 * (n : Int)) = 1 := by
      unfold z_look
      rw [hz]
    rw [el, if_neg (by decide)] at hP
    exact kx_hand r (k := 1) (by decide) hj hc hP rfl
end KX23
