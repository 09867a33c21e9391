section KX26
variable {l : Launch} {S : ah_H} {w : Nat → Nat} {Z : sp_Z} {tr : Nat} {r : Nat → Int} {ra n m : Nat}
theorem kx_isRow_2 {a d k : Nat} {P : Bool → ah_H → Prop} (hr : wx_r S r ra n m) (hn : 1 ≤ n ∧ n ≤ 12) (hm : m ≤ 12) (ha : a = 0 ∧ d = n ∨ a = n ∧ d = m) (hk : a ≤ k ∧ k ≤ a + d) (hrow : ∀ p, a ≤ p → p < k → z_rowAt r n p = true)
    (yes : (∀ p, a ≤ p → p < a + d → z_rowAt r n p = true) → P true S) (no : (∃ p, p < n + m ∧ z_rowAt r n p = false) → P false S) :
    VX0_isRow l (am_qz P) 2 [(0, am_R ra), (1, am_I a), (2, am_I d), (3, am_I k)] [] S := by
  obtain ⟨r0, g, r1, r2⟩ := id hr
  generalize hq : a + d - k = q
  induction q generalizing k with
  | zero =>
    have e : k = a + d := by omega
    subst e
    exact bX0_isRow_2 _ _ (by first | exact am_rN (by omega) | exact ⟨by omega, by omega⟩ | assumption) _ (by first | exact am_rN (by omega) | exact ⟨by omega, by omega⟩ | assumption) _ (by first | exact am_rN (by omega) | exact ⟨by omega, by omega⟩ | assumption) ⟨⟨by omega, by omega⟩, fun _ => am_qz_mk (b := true) (yes hrow), fun z => absurd z (by omega)⟩
  | succ q ih =>
    have hkl : k < n + m := by omega
    have e1 : (g (k : Int).toNat).toInt = r k := r2 k hkl
    have ef : z_rowAt r n k = false → am_qz P (some (am_I (am_b false))) S := fun e => am_qz_mk (b := false) (no ⟨k, hkl, e⟩)
    have nx : z_rowAt r n k = true → VX0_isRow l (am_qz P) 2 [(0, am_R ra), (1, am_I a), (2, am_I d), (3, am_I ((k : Int) + 1))] [] S := fun e => ih (k := k + 1) ⟨by omega, by omega⟩ (fun p h1 h2 => by
      by_cases e2 : p = k
      · rw [e2]; exact e
      · exact hrow p h1 (by omega)) (by omega)
    refine bX0_isRow_2 _ _ (by first | exact am_rN (by omega) | exact ⟨by omega, by omega⟩ | assumption) _ (by first | exact am_rN (by omega) | exact ⟨by omega, by omega⟩ | assumption) _ (by first | exact am_rN (by omega) | exact ⟨by omega, by omega⟩ | assumption) ⟨⟨by omega, by omega⟩, fun z => absurd z (by omega), fun _ => ⟨_, _, r1, ⟨by omega, by omega⟩, ?_⟩⟩
    rw [e1]
    have hrr : am_r (r k) := by rw [← e1]; exact am_rt _
    refine kx_isCell hrr ⟨fun h1 => ef ?_, fun h1 => ⟨fun h2 => nx ?_, fun h2 => ⟨_, _, r1, ⟨by omega, by omega⟩, ⟨by omega, by omega⟩, ?_⟩⟩⟩
    · have h1 := of_decide_eq_false h1
      unfold z_rowAt
      exact decide_eq_false (fun z => h1 z.1)
    · have h1 := of_decide_eq_true h1
      refine decide_eq_true ⟨h1, ?_⟩
      rcases ha with ha | ha
      · exact Or.inl (by omega)
      · exact Or.inr (Or.inl (by omega))
    · have h1 := of_decide_eq_true h1
      have e2 : (g ((k : Int) - 1).toNat).toInt = r (k - 1) := by
        rw [show ((k : Int) - 1).toNat = k - 1 by omega]
        exact r2 _ (by omega)
      rw [e1, e2]
      refine ⟨fun h4 => nx (decide_eq_true ⟨h1, Or.inr (Or.inr (Or.inl h4))⟩), fun h4 => ?_⟩
      have h5 := (of_decide_eq_true (hrow (k - 1) (by omega) (by omega))).1
      obtain ⟨c, hc⟩ : ∃ c : Nat, r k = c := ⟨(r k).toNat, by omega⟩
      obtain ⟨e, he⟩ : ∃ e : Nat, r (k - 1) = e := ⟨(r (k - 1)).toNat, by omega⟩
      rw [hc, he]
      refine kx_isNeighbour (by omega) (by omega) ⟨fun h6 => nx (decide_eq_true ⟨h1, Or.inr (Or.inr (Or.inr ?_))⟩), fun h6 => ef (decide_eq_false (fun z => ?_))⟩
      · rw [hc, he]
        exact h6
      · rcases z.2 with z | z | z | z
        · omega
        · omega
        · exact h4 z
        · rw [hc, he, Int.toNat_natCast, Int.toNat_natCast, h6] at z
          exact absurd z (by decide)
theorem kx_ways {mc ms : Nat} {a i n m : Int} {P : Int → ah_H → Prop} (h0 : xr S Z) (ha : am_r a) (hi : am_r i) (hn : am_r n) (hm : am_r m) (hmc : 2 ≤ mc) (hms : 107 ≤ ms) (hP : ∀ S', xr S' (zo_ways Z a i n m).2 → P (zo_ways Z a i n m).1 S') : kX0_ways l mc ms [am_R 32, am_I a, am_I i, am_I n, am_I m] S (am_qi P) := by
  obtain ⟨w, tr, h⟩ := h0
  unfold zo_ways at hP
  have bad : ¬ ((0 ≤ a ∧ a ≤ 7) ∧ (1 ≤ n ∧ n ≤ 12) ∧ 1 ≤ m ∧ m ≤ 12) → am_qi P (some (am_I (-1000001))) S := by
    intro hx
    rw [if_neg hx] at hP
    exact am_qi_mk ⟨by decide, by decide⟩ (hP _ ⟨w, tr, h⟩)
  refine bX0_ways _ _ (by first | exact am_rN (by omega) | exact ⟨by omega, by omega⟩ | assumption) _ (by first | exact am_rN (by omega) | exact ⟨by omega, by omega⟩ | assumption) _ (by first | exact am_rN (by omega) | exact ⟨by omega, by omega⟩ | assumption) _ (by first | exact am_rN (by omega) | exact ⟨by omega, by omega⟩ | assumption) (kx_isSheet ha ⟨fun h1 => bad (fun z => of_decide_eq_false h1 z.1), fun h1 => kx_isIn ⟨fun h2 => bad (fun z => of_decide_eq_false h2 z.2.1), fun h2 => kx_isIn ⟨fun h3 => ?_, fun h3 => bad (fun z => of_decide_eq_false h3 z.2.2)⟩⟩⟩)
  have h1 := of_decide_eq_true h1
  have h2 := of_decide_eq_true h2
  have h3 := of_decide_eq_true h3
  rw [if_pos ⟨h1, h2, h3⟩] at hP
  obtain ⟨a, rfl⟩ : ∃ q : Nat, a = q := ⟨a.toNat, by omega⟩
  obtain ⟨n, rfl⟩ : ∃ q : Nat, n = q := ⟨n.toNat, by omega⟩
  obtain ⟨m, rfl⟩ : ∃ q : Nat, m = q := ⟨m.toNat, by omega⟩
  simp only [Int.toNat_natCast] at hP
  rw [show ((n : Int) + (m : Int)) = ((n + m : Nat) : Int) by omega] at hP ⊢
  refine ⟨1, 7, by omega, _, h.I.2, kx_sheetAt h (by omega) (fun x s it hz kf k1 k2 k3 k4 k5 k6 => ⟨s, rfl, 1, 100, by omega, _, k4, ?_⟩) (fun hz => ⟨by omega, by omega, fun S' w' j r hj _ hc => ?_⟩)⟩
  · have hb := h.1.2.2.2.2.1 a (by omega) x hz
    have el : z_look Z a i ((n + m : Nat) : Int) = if 0 ≤ i ∧ i + ((n + m : Nat) : Int) ≤ x.2.1 then 0 else 2 := by
      unfold z_look
      rw [hz]
    have ei : z_items Z a = x.2.2 := by
      unfold z_items
      rw [hz]
    rw [ei] at hP
    refine kx_row h hi (by omega) hb.2 k1 k4 k5 k6 (Nat.le_refl _) (Nat.le_refl _) (fun i1 i2 S' w' ra g r1 hw hr hc hg => ⟨ra, rfl, ?_⟩) (fun hno S' w' j r hj _ hc => ?_)
    · rw [el.trans (if_pos ⟨i1, i2⟩), if_pos rfl] at hP
      have hx : wx_r S' (fun p => x.2.2 (i.toNat + p)) ra n m := ⟨hr, g, hc, hg⟩
      have bad2 : (∃ p, p < n + m ∧ z_rowAt (fun p => x.2.2 (i.toNat + p)) n p = false) → am_qi P (some (am_I (-1000001))) S' := fun ⟨p, q1, q2⟩ => by
        have e : z_row (fun p => x.2.2 (i.toNat + p)) n m = false := by
          unfold z_row
          rw [List.all_eq_false]
          exact ⟨p, List.mem_range.mpr q1, by rw [q2]; decide⟩
        rw [e, if_neg (by decide)] at hP
        exact am_qi_mk ⟨by decide, by decide⟩ (hP S' ⟨w', tr, r1⟩)
      refine bX0_isRow _ _ (by first | exact am_rN (by omega) | exact ⟨by omega, by omega⟩ | assumption) _ (by first | exact am_rN (by omega) | exact ⟨by omega, by omega⟩ | assumption) (kx_isRow_2 (a := 0) (k := 0) hx (by omega) (by omega) (Or.inl ⟨rfl, rfl⟩) ⟨Nat.le_refl _, Nat.zero_le _⟩ (fun p _ z => absurd z (Nat.not_lt_zero _)) (fun y1 => ⟨fun z => Bool.noConfusion z, fun _ => ?_⟩) (fun b1 => ⟨fun _ => bad2 b1, fun z => Bool.noConfusion z⟩))
      refine bX0_isRow _ _ (by first | exact am_rN (by omega) | exact ⟨by omega, by omega⟩ | assumption) _ (by first | exact am_rN (by omega) | exact ⟨by omega, by omega⟩ | assumption) (kx_isRow_2 (a := n) (k := n) hx (by omega) (by omega) (Or.inr ⟨rfl, rfl⟩) ⟨Nat.le_refl _, Nat.le_add_right _ _⟩ (fun p z1 z2 => absurd z1 (by omega)) (fun y2 => ⟨fun _ => ?_, fun z => Bool.noConfusion z⟩) (fun b1 => ⟨fun z => Bool.noConfusion z, fun _ => bad2 b1⟩))
      have e : z_row (fun p => x.2.2 (i.toNat + p)) n m = true := by
        unfold z_row
        rw [List.all_eq_true]
        intro p hp
        have hp := List.mem_range.mp hp
        by_cases q : p < n
        · exact y1 p (Nat.zero_le _) (by omega)
        · exact y2 p (by omega) hp
      rw [e, if_pos rfl] at hP
      refine ⟨_, r1.I.2, kx_fewest (by omega) (by omega) r1 hx (fun S2 r2 => ⟨_, r2.I.2, ?_⟩)⟩
      have hwr : am_r (z_ways (fun p => x.2.2 (i.toNat + p)) n m) := by
        unfold z_ways
        cases q : (List.range 150).find? (fun t => z_R (fun p => x.2.2 (i.toNat + p)) n t (n - 1) (m - 1)) with
        | none => exact ⟨by decide, by decide⟩
        | some t =>
          have := List.mem_range.mp (List.mem_of_find?_eq_some q)
          show am_r (t : Int)
          exact am_rN (by omega)
      exact kx_well r2 hwr (am_qi_mk hwr (hP _ ⟨w', tr, r2.st (k := 0) (by decide)⟩))
    · rw [el.trans (if_neg hno), if_neg (by decide)] at hP
      exact kx_hand r (k := 2) (by decide) hj hc hP rfl
  · have el : z_look Z a i ((n + m : Nat) : Int) = 1 := by
      unfold z_look
      rw [hz]
    rw [el, if_neg (by decide)] at hP
    exact kx_hand r (k := 1) (by decide) hj hc hP rfl
end KX26
