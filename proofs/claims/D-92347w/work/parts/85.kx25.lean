theorem am_and1 : ∀ g : Fin 4, am_and (g.val : Int) 1 = ((g.val % 2 : Nat) : Int) := by decide +kernel
section KX25
variable {l : Launch} {S : ah_H} {w : Nat → Nat} {Z : sp_Z} {tr : Nat} {r : Nat → Int} {ra n m : Nat}
/-- the row lies at ra -/
def wx_r (S : ah_H) (r : Nat → Int) (ra n m : Nat) : Prop := 647 ≤ ra ∧ ∃ g, S.1 ra = some (.inr (0, n + m, .inl g)) ∧ ∀ p, p < n + m → (g p).toInt = r p
theorem xr_.tks (h : xr_ S w tr Z) {c0 c : ah_C} (hc : S.1 70 = Option.some c0) (hu : ∃ u, c = .inr (0, 144, .inl u)) : xr_ (va_up S.1 70 (Option.some c), S.2) w tr Z := by
  obtain ⟨u1, ⟨s1, s2, s3, s4⟩, ⟨g1, u2, u3⟩, ⟨g2, u4, u5⟩, ⟨g4, u7⟩, -⟩ := h.U
  have hw : w 70 = 4 := u1.2 70 (by omega) (by omega)
  have ne : ∀ q, q ≠ 70 → va_up S.1 70 (Option.some c) q = S.1 q := fun q hq => up_ne _ _ hq
  have h6 := h.2.1.1
  have kx : ∀ a, a + 5 < 70 ∨ 70 < a → xs S.1 a → xs (va_up S.1 70 (Option.some c)) a := fun a ha ⟨p, hi, ce, bo, ho, k0, k1, k2, k3, k4, k5⟩ => ⟨p, hi, ce, bo, ho, (ne _ (by omega)).trans k0, (ne _ (by omega)).trans k1, (ne _ (by omega)).trans k2, (ne _ (by omega)).trans k3, (ne _ (by omega)).trans k4, (ne _ (by omega)).trans k5⟩
  refine h.scr rfl (fun q hq => ne q (fun e => hq (by rw [e, hw]))) ⟨u1, ⟨kx _ (by omega) s1, kx _ (by omega) s2, kx _ (by omega) s3, fun k hk => kx _ (by omega) (s4 k hk)⟩, ⟨g1, (ne _ (by omega)).trans u2, u3⟩, ⟨g2, (ne _ (by omega)).trans u4, u5⟩, ⟨g4, (ne _ (by omega)).trans u7⟩, ?_⟩ (fun q hq => ?_)
  · obtain ⟨u, rfl⟩ := hu
    exact ⟨u, up_at S.1 70 _⟩
  · rw [show (va_up S.1 70 (Option.some c), S.2).1 q = S.1 q from ne q (by omega)]
    exact h.2.1.2 q hq
theorem wx_r.up (h : wx_r S r ra n m) (c : Option ah_C) : wx_r (va_up S.1 70 c, S.2) r ra n m := by
  obtain ⟨h0, g, h1, h2⟩ := h
  exact ⟨h0, g, (up_ne _ _ (by omega)).trans h1, h2⟩
theorem kx_isPassing {i j p q : Nat} {P : Bool → ah_H → Prop} (hr : wx_r S r ra n m) (hn : n ≤ 12) (hm : m ≤ 12) (hi : i < n) (hj : j < m) (hp : p < n) (hq : q < m) (hP : P (z_pass r n i j p q) S) : kX0_isPassing l [am_R ra, am_I n, am_I i, am_I j, am_I p, am_I q] S (am_qz P) := by
  obtain ⟨h0, g, h1, h2⟩ := hr
  have e1 : (g (i : Int).toNat).toInt = r i := h2 i (by omega)
  have e2 : (g ((n : Int) + j).toNat).toInt = r (n + j) := by
    rw [show ((n : Int) + j).toNat = n + j by omega]
    exact h2 _ (by omega)
  have e3 : (g (p : Int).toNat).toInt = r p := h2 p (by omega)
  have e4 : (g ((n : Int) + q).toNat).toInt = r (n + q) := by
    rw [show ((n : Int) + q).toNat = n + q by omega]
    exact h2 _ (by omega)
  unfold z_pass at hP
  refine bX0_isPassing _ _ (by first | exact am_rN (by omega) | exact ⟨by omega, by omega⟩ | assumption) _ (by first | exact am_rN (by omega) | exact ⟨by omega, by omega⟩ | assumption) _ (by first | exact am_rN (by omega) | exact ⟨by omega, by omega⟩ | assumption) _ (by first | exact am_rN (by omega) | exact ⟨by omega, by omega⟩ | assumption) _ (by first | exact am_rN (by omega) | exact ⟨by omega, by omega⟩ | assumption) ⟨_, _, h1, ⟨by omega, by omega⟩, ⟨by omega, by omega⟩, ⟨by omega, by omega⟩, ⟨by omega, by omega⟩, ?_⟩
  rw [e1, e2, e3, e4]
  refine ⟨fun a1 => ?_, fun a1 => ⟨fun a2 => ?_, fun a2 => ⟨fun a3 => ?_, fun a3 => ?_⟩⟩⟩
  · rw [decide_eq_false (fun z => z.1 a1)] at hP
    exact am_qz_mk (b := false) hP
  · rw [decide_eq_true ⟨a1, fun z => a2 z.1⟩] at hP
    exact am_qz_mk (b := true) hP
  · rw [decide_eq_false (fun z => z.2 ⟨a2, a3⟩)] at hP
    exact am_qz_mk (b := false) hP
  · rw [decide_eq_true ⟨a1, fun z => a3 z.2⟩] at hP
    exact am_qz_mk (b := true) hP
/-- the search stands at cur -/
def wx_s (S : ah_H) (w : Nat → Nat) (tr : Nat) (Z : sp_Z) (r : Nat → Int) (ra n m cur : Nat) : Prop := xr_ S w tr Z ∧ wx_r S r ra n m ∧ ∃ u, S.1 70 = some (.inr (0, 144, .inl u)) ∧ wy_I r n m cur (fun c d => (u (m * c + d)).toInt)
theorem kx_fewest_86 {k g : Nat} {P : Int → ah_H → Prop} (hn : 1 ≤ n ∧ n ≤ 12) (hm : 1 ≤ m ∧ m ≤ 12) (hi : k / m < n) (hg : 1 ≤ g ∧ g ≤ 4) (h : wx_s S w tr Z r ra n m (4 * k + g)) (hv : g < 4 → ∃ (v : Nat) (u : Nat → Int32), S.1 70 = some (.inr (0, 144, .inl u)) ∧ (u k).toInt = (v : Int))
    (next : ∀ S', wx_s S' w tr Z r ra n m (4 * k + 4) → VX0_fewest l (am_qi P) 48 [(0, am_R 32), (1, am_R ra), (2, am_I n), (3, am_I m), (4, am_I ((k : Int) + 1))] [] S') :
    VX0_fewest l (am_qi P) 86 [(0, am_R 32), (1, am_R ra), (2, am_I n), (3, am_I m), (4, am_I k), (5, am_I (k / m : Nat)), (6, am_I (k % m : Nat)), (7, am_I g)] [] S := by
  have hj : k % m < m := Nat.mod_lt _ (by omega)
  have hk : k = m * (k / m) + k % m := (Nat.div_add_mod k m).symm
  have hkl := idx_lt hi hj
  have h144 : n * m ≤ 12 * 12 := Nat.mul_le_mul hn.2 hm.2
  generalize hii : k / m = i at *
  generalize hjj : k % m = j at *
  have hk144 : k < 144 := by omega
  generalize hq : 4 - g = q
  induction q generalizing g S with
  | zero =>
    have e : g = 4 := by omega
    subst e
    exact bX0_fewest_86 _ _ _ (by first | exact am_rN (by omega) | exact ⟨by omega, by omega⟩ | assumption) _ (by first | exact am_rN (by omega) | exact ⟨by omega, by omega⟩ | assumption) _ (by first | exact am_rN (by omega) | exact ⟨by omega, by omega⟩ | assumption) _ (by first | exact am_rN (by omega) | exact ⟨by omega, by omega⟩ | assumption) _ (by first | exact am_rN (by omega) | exact ⟨by omega, by omega⟩ | assumption) _ (by first | exact am_rN (by omega) | exact ⟨by omega, by omega⟩ | assumption) ⟨fun _ => next S h, fun z => absurd z (by omega)⟩
  | succ q ih =>
    have hg4 : g < 4 := by omega
    have ea : am_and (g : Int) 1 = ((g % 2 : Nat) : Int) := am_and1 ⟨g, by omega⟩
    have es : am_shr (g : Int) 1 = ((g / 2 : Nat) : Int) := am_shr1 ⟨g, by omega⟩
    obtain ⟨v, u, u1, u2⟩ := hv hg4
    obtain ⟨hx, hr, u', u3, hI⟩ := h
    obtain rfl : u' = u := by
      rw [u1] at u3
      simp only [Option.some.injEq, Sum.inr.injEq, Prod.mk.injEq, Sum.inl.injEq] at u3
      exact u3.2.2.symm
    have hvT : (u' (m * i + j)).toInt = (v : Int) := by rw [← hk]; exact u2
    have hv143 : v ≤ m * i + j := by
      have hI := hI
      rcases hI i j hi hj with ⟨q1, _⟩ | ⟨v', q1, q2, _⟩
      · have q1 : (u' (m * i + j)).toInt = -1000000 := q1
        omega
      · have q1 : (u' (m * i + j)).toInt = (v' : Int) := q1
        omega
    rw [hk] at hI
    have no : ¬ (i + g % 2 < n ∧ j + g / 2 < m ∧ z_pass r n i j (i + g % 2) (j + g / 2) = true) → VX0_fewest l (am_qi P) 86 [(0, am_R 32), (1, am_R ra), (2, am_I n), (3, am_I m), (4, am_I k), (5, am_I i), (6, am_I j), (7, am_I ((g : Int) + 1))] [] S := fun hno => by
      have h2 := wy_pass hi hj ⟨hg.1, hg4⟩ hI hno
      rw [← hk] at h2
      exact ih (g := g + 1) ⟨by omega, by omega⟩ ⟨hx, hr, u', u1, h2⟩ (fun _ => ⟨v, u', u1, u2⟩) (by omega)
    refine bX0_fewest_86 _ _ _ (by first | exact am_rN (by omega) | exact ⟨by omega, by omega⟩ | assumption) _ (by first | exact am_rN (by omega) | exact ⟨by omega, by omega⟩ | assumption) _ (by first | exact am_rN (by omega) | exact ⟨by omega, by omega⟩ | assumption) _ (by first | exact am_rN (by omega) | exact ⟨by omega, by omega⟩ | assumption) _ (by first | exact am_rN (by omega) | exact ⟨by omega, by omega⟩ | assumption) _ (by first | exact am_rN (by omega) | exact ⟨by omega, by omega⟩ | assumption) ⟨fun z => absurd z (by omega), fun _ => ?_⟩
    rw [ea, es]
    refine ⟨⟨by omega, by omega⟩, fun h1 => no (fun z => by omega), fun h1 => ⟨⟨by omega, by omega⟩, fun h2 => no (fun z => by omega), fun h2 => ?_⟩⟩
    rw [show (i : Int) + ((g % 2 : Nat) : Int) = ((i + g % 2 : Nat) : Int) by omega, show (j : Int) + ((g / 2 : Nat) : Int) = ((j + g / 2 : Nat) : Int) by omega]
    have hp : i + g % 2 < n := by omega
    have hqm : j + g / 2 < m := by omega
    have hat := idx_lt hp hqm
    have eat : (m : Int) * ((i + g % 2 : Nat) : Int) + ((j + g / 2 : Nat) : Int) = ((m * (i + g % 2) + (j + g / 2) : Nat) : Int) := by
      rw [Int.natCast_add (m * (i + g % 2)), Int.natCast_mul]
    rw [eat]
    refine kx_isPassing hr hn.2 hm.2 hi hj hp hqm ⟨fun hpass => ?_, fun hpass => no (fun z => by rw [hpass] at z; exact absurd z.2.2 (by decide))⟩
    have key : ∀ X : Int, X = (if (u' (m * (i + g % 2) + (j + g / 2))).toInt = -1000000 then (v : Int) + 1 else if (v : Int) + 1 < (u' (m * (i + g % 2) + (j + g / 2))).toInt then (v : Int) + 1 else (u' (m * (i + g % 2) + (j + g / 2))).toInt) → am_r X →
        VX0_fewest l (am_qi P) 86 [(0, am_R 32), (1, am_R ra), (2, am_I n), (3, am_I m), (4, am_I k), (5, am_I i), (6, am_I j), (7, am_I ((g : Int) + 1))] [] (ah_si S 70 0 144 u' ((m * (i + g % 2) + (j + g / 2) : Nat) : Int) (Int32.ofInt X)) := fun X hX hXr => by
      have hne : m * (i + g % 2) + (j + g / 2) ≠ k := fun z => by
        rw [hk] at z
        obtain ⟨z1, z2⟩ := idx_inj hqm hj z
        omega
      have h2 := wy_relax (T' := fun c d => (va_up u' ((m * (i + g % 2) + (j + g / 2) : Nat) : Int).toNat (Int32.ofInt X) (m * c + d)).toInt) hm.2 hi hj ⟨hg.1, hg4⟩ hI hvT hp hqm hpass (fun c d hc hd hne => ?_) ?_
      · rw [← hk] at h2
        refine ih (g := g + 1) ⟨by omega, by omega⟩ ⟨hx.tks u1 ⟨_, rfl⟩, hr.up _, _, up_at S.1 70 _, h2⟩ (fun _ => ⟨v, _, up_at S.1 70 _, ?_⟩) (by omega)
        rw [Int.toNat_natCast, up_ne _ _ (Ne.symm hne)]
        exact u2
      · rw [Int.toNat_natCast, up_ne _ _ (fun z => hne (idx_inj hd hqm z))]
      · rw [Int.toNat_natCast, up_at, am_ti hXr]
        exact hX
    refine ⟨_, hx.I.2, _, rfl, _, _, u1, ⟨by omega, by omega⟩, fun h3 => ⟨⟨by omega, by omega⟩, ?_⟩, fun h3 => ⟨⟨by omega, by omega⟩, by decide, ?_⟩⟩
    · rw [Int.toNat_natCast] at h3
      rw [Int.toNat_natCast, Int.toNat_natCast, u2]
      refine ⟨⟨by omega, by omega⟩, by decide, ?_⟩
      rintro _ rfl
      refine key _ ?_ ?_
      · rw [if_neg h3]
        rfl
      · exact am_r_min (am_rt _) ⟨by omega, by omega⟩
    · rw [Int.toNat_natCast] at h3
      rw [Int.toNat_natCast, u2]
      rintro _ rfl
      refine key _ ?_ ⟨by omega, by omega⟩
      rw [if_pos h3]
theorem kx_fewest_48 {k : Nat} {P : Int → ah_H → Prop} (hn : 1 ≤ n ∧ n ≤ 12) (hm : 1 ≤ m ∧ m ≤ 12) (hk : k ≤ n * m) (h : wx_s S w tr Z r ra n m (4 * k + 1)) (hP : ∀ S', xr_ S' w tr Z → P (z_ways r n m) S') :
    VX0_fewest l (am_qi P) 48 [(0, am_R 32), (1, am_R ra), (2, am_I n), (3, am_I m), (4, am_I k)] [] S := by
  have h144 : n * m ≤ 12 * 12 := Nat.mul_le_mul hn.2 hm.2
  have hnm : (n : Int) * (m : Int) = ((n * m : Nat) : Int) := (Int.natCast_mul n m).symm
  generalize hq : n * m - k = q
  induction q generalizing k S with
  | zero =>
    obtain ⟨hx, hr, u, u1, hI⟩ := h
    have he := wy_end hn hm hI (by omega)
    have hl : m * (n - 1) + (m - 1) < n * m := idx_lt (by omega) (by omega)
    have hl2 : m * (n - 1) + (m - 1) + 1 = n * m := by
      rw [Nat.mul_comm n m]
      have : m * (n - 1) + m = m * n := by
        rw [← Nat.mul_succ]
        congr 1
        omega
      omega
    have hkk : k = n * m := by omega
    refine bX0_fewest_48 _ _ _ (by first | exact am_rN (by omega) | exact ⟨by omega, by omega⟩ | assumption) _ (by first | exact am_rN (by omega) | exact ⟨by omega, by omega⟩ | assumption) _ (by first | exact am_rN (by omega) | exact ⟨by omega, by omega⟩ | assumption) ?_
    rw [hnm]
    refine ⟨⟨by omega, by omega⟩, fun _ => ⟨_, hx.I.2, _, rfl, _, _, u1, ⟨by omega, by omega⟩, ?_⟩, fun z => absurd z (by omega)⟩
    rw [show (((n * m : Nat) : Int) - 1).toNat = m * (n - 1) + (m - 1) by omega, show (u (m * (n - 1) + (m - 1))).toInt = z_ways r n m from he]
    refine am_qi_mk ?_ (hP S hx)
    rw [← he]
    exact am_rt _
  | succ q ih =>
    have hkl : k < n * m := by omega
    have hi : k / m < n := Nat.div_lt_of_lt_mul (by rw [Nat.mul_comm]; exact hkl)
    have hj : k % m < m := Nat.mod_lt _ (by omega)
    have hk2 : m * (k / m) + k % m = k := Nat.div_add_mod k m
    have nx : ∀ S', wx_s S' w tr Z r ra n m (4 * k + 4) → VX0_fewest l (am_qi P) 48 [(0, am_R 32), (1, am_R ra), (2, am_I n), (3, am_I m), (4, am_I ((k : Int) + 1))] [] S' := fun S' h' => by
      obtain ⟨y1, y2, u, y3, y4⟩ := h'
      exact ih (k := k + 1) (by omega) ⟨y1, y2, u, y3, y4.cg (fun t c d _ _ => wy_next)⟩ (by omega)
    obtain ⟨hx, hr, u, u1, hI⟩ := id h
    refine bX0_fewest_48 _ _ _ (by first | exact am_rN (by omega) | exact ⟨by omega, by omega⟩ | assumption) _ (by first | exact am_rN (by omega) | exact ⟨by omega, by omega⟩ | assumption) _ (by first | exact am_rN (by omega) | exact ⟨by omega, by omega⟩ | assumption) ?_
    rw [hnm]
    refine ⟨⟨by omega, by omega⟩, fun z => absurd z (by omega), fun _ => ⟨by omega, by omega, _, hx.I.2, _, rfl, _, _, u1, ⟨by omega, by omega⟩, fun h1 => ?_, fun h1 => ?_⟩⟩
    · rw [Int.toNat_natCast] at h1
      refine kx_fewest_86 (g := 1) hn hm hi (by decide) h (fun _ => ?_) nx
      rcases hI (k / m) (k % m) hi hj with ⟨q1, _⟩ | ⟨v', q1, q2, _⟩
      · have q1 : (u (m * (k / m) + k % m)).toInt = -1000000 := q1
        rw [hk2] at q1
        exact absurd q1 h1
      · have q1 : (u (m * (k / m) + k % m)).toInt = (v' : Int) := q1
        rw [hk2] at q1
        exact ⟨v', u, u1, q1⟩
    · rw [Int.toNat_natCast] at h1
      refine nx S ⟨hx, hr, u, u1, ?_⟩
      have := wy_none (r := r) (n := n) (m := m) (i := k / m) (j := k % m) (T := fun c d => (u (m * c + d)).toInt) hm.2 hi hj (by rw [hk2]; exact hI) (by show (u (m * (k / m) + k % m)).toInt = _; rw [hk2]; exact h1)
      rw [hk2] at this
      exact this
theorem kx_fewest_3 {k : Nat} {u : Nat → Int32} {P : Int → ah_H → Prop} (hn : 1 ≤ n ∧ n ≤ 12) (hm : 1 ≤ m ∧ m ≤ 12) (hk : k ≤ n * m) (hx : xr_ S w tr Z) (hr : wx_r S r ra n m) (u1 : S.1 70 = some (.inr (0, 144, .inl u))) (u2 : ∀ q, q < k → (u q).toInt = -1000000) (hP : ∀ S', xr_ S' w tr Z → P (z_ways r n m) S') :
    VX0_fewest l (am_qi P) 3 [(0, am_R 32), (1, am_R ra), (2, am_I n), (3, am_I m), (4, am_I k)] [] S := by
  have h144 : n * m ≤ 12 * 12 := Nat.mul_le_mul hn.2 hm.2
  have hnm : (n : Int) * (m : Int) = ((n * m : Nat) : Int) := (Int.natCast_mul n m).symm
  generalize hq : n * m - k = q
  induction q generalizing k u S with
  | zero =>
    have hkk : k = n * m := by omega
    obtain ⟨r0, g, r1, r2⟩ := id hr
    have e1 : (g (0 : Int).toNat).toInt = r 0 := r2 0 (by omega)
    have e2 : (g (n : Int).toNat).toInt = r n := r2 n (by omega)
    refine bX0_fewest_3 _ _ _ (by first | exact am_rN (by omega) | exact ⟨by omega, by omega⟩ | assumption) _ (by first | exact am_rN (by omega) | exact ⟨by omega, by omega⟩ | assumption) _ (by first | exact am_rN (by omega) | exact ⟨by omega, by omega⟩ | assumption) ?_
    rw [hnm]
    refine ⟨⟨by omega, by omega⟩, fun _ => ⟨_, _, r1, by omega, ⟨by omega, by omega⟩, ?_⟩, fun z => absurd z (by omega)⟩
    rw [e1, e2]
    refine ⟨fun h1 => ⟨_, hx.I.2, _, rfl, _, _, u1, by decide, by decide, ?_⟩, fun h1 => ?_⟩
    · rintro _ rfl
      refine kx_fewest_48 (k := 0) hn hm (Nat.zero_le _) ⟨hx.tks u1 ⟨_, rfl⟩, hr.up _, _, up_at S.1 70 _, ?_⟩ hP
      refine wy_init h1 (by show (va_up u (0 : Int).toNat (Int32.ofInt 0) (m * 0 + 0)).toInt = 0; rw [show m * 0 + 0 = (0 : Int).toNat from rfl, up_at]; rfl) (fun c d hc hd hne => ?_)
      have := idx_lt hc hd
      show (va_up u (0 : Int).toNat (Int32.ofInt 0) (m * c + d)).toInt = -1000000
      rw [up_ne _ _ (fun z => hne (idx_inj (m := m) (i := 0) (j := 0) hd (by omega) (by rw [z]; rfl)))]
      exact u2 _ (by omega)
    · have hp := hP S hx
      rw [wy_ways_no h1] at hp
      exact am_qi_mk ⟨by decide, by decide⟩ hp
  | succ q ih =>
    refine bX0_fewest_3 _ _ _ (by first | exact am_rN (by omega) | exact ⟨by omega, by omega⟩ | assumption) _ (by first | exact am_rN (by omega) | exact ⟨by omega, by omega⟩ | assumption) _ (by first | exact am_rN (by omega) | exact ⟨by omega, by omega⟩ | assumption) ?_
    rw [hnm]
    refine ⟨⟨by omega, by omega⟩, fun z => absurd z (by omega), fun _ => ⟨_, hx.I.2, _, rfl, _, _, u1, by decide, ⟨by omega, by omega⟩, ?_⟩⟩
    rintro _ rfl
    refine ih (k := k + 1) (by omega) (hx.tks u1 ⟨_, rfl⟩) (hr.up _) (up_at S.1 70 _) (fun p hp => ?_) (by omega)
    rw [Int.toNat_natCast, up_if]
    split
    · exact am_ti ⟨by decide, by decide⟩
    · exact u2 p (by omega)
theorem kx_fewest {P : Int → ah_H → Prop} (hn : 1 ≤ n ∧ n ≤ 12) (hm : 1 ≤ m ∧ m ≤ 12) (hx : xr_ S w tr Z) (hr : wx_r S r ra n m) (hP : ∀ S', xr_ S' w tr Z → P (z_ways r n m) S') : kX0_fewest l [am_R 32, am_R ra, am_I n, am_I m] S (am_qi P) := by
  obtain ⟨u, hu⟩ := hx.U.2.2.2.2.2
  exact bX0_fewest _ _ _ (by first | exact am_rN (by omega) | exact ⟨by omega, by omega⟩ | assumption) _ (by first | exact am_rN (by omega) | exact ⟨by omega, by omega⟩ | assumption) (kx_fewest_3 (k := 0) hn hm (Nat.zero_le _) hx hr hu (fun _ z => absurd z (Nat.not_lt_zero _)) hP)
end KX25
