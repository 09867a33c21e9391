/-! THE CONSTRUCTOR -/
def sp_Z0 : sp_Z := ((0, fun _ => 0, fun _ => 0), ((fun _ => [], fun _ => 0, fun _ => none), 0, fun _ => (fun _ => [], fun _ => 0, fun _ => none)), fun _ => 255, (0, fun _ => (0, 0, false, 0, false)), fun _ => none, (0, fun _ => (0, 0, 0)), (0, fun _ => 0), (0, 0), (0, fun _ => 0))
theorem sp_Z0_ok : z_ok sp_Z0 := by
  refine ⟨⟨by decide, fun k hk => absurd hk (Nat.not_lt_zero _)⟩, ⟨⟨by decide, fun c hc => ⟨List.nodup_nil, fun k => ⟨fun z => absurd z (by show ¬ k ∈ []; simp), fun z => absurd z.1 (Nat.not_lt_zero _)⟩⟩, fun k hk => absurd hk (Nat.not_lt_zero _), fun k x hk => (by cases hk), fun k j x hk => (by cases hk)⟩, by decide, fun i hi => absurd hi (Nat.not_lt_zero _)⟩, fun i hi => (by show 255 ≤ 255; decide), ⟨by decide, fun k hk => absurd hk (Nat.not_lt_zero _)⟩, fun i hi x hx => (by cases hx), ⟨by decide, fun k hk => absurd hk (Nat.not_lt_zero _)⟩, ⟨by decide, fun k hk => absurd hk (Nat.not_lt_zero _)⟩, ⟨by decide, by decide⟩, ⟨by decide, fun k hk => absurd hk (Nat.not_lt_zero _)⟩⟩
def xin0 (h0 : Nat → Option ah_C) (S : ah_H) (T : List am_W) (t : Nat) (K : List (Nat × ah_C)) : Prop := S.2 = t ∧ S.1 32 = some (.inl (1, T)) ∧ (∀ q, t ≤ q → S.1 q = none) ∧ (∀ p, p ∈ K → 32 < p.1 ∧ p.1 < t ∧ S.1 p.1 = some p.2) ∧ (32 < t ∧ ∀ q, q < 32 → S.1 q = h0 q)
def xoK (a : Nat) : List (Nat × ah_C) := [(a, .inl (2, [am_R (a + 1), am_R (a + 2), am_R (a + 3), am_R (a + 4), am_R (a + 5)])), (a + 1, .inr (0, 48, .inl (fun _ => 0))), (a + 2, .inr (0, 8, .inl (fun _ => 0))), (a + 3, .inr (0, 6, .inl (fun _ => 0))), (a + 4, .inr (0, 6, .inl (fun _ => 0))), (a + 5, .inr (0, 6, .inl (fun _ => 0)))]
section KX35
variable {l : Launch} {h0 : Nat → Option ah_C} {S G : ah_H} {T : List am_W} {t : Nat} {K : List (Nat × ah_C)}
theorem xk_mk {c : ah_C} (h : xin0 h0 S T t K) (e : G = ah_mk S c) : xin0 h0 G T (t + 1) ((t, c) :: K) := by
  obtain ⟨rfl, h2, h3, h4, h5, h6⟩ := h
  subst e
  refine ⟨rfl, (up_ne _ _ (by omega)).trans h2, fun q hq => (up_ne _ _ (by omega)).trans (h3 q (by omega)), fun p hp => ?_, by omega, fun q hq => (up_ne _ _ (by omega)).trans (h6 q hq)⟩
  rcases List.mem_cons.mp hp with rfl | hp
  · exact ⟨h5, Nat.lt_succ_self _, up_at S.1 S.2 _⟩
  · obtain ⟨a, b, c⟩ := h4 p hp
    exact ⟨a, by omega, (up_ne _ _ (by omega)).trans c⟩
theorem xk_sf {k : Nat} {v : am_W} (h : xin0 h0 S T t K) (e : G = ah_sf S 32 1 T k v) : xin0 h0 G (T.set k v) t K := by
  obtain ⟨h1, h2, h3, h4, h5, h6⟩ := h
  subst e
  refine ⟨h1, up_at S.1 32 _, fun q hq => (up_ne _ _ (by omega)).trans (h3 q hq), fun p hp => ?_, h5, fun q hq => (up_ne _ _ (by omega)).trans (h6 q hq)⟩
  obtain ⟨a, b, c⟩ := h4 p hp
  exact ⟨a, b, (up_ne _ _ (by omega)).trans c⟩
/-- the cell at a, the first in the list, is another now -/
theorem xk_up {a : Nat} {c c' : ah_C} {M : List (Nat × ah_C)} (h : xin0 h0 S T t (M ++ (a, c) :: K)) (ha : ∀ p, p ∈ M ++ K → p.1 ≠ a) (e : G = (va_up S.1 a (some c'), S.2)) : xin0 h0 G T t (M ++ (a, c') :: K) := by
  obtain ⟨h1, h2, h3, h4, h5, h6⟩ := h
  obtain ⟨a1, a2, a3⟩ := h4 (a, c) (by simp)
  have a1 : 32 < a := a1
  have a2 : a < t := a2
  subst e
  refine ⟨h1, (up_ne _ _ (by omega)).trans h2, fun q hq => (up_ne _ _ (by omega)).trans (h3 q hq), fun p hp => ?_, h5, fun q hq => (up_ne _ _ (by omega)).trans (h6 q hq)⟩
  rcases List.mem_append.mp hp with hp | hp
  · obtain ⟨x1, x2, x3⟩ := h4 p (List.mem_append.mpr (Or.inl hp))
    exact ⟨x1, x2, (up_ne _ _ (ha p (List.mem_append.mpr (Or.inl hp)))).trans x3⟩
  · rcases List.mem_cons.mp hp with rfl | hp
    · exact ⟨a1, a2, up_at S.1 a _⟩
    · obtain ⟨x1, x2, x3⟩ := h4 p (List.mem_append.mpr (Or.inr (List.mem_cons_of_mem _ hp)))
      exact ⟨x1, x2, (up_ne _ _ (ha p (List.mem_append.mpr (Or.inr hp)))).trans x3⟩
theorem xk_tab {mc ms a : Nat} {P : ah_H → Prop} (h : xin0 h0 S T (a + 1) ((a, .inl (2, ah_dX1)) :: K)) (hlt : ∀ p, p ∈ K → p.1 < a) (ha : 36 ≤ a) (hmc : 5 ≤ mc) (hms : 74 ≤ ms) (hP : ∀ S', xin0 h0 S' T (a + 6) (xoK a ++ K) → P S') : kX1_init l mc ms [am_R a] S (am_qv P) := by
  obtain ⟨h1, h2, h3, h4, h5, h6⟩ := h
  refine kx_init ha (h4 _ List.mem_cons_self).2.2 h1 hmc hms (fun S' g1 g2 g3 => hP S' ⟨g1, (g3 32 (by omega)).trans h2, fun q hq => (g3 q (by omega)).trans (h3 q (by omega)), fun p hp => ?_, by omega, fun q hq => (g3 q (by omega)).trans (h6 q hq)⟩)
  obtain ⟨o0, o1, o2, o3, o4, o5⟩ := g2
  rcases List.mem_append.mp hp with hp | hp
  · unfold xoK at hp
    simp only [List.mem_cons, List.not_mem_nil, or_false] at hp
    rcases hp with rfl | rfl | rfl | rfl | rfl | rfl
    · exact ⟨by show 32 < a; omega, by show a < a + 6; omega, o0⟩
    · exact ⟨by show 32 < a + 1; omega, by show a + 1 < a + 6; omega, o1⟩
    · exact ⟨by show 32 < a + 2; omega, by show a + 2 < a + 6; omega, o2⟩
    · exact ⟨by show 32 < a + 3; omega, by show a + 3 < a + 6; omega, o3⟩
    · exact ⟨by show 32 < a + 4; omega, by show a + 4 < a + 6; omega, o4⟩
    · exact ⟨by show 32 < a + 5; omega, by show a + 5 < a + 6; omega, o5⟩
  · obtain ⟨x1, x2, x3⟩ := h4 p (List.mem_cons_of_mem _ hp)
    have := hlt p hp
    exact ⟨x1, by omega, (g3 _ (by omega)).trans x3⟩
theorem xk_ls {a : Nat} {P : ah_H → Prop} (h : xin0 h0 S T t ((a, .inl (15, ah_dJ2)) :: K)) (hlt : ∀ p, p ∈ K → p.1 ≠ a) (ha : 36 ≤ a) (hP : ∀ S', xin0 h0 S' T t ((a, .inl (15, [am_I 0, am_R 1, am_I 0])) :: K) → P S') : kJ2_init l [am_R a] S (am_qv P) :=
  kx_linit (by omega) (h.2.2.2.1 _ List.mem_cons_self).2.2 (hP _ (xk_up (M := []) h (fun p hp => hlt p hp) rfl))
/-- the tables that orders give, one after another -/
theorem kx_init_177 {mc ms cs ss k : Nat} {g : Nat → Option Nat} {P : ah_H → Prop} (h : xin0 h0 S T (71 + 6 * k) K) (hT : T[9]? = some (am_R 62)) (hK : ∀ p, p ∈ K → p.1 < 71 ∧ p.1 ≠ 62) (h62 : S.1 62 = some (.inr (3, 96, .inr g))) (hg : ∀ i, i < k → g i = some (71 + 6 * i)) (hx : ∀ i, i < k → xs S.1 (71 + 6 * i)) (hk : k ≤ 96) (hmc : cs + 6 * (96 - k) ≤ mc) (hms : ss + 79 * (96 - k) ≤ ms)
    (hP : ∀ S' g', xin0 h0 S' T 647 K → S'.1 62 = some (.inr (3, 96, .inr g')) → (∀ i, i < 96 → g' i = some (71 + 6 * i)) → (∀ i, i < 96 → xs S'.1 (71 + 6 * i)) → P S') : VX0_init l mc ms (am_qv P) 177 [(0, am_R 32), (1, am_I k)] [] S cs ss := by
  generalize hq : 96 - k = q
  induction q generalizing S k cs ss g with
  | zero =>
    have e : k = 96 := by omega
    subst e
    exact bX0_init_177 _ _ (by first | exact am_rN (by omega) | exact ⟨by omega, by omega⟩ | assumption) _ _ ⟨fun _ => ⟨by omega, by omega, am_qv_mk (hP S g h h62 hg hx)⟩, fun z => absurd z (by omega)⟩
  | succ q ih =>
    refine bX0_init_177 _ _ (by first | exact am_rN (by omega) | exact ⟨by omega, by omega⟩ | assumption) _ _ ⟨fun z => absurd z (by omega), fun _ => ⟨_, h.2.1, _, hT, by omega, by omega, fun G1 e1 => ?_⟩⟩
    have h1 := xk_mk h e1
    have o1 : ∀ q, q < 71 + 6 * k → G1.1 q = S.1 q := fun q hq => by
      rw [e1]
      exact up_ne _ _ (by rw [h.1]; omega)
    rw [h.1]
    obtain ⟨y1, y2, y3, y4, y5, y6⟩ := h1
    refine ⟨5, 74, by omega, kx_init (a := 71 + 6 * k) (by omega) (y4 _ List.mem_cons_self).2.2 y1 (Nat.le_refl _) (Nat.le_refl _) (fun S2 g1 g2 g3 => ?_)⟩
    have o2 : ∀ q, q < 71 + 6 * k → S2.1 q = S.1 q := fun q hq => (g3 q (by omega)).trans (o1 q hq)
    refine ⟨_, _, (o2 62 (by omega)).trans h62, by decide, ⟨by omega, by omega⟩, fun y hy => ?_, fun G3 e3 => ?_⟩
    · cases hy
      exact ⟨2, _, _, g2.1, rfl, Or.inl rfl⟩
    · have o3 : ∀ q, q ≠ 62 → G3.1 q = S2.1 q := fun q hq => by
        rw [e3]
        exact up_ne _ _ hq
      have a3 : G3.1 62 = some (.inr (3, 96, .inr (va_up g (k : Int).toNat (some (71 + 6 * k))))) := by
        rw [e3]
        exact up_at S2.1 62 _
      have t3 : G3.2 = 71 + 6 * (k + 1) := by
        rw [e3]
        show S2.2 = _
        rw [g1]
        omega
      refine ih (k := k + 1) ⟨t3, (o3 32 (by decide)).trans ((o2 32 (by omega)).trans h.2.1), fun q hq => (o3 q (by omega)).trans ((g3 q (by omega)).trans (y3 q (by omega))), fun p hp => ?_, by omega, fun q hq => (o3 q (by omega)).trans ((o2 q (by omega)).trans (h.2.2.2.2.2 q hq))⟩ a3 (fun i hi => ?_) (fun i hi => ?_) (by omega) (by omega) (by omega) (by omega)
      · obtain ⟨x1, x2, x3⟩ := h.2.2.2.1 p hp
        obtain ⟨z1, z2⟩ := hK p hp
        exact ⟨x1, by omega, (o3 _ z2).trans ((o2 _ (by omega)).trans x3)⟩
      · rw [Int.toNat_natCast, up_if]
        split
        · rename_i e
          rw [e]
        · exact hg i (by omega)
      · have tr : ∀ a, 62 < a → xs S2.1 a → xs G3.1 a := fun a ha ⟨p, hi, ce, bo, ho, k0, k1, k2, k3, k4, k5⟩ => ⟨p, hi, ce, bo, ho, (o3 _ (by omega)).trans k0, (o3 _ (by omega)).trans k1, (o3 _ (by omega)).trans k2, (o3 _ (by omega)).trans k3, (o3 _ (by omega)).trans k4, (o3 _ (by omega)).trans k5⟩
        refine tr _ (by omega) ?_
        by_cases e : i = k
        · rw [e]
          exact ⟨_, _, _, _, _, g2⟩
        · obtain ⟨p, hi', ce, bo, ho, k0, k1, k2, k3, k4, k5⟩ := hx i (by omega)
          exact ⟨p, hi', ce, bo, ho, (o2 _ (by omega)).trans k0, (o2 _ (by omega)).trans k1, (o2 _ (by omega)).trans k2, (o2 _ (by omega)).trans k3, (o2 _ (by omega)).trans k4, (o2 _ (by omega)).trans k5⟩
end KX35
