/-! THE MODEL'S CONSTRUCTOR, on the heap: the object at a, its arrays at a + 1 .. a + 17 -/
def yin0 (h0 : Nat → Option ah_C) (S : ah_H) (a : Nat) (T : List am_W) (t : Nat) (K : List (Nat × ah_C)) : Prop := S.2 = a + t ∧ S.1 a = some (.inl (0, T)) ∧ (∀ q, a + t ≤ q → S.1 q = none) ∧ (∀ p, p ∈ K → 0 < p.1 ∧ p.1 < t ∧ S.1 (a + p.1) = some p.2) ∧ (0 < t ∧ ∀ q, q < a → S.1 q = h0 q)
section KX38
variable {l : Launch} {h0 : Nat → Option ah_C} {S G : ah_H} {T : List am_W} {a t : Nat} {K : List (Nat × ah_C)}
theorem yk_mk {c : ah_C} (h : yin0 h0 S a T t K) (e : G = ah_mk S c) : yin0 h0 G a T (t + 1) ((t, c) :: K) := by
  obtain ⟨h1, h2, h3, h4, h5, h6⟩ := h
  subst e
  refine ⟨by show S.2 + 1 = _; omega, (up_ne _ _ (by omega)).trans h2, fun q hq => (up_ne _ _ (by omega)).trans (h3 q (by omega)), fun p hp => ?_, by omega, fun q hq => (up_ne _ _ (by omega)).trans (h6 q hq)⟩
  rcases List.mem_cons.mp hp with rfl | hp
  · refine ⟨h5, Nat.lt_succ_self _, ?_⟩
    show va_up S.1 S.2 (some c) (a + t) = some c
    rw [← h1]
    exact up_at S.1 S.2 _
  · obtain ⟨x, y, z⟩ := h4 p hp
    exact ⟨x, by omega, (up_ne _ _ (by omega)).trans z⟩
theorem yk_sf {k : Nat} {v : am_W} (h : yin0 h0 S a T t K) (e : G = ah_sf S a 0 T k v) : yin0 h0 G a (T.set k v) t K := by
  obtain ⟨h1, h2, h3, h4, h5, h6⟩ := h
  subst e
  refine ⟨h1, up_at S.1 a _, fun q hq => (up_ne _ _ (by omega)).trans (h3 q hq), fun p hp => ?_, h5, fun q hq => (up_ne _ _ (by omega)).trans (h6 q hq)⟩
  obtain ⟨x, y, z⟩ := h4 p hp
  exact ⟨x, y, (up_ne _ _ (by omega)).trans z⟩
theorem yk_up {b : Nat} {c c' : ah_C} {M : List (Nat × ah_C)} (h : yin0 h0 S a T t (M ++ (b, c) :: K)) (ha : ∀ p, p ∈ M ++ K → p.1 ≠ b) (e : G = (va_up S.1 (a + b) (some c'), S.2)) : yin0 h0 G a T t (M ++ (b, c') :: K) := by
  obtain ⟨h1, h2, h3, h4, h5, h6⟩ := h
  obtain ⟨a1, a2, a3⟩ := h4 (b, c) (by simp)
  have a1 : 0 < b := a1
  have a2 : b < t := a2
  subst e
  refine ⟨h1, (up_ne _ _ (by omega)).trans h2, fun q hq => (up_ne _ _ (by omega)).trans (h3 q hq), fun p hp => ?_, h5, fun q hq => (up_ne _ _ (by omega)).trans (h6 q hq)⟩
  have nb : ∀ p : Nat × ah_C, p ∈ M ++ K → a + p.1 ≠ a + b := fun p hp => by
    have := ha p hp
    omega
  rcases List.mem_append.mp hp with hp | hp
  · obtain ⟨x1, x2, x3⟩ := h4 p (List.mem_append.mpr (Or.inl hp))
    exact ⟨x1, x2, (up_ne _ _ (nb p (List.mem_append.mpr (Or.inl hp)))).trans x3⟩
  · rcases List.mem_cons.mp hp with rfl | hp
    · exact ⟨a1, a2, up_at S.1 (a + b) _⟩
    · obtain ⟨x1, x2, x3⟩ := h4 p (List.mem_append.mpr (Or.inr (List.mem_cons_of_mem _ hp)))
      exact ⟨x1, x2, (up_ne _ _ (nb p (List.mem_append.mpr (Or.inr hp)))).trans x3⟩
theorem yk_get (h : yin0 h0 S a T t K) {b : Nat} {c : ah_C} (i : Nat) (e : K[i]? = some (b, c)) : S.1 (a + b) = some c := (h.2.2.2.1 (b, c) (List.mem_of_getElem? e)).2.2
/-- the model's table, filled: 0 where a pile's size stands, else -1 -/
def ytab (k : Nat) (f : Nat → Int32) (i : Nat) : Int32 := if i < k then (if i % 62 < 56 ∧ i % 62 % 7 = 0 then 0 else -1) else f i
theorem kx_minit_192 {mc ms cs ss k : Nat} {f : Nat → Int32} {P : ah_H → Prop} (h : yin0 h0 S a T t K) (hX : 32 ≤ a) (hT : T[2]? = some (am_R (a + 1))) (hf : S.1 (a + 1) = some (.inr (0, 6696, .inl (ytab k f)))) (ht : 1 < t) (hK : ∀ p, p ∈ K → p.1 ≠ 1) (hk : k ≤ 6696) (hmc : cs ≤ mc) (hms : ss ≤ ms)
    (hP : ∀ S', yin0 h0 S' a T t K → S'.1 (a + 1) = some (.inr (0, 6696, .inl (ytab 6696 f))) → P S') : VX3_init l mc ms (am_qv P) 192 [(0, am_R a), (1, am_I k)] [] S cs ss := by
  generalize hq : 6696 - k = q
  induction q generalizing S k with
  | zero =>
    have e : k = 6696 := by omega
    subst e
    exact bX3_init_192 _ _ (by first | exact am_rN (by omega) | exact ⟨by omega, by omega⟩ | assumption) _ _ ⟨fun _ => ⟨hmc, hms, am_qv_mk (hP S h hf)⟩, fun z => absurd z (by omega)⟩
  | succ q ih =>
    have nx : ∀ (v : Int) (G : ah_H), G = ah_si S (a + 1) 0 6696 (ytab k f) (k : Int) (Int32.ofInt v) → Int32.ofInt v = (if k % 62 < 56 ∧ k % 62 % 7 = 0 then 0 else -1) → VX3_init l mc ms (am_qv P) 192 [(0, am_R a), (1, am_I ((k : Int) + 1))] [] G cs ss := fun v G e hv => by
      subst e
      obtain ⟨h1, h2, h3, h4, h5, h6⟩ := id h
      refine ih (k := k + 1) ⟨h1, (up_ne _ _ (by omega)).trans h2, fun q hq => (up_ne _ _ (by omega)).trans (h3 q hq), fun p hp => ?_, h5, fun q hq => (up_ne _ _ (by omega)).trans (h6 q hq)⟩ ?_ (by omega) (by omega)
      · obtain ⟨x, y, z⟩ := h4 p hp
        have := hK p hp
        exact ⟨x, y, (up_ne _ _ (by omega)).trans z⟩
      · refine (up_at S.1 (a + 1) _).trans ?_
        congr 5
        funext i
        rw [Int.toNat_natCast, up_if, hv]
        unfold ytab
        by_cases e : i = k
        · rw [if_pos e, e, if_pos (Nat.lt_succ_self k)]
        · rw [if_neg e]
          by_cases e2 : i < k
          · rw [if_pos e2, if_pos (show i < k + 1 by omega)]
          · rw [if_neg e2, if_neg (show ¬ i < k + 1 by omega)]
    have hr : (k : Int) % 62 = ((k % 62 : Nat) : Int) := by omega
    refine bX3_init_192 _ _ (by first | exact am_rN (by omega) | exact ⟨by omega, by omega⟩ | assumption) _ _ ⟨fun z => absurd z (by omega), fun _ => ⟨_, h.2.1, _, hT, by omega, ?_⟩⟩
    refine ⟨fun z => ⟨_, _, hf, by show 32 ≤ a + 1; omega, ⟨by omega, by omega⟩, fun G e => nx _ G e ?_⟩, fun z => ⟨by omega, fun z2 => ⟨_, _, hf, by show 32 ≤ a + 1; omega, ⟨by omega, by omega⟩, fun G e => nx _ G e ?_⟩, fun z2 => ⟨_, _, hf, by show 32 ≤ a + 1; omega, ⟨by omega, by omega⟩, fun G e => nx _ G e ?_⟩⟩⟩
    · rw [if_neg (by omega)]
      rfl
    · rw [if_neg (by omega)]
      rfl
    · rw [if_pos (by omega)]
      rfl
end KX38
