/-! the ticks, cell after cell -/
def wy_E (r : Nat → Int) (n m cur t c d : Nat) : Prop := (c = 0 ∧ d = 0 ∧ r 0 ≠ r n) ∨ ∃ a b g, a < n ∧ b < m ∧ 1 ≤ g ∧ g < 4 ∧ 4 * (m * a + b) + g < cur ∧ 1 ≤ t ∧ z_R r n (t - 1) a b = true ∧ c = a + g % 2 ∧ d = b + g / 2 ∧ z_pass r n a b c d = true
def wy_I (r : Nat → Int) (n m cur : Nat) (T : Nat → Nat → Int) : Prop := ∀ c d, c < n → d < m → (T c d = -1000000 ∧ ∀ t, ¬ wy_E r n m cur t c d) ∨ ∃ v : Nat, T c d = (v : Int) ∧ v ≤ m * c + d ∧ ∀ t, wy_E r n m cur t c d ↔ v ≤ t
theorem z_R_up {r : Nat → Int} {n t a b : Nat} (h : z_R r n t a b = true) : z_R r n (t + 1) a b = true := by
  rw [z_R, h]
  simp
theorem z_R_le {r : Nat → Int} {n s t a b : Nat} (hs : s ≤ t) (h : z_R r n s a b = true) : z_R r n t a b = true := by
  induction t with
  | zero =>
    have : s = 0 := by omega
    rw [this] at h
    exact h
  | succ t ih =>
    by_cases e : s = t + 1
    · rw [← e]; exact h
    · exact z_R_up (ih (by omega))
theorem z_R_no {r : Nat → Int} {n : Nat} (h : r 0 = r n) : ∀ t a b, z_R r n t a b = false := by
  intro t
  induction t with
  | zero =>
    intro a b
    rw [z_R]
    exact decide_eq_false (fun z => z.2.2 h)
  | succ t ih =>
    intro a b
    rw [z_R, ih, ih, ih, ih]
    simp
theorem idx_inj {m a b i j : Nat} (hb : b < m) (hj : j < m) (h : m * a + b = m * i + j) : a = i ∧ b = j := by
  have hm : 0 < m := by omega
  have e1 : (m * a + b) / m = a := by rw [Nat.mul_add_div hm, Nat.div_eq_of_lt hb, Nat.add_zero]
  have e2 : (m * i + j) / m = i := by rw [Nat.mul_add_div hm, Nat.div_eq_of_lt hj, Nat.add_zero]
  have e : a = i := by rw [← e1, ← e2, h]
  subst e
  exact ⟨rfl, by omega⟩
theorem idx_lt {n m a b : Nat} (ha : a < n) (hb : b < m) : m * a + b < n * m := by
  have h1 : m * (a + 1) ≤ m * n := Nat.mul_le_mul_left m ha
  rw [Nat.mul_succ] at h1
  rw [Nat.mul_comm n m]
  omega
theorem wy_up {r : Nat → Int} {n m cur t c d : Nat} (h : wy_E r n m cur t c d) : wy_E r n m cur (t + 1) c d := by
  rcases h with h | ⟨a, b, g, h1, h2, h3, h4, h5, h6, h7, h8⟩
  · exact Or.inl h
  · exact Or.inr ⟨a, b, g, h1, h2, h3, h4, h5, by omega, z_R_le (by omega) h7, h8⟩
theorem wy_all {r : Nat → Int} {n m cur c d : Nat} (hm : m ≤ 12) (hc : c < n) (hd : d < m) (hcur : 4 * (m * c + d) ≤ cur) (t : Nat) : wy_E r n m cur t c d ↔ z_R r n t c d = true := by
  constructor
  · rintro (⟨rfl, rfl, h⟩ | ⟨a, b, g, h1, h2, h3, h4, h5, h6, h7, h8⟩)
    · exact z_R_le (Nat.zero_le t) (by rw [z_R]; exact decide_eq_true ⟨rfl, rfl, h⟩)
    · obtain ⟨t, rfl⟩ : ∃ s, t = s + 1 := ⟨t - 1, by omega⟩
      exact (z_W_all hm hc hd).mpr (Or.inr ⟨a, b, g, h1, h2, h4, by omega, h7, h8⟩)
  · induction t with
    | zero =>
      intro h
      rw [z_R] at h
      exact Or.inl (of_decide_eq_true h)
    | succ t ih =>
      intro h
      rcases (z_W_all hm hc hd).mp h with h | ⟨a, b, g, h1, h2, h3, h4, h5, h6, h7, h8⟩
      · exact wy_up (ih h)
      · by_cases e : g = 0
        · subst e
          have e1 : c = a := by omega
          have e2 : d = b := by omega
          subst e1 e2
          exact wy_up (ih h5)
        · refine Or.inr ⟨a, b, g, h1, h2, by omega, h3, ?_, by omega, h5, h6, h7, h8⟩
          have hlt : m * a + b + 1 ≤ m * c + d := by
            have : g = 1 ∨ g = 2 ∨ g = 3 := by omega
            rcases this with rfl | rfl | rfl
            · rw [h6, show m * (a + 1 % 2) = m * a + m from by rw [show a + 1 % 2 = a + 1 from rfl, Nat.mul_succ]]
              omega
            · rw [h6, show m * (a + 2 % 2) = m * a from rfl]
              omega
            · rw [h6, show m * (a + 3 % 2) = m * a + m from by rw [show a + 3 % 2 = a + 1 from rfl, Nat.mul_succ]]
              omega
          omega
theorem wy_step {r : Nat → Int} {n m i j g t c d : Nat} (hi : i < n) (hj : j < m) (hg : 1 ≤ g ∧ g < 4) : wy_E r n m (4 * (m * i + j) + (g + 1)) t c d ↔ wy_E r n m (4 * (m * i + j) + g) t c d ∨ (1 ≤ t ∧ z_R r n (t - 1) i j = true ∧ c = i + g % 2 ∧ d = j + g / 2 ∧ z_pass r n i j c d = true) := by
  constructor
  · rintro (h | ⟨a, b, g', h1, h2, h3, h4, h5, h6⟩)
    · exact Or.inl (Or.inl h)
    · by_cases e : 4 * (m * a + b) + g' < 4 * (m * i + j) + g
      · exact Or.inl (Or.inr ⟨a, b, g', h1, h2, h3, h4, e, h6⟩)
      · have e1 : g' = g := by omega
        obtain ⟨e2, e3⟩ := idx_inj h2 hj (show m * a + b = m * i + j by omega)
        subst e1 e2 e3
        exact Or.inr h6
  · rintro ((h | ⟨a, b, g', h1, h2, h3, h4, h5, h6⟩) | h)
    · exact Or.inl h
    · exact Or.inr ⟨a, b, g', h1, h2, h3, h4, by omega, h6⟩
    · exact Or.inr ⟨i, j, g, hi, hj, hg.1, hg.2, by omega, h⟩
theorem wy_next {r : Nat → Int} {n m k t c d : Nat} : wy_E r n m (4 * (k + 1) + 1) t c d ↔ wy_E r n m (4 * k + 4) t c d := by
  constructor
  · rintro (h | ⟨a, b, g', h1, h2, h3, h4, h5, h6⟩)
    · exact Or.inl h
    · exact Or.inr ⟨a, b, g', h1, h2, h3, h4, by omega, h6⟩
  · rintro (h | ⟨a, b, g', h1, h2, h3, h4, h5, h6⟩)
    · exact Or.inl h
    · exact Or.inr ⟨a, b, g', h1, h2, h3, h4, by omega, h6⟩
theorem wy_I.cg {r : Nat → Int} {n m cur cur' : Nat} {T : Nat → Nat → Int} (h : wy_I r n m cur T) (e : ∀ t c d, c < n → d < m → (wy_E r n m cur' t c d ↔ wy_E r n m cur t c d)) : wy_I r n m cur' T := fun c d hc hd => by
  rcases h c d hc hd with ⟨h1, h2⟩ | ⟨v, h1, h2, h3⟩
  · exact Or.inl ⟨h1, fun t z => h2 t ((e t c d hc hd).mp z)⟩
  · exact Or.inr ⟨v, h1, h2, fun t => (e t c d hc hd).trans (h3 t)⟩
/-- one more way on -/
theorem wy_relax {r : Nat → Int} {n m i j g v : Nat} {T T' : Nat → Nat → Int} (hm : m ≤ 12) (hi : i < n) (hj : j < m) (hg : 1 ≤ g ∧ g < 4) (h : wy_I r n m (4 * (m * i + j) + g) T) (hv : T i j = (v : Int)) (hp : i + g % 2 < n) (hq : j + g / 2 < m) (hpass : z_pass r n i j (i + g % 2) (j + g / 2) = true)
    (h1 : ∀ c d, c < n → d < m → ¬ (c = i + g % 2 ∧ d = j + g / 2) → T' c d = T c d)
    (h2 : T' (i + g % 2) (j + g / 2) = if T (i + g % 2) (j + g / 2) = -1000000 then (v : Int) + 1 else if (v : Int) + 1 < T (i + g % 2) (j + g / 2) then (v : Int) + 1 else T (i + g % 2) (j + g / 2)) : wy_I r n m (4 * (m * i + j) + (g + 1)) T' := by
  have hR : ∀ t, z_R r n t i j = true ↔ v ≤ t := fun t => by
    rw [← wy_all (r := r) hm hi hj (show 4 * (m * i + j) ≤ 4 * (m * i + j) + g by omega) t]
    rcases h i j hi hj with ⟨q1, _⟩ | ⟨v', q1, _, q3⟩
    · rw [hv] at q1
      omega
    · have : v' = v := by omega
      rw [← this]
      exact q3 t
  have hvi : v ≤ m * i + j := by
    rcases h i j hi hj with ⟨q1, _⟩ | ⟨v', q1, q2, _⟩
    · omega
    · omega
  have hidx : m * i + j + 1 ≤ m * (i + g % 2) + (j + g / 2) := by
    have : g = 1 ∨ g = 2 ∨ g = 3 := by omega
    rcases this with rfl | rfl | rfl
    · rw [show m * (i + 1 % 2) = m * i + m from by rw [show i + 1 % 2 = i + 1 from rfl, Nat.mul_succ]]
      omega
    · rw [show m * (i + 2 % 2) = m * i from rfl]
      omega
    · rw [show m * (i + 3 % 2) = m * i + m from by rw [show i + 3 % 2 = i + 1 from rfl, Nat.mul_succ]]
      omega
  intro c d hc hd
  by_cases e : c = i + g % 2 ∧ d = j + g / 2
  · obtain ⟨rfl, rfl⟩ := e
    have hE : ∀ t, wy_E r n m (4 * (m * i + j) + (g + 1)) t (i + g % 2) (j + g / 2) ↔ wy_E r n m (4 * (m * i + j) + g) t (i + g % 2) (j + g / 2) ∨ v + 1 ≤ t := fun t => by
      rw [wy_step hi hj hg]
      refine or_congr Iff.rfl ⟨fun z => ?_, fun z => ⟨by omega, (hR _).mpr (by omega), rfl, rfl, hpass⟩⟩
      have := (hR _).mp z.2.1
      omega
    right
    rcases h _ _ hc hd with ⟨q1, q2⟩ | ⟨u, q1, q2, q3⟩
    · rw [if_pos q1] at h2
      exact ⟨v + 1, by rw [h2]; omega, by omega, fun t => (hE t).trans ⟨fun z => z.elim (fun z => absurd z (q2 t)) id, Or.inr⟩⟩
    · rw [if_neg (by omega)] at h2
      by_cases e2 : (v : Int) + 1 < T (i + g % 2) (j + g / 2)
      · rw [if_pos e2] at h2
        refine ⟨v + 1, by rw [h2]; omega, by omega, fun t => (hE t).trans ?_⟩
        rw [q3]
        omega
      · rw [if_neg e2] at h2
        refine ⟨u, h2.trans q1, q2, fun t => (hE t).trans ?_⟩
        rw [q3]
        omega
  · have hE : ∀ t, wy_E r n m (4 * (m * i + j) + (g + 1)) t c d ↔ wy_E r n m (4 * (m * i + j) + g) t c d := fun t => by
      rw [wy_step hi hj hg]
      exact ⟨fun z => z.elim id (fun z => absurd ⟨z.2.2.1, z.2.2.2.1⟩ e), Or.inl⟩
    rw [h1 c d hc hd e]
    rcases h _ _ hc hd with ⟨q1, q2⟩ | ⟨u, q1, q2, q3⟩
    · exact Or.inl ⟨q1, fun t z => q2 t ((hE t).mp z)⟩
    · exact Or.inr ⟨u, q1, q2, fun t => (hE t).trans (q3 t)⟩
theorem wy_pass {r : Nat → Int} {n m i j g : Nat} {T : Nat → Nat → Int} (hi : i < n) (hj : j < m) (hg : 1 ≤ g ∧ g < 4) (h : wy_I r n m (4 * (m * i + j) + g) T) (hno : ¬ (i + g % 2 < n ∧ j + g / 2 < m ∧ z_pass r n i j (i + g % 2) (j + g / 2) = true)) : wy_I r n m (4 * (m * i + j) + (g + 1)) T :=
  h.cg (fun t c d hc hd => by
    rw [wy_step hi hj hg]
    refine ⟨fun z => z.elim id (fun z => absurd ?_ hno), Or.inl⟩
    obtain ⟨_, _, rfl, rfl, z5⟩ := z
    exact ⟨hc, hd, z5⟩)
theorem wy_none {r : Nat → Int} {n m i j : Nat} {T : Nat → Nat → Int} (hm : m ≤ 12) (hi : i < n) (hj : j < m) (h : wy_I r n m (4 * (m * i + j) + 1) T) (hno : T i j = -1000000) : wy_I r n m (4 * (m * i + j) + 4) T := by
  have hR : ∀ t, z_R r n t i j = false := fun t => by
    cases q : z_R r n t i j with
    | false => rfl
    | true =>
      rw [← wy_all (r := r) hm hi hj (show 4 * (m * i + j) ≤ 4 * (m * i + j) + 1 by omega) t] at q
      rcases h i j hi hj with ⟨_, q2⟩ | ⟨v', q1, _, _⟩
      · exact absurd q (q2 t)
      · rw [hno] at q1
        omega
  have st : ∀ g, 1 ≤ g ∧ g < 4 → wy_I r n m (4 * (m * i + j) + g) T → wy_I r n m (4 * (m * i + j) + (g + 1)) T := fun g hg h' => h'.cg (fun t c d hc hd => by
    rw [wy_step hi hj hg]
    refine ⟨fun z => z.elim id (fun z => ?_), Or.inl⟩
    rw [hR] at z
    exact absurd z.2.1 (by decide))
  exact st 3 (by decide) (st 2 (by decide) (st 1 (by decide) h))
theorem wy_end {r : Nat → Int} {n m cur : Nat} {T : Nat → Nat → Int} (hn : 1 ≤ n ∧ n ≤ 12) (hm : 1 ≤ m ∧ m ≤ 12) (h : wy_I r n m cur T) (hcur : 4 * (n * m) ≤ cur) : T (n - 1) (m - 1) = z_ways r n m := by
  have hl : m * (n - 1) + (m - 1) < n * m := idx_lt (by omega) (by omega)
  have h144 : n * m ≤ 12 * 12 := Nat.mul_le_mul hn.2 hm.2
  have hR := fun t => wy_all (r := r) (n := n) (m := m) (cur := cur) (c := n - 1) (d := m - 1) hm.2 (by omega) (by omega) (by omega) t
  unfold z_ways
  rcases h (n - 1) (m - 1) (by omega) (by omega) with ⟨q1, q2⟩ | ⟨v, q1, q2, q3⟩
  · rw [q1, sp_find_none (fun t _ => ?_)]
    · rfl
    · cases q : z_R r n t (n - 1) (m - 1) with
      | false => rfl
      | true => exact absurd ((hR t).mpr q) (q2 t)
  · rw [q1, sp_find_some (k := v) (by omega) ((hR v).mp ((q3 v).mpr (Nat.le_refl _))) (fun t ht => ?_)]
    · rfl
    · cases q : z_R r n t (n - 1) (m - 1) with
      | false => rfl
      | true =>
        have := (q3 t).mp ((hR t).mpr q)
        omega
theorem wy_ways_no {r : Nat → Int} {n m : Nat} (h : r 0 = r n) : z_ways r n m = -1000000 := by
  unfold z_ways
  rw [sp_find_none (fun t _ => z_R_no h t _ _)]
  rfl
theorem wy_init {r : Nat → Int} {n m : Nat} {T : Nat → Nat → Int} (h : r 0 ≠ r n) (h0 : T 0 0 = 0) (h1 : ∀ c d, c < n → d < m → ¬ (c = 0 ∧ d = 0) → T c d = -1000000) : wy_I r n m 1 T := fun c d hc hd => by
  by_cases e : c = 0 ∧ d = 0
  · obtain ⟨rfl, rfl⟩ := e
    exact Or.inr ⟨0, h0, Nat.zero_le _, fun t => ⟨fun _ => Nat.zero_le _, fun _ => Or.inl ⟨rfl, rfl, h⟩⟩⟩
  · refine Or.inl ⟨h1 c d hc hd e, fun t z => ?_⟩
    rcases z with z | ⟨a, b, g, z1, z2, z3, z4, z5, z6⟩
    · exact e ⟨z.1, z.2.1⟩
    · omega
