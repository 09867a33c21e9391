def z_pass (r : Nat → Int) (n a b c d : Nat) : Bool := decide (r c ≠ r (n + d) ∧ ¬ (r c = r (n + b) ∧ r (n + d) = r a))
/-- which places two arms can have come to within so many ticks -/
def z_R (r : Nat → Int) (n : Nat) : Nat → Nat → Nat → Bool
  | 0, a, b => decide (a = 0 ∧ b = 0 ∧ r 0 ≠ r n)
  | t + 1, a, b => z_R r n t a b || (decide (1 ≤ a) && z_R r n t (a - 1) b && z_pass r n (a - 1) b a b) || (decide (1 ≤ b) && z_R r n t a (b - 1) && z_pass r n a (b - 1) a b) || (decide (1 ≤ a ∧ 1 ≤ b) && z_R r n t (a - 1) (b - 1) && z_pass r n (a - 1) (b - 1) a b)
def z_rowAt (r : Nat → Int) (n p : Nat) : Bool := decide ((0 ≤ r p ∧ r p ≤ 7) ∧ (p = 0 ∨ p = n ∨ r p = r (p - 1) ∨ sp_near (r p).toNat (r (p - 1)).toNat = true))
def z_row (r : Nat → Int) (n m : Nat) : Bool := (List.range (n + m)).all (z_rowAt r n)
def z_ways (r : Nat → Int) (n m : Nat) : Int := sp_on ((List.range 150).find? (fun t => z_R r n t (n - 1) (m - 1)))
def zo_ways (Z : sp_Z) (a i n m : Int) : Int × sp_Z := if (0 ≤ a ∧ a ≤ 7) ∧ (1 ≤ n ∧ n ≤ 12) ∧ 1 ≤ m ∧ m ≤ 12 then if z_look Z a.toNat i (n + m) = 0 then if z_row (fun p => z_items Z a.toNat (i.toNat + p)) n.toNat m.toNat = true then (z_ways (fun p => z_items Z a.toNat (i.toNat + p)) n.toNat m.toNat, z_St Z 0) else (-1000001, Z) else z_bad Z (z_look Z a.toNat i (n + m)) else (-1000001, Z)
def z_W (r : Nat → Int) (n m t cur c d : Nat) : Prop := ∃ a b g, a < n ∧ b < m ∧ g < 4 ∧ 48 * a + 4 * b + g < cur ∧ z_R r n t a b = true ∧ c = a + g % 2 ∧ d = b + g / 2 ∧ z_pass r n a b c d = true
theorem z_W_step {r : Nat → Int} {n m t a b g c d : Nat} (hm : m ≤ 12) (ha : a < n) (hb : b < m) (hg : g < 4) : z_W r n m t (48 * a + 4 * b + (g + 1)) c d ↔ z_W r n m t (48 * a + 4 * b + g) c d ∨ (z_R r n t a b = true ∧ c = a + g % 2 ∧ d = b + g / 2 ∧ z_pass r n a b c d = true) := by
  constructor
  · rintro ⟨a', b', g', h1, h2, h3, h4, h5⟩
    by_cases e : 48 * a' + 4 * b' + g' < 48 * a + 4 * b + g
    · exact Or.inl ⟨a', b', g', h1, h2, h3, e, h5⟩
    · have e1 : a' = a := by omega
      have e2 : b' = b := by omega
      have e3 : g' = g := by omega
      subst e1 e2 e3
      exact Or.inr h5
  · rintro (⟨a', b', g', h1, h2, h3, h4, h5⟩ | h)
    · exact ⟨a', b', g', h1, h2, h3, by omega, h5⟩
    · exact ⟨a, b, g, ha, hb, hg, by omega, h⟩
theorem z_W_skip {r : Nat → Int} {n m t a b g c d : Nat} (hm : m ≤ 12) (hb : b < m) (hg : g ≤ 4) (hR : z_R r n t a b = false) : z_W r n m t (48 * a + 4 * (b + 1)) c d ↔ z_W r n m t (48 * a + 4 * b + g) c d := by
  constructor
  · rintro ⟨a', b', g', h1, h2, h3, h4, h5, h6⟩
    by_cases e : 48 * a' + 4 * b' + g' < 48 * a + 4 * b + g
    · exact ⟨a', b', g', h1, h2, h3, e, h5, h6⟩
    · have e1 : a' = a := by omega
      have e2 : b' = b := by omega
      subst e1 e2
      rw [hR] at h5
      exact absurd h5 (by decide)
  · rintro ⟨a', b', g', h1, h2, h3, h4, h5⟩
    exact ⟨a', b', g', h1, h2, h3, by omega, h5⟩
theorem z_W_row {r : Nat → Int} {n m t a c d : Nat} (hm : m ≤ 12) : z_W r n m t (48 * (a + 1)) c d ↔ z_W r n m t (48 * a + 4 * m) c d := by
  constructor
  · rintro ⟨a', b', g', h1, h2, h3, h4, h5⟩
    refine ⟨a', b', g', h1, h2, h3, ?_, h5⟩
    clear h5
    by_cases e : a' = a
    · subst e
      omega
    · have : a' + 1 ≤ a := by omega
      omega
  · rintro ⟨a', b', g', h1, h2, h3, h4, h5⟩
    exact ⟨a', b', g', h1, h2, h3, by omega, h5⟩
theorem z_W_all {r : Nat → Int} {n m t c d : Nat} (hm : m ≤ 12) (hc : c < n) (hd : d < m) : z_R r n (t + 1) c d = true ↔ z_R r n t c d = true ∨ z_W r n m t (48 * n) c d := by
  rw [z_R]
  simp only [Bool.or_eq_true, Bool.and_eq_true, decide_eq_true_eq]
  constructor
  · rintro (((h | ⟨⟨h1, h2⟩, h3⟩) | ⟨⟨h1, h2⟩, h3⟩) | ⟨⟨h1, h2⟩, h3⟩)
    · exact Or.inl h
    · exact Or.inr ⟨c - 1, d, 1, by omega, hd, by decide, by omega, h2, by omega, by omega, h3⟩
    · exact Or.inr ⟨c, d - 1, 2, hc, by omega, by decide, by omega, h2, by omega, by omega, h3⟩
    · exact Or.inr ⟨c - 1, d - 1, 3, by omega, by omega, by decide, by omega, h2, by omega, by omega, h3⟩
  · rintro (h | ⟨a, b, g, h1, h2, h3, h4, h5, h6, h7, h8⟩)
    · exact Or.inl (Or.inl (Or.inl h))
    · have : g = 0 ∨ g = 1 ∨ g = 2 ∨ g = 3 := by omega
      rcases this with rfl | rfl | rfl | rfl
      · have e1 : a = c := by omega
        have e2 : b = d := by omega
        subst e1 e2
        exact Or.inl (Or.inl (Or.inl h5))
      · have e1 : a = c - 1 := by omega
        have e2 : b = d := by omega
        subst e1 e2
        exact Or.inl (Or.inl (Or.inr ⟨⟨by omega, h5⟩, h8⟩))
      · have e1 : a = c := by omega
        have e2 : b = d - 1 := by omega
        subst e1 e2
        exact Or.inl (Or.inr ⟨⟨by omega, h5⟩, h8⟩)
      · have e1 : a = c - 1 := by omega
        have e2 : b = d - 1 := by omega
        subst e1 e2
        exact Or.inr ⟨⟨by omega, h5⟩, h8⟩
section KM14
variable {l : Launch} {S : am_M} {Z : sp_Z} {r : Nat → Int} {w n m : Nat}
/-- what stands through the search: the state, and the rows -/
def mw_b (S : am_M) (Z : sp_Z) (r : Nat → Int) (w n m : Nat) : Prop := mr S Z ∧ (∀ p, p < n + m → (S.2 11 (w + p)).toInt = r p) ∧ (1 ≤ n ∧ n ≤ 12) ∧ (1 ≤ m ∧ m ≤ 12) ∧ w + n + m ≤ 320
/-- the places reached within t ticks -/
def mw_r (S : am_M) (r : Nat → Int) (n m t : Nat) : Prop := ∀ a b, a < n → b < m → (S.2 14 (12 * a + b)).toInt = am_b (z_R r n t a b)
def mw_n (S : am_M) (r : Nat → Int) (n m t cur : Nat) : Prop := ∀ c d, c < n → d < m → ((S.2 15 (12 * c + d)).toInt ≠ 0 ↔ z_W r n m t cur c d)
theorem mw_it (h : mw_b S Z r w n m) {p : Nat} {q : Int} (hp : p < n + m) (hq : q = (w + p : Nat)) : (S.2 11 q.toNat).toInt = r p := by
  rw [hq, Int.toNat_natCast]
  exact h.2.1 p hp
theorem km_ways_71 {k : Nat} {P : Int → am_M → Prop} (h : mw_b S Z r w n m) (hk : k ≤ n + m) (hrow : ∀ p, p < k → z_rowAt r n p = true)
    (bad : z_row r n m = false → P (-1000001) S) (next : z_row r n m = true → VX3_ways l (am_qi P) 177 [(0, am_R 0), (3, am_I n), (4, am_I m), (6, am_I w), (7, am_I 0)] [] (am_sv S 1 0)) :
    VX3_ways l (am_qi P) 71 [(0, am_R 0), (3, am_I n), (4, am_I m), (6, am_I w), (7, am_I k)] [] S := by
  have hn := h.2.2.1
  have hm := h.2.2.2.1
  have hw := h.2.2.2.2
  generalize hq : n + m - k = q
  induction q generalizing k with
  | zero =>
    refine bX3_ways_71 _ (by first | exact am_rN (by omega) | exact ⟨by omega, by omega⟩ | assumption) _ (by first | exact am_rN (by omega) | exact ⟨by omega, by omega⟩ | assumption) _ (by first | exact am_rN (by omega) | exact ⟨by omega, by omega⟩ | assumption) _ (by first | exact am_rN (by omega) | exact ⟨by omega, by omega⟩ | assumption) ⟨⟨by omega, by omega⟩, fun _ => next ?_, fun z => absurd z (by omega)⟩
    unfold z_row
    rw [List.all_eq_true]
    exact fun p hp => hrow p (by have := List.mem_range.mp hp; omega)
  | succ q ih =>
    have hkl : k < n + m := by omega
    have ef : z_rowAt r n k = false → am_qi P (some (am_I (-1000001))) S := by
      intro e
      refine am_qi_mk ⟨by decide, by decide⟩ (bad ?_)
      unfold z_row
      rw [List.all_eq_false]
      exact ⟨k, List.mem_range.mpr hkl, by rw [e]; decide⟩
    have nx : z_rowAt r n k = true → VX3_ways l (am_qi P) 71 [(0, am_R 0), (3, am_I n), (4, am_I m), (6, am_I w), (7, am_I ((k : Int) + 1))] [] S := by
      intro e
      refine ih (k := k + 1) (by omega) (fun p hp => ?_) (by omega)
      by_cases e2 : p = k
      · rw [e2]; exact e
      · exact hrow p (by omega)
    have i1 := mw_it h (p := k) (q := (w : Int) + k) hkl (by omega)
    refine bX3_ways_71 _ (by first | exact am_rN (by omega) | exact ⟨by omega, by omega⟩ | assumption) _ (by first | exact am_rN (by omega) | exact ⟨by omega, by omega⟩ | assumption) _ (by first | exact am_rN (by omega) | exact ⟨by omega, by omega⟩ | assumption) _ (by first | exact am_rN (by omega) | exact ⟨by omega, by omega⟩ | assumption) ⟨⟨by omega, by omega⟩, fun z => absurd z (by omega), fun _ => ⟨⟨by omega, by omega⟩, ?_⟩⟩
    refine km_isCell (am_rt _) ⟨fun h1 => ef ?_, fun h1 => ⟨fun h2 => nx ?_, fun h2 => ⟨fun h3 => nx ?_, fun h3 => ⟨⟨by omega, by omega⟩, fun h4 => nx ?_, fun h4 => ?_⟩⟩⟩⟩
    · have h1 := of_decide_eq_false h1
      rw [i1] at h1
      unfold z_rowAt
      exact decide_eq_false (fun z => h1 z.1)
    all_goals
      have h1 := of_decide_eq_true h1
      rw [i1] at h1
    · exact decide_eq_true ⟨h1, Or.inl (by omega)⟩
    · exact decide_eq_true ⟨h1, Or.inr (Or.inl (by omega))⟩
    all_goals
      have i2 := mw_it h (p := k - 1) (q := (w : Int) + k - 1) (by omega) (by omega)
      rw [i1, i2] at h4
    · exact decide_eq_true ⟨h1, Or.inr (Or.inr (Or.inl h4))⟩
    · have h5 := (of_decide_eq_true (hrow (k - 1) (by omega))).1
      rw [i1, i2]
      obtain ⟨c, hc⟩ : ∃ c : Nat, r k = c := ⟨(r k).toNat, by omega⟩
      obtain ⟨d, hd⟩ : ∃ d : Nat, r (k - 1) = d := ⟨(r (k - 1)).toNat, by omega⟩
      rw [hc, hd]
      refine km_isNeighbour (by omega) (by omega) ⟨fun h6 => nx (decide_eq_true ⟨h1, Or.inr (Or.inr (Or.inr ?_))⟩), fun h6 => ef (decide_eq_false (fun z => ?_))⟩
      · rw [hc, hd]
        exact h6
      · rcases z.2 with z | z | z | z
        · omega
        · omega
        · exact h4 z
        · rw [hc, hd, Int.toNat_natCast, Int.toNat_natCast, h6] at z
          exact absurd z (by decide)
theorem am_b_r (b : Bool) : am_r (am_b b) := by cases b <;> exact ⟨by decide, by decide⟩
theorem sa_val (S : am_M) (j : Nat) (u x : Int) (q : Nat) (hx : am_r x) : ((am_sa S j u x).2 j q).toInt = if q = u.toNat then x else (S.2 j q).toInt := by
  show (va_up S.2 j (va_up (S.2 j) u.toNat (Int32.ofInt x)) j q).toInt = _
  rw [up_at, up_if]
  split
  · exact am_ti hx
  · rfl
theorem km_ways_177 {k : Nat} {P : Int → am_M → Prop} (h : mw_b S Z r w n m) (hk : k ≤ 144) (hc : ∀ q, q < k → (S.2 14 q).toInt = 0)
    (next : ∀ S', mw_b S' Z r w n m → mw_r S' r n m 0 → VX3_ways l (am_qi P) 232 [(0, am_R 0), (3, am_I n), (4, am_I m), (6, am_I w), (7, am_I 0)] [] S') :
    VX3_ways l (am_qi P) 177 [(0, am_R 0), (3, am_I n), (4, am_I m), (6, am_I w), (7, am_I k)] [] S := by
  have hn := h.2.2.1
  have hm := h.2.2.2.1
  have hw := h.2.2.2.2
  generalize hq : 144 - k = q
  induction q generalizing k S with
  | zero =>
    have i1 := mw_it h (p := 0) (q := (w : Int)) (by omega) (by omega)
    have i2 := mw_it h (p := n) (q := (w : Int) + n) (by omega) (by omega)
    have fin : ∀ b : Bool, b = decide (r 0 ≠ r n) → VX3_ways l (am_qi P) 232 [(0, am_R 0), (3, am_I n), (4, am_I m), (6, am_I w), (7, am_I 0)] [] (am_sa S 14 0 (am_b b)) := by
      intro b hb
      refine next (am_sa S 14 0 (am_b b)) h (fun c d hc1 hd1 => ?_)
      rw [sa_val _ _ _ _ _ (am_b_r b), z_R]
      by_cases e : 12 * c + d = 0
      · rw [if_pos (by simpa using e), hb]
        have e1 : c = 0 := by omega
        have e2 : d = 0 := by omega
        simp [e1, e2]
      · rw [if_neg (by simpa using e), hc _ (by omega), decide_eq_false (by omega)]
        rfl
    refine bX3_ways_177 _ (by first | exact am_rN (by omega) | exact ⟨by omega, by omega⟩ | assumption) _ (by first | exact am_rN (by omega) | exact ⟨by omega, by omega⟩ | assumption) _ (by first | exact am_rN (by omega) | exact ⟨by omega, by omega⟩ | assumption) _ (by first | exact am_rN (by omega) | exact ⟨by omega, by omega⟩ | assumption) ⟨fun _ => ⟨by omega, by omega, ?_⟩, fun z => absurd z (by omega)⟩
    rw [i1, i2]
    exact ⟨fun e => fin false (by simp [e]), fun e => fin true (by simp [e])⟩
  | succ q ih =>
    refine bX3_ways_177 _ (by first | exact am_rN (by omega) | exact ⟨by omega, by omega⟩ | assumption) _ (by first | exact am_rN (by omega) | exact ⟨by omega, by omega⟩ | assumption) _ (by first | exact am_rN (by omega) | exact ⟨by omega, by omega⟩ | assumption) _ (by first | exact am_rN (by omega) | exact ⟨by omega, by omega⟩ | assumption) ⟨fun z => absurd z (by omega), fun _ => ⟨by omega, ih (S := am_sa S 14 k (am_b false)) (k := k + 1) h (by omega) (fun p hp => ?_) (by omega)⟩⟩
    rw [sa_val _ _ _ _ _ (am_b_r false), Int.toNat_natCast]
    split
    · rfl
    · exact hc p (by omega)
theorem km_ways_265 {t k : Nat} {P : Int → am_M → Prop} (h : mw_b S Z r w n m) (hr : mw_r S r n m t) (ht : t < 150) (hk : k ≤ 144) (hc : ∀ q, q < k → (S.2 15 q).toInt = 0)
    (next : ∀ S', mw_b S' Z r w n m → mw_r S' r n m t → mw_n S' r n m t 0 → VX3_ways l (am_qi P) 290 [(0, am_R 0), (3, am_I n), (4, am_I m), (6, am_I w), (7, am_I t), (8, am_I 0)] [] S') :
    VX3_ways l (am_qi P) 265 [(0, am_R 0), (3, am_I n), (4, am_I m), (6, am_I w), (7, am_I t), (8, am_I k)] [] S := by
  have hn := h.2.2.1
  have hm := h.2.2.2.1
  have hw := h.2.2.2.2
  generalize hq : 144 - k = q
  induction q generalizing k S with
  | zero =>
    refine bX3_ways_265 _ (by first | exact am_rN (by omega) | exact ⟨by omega, by omega⟩ | assumption) _ (by first | exact am_rN (by omega) | exact ⟨by omega, by omega⟩ | assumption) _ (by first | exact am_rN (by omega) | exact ⟨by omega, by omega⟩ | assumption) _ (by first | exact am_rN (by omega) | exact ⟨by omega, by omega⟩ | assumption) _ (by first | exact am_rN (by omega) | exact ⟨by omega, by omega⟩ | assumption) ⟨fun _ => next S h hr (fun c d hc1 hd1 => ?_), fun z => absurd z (by omega)⟩
    rw [hc _ (by omega)]
    exact ⟨fun z => absurd rfl z, fun ⟨a, b, g, h1, h2, h3, h4, _⟩ => absurd h4 (Nat.not_lt_zero _)⟩
  | succ q ih =>
    refine bX3_ways_265 _ (by first | exact am_rN (by omega) | exact ⟨by omega, by omega⟩ | assumption) _ (by first | exact am_rN (by omega) | exact ⟨by omega, by omega⟩ | assumption) _ (by first | exact am_rN (by omega) | exact ⟨by omega, by omega⟩ | assumption) _ (by first | exact am_rN (by omega) | exact ⟨by omega, by omega⟩ | assumption) _ (by first | exact am_rN (by omega) | exact ⟨by omega, by omega⟩ | assumption) ⟨fun z => absurd z (by omega), fun _ => ⟨by omega, ih (S := am_sa S 15 k (am_b false)) (k := k + 1) h hr (by omega) (fun p hp => ?_) (by omega)⟩⟩
    rw [sa_val _ _ _ _ _ (am_b_r false), Int.toNat_natCast]
    split
    · rfl
    · exact hc p (by omega)
theorem km_ways_309 {t a b g : Nat} {P : Int → am_M → Prop} (h : mw_b S Z r w n m) (hr : mw_r S r n m t) (ht : t < 150) (ha : a < n) (hb : b < m) (hg : g ≤ 4) (hN : mw_n S r n m t (48 * a + 4 * b + g))
    (next : ∀ S', mw_b S' Z r w n m → mw_r S' r n m t → mw_n S' r n m t (48 * a + 4 * (b + 1)) → VX3_ways l (am_qi P) 299 [(0, am_R 0), (3, am_I n), (4, am_I m), (6, am_I w), (7, am_I t), (8, am_I a), (9, am_I ((b : Int) + 1))] [] S') :
    VX3_ways l (am_qi P) 309 [(0, am_R 0), (3, am_I n), (4, am_I m), (6, am_I w), (7, am_I t), (8, am_I a), (9, am_I b), (10, am_I g)] [] S := by
  have hn := h.2.2.1
  have hm := h.2.2.2.1
  have hw := h.2.2.2.2
  generalize hq : 4 - g = q
  induction q generalizing g S with
  | zero =>
    have e : g = 4 := by omega
    subst e
    refine bX3_ways_309 _ (by first | exact am_rN (by omega) | exact ⟨by omega, by omega⟩ | assumption) _ (by first | exact am_rN (by omega) | exact ⟨by omega, by omega⟩ | assumption) _ (by first | exact am_rN (by omega) | exact ⟨by omega, by omega⟩ | assumption) _ (by first | exact am_rN (by omega) | exact ⟨by omega, by omega⟩ | assumption) _ (by first | exact am_rN (by omega) | exact ⟨by omega, by omega⟩ | assumption) _ (by first | exact am_rN (by omega) | exact ⟨by omega, by omega⟩ | assumption) _ (by first | exact am_rN (by omega) | exact ⟨by omega, by omega⟩ | assumption) ⟨fun _ => next S h hr (by rw [show 48 * a + 4 * (b + 1) = 48 * a + 4 * b + 4 by omega]; exact hN), fun z => absurd z (by omega)⟩
  | succ q ih =>
    have nx : (∀ c d, c < n → d < m → ¬ (z_R r n t a b = true ∧ c = a + g % 2 ∧ d = b + g / 2 ∧ z_pass r n a b c d = true)) → VX3_ways l (am_qi P) 309 [(0, am_R 0), (3, am_I n), (4, am_I m), (6, am_I w), (7, am_I t), (8, am_I a), (9, am_I b), (10, am_I ((g : Int) + 1))] [] S := by
      intro hx
      refine ih (g := g + 1) h hr (by omega) (fun c d hc hd => ?_) (by omega)
      rw [z_W_step hm.2 ha hb (by omega), hN c d hc hd]
      exact ⟨Or.inl, fun z => z.elim id (fun z => absurd z (hx c d hc hd))⟩
    have yes : a + g % 2 < n → b + g / 2 < m → z_R r n t a b = true → z_pass r n a b (a + g % 2) (b + g / 2) = true → VX3_ways l (am_qi P) 309 [(0, am_R 0), (3, am_I n), (4, am_I m), (6, am_I w), (7, am_I t), (8, am_I a), (9, am_I b), (10, am_I ((g : Int) + 1))] [] (am_sa S 15 ((12 * ((a : Int) + ((g : Int) % 2))) + ((b : Int) + ((g : Int) / 2))) (am_b true)) := by
      intro y1 y2 y3 y4
      refine ih (g := g + 1) h hr (by omega) (fun c d hc hd => ?_) (by omega)
      rw [z_W_step hm.2 ha hb (by omega), ← hN c d hc hd, sa_val _ _ _ _ _ (am_b_r true)]
      by_cases e : c = a + g % 2 ∧ d = b + g / 2
      · rw [if_pos (by omega)]
        refine ⟨fun _ => Or.inr ⟨y3, e.1, e.2, ?_⟩, fun _ => by decide⟩
        rw [e.1, e.2]
        exact y4
      · rw [if_neg (by omega)]
        exact ⟨Or.inl, fun z => z.elim id (fun z => absurd ⟨z.2.1, z.2.2.1⟩ e)⟩
    have er : (S.2 14 (12 * (a : Int) + b).toNat).toInt = am_b (z_R r n t a b) := by
      rw [show (12 * (a : Int) + b).toNat = 12 * a + b by omega]
      exact hr a b ha hb
    refine bX3_ways_309 _ (by first | exact am_rN (by omega) | exact ⟨by omega, by omega⟩ | assumption) _ (by first | exact am_rN (by omega) | exact ⟨by omega, by omega⟩ | assumption) _ (by first | exact am_rN (by omega) | exact ⟨by omega, by omega⟩ | assumption) _ (by first | exact am_rN (by omega) | exact ⟨by omega, by omega⟩ | assumption) _ (by first | exact am_rN (by omega) | exact ⟨by omega, by omega⟩ | assumption) _ (by first | exact am_rN (by omega) | exact ⟨by omega, by omega⟩ | assumption) _ (by first | exact am_rN (by omega) | exact ⟨by omega, by omega⟩ | assumption) ⟨fun z => absurd z (by omega), fun _ => ⟨by omega, ?_⟩⟩
    rw [er]
    refine ⟨fun h0 => next S h hr (fun c d hc hd => ?_), fun h0 => ⟨by omega, ⟨by omega, by omega⟩, fun h1 => nx (fun c d hc hd z => by omega), fun h1 => ⟨⟨by omega, by omega⟩, fun h2 => nx (fun c d hc hd z => by omega), fun h2 => ⟨⟨by omega, by omega⟩, ⟨by omega, by omega⟩, ?_⟩⟩⟩⟩
    · rw [z_W_skip (g := g) hm.2 hb (by omega) ?_]
      · exact hN c d hc hd
      · cases q2 : z_R r n t a b with
        | false => rfl
        | true => rw [q2] at h0; exact absurd h0 (by decide)
    have hR : z_R r n t a b = true := by
      cases q2 : z_R r n t a b with
      | true => rfl
      | false => rw [q2] at h0; exact absurd rfl h0
    have i1 := mw_it h (p := a + g % 2) (q := (w : Int) + ((a : Int) + ((g : Int) % 2))) (by omega) (by omega)
    have i2 := mw_it h (p := n + (b + g / 2)) (q := (w : Int) + n + ((b : Int) + ((g : Int) / 2))) (by omega) (by omega)
    have i3 := mw_it h (p := n + b) (q := (w : Int) + n + b) (by omega) (by omega)
    have i4 := mw_it h (p := a) (q := (w : Int) + a) (by omega) (by omega)
    rw [i1, i2]
    refine ⟨fun h3 => nx (fun c d hc hd z => ?_), fun h3 => ⟨⟨by omega, by omega⟩, ?_⟩⟩
    · have hz := of_decide_eq_true z.2.2.2
      rw [z.2.1, z.2.2.1] at hz
      exact hz.1 h3
    rw [i3]
    refine ⟨fun h4 => ⟨by omega, yes (by omega) (by omega) hR (decide_eq_true ⟨h3, fun z => h4 z.1⟩)⟩, fun h4 => ⟨⟨by omega, by omega⟩, ?_⟩⟩
    rw [i4]
    refine ⟨fun h5 => nx (fun c d hc hd z => ?_), fun h5 => ⟨by omega, yes (by omega) (by omega) hR (decide_eq_true ⟨h3, fun z => h5 z.2⟩)⟩⟩
    have hz := of_decide_eq_true z.2.2.2
    rw [z.2.1, z.2.2.1] at hz
    exact hz.2 ⟨h4, h5⟩
theorem km_ways_299 {t a b : Nat} {P : Int → am_M → Prop} (h : mw_b S Z r w n m) (hr : mw_r S r n m t) (ht : t < 150) (ha : a < n) (hb : b ≤ m) (hN : mw_n S r n m t (48 * a + 4 * b))
    (next : ∀ S', mw_b S' Z r w n m → mw_r S' r n m t → mw_n S' r n m t (48 * (a + 1)) → VX3_ways l (am_qi P) 290 [(0, am_R 0), (3, am_I n), (4, am_I m), (6, am_I w), (7, am_I t), (8, am_I ((a : Int) + 1))] [] S') :
    VX3_ways l (am_qi P) 299 [(0, am_R 0), (3, am_I n), (4, am_I m), (6, am_I w), (7, am_I t), (8, am_I a), (9, am_I b)] [] S := by
  have hn := h.2.2.1
  have hm := h.2.2.2.1
  have hw := h.2.2.2.2
  generalize hq : m - b = q
  induction q generalizing b S with
  | zero =>
    have e : b = m := by omega
    subst e
    refine bX3_ways_299 _ (by first | exact am_rN (by omega) | exact ⟨by omega, by omega⟩ | assumption) _ (by first | exact am_rN (by omega) | exact ⟨by omega, by omega⟩ | assumption) _ (by first | exact am_rN (by omega) | exact ⟨by omega, by omega⟩ | assumption) _ (by first | exact am_rN (by omega) | exact ⟨by omega, by omega⟩ | assumption) _ (by first | exact am_rN (by omega) | exact ⟨by omega, by omega⟩ | assumption) _ (by first | exact am_rN (by omega) | exact ⟨by omega, by omega⟩ | assumption) ⟨fun _ => next S h hr (fun c d hc hd => ?_), fun z => absurd z (by omega)⟩
    rw [z_W_row hm.2]
    exact hN c d hc hd
  | succ q ih =>
    refine bX3_ways_299 _ (by first | exact am_rN (by omega) | exact ⟨by omega, by omega⟩ | assumption) _ (by first | exact am_rN (by omega) | exact ⟨by omega, by omega⟩ | assumption) _ (by first | exact am_rN (by omega) | exact ⟨by omega, by omega⟩ | assumption) _ (by first | exact am_rN (by omega) | exact ⟨by omega, by omega⟩ | assumption) _ (by first | exact am_rN (by omega) | exact ⟨by omega, by omega⟩ | assumption) _ (by first | exact am_rN (by omega) | exact ⟨by omega, by omega⟩ | assumption) ⟨fun z => absurd z (by omega), fun _ => km_ways_309 (g := 0) h hr ht ha (by omega) (by decide) hN (fun S' h' r' n' => ?_)⟩
    exact ih (b := b + 1) h' r' (by omega) n' (by omega)
theorem km_ways_290 {t a : Nat} {P : Int → am_M → Prop} (h : mw_b S Z r w n m) (hr : mw_r S r n m t) (ht : t < 150) (ha : a ≤ n) (hN : mw_n S r n m t (48 * a))
    (next : ∀ S', mw_b S' Z r w n m → mw_r S' r n m t → mw_n S' r n m t (48 * n) → VX3_ways l (am_qi P) 472 [(0, am_R 0), (3, am_I n), (4, am_I m), (6, am_I w), (7, am_I t), (8, am_I 0)] [] S') :
    VX3_ways l (am_qi P) 290 [(0, am_R 0), (3, am_I n), (4, am_I m), (6, am_I w), (7, am_I t), (8, am_I a)] [] S := by
  have hn := h.2.2.1
  have hm := h.2.2.2.1
  have hw := h.2.2.2.2
  generalize hq : n - a = q
  induction q generalizing a S with
  | zero =>
    have e : a = n := by omega
    subst e
    exact bX3_ways_290 _ (by first | exact am_rN (by omega) | exact ⟨by omega, by omega⟩ | assumption) _ (by first | exact am_rN (by omega) | exact ⟨by omega, by omega⟩ | assumption) _ (by first | exact am_rN (by omega) | exact ⟨by omega, by omega⟩ | assumption) _ (by first | exact am_rN (by omega) | exact ⟨by omega, by omega⟩ | assumption) _ (by first | exact am_rN (by omega) | exact ⟨by omega, by omega⟩ | assumption) ⟨fun _ => next S h hr hN, fun z => absurd z (by omega)⟩
  | succ q ih =>
    refine bX3_ways_290 _ (by first | exact am_rN (by omega) | exact ⟨by omega, by omega⟩ | assumption) _ (by first | exact am_rN (by omega) | exact ⟨by omega, by omega⟩ | assumption) _ (by first | exact am_rN (by omega) | exact ⟨by omega, by omega⟩ | assumption) _ (by first | exact am_rN (by omega) | exact ⟨by omega, by omega⟩ | assumption) _ (by first | exact am_rN (by omega) | exact ⟨by omega, by omega⟩ | assumption) ⟨fun z => absurd z (by omega), fun _ => km_ways_299 (b := 0) h hr ht (by omega) (Nat.zero_le _) hN (fun S' h' r' n' => ?_)⟩
    exact ih (a := a + 1) h' r' (by omega) n' (by omega)
theorem km_ways_472 {t k : Nat} {P : Int → am_M → Prop} (h : mw_b S Z r w n m) (ht : t < 150) (hk : k ≤ 144) (hN : mw_n S r n m t (48 * n)) (hr : ∀ a b, a < n → b < m → (S.2 14 (12 * a + b)).toInt = if 12 * a + b < k then am_b (z_R r n (t + 1) a b) else am_b (z_R r n t a b))
    (next : ∀ S', mw_b S' Z r w n m → mw_r S' r n m (t + 1) → VX3_ways l (am_qi P) 232 [(0, am_R 0), (3, am_I n), (4, am_I m), (6, am_I w), (7, am_I ((t : Int) + 1))] [] S') :
    VX3_ways l (am_qi P) 472 [(0, am_R 0), (3, am_I n), (4, am_I m), (6, am_I w), (7, am_I t), (8, am_I k)] [] S := by
  have hn := h.2.2.1
  have hm := h.2.2.2.1
  have hw := h.2.2.2.2
  generalize hq : 144 - k = q
  induction q generalizing k S with
  | zero =>
    refine bX3_ways_472 _ (by first | exact am_rN (by omega) | exact ⟨by omega, by omega⟩ | assumption) _ (by first | exact am_rN (by omega) | exact ⟨by omega, by omega⟩ | assumption) _ (by first | exact am_rN (by omega) | exact ⟨by omega, by omega⟩ | assumption) _ (by first | exact am_rN (by omega) | exact ⟨by omega, by omega⟩ | assumption) _ (by first | exact am_rN (by omega) | exact ⟨by omega, by omega⟩ | assumption) ⟨fun _ => next S h (fun a b ha hb => ?_), fun z => absurd z (by omega)⟩
    rw [hr a b ha hb, if_pos (by omega)]
  | succ q ih =>
    have nx : ∀ v : Bool, (∀ a b, a < n → b < m → 12 * a + b = k → v = z_R r n (t + 1) a b) → VX3_ways l (am_qi P) 472 [(0, am_R 0), (3, am_I n), (4, am_I m), (6, am_I w), (7, am_I t), (8, am_I ((k : Int) + 1))] [] (am_sa S 14 k (am_b v)) := by
      intro v hv
      refine ih (S := am_sa S 14 k (am_b v)) (k := k + 1) h (by omega) hN (fun a b ha hb => ?_) (by omega)
      rw [sa_val _ _ _ _ _ (am_b_r v), Int.toNat_natCast]
      by_cases e : 12 * a + b = k
      · rw [if_pos e, if_pos (by omega), hv a b ha hb e]
      · rw [if_neg e, hr a b ha hb]
        by_cases e2 : 12 * a + b < k
        · rw [if_pos e2, if_pos (by omega)]
        · rw [if_neg e2, if_neg (by omega)]
    refine bX3_ways_472 _ (by first | exact am_rN (by omega) | exact ⟨by omega, by omega⟩ | assumption) _ (by first | exact am_rN (by omega) | exact ⟨by omega, by omega⟩ | assumption) _ (by first | exact am_rN (by omega) | exact ⟨by omega, by omega⟩ | assumption) _ (by first | exact am_rN (by omega) | exact ⟨by omega, by omega⟩ | assumption) _ (by first | exact am_rN (by omega) | exact ⟨by omega, by omega⟩ | assumption) ⟨fun z => absurd z (by omega), fun _ => ⟨by omega, fun h1 => nx true (fun a b ha hb e => ?_), fun h1 => ⟨fun h2 => nx false (fun a b ha hb e => ?_), fun h2 => nx true (fun a b ha hb e => ?_)⟩⟩⟩
    all_goals
      have hv := hr a b ha hb
      rw [if_neg (by omega), e] at hv
      rw [Int.toNat_natCast] at h1
    · rw [hv] at h1
      refine ((z_W_all hm.2 ha hb).mpr (Or.inl ?_)).symm
      cases q2 : z_R r n t a b with
      | true => rfl
      | false => rw [q2] at h1; exact absurd rfl h1
    · rw [Int.toNat_natCast] at h2
      rw [hv] at h1
      cases q3 : z_R r n (t + 1) a b with
      | false => rfl
      | true =>
        rcases (z_W_all hm.2 ha hb).mp q3 with q4 | q4
        · rw [q4] at h1
          exact absurd h1 (by decide)
        · have := (hN a b ha hb).mpr q4
          rw [e] at this
          exact absurd h2 this
    · rw [Int.toNat_natCast] at h2
      refine ((z_W_all hm.2 ha hb).mpr (Or.inr ((hN a b ha hb).mp ?_))).symm
      rw [e]
      exact h2
theorem km_ways_232 {t : Nat} {P : Int → am_M → Prop} (h : mw_b S Z r w n m) (ht : t ≤ 150) (hr : mw_r S r n m t) (hno : ∀ u, u < t → z_R r n u (n - 1) (m - 1) = false) (hP : ∀ S', mr S' Z → P (z_ways r n m) S') :
    VX3_ways l (am_qi P) 232 [(0, am_R 0), (3, am_I n), (4, am_I m), (6, am_I w), (7, am_I t)] [] S := by
  have hn := h.2.2.1
  have hm := h.2.2.2.1
  have hw := h.2.2.2.2
  generalize hq : 150 - t = q
  unfold z_ways at hP
  induction q generalizing t S with
  | zero =>
    have e : t = 150 := by omega
    subst e
    refine bX3_ways_232 _ (by first | exact am_rN (by omega) | exact ⟨by omega, by omega⟩ | assumption) _ (by first | exact am_rN (by omega) | exact ⟨by omega, by omega⟩ | assumption) _ (by first | exact am_rN (by omega) | exact ⟨by omega, by omega⟩ | assumption) _ (by first | exact am_rN (by omega) | exact ⟨by omega, by omega⟩ | assumption) ⟨fun _ => ?_, fun z => absurd z (by omega)⟩
    have hP := hP _ h.1
    rw [sp_find_none hno] at hP
    exact am_qi_mk ⟨by decide, by decide⟩ hP
  | succ q ih =>
    have er : (S.2 14 ((12 * ((n : Int) - 1) + m) - 1).toNat).toInt = am_b (z_R r n t (n - 1) (m - 1)) := by
      rw [show ((12 * ((n : Int) - 1) + m) - 1).toNat = 12 * (n - 1) + (m - 1) by omega]
      exact hr (n - 1) (m - 1) (by omega) (by omega)
    refine bX3_ways_232 _ (by first | exact am_rN (by omega) | exact ⟨by omega, by omega⟩ | assumption) _ (by first | exact am_rN (by omega) | exact ⟨by omega, by omega⟩ | assumption) _ (by first | exact am_rN (by omega) | exact ⟨by omega, by omega⟩ | assumption) _ (by first | exact am_rN (by omega) | exact ⟨by omega, by omega⟩ | assumption) ⟨fun z => absurd z (by omega), fun _ => ⟨by omega, ?_⟩⟩
    rw [er]
    refine ⟨fun hz1 => km_ways_265 (k := 0) h hr (by omega) (by decide) (fun _ z => absurd z (Nat.not_lt_zero _)) (fun S1 h1 r1 n1 => km_ways_290 (a := 0) h1 r1 (by omega) (Nat.zero_le _) n1 (fun S2 h2 r2 n2 => km_ways_472 (k := 0) h2 (by omega) (by decide) n2 (fun a b ha hb => ?_) (fun S3 h3 r3 => ?_))), fun h1 => ?_⟩
    · rw [if_neg (Nat.not_lt_zero _)]
      exact r2 a b ha hb
    · refine ih (t := t + 1) h3 (by omega) r3 (fun u hu => ?_) (by omega)
      by_cases e : u = t
      · rw [e]
        cases q2 : z_R r n t (n - 1) (m - 1) with
        | false => rfl
        | true => rw [q2] at hz1; exact absurd hz1 (by decide)
      · exact hno u (by omega)
    · have e : z_R r n t (n - 1) (m - 1) = true := by
        cases q2 : z_R r n t (n - 1) (m - 1) with
        | true => rfl
        | false => rw [q2] at h1; exact absurd rfl h1
      have hP := hP _ h.1
      rw [sp_find_some (k := t) (by omega) e hno] at hP
      exact am_qi_mk (am_rN (by omega)) hP
theorem km_ways {a i n m : Int} {P : Int → am_M → Prop} (h : mr S Z) (ha : am_r a) (hi : am_r i) (hn : am_r n) (hm : am_r m) (hP : ∀ S', mr S' (zo_ways Z a i n m).2 → P (zo_ways Z a i n m).1 S') : kX3_ways l [am_R 0, am_I a, am_I i, am_I n, am_I m] S (am_qi P) := by
  unfold zo_ways at hP
  have bad : ¬ ((0 ≤ a ∧ a ≤ 7) ∧ (1 ≤ n ∧ n ≤ 12) ∧ 1 ≤ m ∧ m ≤ 12) → am_qi P (some (am_I (-1000001))) (am_sv S 0 0) := by
    intro hx
    rw [if_neg hx] at hP
    exact am_qi_mk ⟨by decide, by decide⟩ (hP _ h.th)
  refine bX3_ways _ (by first | exact am_rN (by omega) | exact ⟨by omega, by omega⟩ | assumption) _ (by first | exact am_rN (by omega) | exact ⟨by omega, by omega⟩ | assumption) _ (by first | exact am_rN (by omega) | exact ⟨by omega, by omega⟩ | assumption) _ (by first | exact am_rN (by omega) | exact ⟨by omega, by omega⟩ | assumption) (km_isSheet ha ⟨fun h1 => bad (fun z => of_decide_eq_false h1 z.1), fun h1 => km_in ⟨fun h2 => bad (fun z => of_decide_eq_false h2 z.2.1), fun h2 => km_in ⟨fun h3 => ?_, fun h3 => bad (fun z => of_decide_eq_false h3 z.2.2)⟩⟩⟩)
  have h1 := of_decide_eq_true h1
  have h2 := of_decide_eq_true h2
  have h3 := of_decide_eq_true h3
  rw [if_pos ⟨h1, h2, h3⟩] at hP
  obtain ⟨a, rfl⟩ : ∃ q : Nat, a = q := ⟨a.toNat, by omega⟩
  obtain ⟨n, rfl⟩ : ∃ q : Nat, n = q := ⟨n.toNat, by omega⟩
  obtain ⟨m, rfl⟩ : ∃ q : Nat, m = q := ⟨m.toNat, by omega⟩
  simp only [Int.toNat_natCast] at hP
  refine km_look h.th (by omega) hi ⟨by omega, by omega⟩ (fun h4 => ⟨fun _ => ?_, fun z => absurd (show (0 : Int) ≤ 0 by decide) z⟩) (fun S' h4 m' => ⟨fun z => absurd z ?_, fun _ => ?_⟩)
  · rw [if_pos h4] at hP
    obtain ⟨x, hx, x1, x2⟩ := z_look_ok h4
    obtain ⟨a3, a4, a5, a6, a7⟩ := (h.th.lane (i := a) (by omega)).2 x hx
    obtain ⟨i, rfl⟩ : ∃ q : Nat, i = q := ⟨i.toNat, by omega⟩
    have ei : z_items Z a = x.2.2 := by unfold z_items; rw [hx]
    rw [ei, Int.toNat_natCast] at hP
    have hb : mw_b (am_sv S 0 0) Z (fun p => x.2.2 (i + p)) (40 * a + i) n m := by
      refine ⟨h.th, fun p hp => ?_, by omega, by omega, by omega⟩
      rw [show 40 * a + i + p = 40 * a + (i + p) by omega]
      exact a7 _ (by omega)
    rw [show (40 * (a : Int) + i) = ((40 * a + i : Nat) : Int) by omega]
    refine km_ways_71 (k := 0) hb (Nat.zero_le _) (fun _ z => absurd z (Nat.not_lt_zero _)) (fun q => ?_) (fun q => ?_)
    · rw [q, if_neg (by decide)] at hP
      exact hP _ h.th
    · rw [q, if_pos rfl] at hP
      have hb' : mw_b (am_sv (am_sv S 0 0) 1 0) (z_St Z 0) (fun p => x.2.2 (i + p)) (40 * a + i) n m := ⟨h.th.stat (k := 0) (by decide), hb.2⟩
      exact km_ways_177 (k := 0) hb' (by decide) (fun _ z => absurd z (Nat.not_lt_zero _)) (fun S1 h1 r1 => km_ways_232 (t := 0) h1 (by decide) r1 (fun _ z => absurd z (Nat.not_lt_zero _)) hP)
  · show ¬ (0 : Int) ≤ -1000010 - (z_look Z a i ((n : Int) + m) : Int)
    omega
  · rw [if_neg h4] at hP
    exact am_qi_mk (z_bad_r z_look_5) (hP _ m')
end KM14
