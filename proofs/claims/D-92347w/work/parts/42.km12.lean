def z_bad (Z : sp_Z) (k : Nat) : Int × sp_Z := (-1000010 - (k : Int), z_St Z k)
def zo_sheet (Z : sp_Z) (a ln n : Int) : Int × sp_Z := if (0 ≤ a ∧ a ≤ 7) ∧ (0 ≤ ln ∧ ln ≤ 2) ∧ n ≤ 40 then if n < 0 then z_bad Z 4 else (n, z_St (z_E Z (va_up (zSh Z) a.toNat (some (ln.toNat, n.toNat, fun _ => 0)))) 0) else (-1000001, Z)
def sp_cut (ln : Nat) (v : Int) : Int := if ln = 0 then am_i2b v else if ln = 1 then am_i2s v else v
def zo_set (Z : sp_Z) (a i v : Int) : Int × sp_Z := if 0 ≤ a ∧ a ≤ 7 then match zSh Z a.toNat with
  | none => z_bad Z 1
  | some x => if 0 ≤ i ∧ i < x.2.1 then (sp_cut x.1 v, z_St (z_E Z (va_up (zSh Z) a.toNat (some (x.1, x.2.1, va_up x.2.2 i.toNat (sp_cut x.1 v))))) 0) else z_bad Z 2
  else (-1000001, Z)
def zo_copy (Z : sp_Z) (a i b j n : Int) : Int × sp_Z := if (0 ≤ a ∧ a ≤ 7) ∧ 0 ≤ b ∧ b ≤ 7 then match zSh Z a.toNat with
  | none => z_bad Z 1
  | some x => match zSh Z b.toNat with
    | none => z_bad Z 1
    | some y => if x.1 = y.1 then if 0 ≤ i ∧ 0 ≤ j ∧ 0 ≤ n ∧ i + n ≤ x.2.1 ∧ j + n ≤ y.2.1 then (n, z_St (z_E Z (va_up (zSh Z) b.toNat (some (y.1, y.2.1, fun p => if j ≤ p ∧ (p : Int) < j + n then x.2.2 (i + p - j).toNat else y.2.2 p)))) 0) else z_bad Z 2 else z_bad Z 5
  else (-1000001, Z)
def zo_drop (Z : sp_Z) (a : Int) : Int × sp_Z := if 0 ≤ a ∧ a ≤ 7 then match zSh Z a.toNat with
  | none => z_bad Z 1
  | some x => ((x.2.1 : Int), z_St (z_E Z (va_up (zSh Z) a.toNat none)) 0)
  else (-1000001, Z)
/-- 0: so many items are there; else what is found -/
def z_look (Z : sp_Z) (a : Nat) (i n : Int) : Nat := match zSh Z a with
  | none => 1
  | some x => if 0 ≤ i ∧ i + n ≤ x.2.1 then 0 else 2
def z_items (Z : sp_Z) (a : Nat) : Nat → Int := match zSh Z a with
  | none => fun _ => 0
  | some x => x.2.2
def z_lsn (f : Nat → Int) (i n : Nat) : Nat → sp_Z → Int → Int × sp_Z
  | 0, Z, c => (c, Z)
  | m + 1, Z, c => z_lsn f i n m (zo_teach Z (f (i + 4 * (n - (m + 1)))) (f (i + 4 * (n - (m + 1)) + 1)) (f (i + 4 * (n - (m + 1)) + 2)) (f (i + 4 * (n - (m + 1)) + 3))).2 (if 0 ≤ (zo_teach Z (f (i + 4 * (n - (m + 1)))) (f (i + 4 * (n - (m + 1)) + 1)) (f (i + 4 * (n - (m + 1)) + 2)) (f (i + 4 * (n - (m + 1)) + 3))).1 then c + 1 else c)
def zo_lessons (Z : sp_Z) (a i n : Int) : Int × sp_Z := if (0 ≤ a ∧ a ≤ 7) ∧ 1 ≤ n ∧ n ≤ 4 then if z_look Z a.toNat i (4 * n) = 0 then z_lsn (z_items Z a.toNat) i.toNat n.toNat n.toNat (z_St Z 0) 0 else z_bad Z (z_look Z a.toNat i (4 * n)) else (-1000001, Z)
section KM12
variable {l : Launch} {S : am_M} {Z : sp_Z}
theorem mr.stat (h : mr S Z) {k : Nat} (hk : k ≤ 5) : mr (am_sv S 1 k) (z_St Z k) := by
  obtain ⟨z, a, b, c, d, e, f, g, j, y⟩ := h
  refine ⟨⟨z.1, z.2.1, z.2.2.1, z.2.2.2.1, z.2.2.2.2.1, z.2.2.2.2.2.1, z.2.2.2.2.2.2.1, ⟨z.2.2.2.2.2.2.2.1.1, hk⟩, z.2.2.2.2.2.2.2.2⟩, a, b, c, d, e, f, g, ⟨j.1, ?_⟩, y⟩
  show (va_up S.1 1 (Int32.ofInt (k : Int)) 1).toInt = (k : Int)
  rw [up_at]
  exact am_ti (am_rN (by omega))
theorem z_St_St (Z : sp_Z) (j k : Nat) : z_St (z_St Z j) k = z_St Z k := rfl
theorem km_finding {k : Nat} {P : Int → am_M → Prop} (h : mr S Z) (hk : k ≤ 5) (hP : ∀ S', mr S' (z_bad Z k).2 → P (z_bad Z k).1 S') : kX3_finding l [am_R 0, am_I k] S (am_qi P) :=
  bX3_finding _ (by first | exact am_rN (by omega) | exact ⟨by omega, by omega⟩ | assumption) (am_qi_mk ⟨by omega, by omega⟩ (hP _ (h.stat hk)))
theorem km_finding' {k : Nat} {P : Int → am_M → Prop} (h : mr S (z_St Z 0)) (hk : k ≤ 5) (hP : ∀ S', mr S' (z_bad Z k).2 → am_qi P (some (am_I (z_bad Z k).1)) S') : kX3_finding l [am_R 0, am_I k] S (am_qi fun r S' => am_qi P (some (am_I r)) S') :=
  km_finding h hk hP
theorem z_bad_r {Z : sp_Z} {k : Nat} (hk : k ≤ 5) : am_r (z_bad Z k).1 := by
  show am_r (-1000010 - (k : Int))
  exact ⟨by omega, by omega⟩
theorem mr.lane (h : mr S Z) {i : Nat} (hi : i < 8) : (zSh Z i = none → (S.2 9 i).toInt = -1) ∧ ∀ x, zSh Z i = some x → (S.2 9 i).toInt = x.1 ∧ (S.2 10 i).toInt = x.2.1 ∧ x.1 < 3 ∧ x.2.1 ≤ 40 ∧ ∀ j, j < x.2.1 → (S.2 11 (40 * i + j)).toInt = x.2.2 j :=
  ⟨(h.2.2.2.2.2.1 i hi).1, fun x hx => ⟨((h.2.2.2.2.2.1 i hi).2 x hx).1, ((h.2.2.2.2.2.1 i hi).2 x hx).2.1, (h.1.2.2.2.2.1 i hi x hx).1, (h.1.2.2.2.2.1 i hi x hx).2, ((h.2.2.2.2.2.1 i hi).2 x hx).2.2⟩⟩
theorem mr.sheets {S' : am_M} {E : Nat → Option (Nat × Nat × (Nat → Int))} (h : mr S Z) (e1 : S'.1 = S.1) (e2 : ∀ j, j ≠ 9 → j ≠ 10 → j ≠ 11 → S'.2 j = S.2 j) (hE : ∀ i, i < 8 → ∀ x, E i = some x → x.1 < 3 ∧ x.2.1 ≤ 40) (hr : mrE (S'.2 9) (S'.2 10) (S'.2 11) (z_E Z E)) : mr S' (z_E Z E) := by
  obtain ⟨z, a, b, c, d, e, f, g, j, y⟩ := h
  obtain ⟨S1, S2⟩ := S'
  have e1 : S1 = S.1 := e1
  subst e1
  have e2 : ∀ j, j ≠ 9 → j ≠ 10 → j ≠ 11 → S2 j = S.2 j := e2
  have f0 : S2 0 = S.2 0 := e2 0 (by decide) (by decide) (by decide)
  have ft : ∀ t T, mt_r S t T → mt_r (S.1, S2) t T := by
    intro t T hT
    have em : ∀ i, md (S.1, S2) i = md S i := by
      intro i
      show (S2 0 i).toInt = (S.2 0 i).toInt
      rw [f0]
    exact ⟨fun c hc => ⟨(em _).trans (hT.1 c hc).1, fun i hi => (em _).trans ((hT.1 c hc).2 i hi)⟩, fun k hk => (em _).trans (hT.2 k hk)⟩
  refine ⟨⟨z.1, z.2.1, z.2.2.1, z.2.2.2.1, hE, z.2.2.2.2.2⟩, ?_, ⟨b.1, ft _ _ b.2.1, fun i hi => ft _ _ (b.2.2 i hi)⟩, ?_, ?_, hr, ?_, ?_, j, ?_⟩
  · show mrA (S.1 2) (S2 1) (S2 2) Z
    rw [e2 1 (by decide) (by decide) (by decide), e2 2 (by decide) (by decide) (by decide)]
    exact a
  · show mrC (S2 3) Z
    rw [e2 3 (by decide) (by decide) (by decide)]
    exact c
  · show mrD (S.1 4) (S2 4) (S2 5) (S2 6) (S2 7) (S2 8) Z
    rw [e2 4 (by decide) (by decide) (by decide), e2 5 (by decide) (by decide) (by decide), e2 6 (by decide) (by decide) (by decide), e2 7 (by decide) (by decide) (by decide), e2 8 (by decide) (by decide) (by decide)]
    exact d
  · show mrF (S.1 5) (S2 12) Z
    rw [e2 12 (by decide) (by decide) (by decide)]
    exact f
  · show mrG (S.1 7) (S2 13) Z
    rw [e2 13 (by decide) (by decide) (by decide)]
    exact g
  · show mrY (S.1 16) (S2 16) Z
    rw [e2 16 (by decide) (by decide) (by decide)]
    exact y
theorem km_sheet_65 {a n k : Nat} {S0 : am_M} {P : Int → am_M → Prop} (ha : a < 8) (hn : n ≤ 40) (hk : k ≤ 40) (e1 : S.1 = S0.1) (e2 : ∀ j, j ≠ 11 → S.2 j = S0.2 j) (e3 : ∀ i, i < 40 * a ∨ 40 * a + 40 ≤ i → S.2 11 i = S0.2 11 i) (e4 : ∀ j, j < k → S.2 11 (40 * a + j) = 0)
    (hP : ∀ S', S'.1 = S0.1 → (∀ j, j ≠ 11 → S'.2 j = S0.2 j) → (∀ i, i < 40 * a ∨ 40 * a + 40 ≤ i → S'.2 11 i = S0.2 11 i) → (∀ j, j < 40 → S'.2 11 (40 * a + j) = 0) → P (n : Int) S') :
    VX3_sheet l (am_qi P) 65 [(0, am_R 0), (1, am_I a), (3, am_I n), (4, am_I k)] [] S := by
  generalize hm : 40 - k = q
  induction q generalizing k S with
  | zero =>
    exact bX3_sheet_65 _ (by first | exact am_rN (by omega) | exact ⟨by omega, by omega⟩ | assumption) _ (by first | exact am_rN (by omega) | exact ⟨by omega, by omega⟩ | assumption) _ (by first | exact am_rN (by omega) | exact ⟨by omega, by omega⟩ | assumption) ⟨fun _ => am_qi_mk (am_rN (by omega)) (hP S e1 e2 e3 (fun j hj => e4 j (by omega))), fun z => absurd z (by omega)⟩
  | succ q ih =>
    refine bX3_sheet_65 _ (by first | exact am_rN (by omega) | exact ⟨by omega, by omega⟩ | assumption) _ (by first | exact am_rN (by omega) | exact ⟨by omega, by omega⟩ | assumption) _ (by first | exact am_rN (by omega) | exact ⟨by omega, by omega⟩ | assumption) ⟨fun z => absurd z (by omega), fun _ => ⟨⟨by omega, by omega⟩, ih (k := k + 1) (by omega) e1 (fun j hj => ?_) (fun i hi => ?_) (fun j hj => ?_) (by omega)⟩⟩
    · show va_up S.2 11 _ j = _
      rw [up_ne _ _ hj]
      exact e2 j hj
    · show va_up S.2 11 (va_up (S.2 11) _ _) 11 i = _
      rw [up_at, up_ne _ _ (by omega)]
      exact e3 i hi
    · show va_up S.2 11 (va_up (S.2 11) _ _) 11 _ = _
      rw [up_at, up_if]
      split
      · rfl
      · exact e4 j (by omega)
theorem km_sheet {a ln n : Int} {P : Int → am_M → Prop} (h : mr S Z) (ha : am_r a) (hl : am_r ln) (hn : am_r n) (hP : ∀ S', mr S' (zo_sheet Z a ln n).2 → P (zo_sheet Z a ln n).1 S') : kX3_sheet l [am_R 0, am_I a, am_I ln, am_I n] S (am_qi P) := by
  unfold zo_sheet at hP
  have bad : ¬ ((0 ≤ a ∧ a ≤ 7) ∧ (0 ≤ ln ∧ ln ≤ 2) ∧ n ≤ 40) → am_qi P (some (am_I (-1000001))) (am_sv S 0 0) := by
    intro hx
    rw [if_neg hx] at hP
    exact am_qi_mk ⟨by decide, by decide⟩ (hP _ h.th)
  refine bX3_sheet _ (by first | exact am_rN (by omega) | exact ⟨by omega, by omega⟩ | assumption) _ (by first | exact am_rN (by omega) | exact ⟨by omega, by omega⟩ | assumption) _ (by first | exact am_rN (by omega) | exact ⟨by omega, by omega⟩ | assumption) (km_isSheet ha ⟨fun h1 => bad (fun z => of_decide_eq_false h1 z.1), fun h1 => km_in ⟨fun h2 => bad (fun z => of_decide_eq_false h2 z.2.1), fun h2 => ⟨fun h3 => ⟨fun h4 => ⟨?_, ?_⟩, fun h4 => ?_⟩, fun h3 => bad (fun z => h3 z.2.2)⟩⟩⟩)
  · have h1 := of_decide_eq_true h1
    omega
  · have h1 := of_decide_eq_true h1
    have h2 := of_decide_eq_true h2
    rw [if_pos ⟨h1, h2, h3⟩, if_neg (by omega)] at hP
    obtain ⟨a, rfl⟩ : ∃ q : Nat, a = q := ⟨a.toNat, by omega⟩
    obtain ⟨ln, rfl⟩ : ∃ q : Nat, ln = q := ⟨ln.toNat, by omega⟩
    obtain ⟨n, rfl⟩ : ∃ q : Nat, n = q := ⟨n.toNat, by omega⟩
    simp only [Int.toNat_natCast] at hP
    have hs : mr (am_sv (am_sv S 0 0) 1 0) (z_St Z 0) := h.th.stat (k := 0) (by decide)
    refine km_sheet_65 (k := 0) (S0 := am_sa (am_sa (am_sv (am_sv S 0 0) 1 0) 9 a ln) 10 a n) (by omega) (by omega) (by decide) rfl (fun _ _ => rfl) (fun _ _ => rfl) (fun _ z => absurd z (Nat.not_lt_zero _)) (fun S' q1 q2 q3 q4 => hP S' ?_)
    have q9 : S'.2 9 = va_up (S.2 9) a (Int32.ofInt (ln : Int)) := q2 9 (by decide)
    have q10 : S'.2 10 = va_up (S.2 10) a (Int32.ofInt (n : Int)) := q2 10 (by decide)
    refine hs.sheets (Z := z_St Z 0) (E := va_up (zSh Z) a (some (ln, n, fun _ => 0))) q1 (fun j j9 j10 j11 => ?_) (fun i hi x hx => ?_) (fun i hi => ?_)
    · rw [q2 j j11]
      show va_up (va_up S.2 9 _) 10 _ j = S.2 j
      rw [up_ne _ _ j10, up_ne _ _ j9]
    · rw [up_if] at hx
      split at hx
      · cases hx
        exact ⟨show ln < 3 by omega, show n ≤ 40 by omega⟩
      · exact h.1.2.2.2.2.1 i hi x hx
    · show (va_up (zSh Z) a (some (ln, n, fun _ => 0)) i = none → _) ∧ ∀ x, va_up (zSh Z) a (some (ln, n, fun _ => 0)) i = some x → _
      rw [q9, q10, up_if, up_if, up_if]
      by_cases e : i = a
      · simp only [e, if_true]
        refine ⟨fun z => by simp at z, fun x hx => ?_⟩
        cases hx
        refine ⟨am_ti (am_rN (by omega)), am_ti (am_rN (by omega)), fun j hj => ?_⟩
        have hj : j < n := hj
        rw [q4 j (by omega)]
        rfl
      · simp only [e, if_false]
        obtain ⟨g1, g2⟩ := h.lane hi
        refine ⟨g1, fun x hx => ?_⟩
        obtain ⟨g3, g4, g5, g6, g7⟩ := g2 x hx
        refine ⟨g3, g4, fun j hj => ?_⟩
        rw [q3 _ (by omega)]
        exact g7 j hj
  · have h1 := of_decide_eq_true h1
    have h2 := of_decide_eq_true h2
    rw [if_pos ⟨h1, h2, h3⟩, if_pos (by omega)] at hP
    exact km_finding' (Z := Z) (k := 4) (h.th.stat (k := 0) (by decide)) (by decide) (fun S' m' => am_qi_mk (z_bad_r (by decide)) (hP S' m'))
theorem mr.setE {a : Nat} {x : Nat × Nat × (Nat → Int)} {v : Int} {i : Nat} (h : mr S Z) (ha : a < 8) (hx : zSh Z a = some x) (hi : i < x.2.1) (hv : am_r v) : mr (am_sa S 11 (40 * (a : Int) + i) v) (z_E Z (va_up (zSh Z) a (some (x.1, x.2.1, va_up x.2.2 i v)))) := by
  obtain ⟨g3, g4, g5, g6, g7⟩ := (h.lane ha).2 x hx
  refine h.sheets rfl (fun j j9 j10 j11 => up_ne _ _ j11) (fun k hk y hy => ?_) (fun k hk => ?_)
  · rw [up_if] at hy
    split at hy
    · cases hy
      exact ⟨g5, g6⟩
    · exact h.1.2.2.2.2.1 k hk y hy
  · show (va_up (zSh Z) a _ k = none → (S.2 9 k).toInt = -1) ∧ ∀ y, va_up (zSh Z) a _ k = some y → (S.2 9 k).toInt = y.1 ∧ (S.2 10 k).toInt = y.2.1 ∧ ∀ j, j < y.2.1 → (va_up (S.2 11) (40 * (a : Int) + i).toNat (Int32.ofInt v) (40 * k + j)).toInt = y.2.2 j
    rw [show (40 * (a : Int) + i).toNat = 40 * a + i by omega, up_if]
    by_cases e : k = a
    · simp only [e, if_true]
      refine ⟨fun z => by simp at z, fun y hy => ?_⟩
      cases hy
      refine ⟨g3, g4, fun j hj => ?_⟩
      show (va_up (S.2 11) (40 * a + i) (Int32.ofInt v) (40 * a + j)).toInt = va_up x.2.2 i v j
      rw [up_if, up_if]
      by_cases ej : j = i
      · rw [if_pos (by omega), if_pos ej]
        exact am_ti hv
      · rw [if_neg (by omega), if_neg ej]
        exact g7 j hj
    · simp only [e, if_false]
      obtain ⟨k1, k2⟩ := h.lane hk
      refine ⟨k1, fun y hy => ?_⟩
      obtain ⟨k3, k4, k5, k6, k7⟩ := k2 y hy
      refine ⟨k3, k4, fun j hj => ?_⟩
      rw [up_ne _ _ (by omega)]
      exact k7 j hj
theorem am_i2b_r (v : Int) : am_r (am_i2b v) := am_rt _
theorem am_i2s_r (v : Int) : am_r (am_i2s v) := am_rt _
theorem km_set {a i v : Int} {P : Int → am_M → Prop} (h : mr S Z) (ha : am_r a) (hi : am_r i) (hv : am_r v) (hP : ∀ S', mr S' (zo_set Z a i v).2 → P (zo_set Z a i v).1 S') : kX3_set l [am_R 0, am_I a, am_I i, am_I v] S (am_qi P) := by
  unfold zo_set at hP
  have h0 : mr (am_sv (am_sv S 0 0) 1 0) (z_St Z 0) := h.th.stat (k := 0) (by decide)
  refine bX3_set _ (by first | exact am_rN (by omega) | exact ⟨by omega, by omega⟩ | assumption) _ (by first | exact am_rN (by omega) | exact ⟨by omega, by omega⟩ | assumption) _ (by first | exact am_rN (by omega) | exact ⟨by omega, by omega⟩ | assumption) (km_isSheet ha ⟨fun h1 => ⟨?_, ?_⟩, fun h1 => ?_⟩)
  · have h1 := of_decide_eq_true h1
    omega
  · have h1 := of_decide_eq_true h1
    rw [if_pos h1] at hP
    obtain ⟨a, rfl⟩ : ∃ q : Nat, a = q := ⟨a.toNat, by omega⟩
    rw [Int.toNat_natCast] at hP
    obtain ⟨g1, g2⟩ := h.th.lane (i := a) (by omega)
    rw [Int.toNat_natCast]
    cases hx : zSh Z a with
    | none =>
      rw [hx] at hP
      have g1 := g1 hx
      exact ⟨fun z => absurd z (by omega), fun _ => km_finding' (Z := Z) (k := 1) h0 (by decide) (fun S' m' => am_qi_mk (z_bad_r (by decide)) (hP S' m'))⟩
    | some x =>
      rw [hx] at hP
      obtain ⟨g3, g4, g5, g6, g7⟩ := g2 x hx
      refine ⟨fun _ => ⟨by rw [g4]; exact ⟨by omega, by omega⟩, km_in ⟨fun h2 => ?_, fun h2 => ?_⟩ (hh := by rw [g4]; exact ⟨by omega, by omega⟩)⟩, fun z => absurd z (by omega)⟩
      · have h2 := of_decide_eq_true h2
        rw [g4] at h2
        have hP : ∀ S', mr S' (if 0 ≤ i ∧ i < x.2.1 then (sp_cut x.1 v, z_St (z_E Z (va_up (zSh Z) a (some (x.1, x.2.1, va_up x.2.2 i.toNat (sp_cut x.1 v))))) 0) else z_bad Z 2).2 → P (if 0 ≤ i ∧ i < x.2.1 then (sp_cut x.1 v, z_St (z_E Z (va_up (zSh Z) a (some (x.1, x.2.1, va_up x.2.2 i.toNat (sp_cut x.1 v))))) 0) else z_bad Z 2).1 S' := hP
        rw [if_pos (by omega)] at hP
        obtain ⟨i, rfl⟩ : ∃ q : Nat, i = q := ⟨i.toNat, by omega⟩
        rw [Int.toNat_natCast] at hP
        have key : ∀ c, c = sp_cut x.1 v → am_r c → (0 ≤ 40 * (a : Int) + i ∧ 40 * (a : Int) + i < 320) ∧ am_qi P (some (am_I ((am_sa (am_sv (am_sv S 0 0) 1 0) 11 (40 * (a : Int) + i) c).2 11 (40 * (a : Int) + i).toNat).toInt)) (am_sa (am_sv (am_sv S 0 0) 1 0) 11 (40 * (a : Int) + i) c) := by
          intro c hc hcr
          refine ⟨⟨by omega, by omega⟩, ?_⟩
          have e : ((am_sa (am_sv (am_sv S 0 0) 1 0) 11 (40 * (a : Int) + i) c).2 11 (40 * (a : Int) + i).toNat).toInt = c := by
            show (va_up S.2 11 (va_up (S.2 11) (40 * (a : Int) + i).toNat (Int32.ofInt c)) 11 (40 * (a : Int) + i).toNat).toInt = c
            rw [up_at, up_at]
            exact am_ti hcr
          rw [e]
          rw [← hc] at hP
          exact am_qi_mk hcr (hP _ (h0.setE (by omega) hx (by omega) hcr))
        show ((¬ (S.2 9 a).toInt = 0) → _) ∧ _
        have g3 : (S.2 9 a).toInt = x.1 := g3
        refine ⟨fun e0 => ⟨fun e1 => key v ?_ hv, fun e1 => key _ ?_ (am_i2s_r v)⟩, fun e0 => key _ ?_ (am_i2b_r v)⟩
        · unfold sp_cut
          rw [if_neg (by omega), if_neg]
          have e1 : ¬ (S.2 9 a).toInt = 1 := e1
          omega
        · have e1 : (S.2 9 a).toInt = 1 := e1
          unfold sp_cut
          rw [if_neg (by omega), if_pos (by omega)]
        · have e0 : (S.2 9 a).toInt = 0 := e0
          unfold sp_cut
          rw [if_pos (by omega)]
      · have h2 := of_decide_eq_false h2
        rw [g4] at h2
        have hP : ∀ S', mr S' (if 0 ≤ i ∧ i < x.2.1 then (sp_cut x.1 v, z_St (z_E Z (va_up (zSh Z) a (some (x.1, x.2.1, va_up x.2.2 i.toNat (sp_cut x.1 v))))) 0) else z_bad Z 2).2 → P (if 0 ≤ i ∧ i < x.2.1 then (sp_cut x.1 v, z_St (z_E Z (va_up (zSh Z) a (some (x.1, x.2.1, va_up x.2.2 i.toNat (sp_cut x.1 v))))) 0) else z_bad Z 2).1 S' := hP
        rw [if_neg (by omega)] at hP
        exact km_finding' (Z := Z) (k := 2) h0 (by decide) (fun S' m' => am_qi_mk (z_bad_r (by decide)) (hP S' m'))
  · have h1 := of_decide_eq_false h1
    rw [if_neg h1] at hP
    exact am_qi_mk ⟨by decide, by decide⟩ (hP _ h.th)
theorem km_drop {a : Int} {P : Int → am_M → Prop} (h : mr S Z) (ha : am_r a) (hP : ∀ S', mr S' (zo_drop Z a).2 → P (zo_drop Z a).1 S') : kX3_drop l [am_R 0, am_I a] S (am_qi P) := by
  unfold zo_drop at hP
  have h0 : mr (am_sv (am_sv S 0 0) 1 0) (z_St Z 0) := h.th.stat (k := 0) (by decide)
  refine bX3_drop _ (by first | exact am_rN (by omega) | exact ⟨by omega, by omega⟩ | assumption) (km_isSheet ha ⟨fun h1 => ⟨?_, ?_⟩, fun h1 => ?_⟩)
  · have h1 := of_decide_eq_true h1
    omega
  · have h1 := of_decide_eq_true h1
    rw [if_pos h1] at hP
    obtain ⟨a, rfl⟩ : ∃ q : Nat, a = q := ⟨a.toNat, by omega⟩
    rw [Int.toNat_natCast] at hP
    obtain ⟨g1, g2⟩ := h.th.lane (i := a) (by omega)
    rw [Int.toNat_natCast]
    cases hx : zSh Z a with
    | none =>
      rw [hx] at hP
      have g1 := g1 hx
      exact ⟨fun z => absurd z (by omega), fun _ => km_finding' (Z := Z) (k := 1) h0 (by decide) (fun S' m' => am_qi_mk (z_bad_r (by decide)) (hP S' m'))⟩
    | some x =>
      rw [hx] at hP
      obtain ⟨g3, g4, g5, g6, g7⟩ := g2 x hx
      refine ⟨fun _ => ?_, fun z => absurd z (by omega)⟩
      show am_qi P (some (am_I ((am_sv S 0 0).2 10 a).toInt)) _
      rw [g4]
      refine am_qi_mk (am_rN (by omega)) (hP _ (h0.sheets (Z := z_St Z 0) (E := va_up (zSh Z) a none) rfl (fun j j9 j10 j11 => up_ne _ _ j9) (fun k hk y hy => ?_) (fun k hk => ?_)))
      · rw [up_if] at hy
        split at hy
        · cases hy
        · exact h.1.2.2.2.2.1 k hk y hy
      · show (va_up (zSh Z) a none k = none → (va_up (S.2 9) (a : Int).toNat (Int32.ofInt (-1)) k).toInt = -1) ∧ ∀ y, va_up (zSh Z) a none k = some y → (va_up (S.2 9) (a : Int).toNat (Int32.ofInt (-1)) k).toInt = y.1 ∧ (S.2 10 k).toInt = y.2.1 ∧ ∀ j, j < y.2.1 → (S.2 11 (40 * k + j)).toInt = y.2.2 j
        rw [Int.toNat_natCast, up_if, up_if]
        by_cases e : k = a
        · simp only [e, if_true]
          exact ⟨fun _ => am_ti ⟨by decide, by decide⟩, fun y hy => by simp at hy⟩
        · simp only [e, if_false]
          exact h.2.2.2.2.2.1 k hk
  · have h1 := of_decide_eq_false h1
    rw [if_neg h1] at hP
    exact am_qi_mk ⟨by decide, by decide⟩ (hP _ h.th)
end KM12
