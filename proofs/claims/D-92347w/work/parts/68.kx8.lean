section KX8
variable {l : Launch} {S : ah_H} {w : Nat → Nat} {Z : sp_Z} {tr : Nat}
theorem kx_isEnd_8 {a n o k : Nat} {s : Nat → Nat} {T : sp_T} {P : Bool → ah_H → Prop} (hs : xn S.1 n s) (h : xt S.1 a n s T) (ho : o < 96) (hk : k ≤ n) (hP : P (sp_end n s T o) S) :
    VX0_isEnd l (am_qz P) 8 [(0, am_R 32), (1, am_R a), (2, am_I o), (3, am_I (sp_cnt (fun k => decide (s k = o / 2 % 4)) k : Nat)), (4, am_I (sp_cnt (fun k => decide (s k = o / 2 % 4) && sp_told s T k (o / 8 % 3) (o / 24)) k : Nat)), (5, am_I k)] [] S := by
  have hn := h.2.1.1
  obtain ⟨fs, f, n0, n1, n2, n3, n4⟩ := id hs
  have c1 := sp_cnt_le (fun k => decide (s k = o / 2 % 4) && sp_told s T k (o / 8 % 3) (o / 24)) k
  have c2 := sp_cnt_le (fun k => decide (s k = o / 2 % 4)) k
  generalize hm : n - k = m
  induction m generalizing k with
  | zero =>
    have e : k = n := by omega
    subst e
    unfold sp_end at hP
    refine bX0_isEnd_8 _ _ _ (by first | exact am_rN (by omega) | exact ⟨by omega, by omega⟩ | assumption) _ (by first | exact am_rN (by omega) | exact ⟨by omega, by omega⟩ | assumption) _ (by first | exact am_rN (by omega) | exact ⟨by omega, by omega⟩ | assumption) _ (by first | exact am_rN (by omega) | exact ⟨by omega, by omega⟩ | assumption) ⟨_, n0, _, ⟨n1, am_rN (by omega)⟩, fun _ => ⟨by omega, fun h2 => ⟨fun h3 => am_qz_mk ?_, fun h3 => ⟨fun h4 => am_qz_mk ?_, fun h4 => am_qz_mk ?_⟩⟩, fun h2 => ⟨fun h3 => am_qz_mk ?_, fun h3 => am_qz_mk ?_⟩⟩, fun z => absurd z (by omega)⟩
    · rw [if_neg (by omega), decide_eq_false (by omega)] at hP
      exact hP
    · rw [if_neg (by omega), decide_eq_false (by omega)] at hP
      exact hP
    · rw [if_neg (by omega), decide_eq_true (by omega)] at hP
      exact hP
    · rw [if_pos (by omega), decide_eq_false (by omega)] at hP
      exact hP
    · rw [if_pos (by omega), decide_eq_true (by omega)] at hP
      exact hP
  | succ m ih =>
    have hkn : k < n := by omega
    have nx := ih (k := k + 1) (by omega) (sp_cnt_le _ _) (sp_cnt_le _ _) (by omega)
    rw [sp_cnt, sp_cnt] at nx
    have e2 : ((o : Int) / 8 % 3) = ((o / 8 % 3 : Nat) : Int) := by omega
    have e3 : ((o : Int) / 24) = ((o / 24 : Nat) : Int) := by omega
    have hsk := (n4 k hkn).1
    refine bX0_isEnd_8 _ _ _ (by first | exact am_rN (by omega) | exact ⟨by omega, by omega⟩ | assumption) _ (by first | exact am_rN (by omega) | exact ⟨by omega, by omega⟩ | assumption) _ (by first | exact am_rN (by omega) | exact ⟨by omega, by omega⟩ | assumption) _ (by first | exact am_rN (by omega) | exact ⟨by omega, by omega⟩ | assumption) ⟨_, n0, _, ⟨n1, am_rN (by omega)⟩, fun z => absurd z (by omega), fun _ => ⟨_, n2, _, _, n3, ⟨by omega, by omega⟩, by omega, by omega, fun z => ⟨by omega, ?_⟩, fun z => ?_⟩⟩
    · have z : (f k).toInt = _ := z
      rw [hsk] at z
      have e : decide (s k = o / 2 % 4) = true := decide_eq_true (by omega)
      simp only [e, Bool.true_and] at nx
      rw [e2, e3]
      refine kx_isAsTold hs h hkn (by omega) (by omega) ⟨fun hb => ?_, fun hb => ?_⟩
      · rw [hb] at nx
        exact nx
      · rw [hb] at nx
        exact nx
    · have z : ¬ (f k).toInt = _ := z
      rw [hsk] at z
      have e : decide (s k = o / 2 % 4) = false := decide_eq_false (by omega)
      simp only [e, Bool.false_and] at nx
      exact nx
theorem kx_isEnd {a n o : Nat} {s : Nat → Nat} {T : sp_T} {P : Bool → ah_H → Prop} (hs : xn S.1 n s) (h : xt S.1 a n s T) (ho : o < 96) (hP : P (sp_end n s T o) S) : kX0_isEnd l [am_R 32, am_R a, am_I o] S (am_qz P) :=
  bX0_isEnd _ _ _ (by first | exact am_rN (by omega) | exact ⟨by omega, by omega⟩ | assumption) (kx_isEnd_8 (k := 0) hs h ho (Nat.zero_le _) hP)
theorem kx_isDone {a k to : Nat} {T : sp_T} {P : Bool → ah_H → Prop} (h : xr_ S w tr Z) (m : xt S.1 a (zn Z) (zs Z) T) (hk : k < zn Z) (hto : to < 16) (hP : P (z_some Z T k to) S) : kX0_isDone l [am_R 32, am_R a, am_I k, am_I to] S (am_qz P) := by
  have h6 := h.n6
  unfold z_some at hP
  refine bX0_isDone _ _ _ (by first | exact am_rN (by omega) | exact ⟨by omega, by omega⟩ | assumption) _ (by first | exact am_rN (by omega) | exact ⟨by omega, by omega⟩ | assumption) ⟨_, h.I.2, kx_isTo h (am_rN (by omega)) ⟨fun h1 => am_qz_mk ?_, fun h1 => ?_⟩⟩
  · rw [h1] at hP
    exact hP
  · rw [h1] at hP
    obtain ⟨t1, t2⟩ := z_isTo_lt h1
    refine ⟨_, h.I.2, kx_can h.xn m hk t1 t2 ⟨fun h2 => am_qz_mk ?_, fun h2 => ⟨_, h.I.2, kx_isReached (arm := 0) h m (by decide) hk t1 ⟨fun h3 => am_qz_mk ?_, fun h3 => ⟨_, h.I.2, kx_isReached (arm := 1) h m (by decide) hk t1 ⟨fun h4 => am_qz_mk ?_, fun h4 => am_qz_mk ?_⟩⟩⟩⟩⟩⟩
    · rw [h2] at hP
      exact hP
    · rw [h2, h3] at hP
      exact hP
    · rw [h2, h3, h4] at hP
      exact hP
    · rw [h2, h3, h4] at hP
      exact hP
/-- a scratch table is laid upon by another, and a move is done on it -/
theorem xsc.lt {a : Nat} (h : xsc a) : 43 ≤ a ∧ a + 5 < 647 := by
  rcases h with rfl | rfl | rfl | ⟨j, hj, rfl⟩ <;> omega
def z_fm (Z : sp_Z) (T : sp_T) (o mv m : Nat) : Bool := if mv = 1 then z_f1 Z T o m else z_f2 Z T o m
theorem kx_firstOf_13 {a o mv d g m : Nat} {T : sp_T} {P : Int → ah_H → Prop} (h : xr_ S w tr Z) (t : xt S.1 a (zn Z) (zs Z) T) (hg : xsc g) (hag : a + 5 < g ∨ g + 5 < a) (ho : o < 96) (hmv : mv = 1 ∨ mv = 2) (hm : m ≤ 16 * zn Z)
    (hno : ∀ j, j < m → z_fm Z T o mv j = false)
    (rec : mv = 2 → ∀ {S1 : ah_H} {T1 : sp_T} {P1 : Int → ah_H → Prop}, xr_ S1 w tr Z → xt S1.1 g (zn Z) (zs Z) T1 → xt S1.1 a (zn Z) (zs Z) T → (∀ S2, xr_ S2 w tr Z → xt S2.1 a (zn Z) (zs Z) T → P1 (sp_on (z_first1 Z T1 o)) S2) → kX0_firstOf l d [am_R 32, am_R g, am_I o, am_I 1] S1 (am_qi P1))
    (hP : ∀ S', xr_ S' w tr Z → xt S'.1 a (zn Z) (zs Z) T → P (sp_on ((List.range (16 * zn Z)).find? (z_fm Z T o mv))) S') :
    VX0_firstOf l (d + 1) (am_qi P) 13 [(0, am_R 32), (1, am_R a), (2, am_I o), (3, am_I mv), (4, am_R g), (5, am_I m)] [] S := by
  have h6 := h.n6
  generalize hq : 16 * zn Z - m = q
  induction q generalizing m S with
  | zero =>
    refine bX0_firstOf_13 _ _ _ (by first | exact am_rN (by omega) | exact ⟨by omega, by omega⟩ | assumption) _ (by first | exact am_rN (by omega) | exact ⟨by omega, by omega⟩ | assumption) _ _ (by first | exact am_rN (by omega) | exact ⟨by omega, by omega⟩ | assumption) ⟨_, h.I.2, _, ⟨rfl, am_rN (by omega)⟩, ⟨by omega, by omega⟩, fun _ => am_qi_mk ⟨by decide, by decide⟩ ?_, fun z => absurd z (by omega)⟩
    have := hP S h t
    rw [sp_find_none (fun j hj => hno j (by omega))] at this
    exact this
  | succ q ih =>
    have e1 : ((m : Int) / 16) = ((m / 16 : Nat) : Int) := by omega
    have e2 : ((m : Int) % 16) = ((m % 16 : Nat) : Int) := by omega
    have next : ∀ S1, xr_ S1 w tr Z → xt S1.1 a (zn Z) (zs Z) T → z_fm Z T o mv m = false → VX0_firstOf l (d + 1) (am_qi P) 13 [(0, am_R 32), (1, am_R a), (2, am_I o), (3, am_I mv), (4, am_R g), (5, am_I ((m : Int) + 1))] [] S1 := fun S1 g1 g2 z => ih (m := m + 1) g1 g2 (by omega) (fun j hj => by
      by_cases e : j = m
      · rw [e]
        exact z
      · exact hno j (by omega)) (by omega)
    have fin : ∀ S1, xr_ S1 w tr Z → xt S1.1 a (zn Z) (zs Z) T → z_fm Z T o mv m = true → am_qi P (some (am_I (m : Int))) S1 := fun S1 g1 g2 z => by
      have := hP S1 g1 g2
      rw [sp_find_some (show m < 16 * zn Z by omega) z hno] at this
      exact am_qi_mk (am_rN (by omega)) this
    obtain ⟨x1, x2⟩ := hg.lt
    refine bX0_firstOf_13 _ _ _ (by first | exact am_rN (by omega) | exact ⟨by omega, by omega⟩ | assumption) _ (by first | exact am_rN (by omega) | exact ⟨by omega, by omega⟩ | assumption) _ _ (by first | exact am_rN (by omega) | exact ⟨by omega, by omega⟩ | assumption) ⟨_, h.I.2, _, ⟨rfl, am_rN (by omega)⟩, ⟨by omega, by omega⟩, fun z => absurd z (by omega), fun _ => ⟨by omega, ?_⟩⟩
    rw [e1, e2]
    refine kx_isDone h t (by omega) (by omega) ⟨fun hd => ?_, fun hd => next S h t ?_⟩
    · obtain ⟨c1, c2, c3⟩ := z_some_ok hd
      obtain ⟨p, hi, ce, bo, ho', o0⟩ := h.U.xs hg
      refine ⟨_, o0.1, kx_lay (by omega) o0 t (by omega) (fun S1 t1 f1 => ?_)⟩
      refine kx_carry t1 (by omega) (fun z => ⟨c2, c3 z⟩) c2 c1 (fun S2 t2 f2 => ?_)
      have r1 := h.tab hg f1 (xs.of t1)
      have r2 := r1.tab hg f2 (xs.of t2)
      have a2 := (t.fr f1 (by omega)).fr f2 (by omega)
      have efm : ∀ b, (if mv = 1 then sp_end (zn Z) (zs Z) (sp_move T (m / 16) (m % 16)) o else (z_first1 Z (sp_move T (m / 16) (m % 16)) o).isSome) = b → z_fm Z T o mv m = b := fun b hb => by
        unfold z_fm z_f1 z_f2
        rw [hd, Bool.true_and, Bool.true_and]
        exact hb
      refine ⟨fun hv => ⟨_, r2.I.2, ?_⟩, fun hv => ⟨_, r2.I.2, kx_isEnd r2.xn t2 ho ⟨fun hb => next S2 r2 a2 (efm _ ?_), fun hb => fin S2 r2 a2 (efm _ ?_)⟩⟩⟩
      · rw [show ((mv : Int) - 1) = 1 by omega]
        refine rec (by omega) r2 t2 a2 (fun S3 r3 a3 => ⟨fun hz => next S3 r3 a3 (efm _ ?_), fun hz => fin S3 r3 a3 (efm _ ?_)⟩)
        · rw [if_neg (by omega), sp_on_none.mp hz]
          rfl
        · rw [if_neg (by omega)]
          cases hf : z_first1 Z (sp_move T (m / 16) (m % 16)) o with
          | none => rw [hf] at hz; exact absurd rfl hz
          | some y => rfl
      · rw [if_pos (by omega)]
        exact hb
      · rw [if_pos (by omega)]
        exact hb
    · unfold z_fm z_f1 z_f2
      rw [hd, Bool.false_and, Bool.false_and]
      split <;> rfl
theorem kx_firstOf1 {a o d : Nat} {T : sp_T} {P : Int → ah_H → Prop} (h : xr_ S w tr Z) (t : xt S.1 a (zn Z) (zs Z) T) (ha : a + 5 < 50 ∨ 50 + 5 < a) (ho : o < 96)
    (hP : ∀ S', xr_ S' w tr Z → xt S'.1 a (zn Z) (zs Z) T → P (sp_on (z_first1 Z T o)) S') : kX0_firstOf l (d + 1) [am_R 32, am_R a, am_I o, am_I 1] S (am_qi P) := by
  obtain ⟨-, -, ⟨f, u2, u3, u4⟩, -⟩ := h.U
  refine bX0_firstOf _ _ _ (by first | exact am_rN (by omega) | exact ⟨by omega, by omega⟩ | assumption) _ (by first | exact am_rN (by omega) | exact ⟨by omega, by omega⟩ | assumption) ⟨_, h.I.2, _, rfl, _, _, u2, ⟨by decide, by decide⟩, _, u3, ?_⟩
  refine kx_firstOf_13 (mv := 1) (m := 0) h t (Or.inr (Or.inl rfl)) ha ho (Or.inl rfl) (Nat.zero_le _) (fun j hj => absurd hj (by omega)) (fun z => absurd z (by decide)) (fun S' g1 g2 => ?_)
  rw [show z_fm Z T o 1 = z_f1 Z T o from by funext j; exact if_pos rfl]
  exact hP S' g1 g2
theorem kx_firstOf2 {o : Nat} {P : Int → ah_H → Prop} (h : xr_ S w tr Z) (ho : o < 96)
    (hP : ∀ S', xr_ S' w tr Z → P (sp_on (z_first2 Z (zT Z) o)) S') : kX0_firstOf l 2 [am_R 32, am_R 36, am_I o, am_I 2] S (am_qi P) := by
  obtain ⟨-, -, ⟨f, u2, u3, u4⟩, -⟩ := h.U
  refine bX0_firstOf _ _ _ (by first | exact am_rN (by omega) | exact ⟨by omega, by omega⟩ | assumption) _ (by first | exact am_rN (by omega) | exact ⟨by omega, by omega⟩ | assumption) ⟨_, h.I.2, _, rfl, _, _, u2, ⟨by decide, by decide⟩, _, u4, ?_⟩
  refine kx_firstOf_13 (mv := 2) (m := 0) h h.B.2 (Or.inr (Or.inr (Or.inl rfl))) (by decide) ho (Or.inr rfl) (Nat.zero_le _) (fun j hj => absurd hj (by omega)) (fun _ {S1 T1 P1} r1 t1 a1 hp => kx_firstOf1 r1 t1 (by decide) ho (fun S2 r2 t2 => hp S2 r2 r2.B.2)) (fun S' g1 g2 => ?_)
  rw [show z_fm Z (zT Z) o 2 = z_f2 Z (zT Z) o from by funext j; exact if_neg (by decide)]
  exact hP S' g1
theorem kx_plan {o v : Int} {P : Int → ah_H → Prop} (h0 : xr S Z) (ho : am_r o) (hv : am_r v) (hP : ∀ S', xr S' (zo_plan Z o v).2 → P (zo_plan Z o v).1 S') : kX0_plan l [am_R 32, am_I o, am_I v] S (am_qi P) := by
  obtain ⟨w, tr, h⟩ := h0
  have h6 := h.n6
  unfold zo_plan at hP
  refine bX0_plan _ _ (by first | exact am_rN (by omega) | exact ⟨by omega, by omega⟩ | assumption) _ (by first | exact am_rN (by omega) | exact ⟨by omega, by omega⟩ | assumption) (kx_isOrder ho ⟨fun h1 => am_qi_mk ⟨by decide, by decide⟩ ?_, fun h1 => kx_isIn ⟨fun h2 => ⟨_, h.I.2, _, rfl, ?_⟩, fun h2 => am_qi_mk ⟨by decide, by decide⟩ ?_⟩⟩)
  · have h1 := of_decide_eq_false h1
    rw [if_neg (fun z => h1 z.1)] at hP
    exact hP S ⟨w, tr, h⟩
  · have h1 := of_decide_eq_true h1
    have h2 := of_decide_eq_true h2
    obtain ⟨o, rfl⟩ : ∃ q : Nat, o = q := ⟨o.toNat, by omega⟩
    rw [if_pos ⟨h1, h2⟩, Int.toNat_natCast] at hP
    have f1r : ∀ {x y : Nat}, z_first1 Z (zT Z) x = some y → y < 16 * zn Z := fun hx => List.mem_range.mp (List.mem_of_find?_eq_some hx)
    have f2r : ∀ {x y : Nat}, z_first2 Z (zT Z) x = some y → y < 16 * zn Z := fun hx => List.mem_range.mp (List.mem_of_find?_eq_some hx)
    refine kx_isEnd h.xn h.B.2 (by omega) ⟨fun hb => ?_, fun hb => ?_⟩
    · rw [hb, if_neg (by simp)] at hP
      refine bX0_plan_45 _ _ (by first | exact am_rN (by omega) | exact ⟨by omega, by omega⟩ | assumption) _ (by first | exact am_rN (by omega) | exact ⟨by omega, by omega⟩ | assumption) _ (by first | exact am_rN (by omega) | exact ⟨by omega, by omega⟩ | assumption) ⟨fun z => absurd z (by decide), fun _ => ⟨_, h.I.2, _, rfl, kx_firstOf1 h h.B.2 (by decide) (by omega) (fun S1 r1 _ => ⟨fun hz => ?_, fun hz => ?_⟩)⟩⟩
      · have e1 := sp_on_none.mp hz
        rw [e1] at hP
        refine bX0_plan_45 _ _ (by first | exact am_rN (by omega) | exact ⟨by omega, by omega⟩ | assumption) _ (by first | exact am_rN (by omega) | exact ⟨by omega, by omega⟩ | assumption) _ (by first | exact am_rN (by omega) | exact ⟨by omega, by omega⟩ | assumption) ⟨fun z => absurd z (by decide), fun _ => ⟨_, r1.I.2, _, rfl, kx_firstOf2 r1 (by omega) (fun S2 r2 => ⟨fun hy => ?_, fun hy => ?_⟩)⟩⟩
        · have e2 := sp_on_none.mp hy
          rw [e2] at hP
          exact bX0_plan_45 _ _ (by first | exact am_rN (by omega) | exact ⟨by omega, by omega⟩ | assumption) _ (by first | exact am_rN (by omega) | exact ⟨by omega, by omega⟩ | assumption) _ (by first | exact am_rN (by omega) | exact ⟨by omega, by omega⟩ | assumption) ⟨fun _ => am_qi_mk ⟨by decide, by decide⟩ (hP S2 ⟨w, tr, r2⟩), fun z => absurd (show (2 : Int) < 1 + 1 + 1 by decide) z⟩
        · cases hf : z_first2 Z (zT Z) o with
          | none => rw [hf] at hy; exact absurd rfl hy
          | some y =>
            have := f2r hf
            rw [hf] at hP
            refine ⟨fun hw => am_qi_mk (am_rN (n := y) (by omega)) ?_, fun hw => am_qi_mk ⟨by decide, by decide⟩ ?_⟩
            · have hp := hP S2
              simp only [if_neg hw] at hp
              exact hp ⟨w, tr, r2⟩
            · have hp := hP S2
              simp only [if_pos hw] at hp
              exact hp ⟨w, tr, r2⟩
      · cases hf : z_first1 Z (zT Z) o with
        | none => rw [hf] at hz; exact absurd rfl hz
        | some y =>
          have := f1r hf
          rw [hf] at hP
          refine ⟨fun hw => am_qi_mk (am_rN (n := y) (by omega)) ?_, fun hw => am_qi_mk ⟨by decide, by decide⟩ ?_⟩
          · have hp := hP S1
            simp only [if_neg hw] at hp
            exact hp ⟨w, tr, r1⟩
          · have hp := hP S1
            simp only [if_pos hw] at hp
            exact hp ⟨w, tr, r1⟩
    · rw [hb, if_pos rfl] at hP
      refine ⟨fun hw => am_qi_mk ⟨by decide, by decide⟩ ?_, fun hw => am_qi_mk ⟨by decide, by decide⟩ ?_⟩
      · rw [if_neg hw] at hP
        exact hP S ⟨w, tr, h⟩
      · rw [if_pos hw] at hP
        exact hP S ⟨w, tr, h⟩
  · have h2 := of_decide_eq_false h2
    rw [if_neg (fun z => h2 z.2)] at hP
    exact hP S ⟨w, tr, h⟩
end KX8
