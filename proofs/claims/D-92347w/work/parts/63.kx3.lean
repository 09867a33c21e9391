/-! what the component's methods read of its object: how many things, and their sorts -/
def xn (h : Nat → Option ah_C) (n : Nat) (s : Nat → Nat) : Prop := ∃ fs f, h 32 = some (.inl (1, fs)) ∧ fs[1]? = some (am_I (n : Int)) ∧ fs[2]? = some (am_R 34) ∧ h 34 = some (.inr (0, 6, .inl f)) ∧ ∀ k, k < n → (f k).toInt = s k ∧ s k < 4
theorem xn.kept {h h' : Nat → Option ah_C} {n : Nat} {s : Nat → Nat} (k : xn h n s) (e1 : h' 32 = h 32) (e2 : h' 34 = h 34) : xn h' n s := by
  obtain ⟨fs, f, h1, h2, h3, h4, h5⟩ := k
  exact ⟨fs, f, e1.trans h1, h2, h3, e2.trans h4, h5⟩
theorem xn.fr {a n : Nat} {s : Nat → Nat} {S S' : ah_H} (k : xn S.1 n s) (ha : 36 ≤ a) (f : xw a S S') : xn S'.1 n s := k.kept (f.2 _ (by omega)) (f.2 _ (by omega))
theorem am_abs_f : ∀ c d : Fin 8, (((am_abs (((c.val : Int) % 4) - ((d.val : Int) % 4))) + (am_abs (((c.val : Int) / 4) - ((d.val : Int) / 4)))) = 1 ↔ sp_near c.val d.val = true) ∧ 0 ≤ ((am_abs (((c.val : Int) % 4) - ((d.val : Int) % 4))) + (am_abs (((c.val : Int) / 4) - ((d.val : Int) / 4)))) ∧ ((am_abs (((c.val : Int) % 4) - ((d.val : Int) % 4))) + (am_abs (((c.val : Int) / 4) - ((d.val : Int) / 4)))) < 100 := by decide
theorem am_abs_nat {c d : Nat} (hc : c < 8) (hd : d < 8) : (((am_abs (((c : Int) % 4) - ((d : Int) % 4))) + (am_abs (((c : Int) / 4) - ((d : Int) / 4)))) = 1 ↔ sp_near c d = true) ∧ am_r ((am_abs (((c : Int) % 4) - ((d : Int) % 4))) + (am_abs (((c : Int) / 4) - ((d : Int) / 4)))) := by
  have h := am_abs_f ⟨c, hc⟩ ⟨d, hd⟩
  exact ⟨h.1, ⟨Int.le_trans (by decide) h.2.1, Int.lt_trans h.2.2 (by decide)⟩⟩
section KX3
variable {l : Launch} {S : ah_H} {a n : Nat} {s : Nat → Nat} {T : sp_T}
theorem xt.hd (h : xt S.1 a n s T) : S.1 a = some (.inl (2, [am_R (a + 1), am_R (a + 2), am_R (a + 3), am_R (a + 4), am_R (a + 5)])) := by
  obtain ⟨-, -, p, hi, ce, bo, ho, h0, hq⟩ := h
  exact h0.1
theorem kx_isIn {v lo hi : Int} {P : Bool → ah_H → Prop} (hP : P (decide (lo ≤ v ∧ v ≤ hi)) S) (hv : am_r v := by first | assumption | exact ⟨by omega, by omega⟩) (hl : am_r lo := by exact ⟨by omega, by omega⟩) (hh : am_r hi := by exact ⟨by omega, by omega⟩) : kX0_isIn l [am_J v, am_J lo, am_J hi] S (am_qz P) := by
  obtain ⟨v1, v2⟩ := hv
  obtain ⟨l1, l2⟩ := hl
  obtain ⟨g1, g2⟩ := hh
  refine bX0_isIn _ (by exact ⟨by omega, by omega⟩) _ (by exact ⟨by omega, by omega⟩) _ (by exact ⟨by omega, by omega⟩) ⟨fun h => ?_, fun h => ⟨fun h2 => ?_, fun h2 => ?_⟩⟩
  · rw [decide_eq_false (by omega)] at hP
    exact am_qz_mk hP
  · rw [decide_eq_false (by omega)] at hP
    exact am_qz_mk hP
  · rw [decide_eq_true (by omega)] at hP
    exact am_qz_mk hP
theorem kx_isNeighbour {c d : Nat} {P : Bool → ah_H → Prop} (hc : c < 8) (hd : d < 8) (hP : P (sp_near c d) S) : kX0_isNeighbour l [am_I c, am_I d] S (am_qz P) := by
  obtain ⟨e1, e2⟩ := am_abs_nat hc hd
  refine bX0_isNeighbour _ (by first | exact am_rN (by omega) | exact ⟨by omega, by omega⟩ | assumption) _ (by first | exact am_rN (by omega) | exact ⟨by omega, by omega⟩ | assumption) ⟨by omega, by omega, ⟨by omega, by omega⟩, ⟨by omega, by omega⟩, e2, fun h => ?_, fun h => ?_⟩
  · rw [Bool.eq_false_iff.mpr (fun z => h (e1.mpr z))] at hP
    exact am_qz_mk hP
  · rw [e1.mp h] at hP
    exact am_qz_mk hP
theorem kx_hasNear_13 {c b d i : Nat} {P : Bool → ah_H → Prop} (hs : xn S.1 n s) (h : xt S.1 a n s T) (hb4 : b < 4) (hc : c < 8) (hd : d < 8) (hi : i ≤ (T.1 d).length) (he : ∀ j x, j < i → (T.1 d)[j]? = some x → s x ≠ b)
    (hP : P (sp_hasNear s T c b) S) (next : (sp_near c d && (T.1 d).any (fun k => s k == b)) = false → VX0_hasNear l (am_qz P) 3 [(0, am_R 32), (1, am_R a), (2, am_I c), (3, am_I b), (4, am_I ((d : Int) + 1))] [] S) :
    VX0_hasNear l (am_qz P) 13 [(0, am_R 32), (1, am_R a), (2, am_I c), (3, am_I b), (4, am_I d), (5, am_I i)] [] S := by
  have hn := h.2.1.1
  have hl := h.2.1.len hd
  obtain ⟨hX, hok, p, hi', ce, bo, ho, ⟨e0, e1, e2, e3, e4, e5⟩, hq⟩ := id h
  obtain ⟨fs, f, n0, n1, n2, n3, n4⟩ := id hs
  generalize hm : (T.1 d).length - i = m
  induction m generalizing i with
  | zero =>
    refine bX0_hasNear_13 _ _ _ (by first | exact am_rN (by omega) | exact ⟨by omega, by omega⟩ | assumption) _ (by first | exact am_rN (by omega) | exact ⟨by omega, by omega⟩ | assumption) _ (by first | exact am_rN (by omega) | exact ⟨by omega, by omega⟩ | assumption) _ (by first | exact am_rN (by omega) | exact ⟨by omega, by omega⟩ | assumption) (kx_isNeighbour hc hd ⟨fun hf => next (by rw [hf]; rfl), fun ht => ⟨_, e0, _, rfl, _, _, e2, ⟨by omega, by omega⟩, fun _ => next ?_, fun z => absurd (hq.len hd) (by omega)⟩⟩)
    rw [ht, Bool.true_and, List.any_eq_false]
    intro x hx
    obtain ⟨j, hj⟩ := List.getElem?_of_mem hx
    have := (List.getElem?_eq_some_iff.mp hj).1
    simp [he j x (by omega) hj]
  | succ m ih =>
    obtain ⟨x, g1, g2, -⟩ := h.tb hd (i := i) (by omega)
    refine bX0_hasNear_13 _ _ _ (by first | exact am_rN (by omega) | exact ⟨by omega, by omega⟩ | assumption) _ (by first | exact am_rN (by omega) | exact ⟨by omega, by omega⟩ | assumption) _ (by first | exact am_rN (by omega) | exact ⟨by omega, by omega⟩ | assumption) _ (by first | exact am_rN (by omega) | exact ⟨by omega, by omega⟩ | assumption) (kx_isNeighbour hc hd ⟨fun hf => next (by rw [hf]; rfl), fun ht => ⟨_, e0, _, rfl, _, _, e2, ⟨by omega, by omega⟩, fun z => absurd (hq.len hd) (by omega), fun _ => ⟨_, n0, _, n2, kx_at h hd g1 ⟨_, _, n3, ⟨by omega, by omega⟩, fun z => ih (i := i + 1) (by omega) (fun j y hj hy => ?_) (by omega), fun z => am_qz_mk ?_⟩⟩⟩⟩)
    · have z : ¬ (f x).toInt = (b : Int) := z
      rw [(n4 x g2).1] at z
      by_cases e : j = i
      · rw [e, g1] at hy
        rw [← Option.some.inj hy]
        omega
      · exact he j y (by omega) hy
    · have z : (f x).toInt = (b : Int) := z
      rw [(n4 x g2).1] at z
      have e : sp_hasNear s T c b = true := by
        unfold sp_hasNear
        rw [List.any_eq_true]
        refine ⟨d, List.mem_range.mpr hd, ?_⟩
        rw [ht, Bool.true_and, List.any_eq_true]
        exact ⟨x, List.mem_of_getElem? g1, by simp; omega⟩
      rw [e] at hP
      exact hP
theorem kx_hasNear_3 {c b d : Nat} {P : Bool → ah_H → Prop} (hs : xn S.1 n s) (h : xt S.1 a n s T) (hb4 : b < 4) (hc : c < 8) (hd : d ≤ 8) (hno : ∀ e, e < d → (sp_near c e && (T.1 e).any (fun k => s k == b)) = false)
    (hP : P (sp_hasNear s T c b) S) : VX0_hasNear l (am_qz P) 3 [(0, am_R 32), (1, am_R a), (2, am_I c), (3, am_I b), (4, am_I d)] [] S := by
  generalize hm : 8 - d = m
  induction m generalizing d with
  | zero =>
    refine bX0_hasNear_3 _ _ _ (by first | exact am_rN (by omega) | exact ⟨by omega, by omega⟩ | assumption) _ (by first | exact am_rN (by omega) | exact ⟨by omega, by omega⟩ | assumption) _ (by first | exact am_rN (by omega) | exact ⟨by omega, by omega⟩ | assumption) ⟨fun _ => am_qz_mk ?_, fun z => absurd z (by omega)⟩
    have e : sp_hasNear s T c b = false := by
      unfold sp_hasNear
      rw [List.any_eq_false]
      intro x hx
      rw [hno x (by have := List.mem_range.mp hx; omega)]
      decide
    rw [e] at hP
    exact hP
  | succ m ih =>
    refine bX0_hasNear_3 _ _ _ (by first | exact am_rN (by omega) | exact ⟨by omega, by omega⟩ | assumption) _ (by first | exact am_rN (by omega) | exact ⟨by omega, by omega⟩ | assumption) _ (by first | exact am_rN (by omega) | exact ⟨by omega, by omega⟩ | assumption) ⟨fun z => absurd z (by omega), fun _ => kx_hasNear_13 (i := 0) hs h hb4 hc (by omega) (Nat.zero_le _) (fun j x hj => absurd hj (by omega)) hP (fun z => ih (d := d + 1) (by omega) (fun e he => ?_) (by omega))⟩
    by_cases q : e = d
    · rw [q]
      exact z
    · exact hno e (by omega)
theorem kx_hasNear {c b : Nat} {P : Bool → ah_H → Prop} (hs : xn S.1 n s) (h : xt S.1 a n s T) (hb4 : b < 4) (hc : c < 8) (hP : P (sp_hasNear s T c b) S) : kX0_hasNear l [am_R 32, am_R a, am_I c, am_I b] S (am_qz P) :=
  bX0_hasNear _ _ _ (by first | exact am_rN (by omega) | exact ⟨by omega, by omega⟩ | assumption) _ (by first | exact am_rN (by omega) | exact ⟨by omega, by omega⟩ | assumption) (kx_hasNear_3 (d := 0) hs h hb4 hc (Nat.zero_le _) (fun e he => absurd he (by omega)) hP)
theorem xt.on (h : xt S.1 a n s T) {k : Nat} (hk : k < n) (hb : T.2.2 k = none) : T.2.1 k < 8 ∧ k ∈ T.1 (T.2.1 k) ∧ sp_below T k < (T.1 (T.2.1 k)).length ∧ (T.1 (T.2.1 k)).length ≤ n := by
  have b3 := h.2.1.2.2.1 k hk hb
  have b4 := ((h.2.1.2.1 _ b3).2 k).mpr ⟨hk, hb, rfl⟩
  exact ⟨b3, b4, sp_idx_lt b4, h.2.1.len b3⟩
theorem kx_isAsTold {k rel b : Nat} {P : Bool → ah_H → Prop} (hs : xn S.1 n s) (h : xt S.1 a n s T) (hk : k < n) (hb4 : b < 4) (hrel : rel < 3) (hP : P (sp_told s T k rel b) S) : kX0_isAsTold l [am_R 32, am_R a, am_I k, am_I rel, am_I b] S (am_qz P) := by
  have hn := h.2.1.1
  unfold sp_told at hP
  obtain ⟨hX, hok, p, hi', ce, bo, ho, ⟨e0, e1, e2, e3, e4, e5⟩, hq⟩ := id h
  obtain ⟨fs, f, n0, n1, n2, n3, n4⟩ := id hs
  refine bX0_isAsTold _ _ _ (by first | exact am_rN (by omega) | exact ⟨by omega, by omega⟩ | assumption) _ (by first | exact am_rN (by omega) | exact ⟨by omega, by omega⟩ | assumption) _ (by first | exact am_rN (by omega) | exact ⟨by omega, by omega⟩ | assumption) ⟨fun hr => ⟨_, e0, _, rfl, _, _, e4, ⟨by omega, by omega⟩, fun hx => ?_, fun hx => am_qz_mk ?_⟩, fun hr => ⟨_, e0, _, rfl, _, _, e4, ⟨by omega, by omega⟩, fun hx => am_qz_mk ?_, fun hx => ⟨fun hb => am_qz_mk ?_, fun hb => am_qz_mk ?_⟩⟩⟩
  · have hb := (hq.bN hk).mp hx
    obtain ⟨b3, b4, b5, b6⟩ := h.on hk hb
    rw [if_neg (by omega), hb, if_neg (by simp)] at hP
    refine kx_below h hk hb ⟨fun h0 => ⟨fun hz => am_qz_mk ?_, fun hz => ⟨_, e0, _, rfl, _, _, e3, ⟨by omega, by omega⟩, _, n0, ?_⟩⟩, fun h0 => ⟨fun hz => am_qz_mk ?_, fun hz => ⟨_, n0, _, n2, _, e0, _, rfl, _, _, e3, ⟨by omega, by omega⟩, ?_⟩⟩⟩
    · rw [if_neg (by omega), decide_eq_false (by omega)] at hP
      exact hP
    · rw [if_neg (by omega), decide_eq_true (by omega), Bool.true_and] at hP
      rw [hq.cN hk hb]
      refine kx_hasNear hs h hb4 b3 ⟨fun z => am_qz_mk ?_, fun z => am_qz_mk ?_⟩
      · rw [z] at hP
        exact hP
      · rw [z] at hP
        exact hP
    · rw [if_pos (by omega), decide_eq_false (show ¬ 0 < sp_below T k by omega)] at hP
      exact hP
    · rw [if_pos (by omega), decide_eq_true (show 0 < sp_below T k by omega)] at hP
      obtain ⟨x, hx1, hx2, -⟩ := h.tb b3 (show sp_below T k - 1 < (T.1 (T.2.1 k)).length by omega)
      rw [hq.cN hk hb, show ((sp_below T k : Int) - 1) = ((sp_below T k - 1 : Nat) : Int) by omega]
      rw [hx1] at hP
      refine kx_at h b3 hx1 ⟨_, _, n3, ⟨by omega, by omega⟩, fun z => am_qz_mk ?_, fun z => am_qz_mk ?_⟩
      · have z : ¬ (f x).toInt = (b : Int) := z
        rw [(n4 x hx2).1] at z
        have e : (Option.map s (some x) == some b) = false := by simp; omega
        rw [e] at hP
        exact hP
      · have z : (f x).toInt = (b : Int) := z
        rw [(n4 x hx2).1] at z
        have e : (Option.map s (some x) == some b) = true := by simp; omega
        rw [e] at hP
        exact hP
  · rw [if_neg (by omega)] at hP
    cases hb : T.2.2 k with
    | none => exact absurd ((hq.bN hk).mpr hb) hx
    | some x =>
      rw [hb, if_pos (by rfl)] at hP
      exact hP
  · rw [if_pos (by omega), (hq.bN hk).mp hx] at hP
    exact hP
  · rw [if_pos (by omega)] at hP
    have e : (b == 2) = false := by simp; omega
    rw [e, Bool.and_false] at hP
    exact hP
  · rw [if_pos (by omega)] at hP
    have e : (b == 2) = true := by simp; omega
    cases hb' : T.2.2 k with
    | none => exact absurd ((hq.bN hk).mpr hb') hx
    | some x =>
      rw [hb', e] at hP
      exact hP
theorem kx_besideOf_2 {c d : Nat} {P : Int → ah_H → Prop} (h : xt S.1 a n s T) (hc : c < 8) (hd : d ≤ 8) (hno : ∀ e, e < d → (sp_near c e && (T.1 e).isEmpty) = false) (hP : P (sp_on (sp_free T c)) S) :
    VX0_besideOf l (am_qi P) 2 [(0, am_R a), (1, am_I c), (2, am_I d)] [] S := by
  obtain ⟨hX, hok, p, hi', ce, bo, ho, ⟨e0, e1, e2, e3, e4, e5⟩, hq⟩ := id h
  generalize hm : 8 - d = m
  induction m generalizing d with
  | zero =>
    refine bX0_besideOf_2 _ _ (by first | exact am_rN (by omega) | exact ⟨by omega, by omega⟩ | assumption) _ (by first | exact am_rN (by omega) | exact ⟨by omega, by omega⟩ | assumption) ⟨fun _ => am_qi_mk ⟨by decide, by decide⟩ ?_, fun z => absurd z (by omega)⟩
    unfold sp_free at hP
    rw [sp_find_none (fun e he => hno e (by omega))] at hP
    exact hP
  | succ m ih =>
    have next : (sp_near c d && (T.1 d).isEmpty) = false → VX0_besideOf l (am_qi P) 2 [(0, am_R a), (1, am_I c), (2, am_I ((d : Int) + 1))] [] S := fun z => ih (d := d + 1) (by omega) (fun e he => by
      by_cases q : e = d
      · rw [q]
        exact z
      · exact hno e (by omega)) (by omega)
    refine bX0_besideOf_2 _ _ (by first | exact am_rN (by omega) | exact ⟨by omega, by omega⟩ | assumption) _ (by first | exact am_rN (by omega) | exact ⟨by omega, by omega⟩ | assumption) ⟨fun z => absurd z (by omega), fun _ => kx_isNeighbour hc (by omega) ⟨fun z => next (by rw [z]; rfl), fun z => ⟨_, e0, _, rfl, _, _, e2, ⟨by omega, by omega⟩, fun z2 => next ?_, fun z2 => am_qi_mk (am_rN (by omega)) ?_⟩⟩⟩
    · rw [hq.len (by omega)] at z2
      rw [z, Bool.true_and, Bool.eq_false_iff]
      intro q
      rw [List.isEmpty_iff] at q
      rw [q] at z2
      exact z2 rfl
    · rw [hq.len (by omega)] at z2
      have q : T.1 d = [] := List.eq_nil_of_length_eq_zero (by omega)
      unfold sp_free at hP
      rw [sp_find_some (show d < 8 by omega) (by rw [z, q]; rfl) (fun e he => hno e he)] at hP
      exact hP
theorem kx_besideOf {c : Nat} {P : Int → ah_H → Prop} (h : xt S.1 a n s T) (hc : c < 8) (hP : P (sp_on (sp_free T c)) S) : kX0_besideOf l [am_R a, am_I c] S (am_qi P) :=
  bX0_besideOf _ _ (by first | exact am_rN (by omega) | exact ⟨by omega, by omega⟩ | assumption) (kx_besideOf_2 (d := 0) h hc (Nat.zero_le _) (fun e he => absurd he (by omega)) hP)
theorem sp_free_lt {c d : Nat} (h : sp_free T c = some d) : d < 8 := List.mem_range.mp (List.mem_of_find?_eq_some h)
end KX3
