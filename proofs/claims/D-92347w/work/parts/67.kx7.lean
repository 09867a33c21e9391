section KX7
variable {l : Launch} {S : ah_H} {w : Nat → Nat} {Z : sp_Z} {tr : Nat}
theorem xr_.w1 (k : xr_ S w tr Z) {b t : Nat} {c0 : ah_C} (hb : S.1 b = some c0) (hw : w b = t) (c : ah_C) : (∀ q, S.1 q ≠ none → w q ∉ [t] → va_up S.1 b (some c) q = S.1 q ∧ w q = w q) ∧ ∀ q, S.2 ≤ q → va_up S.1 b (some c) q = none := by
  refine ⟨fun q _ hq => ⟨up_ne _ _ (fun e => hq (by rw [e, hw]; exact List.mem_cons_self)), rfl⟩, fun q hq => ?_⟩
  rw [up_ne _ _ (fun e => by rw [← e, k.2.1.2 q hq] at hb; cases hb)]
  exact k.2.1.2 q hq
theorem xr_.tk (k : xr_ S w tr Z) {i : Nat} (hi : i < zK Z) : ∃ (f : Nat → Option Nat) (a : Nat), S.1 42 = some (.inr (3, 8, .inr f)) ∧ f (i : Int).toNat = some a ∧ 647 ≤ a ∧ xt S.1 a (zn Z) (zs Z) (zKT Z i) := by
  obtain ⟨-, f, kt, h1, h2⟩ := k.K
  obtain ⟨g1, g2, g3, g4⟩ := h2 i hi
  exact ⟨f, kt i, h1, g1, g2, g4⟩
theorem kx_reach {a v : Int} {P : Int → ah_H → Prop} (h0 : xr S Z) (ha : am_r a) (hv : am_r v) (hP : ∀ S', xr S' (zo_reach Z a v).2 → P (zo_reach Z a v).1 S') : kX0_reach l [am_R 32, am_I a, am_I v] S (am_qi P) := by
  obtain ⟨w, tr, h⟩ := h0
  unfold zo_reach at hP
  obtain ⟨c0, f, c1, c2⟩ := h.C
  refine bX0_reach _ _ (by first | exact am_rN (by omega) | exact ⟨by omega, by omega⟩ | assumption) _ (by first | exact am_rN (by omega) | exact ⟨by omega, by omega⟩ | assumption) (kx_isArm ha ⟨fun h1 => am_qi_mk ⟨by decide, by decide⟩ ?_, fun h1 => kx_isIn ⟨fun h2 => ?_, fun h2 => am_qi_mk ⟨by decide, by decide⟩ ?_⟩⟩)
  · have h1 := of_decide_eq_false h1
    rw [if_neg (fun z => h1 z.1)] at hP
    exact hP S ⟨w, tr, h⟩
  · have h1 := of_decide_eq_true h1
    have h2 := of_decide_eq_true h2
    obtain ⟨a, rfl⟩ : ∃ o : Nat, a = o := ⟨a.toNat, by omega⟩
    obtain ⟨v, rfl⟩ : ∃ o : Nat, v = o := ⟨v.toNat, by omega⟩
    rw [if_pos ⟨h1, h2⟩, Int.toNat_natCast, Int.toNat_natCast] at hP
    refine ⟨_, h.I.2, _, rfl, _, _, c1, ⟨by omega, by omega⟩, by decide, ?_⟩
    rintro G rfl
    obtain ⟨fr, fn⟩ := h.w1 c1 c0 (.inr (0, 2, .inl (va_up f (a : Int).toNat (Int32.ofInt (v : Int)))))
    refine am_qi_mk (am_rt _) ?_
    rw [show (f (a : Int).toNat).toInt = (zR Z a : Int) from c2 a (by omega)]
    refine hP _ ⟨w, tr, ⟨h.1.1, h.1.2.1, fun i hi => ?_, h.1.2.2.2⟩, ⟨h.2.1.1, fn⟩, h.I.kept fr (by decide), h.A.kept fr (by decide), h.B.kept fr (by decide), h.K.kept h.K8 fr (by decide) (by decide), ⟨c0, va_up f (a : Int).toNat (Int32.ofInt (v : Int)), up_at S.1 63 _, fun i hi => ?_⟩, h.D.kept h.L8 h.e1 fr (by decide) (by decide) (by decide), h.E.kept fr (by decide) (by decide), h.N.kept h.e1 fr (by decide) (by decide) (by decide), h.G.kept fr (by decide), h.Y.kept fr (by decide), h.U.kept fr (by decide), h.X.kept fr (by decide) h.X.1⟩
    · show va_up (zR Z) a v i ≤ 255
      rw [up_if]
      split
      · omega
      · exact h.1.2.2.1 i hi
    · show (va_up f a (Int32.ofInt v) i).toInt = ((va_up (zR Z) a v i : Nat) : Int)
      by_cases e : i = a
      · rw [e, up_at, up_at]
        exact am_ti (am_rN (by omega))
      · rw [up_ne _ _ e, up_ne _ _ e]
        exact c2 i hi
  · have h2 := of_decide_eq_false h2
    rw [if_neg (fun z => h2 z.2)] at hP
    exact hP S ⟨w, tr, h⟩
theorem kx_pile {c i : Int} {P : Int → ah_H → Prop} (h0 : xr S Z) (hc : am_r c) (hi : am_r i) (hP : ∀ S', xr S' (zo_pile Z c i).2 → P (zo_pile Z c i).1 S') : kX0_pile l [am_R 32, am_I c, am_I i] S (am_qi P) := by
  obtain ⟨w, tr, h⟩ := h0
  have h6 := h.n6
  unfold zo_pile at hP
  have hP := fun q => hP S q
  have m := h.B.2
  obtain ⟨hX, hok, p, hi', ce, bo, ho, ⟨e0, e1, e2, e3, e4, e5⟩, hq⟩ := id m
  refine bX0_pile _ _ (by first | exact am_rN (by omega) | exact ⟨by omega, by omega⟩ | assumption) _ (by first | exact am_rN (by omega) | exact ⟨by omega, by omega⟩ | assumption) (kx_isCell hc ⟨fun h1 => am_qi_mk ⟨by decide, by decide⟩ ?_, fun h1 => ⟨fun h2 => ⟨fun h3 => ⟨_, h.I.2, _, rfl, _, e0, _, rfl, _, _, e2, ?_⟩, fun h3 => ⟨_, h.I.2, _, rfl, _, e0, _, rfl, _, _, e2, ?_⟩⟩, fun h2 => am_qi_mk ⟨by decide, by decide⟩ ?_⟩⟩)
  · have h1 := of_decide_eq_false h1
    rw [if_neg (fun z => h1 z.1)] at hP
    exact hP ⟨w, tr, h⟩
  · have h1 := of_decide_eq_true h1
    obtain ⟨c, rfl⟩ : ∃ o : Nat, c = o := ⟨c.toNat, by omega⟩
    obtain ⟨i, rfl⟩ : ∃ o : Nat, i = o := ⟨i.toNat, by omega⟩
    rw [if_pos ⟨h1, h2⟩, if_neg h3, Int.toNat_natCast, Int.toNat_natCast] at hP
    have hl := hq.len (c := c) (by omega)
    have hl2 := hok.len (c := c) (by omega)
    refine ⟨⟨by omega, by omega⟩, fun h4 => am_qi_mk ⟨by decide, by decide⟩ ?_, fun h4 => ?_⟩
    · rw [List.getElem?_eq_none (by omega)] at hP
      exact hP ⟨w, tr, h⟩
    · obtain ⟨k, g1, g2, -⟩ := m.tb (c := c) (by omega) (i := i) (by omega)
      rw [g1] at hP
      exact kx_at m (by omega) g1 (am_qi_mk (am_rN (by omega)) (hP ⟨w, tr, h⟩))
  · have h1 := of_decide_eq_true h1
    obtain ⟨c, rfl⟩ : ∃ o : Nat, c = o := ⟨c.toNat, by omega⟩
    rw [if_pos ⟨h1, h2⟩, if_pos h3, Int.toNat_natCast] at hP
    refine ⟨⟨by omega, by omega⟩, am_qi_mk (am_rt _) ?_⟩
    rw [hq.len (by omega)]
    exact hP ⟨w, tr, h⟩
  · rw [if_neg (fun z => h2 z.2)] at hP
    exact hP ⟨w, tr, h⟩
theorem kx_where {k v : Int} {P : Int → ah_H → Prop} (h0 : xr S Z) (hk : am_r k) (hv : am_r v) (hP : ∀ S', xr S' (zo_where Z k v).2 → P (zo_where Z k v).1 S') : kX0_where l [am_R 32, am_I k, am_I v] S (am_qi P) := by
  obtain ⟨w, tr, h⟩ := h0
  have h6 := h.n6
  unfold zo_where at hP
  have hP := fun q => hP S q
  have m := h.B.2
  obtain ⟨hX, hok, p, hi', ce, bo, ho, ⟨e0, e1, e2, e3, e4, e5⟩, hq⟩ := id m
  obtain ⟨-, f, g, a1, a2, a3⟩ := h.A
  refine bX0_where _ _ (by first | exact am_rN (by omega) | exact ⟨by omega, by omega⟩ | assumption) _ (by first | exact am_rN (by omega) | exact ⟨by omega, by omega⟩ | assumption) ⟨_, h.I.2, kx_isThing h hk ⟨fun h1 => ?_, fun h1 => am_qi_mk ⟨by decide, by decide⟩ ?_⟩⟩
  · have h1 := of_decide_eq_true h1
    obtain ⟨k, rfl⟩ : ∃ o : Nat, k = o := ⟨k.toNat, by omega⟩
    have hk' : k < zn Z := by omega
    have go : 0 ≤ v ∧ v ≤ 6 → P (zo_whereV Z k v.toNat) S := fun z => by
      have := hP
      rw [if_pos ⟨h1, z⟩, Int.toNat_natCast] at this
      exact this ⟨w, tr, h⟩
    refine ⟨fun h2 => ⟨_, h.I.2, _, rfl, _, _, a1, ⟨by omega, by omega⟩, am_qi_mk (am_rt _) ?_⟩, fun h2 => ⟨_, h.I.2, _, rfl, _, _, a2, ⟨by omega, by omega⟩, am_qi_mk (am_rt _) ?_⟩, fun h2 => ⟨_, h.I.2, _, rfl, _, e0, kx_cellOf m hk' (am_qi_mk ?_ ?_)⟩, fun h2 => ⟨_, h.I.2, _, rfl, _, e0, _, rfl, _, _, e4, ⟨by omega, by omega⟩, fun h3 => am_qi_mk ⟨by decide, by decide⟩ ?_, fun h3 => ?_⟩, fun h2 => ⟨_, h.I.2, _, rfl, _, e0, _, rfl, _, _, e4, ⟨by omega, by omega⟩, am_qi_mk (am_rt _) ?_⟩, fun h2 => ⟨_, h.I.2, _, rfl, _, e0, kx_isClear m hk' ⟨fun h3 => am_qi_mk ⟨by decide, by decide⟩ ?_, fun h3 => am_qi_mk ⟨by decide, by decide⟩ ?_⟩⟩, fun h2 => ⟨_, h.I.2, _, rfl, _, e0, _, rfl, _, _, e5, ⟨by omega, by omega⟩, am_qi_mk (am_rt _) ?_⟩, fun h2 => am_qi_mk ⟨by decide, by decide⟩ ?_⟩
    · have := go (by omega)
      rw [h2] at this
      rw [show (f (k : Int).toNat).toInt = (zs Z k : Int) from (a3 k hk').1]
      exact this
    · have := go (by omega)
      rw [h2] at this
      rw [show (g (k : Int).toNat).toInt = (zw Z k : Int) from (a3 k hk').2]
      exact this
    · have := (hok.base hk').2.2.1
      exact am_rN (by omega)
    · have := go (by omega)
      rw [h2] at this
      exact this
    · have := go (by omega)
      rw [h2, show zo_whereV Z k (3 : Int).toNat = (if (zT Z).2.2 k = none then (sp_below (zT Z) k : Int) else -1000000) from rfl, if_neg (fun z => h3 ((hq.bN hk').mpr z))] at this
      exact this
    · have hb := (hq.bN hk').mp h3
      have := go (by omega)
      rw [h2, show zo_whereV Z k (3 : Int).toNat = (if (zT Z).2.2 k = none then (sp_below (zT Z) k : Int) else -1000000) from rfl, if_pos hb] at this
      have hon := m.on hk' hb
      exact kx_below m hk' hb (am_qi_mk (am_rN (by omega)) this)
    · have := go (by omega)
      rw [h2] at this
      rw [show (bo (k : Int).toNat).toInt = sp_on ((zT Z).2.2 k) from (hq.2 k hk').1]
      exact this
    · have := go (by omega)
      rw [h2, show zo_whereV Z k (5 : Int).toNat = (if sp_clear (zT Z) k = true then 1 else 0) from rfl, h3] at this
      exact this
    · have := go (by omega)
      rw [h2, show zo_whereV Z k (5 : Int).toNat = (if sp_clear (zT Z) k = true then 1 else 0) from rfl, h3] at this
      exact this
    · have := go (by omega)
      rw [h2] at this
      rw [show (ho (k : Int).toNat).toInt = sp_on (sp_inside (zn Z) (zT Z) k) from (hq.2 k hk').2.2]
      exact this
    · rw [if_neg (fun z => by omega)] at hP
      exact hP ⟨w, tr, h⟩
  · have h1 := of_decide_eq_false h1
    rw [if_neg (fun z => h1 z.1)] at hP
    exact hP ⟨w, tr, h⟩
theorem kx_back {k : Int} {P : Int → ah_H → Prop} (h0 : xr S Z) (hk : am_r k) (hP : ∀ S', xr S' (zo_back Z k).2 → P (zo_back Z k).1 S') : kX0_back l [am_R 32, am_I k] S (am_qi P) := by
  obtain ⟨w, tr, h⟩ := h0
  have h6 := h.K8
  unfold zo_back at hP
  refine bX0_back _ _ (by first | exact am_rN (by omega) | exact ⟨by omega, by omega⟩ | assumption) ⟨_, h.I.2, kx_isKept h hk ⟨fun h1 => ?_, fun h1 => am_qi_mk ⟨by decide, by decide⟩ ?_⟩⟩
  · have h1 := of_decide_eq_true h1
    obtain ⟨k, rfl⟩ : ∃ o : Nat, k = o := ⟨k.toNat, by omega⟩
    rw [if_pos h1, Int.toNat_natCast] at hP
    obtain ⟨f, a, g1, g2, g3, g4⟩ := h.tk (i := k) (by omega)
    obtain ⟨-, -, p, hi', ce, bo, ho, e0, -⟩ := h.B.2
    refine ⟨_, h.I.2, _, rfl, _, rfl, _, _, g1, ⟨by omega, by omega⟩, _, g2, _, e0.1, kx_lay (by decide) e0 g4 (by omega) (fun S' x f => am_qi_mk ⟨by decide, by decide⟩ (hP S' ⟨w, tr, h.t0 f x⟩))⟩
  · have h1 := of_decide_eq_false h1
    rw [if_neg h1] at hP
    exact hP S ⟨w, tr, h⟩
theorem kx_same_31 {a b : Int} {P : Int → ah_H → Prop} (h : xr_ S w tr Z) (ha : a = -1000000 ∨ 0 ≤ a ∧ a < zK Z) (hb : b = -1000000 ∨ 0 ≤ b ∧ b < zK Z) (hP : P (if sp_same (zn Z) (z_tab Z a) (z_tab Z b) = true then 1 else 0) S) :
    VX0_same l (am_qi P) 31 [(0, am_R 32), (1, am_I a), (2, am_I b)] [] S := by
  have h6 := h.K8
  have n6 := h.n6
  have m := h.B.2
  have fin : ∀ {x : Bool}, sp_same (zn Z) (z_tab Z a) (z_tab Z b) = x → (x = false → am_qi P (some (am_I 0)) S) ∧ (x = true → am_qi P (some (am_I 1)) S) := fun {x} hx => ⟨fun z => by
    rw [hx, z] at hP
    exact am_qi_mk ⟨by decide, by decide⟩ hP, fun z => by
    rw [hx, z] at hP
    exact am_qi_mk ⟨by decide, by decide⟩ hP⟩
  have ta : ∀ k : Nat, a = (k : Int) → k < zK Z → z_tab Z a = zKT Z k := fun k hk _ => by
    unfold z_tab
    rw [if_neg (by omega), hk, Int.toNat_natCast]
  have tb : ∀ k : Nat, b = (k : Int) → k < zK Z → z_tab Z b = zKT Z k := fun k hk _ => by
    unfold z_tab
    rw [if_neg (by omega), hk, Int.toNat_natCast]
  refine bX0_same_31 _ _ (by first | exact am_rN (by omega) | exact ⟨by omega, by omega⟩ | assumption) _ (by first | exact am_rN (by omega) | exact ⟨by omega, by omega⟩ | assumption) ⟨fun h1 => ?_, fun h1 => ?_⟩
  · obtain ⟨k, hk⟩ : ∃ o : Nat, a = o := ⟨a.toNat, by omega⟩
    have tk := ta k hk (by omega)
    subst hk
    obtain ⟨f, x, g1, g2, g3, g4⟩ := h.tk (i := k) (by omega)
    refine ⟨_, h.I.2, _, rfl, _, _, g1, ⟨by omega, by omega⟩, _, g2, fun h2 => ?_, fun h2 => ?_⟩
    · obtain ⟨j, hj⟩ : ∃ o : Nat, b = o := ⟨b.toNat, by omega⟩
      have tj := tb j hj (by omega)
      subst hj
      obtain ⟨f', y, q1, q2, q3, q4⟩ := h.tk (i := j) (by omega)
      cases g1.symm.trans q1
      refine ⟨⟨by omega, by omega⟩, _, q2, _, ⟨rfl, am_rN (by omega)⟩, _, g4.hd, kx_isSame g4 q4 (fin ?_)⟩
      rw [tk, tj]
    · refine ⟨_, rfl, _, ⟨rfl, am_rN (by omega)⟩, _, g4.hd, kx_isSame g4 m (fin ?_)⟩
      rw [tk]
      unfold z_tab
      rw [if_pos h2]
  · refine ⟨_, h.I.2, _, rfl, fun h2 => ?_, fun h2 => ?_⟩
    · obtain ⟨j, hj⟩ : ∃ o : Nat, b = o := ⟨b.toNat, by omega⟩
      have tj := tb j hj (by omega)
      subst hj
      obtain ⟨f', y, q1, q2, q3, q4⟩ := h.tk (i := j) (by omega)
      refine ⟨_, rfl, _, _, q1, ⟨by omega, by omega⟩, _, q2, _, ⟨rfl, am_rN (by omega)⟩, _, m.hd, kx_isSame m q4 (fin ?_)⟩
      rw [tj]
      unfold z_tab
      rw [if_pos h1]
    · refine ⟨_, ⟨rfl, am_rN (by omega)⟩, _, m.hd, kx_isSame m m (fin ?_)⟩
      unfold z_tab
      rw [if_pos h1, if_pos h2]
theorem kx_same {a b : Int} {P : Int → ah_H → Prop} (h0 : xr S Z) (ha : am_r a) (hb : am_r b) (hP : ∀ S', xr S' (zo_same Z a b).2 → P (zo_same Z a b).1 S') : kX0_same l [am_R 32, am_I a, am_I b] S (am_qi P) := by
  obtain ⟨w, tr, h⟩ := h0
  unfold zo_same at hP
  have hP := fun q => hP S q
  have ok : (a = -1000000 ∨ 0 ≤ a ∧ a < zK Z) → (b = -1000000 ∨ 0 ≤ b ∧ b < zK Z) → VX0_same l (am_qi P) 31 [(0, am_R 32), (1, am_I a), (2, am_I b)] [] S := fun g1 g2 => by
    have hp := hP
    rw [if_pos ⟨g1, g2⟩] at hp
    exact kx_same_31 h g1 g2 (hp ⟨w, tr, h⟩)
  have bad : ¬ ((a = -1000000 ∨ 0 ≤ a ∧ a < zK Z) ∧ (b = -1000000 ∨ 0 ≤ b ∧ b < zK Z)) → am_qi P (some (am_I (-1000001))) S := fun g => by
    have hp := hP
    rw [if_neg g] at hp
    exact am_qi_mk ⟨by decide, by decide⟩ (hp ⟨w, tr, h⟩)
  refine bX0_same _ _ (by first | exact am_rN (by omega) | exact ⟨by omega, by omega⟩ | assumption) _ (by first | exact am_rN (by omega) | exact ⟨by omega, by omega⟩ | assumption) ⟨fun h1 => ⟨fun h2 => ok (Or.inl h1) (Or.inl h2), fun h2 => ⟨_, h.I.2, kx_isKept h hb ⟨fun h3 => ok (Or.inl h1) (Or.inr (of_decide_eq_true h3)), fun h3 => bad (fun z => ?_)⟩⟩⟩, fun h1 => ⟨_, h.I.2, kx_isKept h ha ⟨fun h2 => bad (fun z => ?_), fun h2 => ⟨fun h3 => ok (Or.inr (of_decide_eq_true h2)) (Or.inl h3), fun h3 => ⟨_, h.I.2, kx_isKept h hb ⟨fun h4 => ok (Or.inr (of_decide_eq_true h2)) (Or.inr (of_decide_eq_true h4)), fun h4 => bad (fun z => ?_)⟩⟩⟩⟩⟩⟩
  · have h3 := of_decide_eq_false h3
    exact z.2.elim h2 h3
  · have h2 := of_decide_eq_false h2
    exact z.1.elim h1 h2
  · have h4 := of_decide_eq_false h4
    exact z.2.elim h3 h4
end KX7
