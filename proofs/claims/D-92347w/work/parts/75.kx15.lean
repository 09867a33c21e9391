theorem up_up {α : Type} (f : Nat → α) (k : Nat) (u v : α) : va_up (va_up f k u) k v = va_up f k v := by
  funext j
  unfold va_up
  by_cases e : j = k
  · rw [if_pos e, if_pos e]
  · rw [if_neg e, if_neg e, if_neg e]
section KX15
variable {l : Launch} {S : ah_H} {w : Nat → Nat} {Z : sp_Z} {tr : Nat}
theorem kx_init6 {a st en who : Nat} {no : Bool} {P : ah_H → Prop} (hs : st < 1000) (he : en < 1000) (hw : who < 1000) (hX : 32 ≤ a) (h : S.1 a = some (.inl (6, ah_dX6))) (hP : P (va_up S.1 a (some (.inl (6, [am_I st, am_I en, am_I (am_b no), am_I who, am_I (am_b true)]))), S.2)) : kX6_init l [am_R a, am_I st, am_I en, am_I (am_b no), am_I who] S (am_qv P) := by
  refine bX6_init _ _ (by first | exact am_rN (by omega) | exact ⟨by omega, by omega⟩ | assumption) _ (by first | exact am_rN (by omega) | exact ⟨by omega, by omega⟩ | assumption) _ _ (by first | exact am_rN (by omega) | exact ⟨by omega, by omega⟩ | assumption) ⟨_, h, hX, (show 4 < 5 by decide), ?_⟩
  rintro _ rfl
  refine ⟨_, up_at S.1 a _, (show 0 < 5 by decide), ?_⟩
  rintro _ rfl
  refine ⟨_, up_at (ah_sf S _ _ _ _ _).1 a _, (show 1 < 5 by decide), ?_⟩
  rintro _ rfl
  refine ⟨_, up_at (ah_sf (ah_sf S _ _ _ _ _) _ _ _ _ _).1 a _, (show 2 < 5 by decide), ?_⟩
  rintro _ rfl
  refine ⟨_, up_at (ah_sf (ah_sf (ah_sf S _ _ _ _ _) _ _ _ _ _) _ _ _ _ _).1 a _, (show 3 < 5 by decide), ?_⟩
  rintro _ rfl
  refine am_qv_mk ?_
  simp only [ah_sf, up_up]
  exact hP
theorem kx_lesson_ {mc ms a b who : Nat} {no : Bool} (h : xr_ S w tr Z) (ha : a < zK Z) (hb : b < zK Z) (hw : who ≤ 9) (hL : zL Z < 8) (hmc : 2 ≤ mc) (hms : 35 ≤ ms) {x : Bool → ah_H → Prop}
    (hP : ∀ S' w', xr_ S' w' tr (z_D Z (zL Z + 1, va_up (zLf Z) (zL Z) (a, b, no, who, true))) → (∀ q, S.1 q ≠ none → w q ≠ 6 → S'.1 q = S.1 q ∧ w' q = w q) → x true S') :
    kX6_init l [am_R S.2, am_I a, am_I b, am_I (am_b no), am_I who] (ah_mk S (.inl (6, ah_dX6))) (am_qv fun G => ∃ mc' ms' : Nat, ((1 + mc') ≤ mc ∧ (5 + ms') ≤ ms) ∧ ∃ fs, G.1 64 = some (.inl (15, fs)) ∧ kJ2_add l mc' ms' [am_R 64, am_R S.2] G (am_qz x)) := by
  have K8 := h.K8
  have b0 := h.2.1.1
  refine kx_init6 (by omega) (by omega) (by omega) (by omega) (up_at S.1 S.2 _) ?_
  have e : (va_up (ah_mk S (.inl (6, ah_dX6))).1 S.2 (some (.inl (6, [am_I a, am_I b, am_I (am_b no), am_I who, am_I (am_b true)]))), (ah_mk S (.inl (6, ah_dX6))).2) = (va_up S.1 S.2 (some (.inl (6, [am_I a, am_I b, am_I (am_b no), am_I who, am_I (am_b true)]))), S.2 + 1) := by
    simp only [ah_mk, up_up]
  rw [e]
  have o1 : ∀ q, q ≠ S.2 → va_up S.1 S.2 (some (.inl (6, [am_I a, am_I b, am_I (am_b no), am_I who, am_I (am_b true)]))) q = S.1 q := fun q hq => up_ne _ _ hq
  have oO : va_up S.1 S.2 (some (.inl (6, [am_I a, am_I b, am_I (am_b no), am_I who, am_I (am_b true)]))) S.2 = some (.inl (6, [am_I a, am_I b, am_I (am_b no), am_I who, am_I (am_b true)])) := up_at S.1 S.2 _
  generalize va_up S.1 S.2 (some (.inl (6, [am_I a, am_I b, am_I (am_b no), am_I who, am_I (am_b true)]))) = h1 at *
  have n1 : ∀ q, S.2 + 1 ≤ q → h1 q = none := fun q hq => (o1 q (by omega)).trans (h.2.1.2 q (by omega))
  have r1 : xr_ (h1, S.2 + 1) (xtg w S.2 (S.2 + 1) (300 + zL Z)) tr Z := h.new ⟨⟨Nat.le_succ _, n1⟩, fun q hq _ => by
    have := h.some hq
    exact ⟨o1 q (by omega), xtg_out (Or.inl this)⟩⟩ (fun q hq => (xtg_out (Or.inl (by omega))).trans (h.X.1 q hq))
  have wo : xtg w S.2 (S.2 + 1) (300 + zL Z) S.2 = 300 + zL Z := xtg_in (Nat.le_refl _) (by omega)
  obtain ⟨q1, mk0, e0, cap0, f0, q2, -⟩ := id r1.D
  refine ⟨mc - 1, ms - 5, by omega, _, q2, kx_add r1.D (by decide) r1.X.1 n1 (by show 647 ≤ S.2 + 1; omega) (by decide) (by omega) (by omega) (by omega) (fun i o _ ho => ah_isL ho.2.2) (ah_isL oO) (by rw [wo]; omega) (fun S' mk e cap f g1 g2 g3 g4 g5 g6 g7 g8 g9 g10 g11 g12 g13 => hP S' (xtg (xtg w S.2 (S.2 + 1) (300 + zL Z)) (S.2 + 1) S'.2 6) ?_ ?_)⟩
  rotate_left
  · intro q hq hn
    have hql := h.some hq
    refine ⟨(g3 q (by rw [show (h1, S.2 + 1).1 q = h1 q from rfl, o1 q (by omega)]; exact hq) (by rw [xtg_out (Or.inl hql)]; exact hn)).trans (o1 q (by omega)), (xtg_out (Or.inl (by omega))).trans (xtg_out (Or.inl hql))⟩
  have fr : ∀ q, h1 q ≠ none → xtg w S.2 (S.2 + 1) (300 + zL Z) q ∉ [6] → S'.1 q = h1 q ∧ xtg (xtg w S.2 (S.2 + 1) (300 + zL Z)) (S.2 + 1) S'.2 6 q = xtg w S.2 (S.2 + 1) (300 + zL Z) q := fun q hq hn => by
    have := r1.some hq
    exact ⟨g3 q hq (by simpa using hn), xtg_out (Or.inl this)⟩
  have hx := r1.all (S' := S') (w' := xtg (xtg w S.2 (S.2 + 1) (300 + zL Z)) (S.2 + 1) S'.2 6) ⟨⟨g1, g2⟩, fr⟩ (fun q hq => (xtg_out (Or.inl (by show q < S.2 + 1; omega))).trans (r1.X.1 q hq)) (by decide)
  refine ⟨⟨h.1.1, h.1.2.1, h.1.2.2.1, ⟨by show zL Z + 1 ≤ 8; omega, fun k hk => ?_⟩, h.1.2.2.2.2⟩, hx.1, r1.I.kept fr (by decide), r1.A.kept fr (by decide), r1.B.kept fr (by decide), r1.K.kept K8 fr (by decide) (by decide), r1.C.kept fr (by decide), ⟨(xtg_out (Or.inl (by omega))).trans q1, mk, e, cap, f, g4, g5, g6, g7, g8, Or.inr ⟨g9, g10, g11⟩, fun i hi => ?_⟩, r1.E.kept fr (by decide) (by decide), r1.N.kept r1.e1 fr (by decide) (by decide) (by decide), r1.G.kept fr (by decide), r1.Y.kept fr (by decide), r1.U.kept fr (by decide), hx.2⟩
  · show (va_up (zLf Z) (zL Z) (a, b, no, who, true) k).1 < zK Z ∧ (va_up (zLf Z) (zL Z) (a, b, no, who, true) k).2.1 < zK Z ∧ (va_up (zLf Z) (zL Z) (a, b, no, who, true) k).2.2.2.1 ≤ 9
    rw [up_if]
    split
    · exact ⟨ha, hb, hw⟩
    · have hk : k < zL Z + 1 := hk
      exact h.1.2.2.2.1.2 k (by omega)
  · have hi : i < zL Z + 1 := hi
    show ∃ o, f i = some o ∧ 647 ≤ o ∧ _ ∧ S'.1 o = some (.inl (6, [am_I ((va_up (zLf Z) (zL Z) (a, b, no, who, true) i).1 : Int), am_I ((va_up (zLf Z) (zL Z) (a, b, no, who, true) i).2.1 : Int), am_I (am_b (va_up (zLf Z) (zL Z) (a, b, no, who, true) i).2.2.1), am_I ((va_up (zLf Z) (zL Z) (a, b, no, who, true) i).2.2.2.1 : Int), am_I (am_b (va_up (zLf Z) (zL Z) (a, b, no, who, true) i).2.2.2.2)]))
    by_cases ei : i = zL Z
    · rw [ei, up_at]
      obtain ⟨z1, z2⟩ := xc_at fr wo (by simp; omega) oO
      exact ⟨S.2, g13, b0, z2, z1⟩
    · rw [up_ne _ _ ei]
      obtain ⟨o, y1, y2, y3, y4⟩ := g12 i (by omega)
      obtain ⟨z1, z2⟩ := xc_at fr y3 (by simp; omega) y4
      exact ⟨o, y1, y2, z2, z1⟩
theorem kx_lessonF {mc ms : Nat} {a b no who : Int} {P : Int → ah_H → Prop} (h : xr_ S w tr Z) (ha : am_r a) (hb : am_r b) (hno : am_r no) (hwho : am_r who) (hmc : 2 ≤ mc) (hms : 35 ≤ ms) (hP : ∀ S' w', xr_ S' w' tr (zo_teach Z a b no who).2 → (∀ q, S.1 q ≠ none → w q ≠ 6 → S'.1 q = S.1 q ∧ w' q = w q) → P (zo_teach Z a b no who).1 S') : kX0_lesson l mc ms [am_R 32, am_I a, am_I b, am_I no, am_I who] S (am_qi P) := by
  have rf : ∀ q, S.1 q ≠ none → w q ≠ 6 → S.1 q = S.1 q ∧ w q = w q := fun _ _ _ => ⟨rfl, rfl⟩
  have K8 := h.K8
  have L8 := h.L8
  unfold zo_teach at hP
  obtain ⟨-, mk, e, cap, f, d1, -⟩ := id h.D
  have bad : (¬ ((0 ≤ a ∧ a < zK Z) ∧ (0 ≤ b ∧ b < zK Z) ∧ (0 ≤ no ∧ no ≤ 1) ∧ 0 ≤ who ∧ who ≤ 9)) → am_qi P (some (am_I (-1000001))) S := fun g => by
    have hp := hP S w
    rw [if_neg g] at hp
    exact am_qi_mk ⟨by decide, by decide⟩ (hp h rf)
  refine bX0_lesson _ _ (by first | exact am_rN (by omega) | exact ⟨by omega, by omega⟩ | assumption) _ (by first | exact am_rN (by omega) | exact ⟨by omega, by omega⟩ | assumption) _ (by first | exact am_rN (by omega) | exact ⟨by omega, by omega⟩ | assumption) _ (by first | exact am_rN (by omega) | exact ⟨by omega, by omega⟩ | assumption) ⟨_, h.I.2, kx_isKept h ha ⟨fun h1 => bad (fun z => of_decide_eq_false h1 z.1), fun h1 => ⟨_, h.I.2, kx_isKept h hb ⟨fun h2 => bad (fun z => of_decide_eq_false h2 z.2.1), fun h2 => kx_isIn ⟨fun h3 => bad (fun z => of_decide_eq_false h3 z.2.2.1), fun h3 => kx_isIn ⟨fun h4 => ⟨_, h.I.2, _, rfl, _, d1, kx_size h.D ⟨fun h5 => ?_, fun h5 => ?_⟩⟩, fun h4 => bad (fun z => of_decide_eq_false h4 z.2.2.2)⟩⟩⟩⟩⟩⟩
  · have h1 := of_decide_eq_true h1
    have h2 := of_decide_eq_true h2
    have h3 := of_decide_eq_true h3
    have h4 := of_decide_eq_true h4
    obtain ⟨a, rfl⟩ : ∃ o : Nat, a = o := ⟨a.toNat, by omega⟩
    obtain ⟨b, rfl⟩ : ∃ o : Nat, b = o := ⟨b.toNat, by omega⟩
    obtain ⟨who, rfl⟩ : ∃ o : Nat, who = o := ⟨who.toNat, by omega⟩
    rw [if_pos ⟨h1, h2, h3, h4⟩, if_neg (by omega), Int.toNat_natCast, Int.toNat_natCast, Int.toNat_natCast] at hP
    have fin : ∀ S' w', xr_ S' w' tr (z_D Z (zL Z + 1, va_up (zLf Z) (zL Z) (a, b, decide (no = 1), who, true))) → (∀ q, S.1 q ≠ none → w q ≠ 6 → S'.1 q = S.1 q ∧ w' q = w q) → ∃ fs75, S'.1 32 = some (.inl (1, fs75)) ∧ ∃ x78, fs75[11]? = some (am_R x78) ∧ ∃ fs79, S'.1 x78 = some (.inl (15, fs79)) ∧ kJ2_size l [am_R x78] S' (am_qi fun r82 G81 => am_qi P (some (am_I (r82 - 1))) G81) := fun S' w' r hf => by
      obtain ⟨-, mk', e', cap', f', d2, -⟩ := id r.D
      refine ⟨_, r.I.2, _, rfl, _, d2, kx_size r.D (am_qi_eq (k := (zL Z : Int)) ?_ (am_rN (by omega)) (hP S' w' r hf))⟩
      show ((zL Z + 1 : Nat) : Int) - 1 = zL Z
      omega
    refine ⟨_, h.I.2, _, rfl, by omega, by omega, ?_⟩
    rintro _ rfl
    refine ⟨fun h6 => ?_, fun h6 => ?_⟩
    · exact kx_lesson_ (no := false) h (by omega) (by omega) (by omega) (by omega) hmc hms (fun S' w' hr hf => fin S' w' (by rw [decide_eq_false h6]; exact hr) hf)
    · exact kx_lesson_ (no := true) h (by omega) (by omega) (by omega) (by omega) hmc hms (fun S' w' hr hf => fin S' w' (by rw [decide_eq_true h6]; exact hr) hf)
  · have h1 := of_decide_eq_true h1
    have h2 := of_decide_eq_true h2
    have h3 := of_decide_eq_true h3
    have h4 := of_decide_eq_true h4
    rw [if_pos ⟨h1, h2, h3, h4⟩, if_pos (by omega)] at hP
    exact am_qi_mk ⟨by decide, by decide⟩ (hP S w h rf)
theorem kx_lesson {mc ms : Nat} {a b no who : Int} {P : Int → ah_H → Prop} (h0 : xr S Z) (ha : am_r a) (hb : am_r b) (hno : am_r no) (hwho : am_r who) (hmc : 2 ≤ mc) (hms : 35 ≤ ms) (hP : ∀ S', xr S' (zo_teach Z a b no who).2 → P (zo_teach Z a b no who).1 S') : kX0_lesson l mc ms [am_R 32, am_I a, am_I b, am_I no, am_I who] S (am_qi P) := by
  obtain ⟨w, tr, h⟩ := h0
  exact kx_lessonF h ha hb hno hwho hmc hms (fun S' w' r _ => hP S' ⟨w', tr, r⟩)
end KX15
