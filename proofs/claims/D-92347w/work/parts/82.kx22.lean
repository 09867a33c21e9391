theorem nin2 {t a b : Nat} (h1 : t ≠ a) (h2 : t ≠ b) : t ∉ [a, b] := by simp [h1, h2]
theorem ah_is5 {S : ah_H} {o : Nat} {fs : List am_W} (h : S.1 o = some (.inl (5, fs))) : ah_is S (some o) "TableArms$Sheet" := fun y hy => by
  cases hy
  exact ⟨5, fs, _, h, rfl, Or.inl rfl⟩
section KX22
variable {l : Launch} {S S' : ah_H} {w : Nat → Nat} {Z : sp_Z} {tr : Nat}
theorem xr_.shG {a : Nat} {E : Nat → Option (Nat × Nat × (Nat → Int))} (h : xr_ S w tr Z) (ha : a < 8) (e : S'.2 = S.2) (fr : ∀ q, S.1 q ≠ none → w q ∉ [8, 200 + a] → S'.1 q = S.1 q ∧ w q = w q) (hN : ∀ q, S.2 ≤ q → S'.1 q = none) (hE : xE S'.1 w (z_E Z E)) (hb : ∀ i, i < 8 → ∀ x, E i = Option.some x → x.1 < 3 ∧ x.2.1 ≤ 40) : xr_ S' w tr (z_E Z E) := by
  have b0 := h.2.1.1
  exact ⟨⟨h.1.1, h.1.2.1, h.1.2.2.1, h.1.2.2.2.1, hb, h.1.2.2.2.2.2⟩, ⟨by omega, fun q hq => hN q (by omega)⟩, h.I.kept fr (nin2 (by omega) (by omega)), h.A.kept fr (nin2 (by omega) (by omega)), h.B.kept fr (nin2 (by omega) (by omega)), h.K.kept h.K8 fr (nin2 (by omega) (by omega)) (fun i hi => nin2 (by omega) (by omega)), h.C.kept fr (nin2 (by omega) (by omega)), h.D.kept h.L8 h.e1 fr (nin2 (by omega) (by omega)) (nin2 (by omega) (by omega)) (fun i hi => nin2 (by omega) (by omega)), hE, h.N.kept h.e1 fr (nin2 (by omega) (by omega)) (nin2 (by omega) (by omega)) (nin2 (by omega) (by omega)), h.G.kept fr (nin2 (by omega) (by omega)), h.Y.kept fr (nin2 (by omega) (by omega)), h.U.kept fr (nin2 (by omega) (by omega)), h.X.kept fr (nin2 (by omega) (by omega)) h.X.1⟩
/-- another sheet in its place, or none -/
theorem xr_.she {a : Nat} {v : Option (Nat × Nat × (Nat → Int))} {o : Option Nat} {f : Nat → Option Nat} (h : xr_ S w tr Z) (ha : a < 8) (hf : S.1 33 = Option.some (.inr (4, 8, .inr f))) (hn : v = none → o = none)
    (hx : ∀ x, v = Option.some x → (x.1 < 3 ∧ x.2.1 ≤ 40) ∧ ∃ s, o = Option.some s ∧ 647 ≤ s ∧ w s = 200 + a ∧ w (s + 1) = 200 + a ∧ S.1 s = Option.some (.inl (5, [am_I (x.1 : Int), am_R (s + 1)])) ∧ ∃ it, S.1 (s + 1) = Option.some (.inr (0, x.2.1, .inl it)) ∧ ∀ j, j < x.2.1 → (it j).toInt = x.2.2 j) :
    xr_ (ah_sr S 33 4 8 f (a : Int) o) w tr (z_E Z (va_up (zSh Z) a v)) := by
  have b0 := h.2.1.1
  obtain ⟨ew, f', sh, g0, g⟩ := h.E
  obtain rfl : f' = f := by
    rw [hf] at g0
    simp only [Option.some.injEq, Sum.inr.injEq, Prod.mk.injEq] at g0
    exact g0.2.2.symm
  obtain ⟨fr, fn⟩ := h.w1 g0 ew (.inr (4, 8, .inr (va_up f' (a : Int).toNat o)))
  have ne : ∀ q, q ≠ 33 → (ah_sr S 33 4 8 f' (a : Int) o).1 q = S.1 q := fun q hq => up_ne _ _ hq
  refine h.shG ha rfl (fun q hq hn => fr q hq (fun z => hn (by simp at z; simp [z]))) fn ⟨ew, va_up f' a o, va_up sh a (o.getD 0), up_at S.1 33 _, fun i hi => ?_⟩ (fun i hi x hx' => ?_)
  · show (va_up (zSh Z) a v i = none → _) ∧ ∀ x, va_up (zSh Z) a v i = Option.some x → _
    by_cases e : i = a
    · rw [e, up_at, up_at, up_at]
      refine ⟨hn, fun x hx1 => ?_⟩
      obtain ⟨-, s, k0, k1, k2, k3, k4, it, k5, k6⟩ := hx x hx1
      subst k0
      exact ⟨rfl, k1, k2, k3, (ne _ (by show s ≠ 33; omega)).trans k4, it, (ne _ (by show s + 1 ≠ 33; omega)).trans k5, k6⟩
    · rw [up_ne _ _ e, up_ne _ _ e, up_ne _ _ e]
      refine ⟨(g i hi).1, fun x hx1 => ?_⟩
      obtain ⟨k1, k2, k3, k4, k5, it, k6, k7⟩ := (g i hi).2 x hx1
      exact ⟨k1, k2, k3, k4, (ne _ (by omega)).trans k5, it, (ne _ (by omega)).trans k6, k7⟩
  · rw [up_if] at hx'
    split at hx'
    · exact (hx x hx').1
    · exact h.1.2.2.2.2.1 i hi x hx'
/-- other items in a sheet -/
theorem xr_.shi {a s n ln : Nat} {V : Nat → Int} {it : Nat → Int32} {x : Nat × Nat × (Nat → Int)} (h : xr_ S w tr Z) (ha : a < 8) (hz : zSh Z a = Option.some x) (hx : x = (ln, n, V)) {V' : Nat → Int} (hs : ∃ f, S.1 33 = Option.some (.inr (4, 8, .inr f)) ∧ f a = Option.some s) (hV : ∀ j, j < n → (it j).toInt = V' j) :
    xr_ (va_up S.1 (s + 1) (Option.some (.inr (0, n, .inl it))), S.2) w tr (z_E Z (va_up (zSh Z) a (Option.some (ln, n, V')))) := by
  have b0 := h.2.1.1
  subst hx
  obtain ⟨ew, f', sh, g0, g⟩ := h.E
  obtain ⟨k1, k2, k3, k4, k5, it0, k6, k7⟩ := (g a ha).2 _ hz
  obtain ⟨f, q1, q2⟩ := hs
  obtain rfl : f' = f := by
    rw [q1] at g0
    simp only [Option.some.injEq, Sum.inr.injEq, Prod.mk.injEq] at g0
    exact g0.2.2.symm
  obtain rfl : s = sh a := by
    rw [k1] at q2
    exact (Option.some.inj q2).symm
  obtain ⟨fr, fn⟩ := h.w1 k6 k4 (.inr (0, n, .inl it))
  have ne : ∀ q, q ≠ sh a + 1 → va_up S.1 (sh a + 1) (Option.some (.inr (0, n, .inl it))) q = S.1 q := fun q hq => up_ne _ _ hq
  refine h.shG (S' := (va_up S.1 (sh a + 1) (Option.some (.inr (0, n, .inl it))), S.2)) ha rfl (fun q hq hn => fr q hq (fun z => hn (by simp at z; simp [z]))) fn ⟨ew, f', sh, (ne _ (by omega)).trans g0, fun i hi => ?_⟩ (fun i hi x hx' => ?_)
  · show (va_up (zSh Z) a (Option.some (ln, n, V')) i = none → _) ∧ ∀ x, va_up (zSh Z) a (Option.some (ln, n, V')) i = Option.some x → _
    by_cases e : i = a
    · rw [e, up_at]
      refine ⟨fun z => (by cases z), fun x hx1 => ?_⟩
      cases hx1
      exact ⟨k1, k2, k3, k4, (ne _ (by omega)).trans k5, it, up_at S.1 _ _, hV⟩
    · rw [up_ne _ _ e]
      refine ⟨(g i hi).1, fun x hx1 => ?_⟩
      obtain ⟨m1, m2, m3, m4, m5, it', m6, m7⟩ := (g i hi).2 x hx1
      refine ⟨m1, m2, m3, m4, (ne _ (fun z => ?_)).trans m5, it', (ne _ (fun z => ?_)).trans m6, m7⟩
      · rw [z, k4] at m3
        omega
      · rw [z, k4] at m4
        omega
  · have := h.1.2.2.2.2.1 a ha _ hz
    rw [up_if] at hx'
    split at hx'
    · cases hx'
      exact this
    · exact h.1.2.2.2.2.1 i hi x hx'
theorem kx_init5 {mc ms a n : Nat} {ln : Int} {P : ah_H → Prop} (hl : am_r ln) (ha : 32 ≤ a) (h : S.1 a = some (.inl (5, ah_dX5))) (hS : S.2 = a + 1) (hn : n < 1000) (hmc : 1 ≤ mc) (hms : n ≤ ms)
    (hP : P (va_up (va_up S.1 (a + 1) (some (.inr (0, n, .inl (fun _ => 0))))) a (some (.inl (5, [am_I ln, am_R (a + 1)]))), a + 2)) : kX5_init l mc ms [am_R a, am_I ln, am_I n] S (am_qv P) := by
  obtain ⟨h0, b⟩ := S
  have hS : b = a + 1 := hS
  subst hS
  refine bX5_init _ _ (by first | exact am_rN (by omega) | exact ⟨by omega, by omega⟩ | assumption) _ (by first | exact am_rN (by omega) | exact ⟨by omega, by omega⟩ | assumption) ⟨_, h, ha, (show 0 < 2 by decide), ?_⟩
  rintro _ rfl
  refine ⟨⟨by omega, by omega⟩, by omega, by omega, ?_⟩
  rintro _ rfl
  rw [Int.toNat_natCast]
  refine ⟨_, (up_ne _ _ (by show a ≠ a + 1; omega)).trans (up_at h0 a _), (show 1 < 2 by decide), ?_⟩
  rintro _ rfl
  refine am_qv_mk ?_
  have e : ∀ c1 c2 c3 : Option ah_C, va_up (va_up (va_up h0 a c1) (a + 1) c2) a c3 = va_up (va_up h0 (a + 1) c2) a c3 := fun c1 c2 c3 => by
    funext j
    by_cases e1 : j = a <;> by_cases e2 : j = a + 1 <;> simp [va_up, e1, e2]
  simp only [ah_sf, ah_mk]
  rw [e]
  exact hP
end KX22
section KX22b
variable {l : Launch} {S : ah_H} {w : Nat → Nat} {Z : sp_Z} {tr : Nat}
theorem kx_sheet {mc ms : Nat} {a ln n : Int} {P : Int → ah_H → Prop} (h0 : xr S Z) (ha : am_r a) (hl : am_r ln) (hn : am_r n) (hmc : 2 ≤ mc) (hms : 42 ≤ ms) (hP : ∀ S', xr S' (zo_sheet Z a ln n).2 → P (zo_sheet Z a ln n).1 S') : kX0_sheet l mc ms [am_R 32, am_I a, am_I ln, am_I n] S (am_qi P) := by
  obtain ⟨w, tr, h⟩ := h0
  have b0 := h.2.1.1
  unfold zo_sheet at hP
  have bad : (¬ ((0 ≤ a ∧ a ≤ 7) ∧ (0 ≤ ln ∧ ln ≤ 2) ∧ n ≤ 40)) → am_qi P (some (am_I (-1000001))) S := fun g => by
    have hp := hP S
    rw [if_neg g] at hp
    exact am_qi_mk ⟨by decide, by decide⟩ (hp ⟨w, tr, h⟩)
  refine bX0_sheet _ _ (by first | exact am_rN (by omega) | exact ⟨by omega, by omega⟩ | assumption) _ (by first | exact am_rN (by omega) | exact ⟨by omega, by omega⟩ | assumption) _ (by first | exact am_rN (by omega) | exact ⟨by omega, by omega⟩ | assumption) (kx_isSheet ha ⟨fun h1 => bad (fun z => of_decide_eq_false h1 z.1), fun h1 => kx_isIn ⟨fun h2 => bad (fun z => of_decide_eq_false h2 z.2.1), fun h2 => ⟨fun h3 => ?_, fun h3 => bad (fun z => h3 z.2.2)⟩⟩⟩)
  have h1 := of_decide_eq_true h1
  have h2 := of_decide_eq_true h2
  rw [if_pos ⟨h1, h2, h3⟩] at hP
  refine ⟨fun h4 => ?_, fun h4 => ?_⟩
  · rw [if_pos h4] at hP
    exact ⟨mc, ms, by omega, kx_must (k := 4) (by decide) h (fun z => Bool.noConfusion z) (fun _ => ⟨by omega, by omega, fun S' w' j r hj _ hc => kx_hand r (k := 4) (by decide) hj hc hP rfl⟩)⟩
  · rw [if_neg h4] at hP
    obtain ⟨a, rfl⟩ : ∃ o : Nat, a = o := ⟨a.toNat, by omega⟩
    obtain ⟨n, rfl⟩ : ∃ o : Nat, n = o := ⟨n.toNat, by omega⟩
    obtain ⟨ln, rfl⟩ : ∃ o : Nat, ln = o := ⟨ln.toNat, by omega⟩
    simp only [Int.toNat_natCast] at hP
    obtain ⟨ew, f, sh, g0, g⟩ := h.E
    refine ⟨0, 0, by omega, kx_must (k := 4) (by decide) h (fun _ => ⟨_, h.I.2, _, rfl, by omega, by omega, ?_⟩) (fun z => Bool.noConfusion z)⟩
    rintro _ rfl
    refine ⟨1, 40, by omega, kx_init5 (a := S.2) hl (by omega) (up_at S.1 S.2 _) rfl (by omega) (by omega) (by omega) ?_⟩
    rw [show (ah_mk S (.inl (5, ah_dX5))).1 = va_up S.1 S.2 (some (.inl (5, ah_dX5))) from rfl]
    have e1 : ∀ q, q ≠ S.2 → q ≠ S.2 + 1 → va_up (va_up (va_up S.1 S.2 (some (.inl (5, ah_dX5)))) (S.2 + 1) (some (.inr (0, n, .inl (fun _ => 0))))) S.2 (some (.inl (5, [am_I (ln : Int), am_R (S.2 + 1)]))) q = S.1 q := fun q z1 z2 => (up_ne _ _ z1).trans ((up_ne _ _ z2).trans (up_ne _ _ z1))
    have e2 : va_up (va_up (va_up S.1 S.2 (some (.inl (5, ah_dX5)))) (S.2 + 1) (some (.inr (0, n, .inl (fun _ => 0))))) S.2 (some (.inl (5, [am_I (ln : Int), am_R (S.2 + 1)]))) S.2 = some (.inl (5, [am_I (ln : Int), am_R (S.2 + 1)])) := up_at _ S.2 _
    have e3 : va_up (va_up (va_up S.1 S.2 (some (.inl (5, ah_dX5)))) (S.2 + 1) (some (.inr (0, n, .inl (fun _ => 0))))) S.2 (some (.inl (5, [am_I (ln : Int), am_R (S.2 + 1)]))) (S.2 + 1) = some (.inr (0, n, .inl (fun _ => 0))) := (up_ne _ _ (by omega)).trans (up_at _ (S.2 + 1) _)
    generalize va_up (va_up (va_up S.1 S.2 (some (.inl (5, ah_dX5)))) (S.2 + 1) (some (.inr (0, n, .inl (fun _ => 0))))) S.2 (some (.inl (5, [am_I (ln : Int), am_R (S.2 + 1)]))) = h1' at *
    have r1 : xr_ (h1', S.2 + 2) (xtg w S.2 (S.2 + 2) (200 + a)) tr Z := h.new ⟨⟨by show S.2 ≤ S.2 + 2; omega, fun q hq => by
      have hq : S.2 + 2 ≤ q := hq
      exact (e1 q (by omega) (by omega)).trans (h.2.1.2 q (by omega))⟩, fun q hq _ => by
      have := h.some hq
      exact ⟨e1 q (by omega) (by omega), xtg_out (Or.inl this)⟩⟩ (fun q hq => (xtg_out (Or.inl (by omega))).trans (h.X.1 q hq))
    have g1 : h1' 33 = some (.inr (4, 8, .inr f)) := (e1 33 (by omega) (by omega)).trans g0
    refine ⟨_, _, g1, by decide, ⟨by omega, by omega⟩, ah_is5 e2, ?_⟩
    rintro _ rfl
    have r2 := r1.she (a := a) (v := some (ln, n, fun _ => 0)) (o := some S.2) (f := f) (by omega) g1 (fun z => by cases z) (fun x hx => by
      cases hx
      exact ⟨⟨by show ln < 3; omega, by show n ≤ 40; omega⟩, S.2, rfl, b0, xtg_in (Nat.le_refl _) (by omega), xtg_in (by omega) (by omega), e2, _, e3, fun j hj => rfl⟩)
    refine ⟨_, r2.I.2, kx_well r2 hn (am_qi_mk hn (hP _ ⟨_, tr, r2.st (k := 0) (by decide)⟩))⟩
theorem sp_cut_r {ln : Nat} {v : Int} (hv : am_r v) : am_r (sp_cut ln v) := by
  unfold sp_cut
  split
  · rw [am_i2b_bm]
    have := Int.bmod_lt (x := v) (m := 256) (by decide)
    have := Int.le_bmod (x := v) (m := 256) (by decide)
    exact ⟨by omega, by omega⟩
  · split
    · unfold am_i2s
      exact ⟨by have := Int32.le_toInt ((Int32.ofInt v).toInt16.toInt32); omega, by have := Int32.toInt_lt ((Int32.ofInt v).toInt16.toInt32); omega⟩
    · exact hv
theorem kx_cut {s n ln : Nat} {v : Int} {P : Int → ah_H → Prop} (hl : ln < 3) (hv : am_r v) (h : S.1 s = some (.inl (5, [am_I (ln : Int), am_R n]))) (hP : P (sp_cut ln v) S) : kX5_cut l [am_R s, am_I v] S (am_qi P) := by
  have hr := sp_cut_r (ln := ln) hv
  refine bX5_cut _ _ (by first | exact am_rN (by omega) | exact ⟨by omega, by omega⟩ | assumption) ⟨_, h, _, ⟨rfl, am_rN (by omega)⟩, fun e => ⟨fun e1 => ?_, fun e1 => ?_⟩, fun e => ?_⟩
  · unfold sp_cut at hP
    rw [if_neg (by omega), if_neg (by omega)] at hP
    exact am_qi_mk hv hP
  · unfold sp_cut at hP hr
    rw [if_neg (by omega), if_pos (by omega)] at hP hr
    exact am_qi_mk hr hP
  · unfold sp_cut at hP hr
    rw [if_pos (by omega)] at hP hr
    exact am_qi_mk hr hP
theorem kx_set {mc ms : Nat} {a i v : Int} {P : Int → ah_H → Prop} (h0 : xr S Z) (ha : am_r a) (hi : am_r i) (hv : am_r v) (hmc : 2 ≤ mc) (hms : 14 ≤ ms) (hP : ∀ S', xr S' (zo_set Z a i v).2 → P (zo_set Z a i v).1 S') : kX0_set l mc ms [am_R 32, am_I a, am_I i, am_I v] S (am_qi P) := by
  obtain ⟨w, tr, h⟩ := h0
  unfold zo_set at hP
  refine bX0_set _ _ (by first | exact am_rN (by omega) | exact ⟨by omega, by omega⟩ | assumption) _ (by first | exact am_rN (by omega) | exact ⟨by omega, by omega⟩ | assumption) _ (by first | exact am_rN (by omega) | exact ⟨by omega, by omega⟩ | assumption) (kx_isSheet ha ⟨fun h1 => ?_, fun h1 => ?_⟩)
  · have h1 := of_decide_eq_true h1
    rw [if_pos h1] at hP
    obtain ⟨a, rfl⟩ : ∃ o : Nat, a = o := ⟨a.toNat, by omega⟩
    rw [Int.toNat_natCast] at hP
    obtain ⟨ew, f, sh, g0, g⟩ := id h.E
    refine ⟨1, 7, by omega, _, h.I.2, kx_sheetAt h (by omega) (fun x s it hz kf k1 k2 k3 k4 k5 k6 => ⟨s, rfl, _, k4, _, rfl, _, _, k5, ?_⟩) (fun hz => ⟨by omega, by omega, fun S' w' j r hj _ hc => ?_⟩)⟩
    · have hb := h.1.2.2.2.2.1 a (by omega) x hz
      rw [hz] at hP
      have hP : ∀ S', xr S' (if 0 ≤ i ∧ i < x.2.1 then (sp_cut x.1 v, z_St (z_E Z (va_up (zSh Z) a (some (x.1, x.2.1, va_up x.2.2 i.toNat (sp_cut x.1 v))))) 0) else z_bad Z 2).2 → P (if 0 ≤ i ∧ i < x.2.1 then (sp_cut x.1 v, z_St (z_E Z (va_up (zSh Z) a (some (x.1, x.2.1, va_up x.2.2 i.toNat (sp_cut x.1 v))))) 0) else z_bad Z 2).1 S' := hP
      refine ⟨⟨by omega, by omega⟩, kx_isIn ⟨1, 7, by omega, kx_must (k := 2) (by decide) h (fun e => ?_) (fun e => ⟨by omega, by omega, fun S' w' j r hj _ hc => ?_⟩)⟩⟩
      · have e := of_decide_eq_true e
        rw [if_pos (by omega)] at hP
        obtain ⟨i, rfl⟩ : ∃ o : Nat, i = o := ⟨i.toNat, by omega⟩
        rw [Int.toNat_natCast] at hP
        refine ⟨_, k4, _, rfl, kx_cut hb.1 hv k4 ⟨_, _, k5, by show 32 ≤ s + 1; omega, ⟨by omega, by omega⟩, ?_⟩⟩
        rintro _ rfl
        have hr := sp_cut_r (ln := x.1) hv
        have r2 := h.shi (a := a) (s := s) (it := va_up it i (Int32.ofInt (sp_cut x.1 v))) (V' := va_up x.2.2 i (sp_cut x.1 v)) (by omega) hz rfl kf (fun j hj => by
          rw [up_if, up_if]
          split
          · exact am_ti hr
          · exact k6 j hj)
        have oS : ∀ q, q ≠ s + 1 → (ah_si S (s + 1) 0 x.2.1 it (i : Int) (Int32.ofInt (sp_cut x.1 v))).1 q = S.1 q := fun q hq => up_ne _ _ hq
        refine ⟨_, (oS s (by omega)).trans k4, _, rfl, _, _, up_at S.1 (s + 1) _, ⟨by omega, by omega⟩, _, (oS 32 (by omega)).trans h.I.2, ?_⟩
        rw [up_at, am_ti hr]
        exact kx_well r2 hr (am_qi_mk hr (hP _ ⟨_, tr, r2.st (k := 0) (by decide)⟩))
      · have e := of_decide_eq_false e
        rw [if_neg (by omega)] at hP
        exact kx_hand r (k := 2) (by decide) hj hc hP rfl
    · rw [hz] at hP
      exact kx_hand r (k := 1) (by decide) hj hc hP rfl
  · have h1 := of_decide_eq_false h1
    rw [if_neg h1] at hP
    exact am_qi_mk ⟨by decide, by decide⟩ (hP S ⟨w, tr, h⟩)
theorem kx_drop {mc ms : Nat} {a : Int} {P : Int → ah_H → Prop} (h0 : xr S Z) (ha : am_r a) (hmc : 1 ≤ mc) (hms : 7 ≤ ms) (hP : ∀ S', xr S' (zo_drop Z a).2 → P (zo_drop Z a).1 S') : kX0_drop l mc ms [am_R 32, am_I a] S (am_qi P) := by
  obtain ⟨w, tr, h⟩ := h0
  unfold zo_drop at hP
  refine bX0_drop _ _ (by first | exact am_rN (by omega) | exact ⟨by omega, by omega⟩ | assumption) (kx_isSheet ha ⟨fun h1 => ?_, fun h1 => ?_⟩)
  · have h1 := of_decide_eq_true h1
    rw [if_pos h1] at hP
    obtain ⟨a, rfl⟩ : ∃ o : Nat, a = o := ⟨a.toNat, by omega⟩
    rw [Int.toNat_natCast] at hP
    refine ⟨1, 7, by omega, _, h.I.2, kx_sheetAt h (by omega) (fun x s it hz kf k1 k2 k3 k4 k5 k6 => ?_) (fun hz => ⟨by omega, by omega, fun S' w' j r hj _ hc => ?_⟩)⟩
    · have hb := h.1.2.2.2.2.1 a (by omega) x hz
      obtain ⟨f, g0, g1⟩ := kf
      rw [hz] at hP
      have hP : ∀ S', xr S' (z_St (z_E Z (va_up (zSh Z) a none)) 0) → P (x.2.1 : Int) S' := hP
      refine ⟨s, rfl, _, k4, _, rfl, _, _, k5, _, h.I.2, _, rfl, _, _, g0, by decide, ⟨by omega, by omega⟩, fun y hy => (by cases hy), ?_⟩
      rintro _ rfl
      have r2 := h.she (a := a) (v := none) (o := none) (f := f) (by omega) g0 (fun _ => rfl) (fun x hx => by cases hx)
      exact ⟨_, r2.I.2, kx_well r2 (am_rN (by omega)) (am_qi_mk (am_rN (by omega)) (hP _ ⟨_, tr, r2.st (k := 0) (by decide)⟩))⟩
    · rw [hz] at hP
      exact kx_hand r (k := 1) (by decide) hj hc hP rfl
  · have h1 := of_decide_eq_false h1
    rw [if_neg h1] at hP
    exact am_qi_mk ⟨by decide, by decide⟩ (hP S ⟨w, tr, h⟩)
end KX22b
