section KX12
variable {l : Launch} {S S' : ah_H} {w w' : Nat → Nat} {Z : sp_Z} {tr : Nat}
/-- only new cells have come -/
theorem xr_.new (k : xr_ S w tr Z) (f : xch [] S S' w w') (hw : ∀ q, q < 32 → w' q = 13) : xr_ S' w' tr Z :=
  ⟨k.1, (k.all f hw (by decide)).1, k.I.kept f.2 (by decide), k.A.kept f.2 (by decide), k.B.kept f.2 (by decide), k.K.kept k.K8 f.2 (by decide) (by decide), k.C.kept f.2 (by decide), k.D.kept k.L8 k.e1 f.2 (by decide) (by decide) (by decide), k.E.kept f.2 (by decide) (by decide), k.N.kept k.e1 f.2 (by decide) (by decide) (by decide), k.G.kept f.2 (by decide), k.Y.kept f.2 (by decide), k.U.kept f.2 (by decide), (k.all f hw (by decide)).2⟩
/-- an own table, made -/
theorem kx_init {mc ms a : Nat} {P : ah_H → Prop} (ha : 36 ≤ a) (h : S.1 a = some (.inl (2, ah_dX1))) (hS : S.2 = a + 1) (hmc : 5 ≤ mc) (hms : 74 ≤ ms)
    (hP : ∀ S', S'.2 = a + 6 → xo S'.1 a (fun _ => 0) (fun _ => 0) (fun _ => 0) (fun _ => 0) (fun _ => 0) → (∀ q, q < a ∨ a + 5 < q → S'.1 q = S.1 q) → P S') : kX1_init l mc ms [am_R a] S (am_qv P) := by
  obtain ⟨h0, b⟩ := S
  have hS : b = a + 1 := hS
  subst hS
  have hX : ah_X ≤ a := by
    unfold ah_X
    omega
  refine bX1_init _ ⟨by omega, by omega, ?_⟩
  rintro _ rfl
  refine ⟨_, (up_ne _ _ (by omega)).trans h, hX, by decide, ?_⟩
  rintro _ rfl
  refine ⟨by omega, by omega, ?_⟩
  rintro _ rfl
  refine ⟨_, (up_ne _ _ (by show a ≠ a + 1 + 1; omega)).trans (up_at _ a _), (show 1 < 5 by decide), ?_⟩
  rintro _ rfl
  refine ⟨by omega, by omega, ?_⟩
  rintro _ rfl
  refine ⟨_, (up_ne _ _ (by show a ≠ a + 1 + 1 + 1; omega)).trans (up_at _ a _), (show 2 < 5 by decide), ?_⟩
  rintro _ rfl
  refine ⟨by omega, by omega, ?_⟩
  rintro _ rfl
  refine ⟨_, (up_ne _ _ (by show a ≠ a + 1 + 1 + 1 + 1; omega)).trans (up_at _ a _), (show 3 < 5 by decide), ?_⟩
  rintro _ rfl
  refine ⟨by omega, by omega, ?_⟩
  rintro _ rfl
  refine ⟨_, (up_ne _ _ (by show a ≠ a + 1 + 1 + 1 + 1 + 1; omega)).trans (up_at _ a _), (show 4 < 5 by decide), ?_⟩
  rintro _ rfl
  refine am_qv_mk (hP _ rfl ⟨up_at _ a _, ?_, ?_, ?_, ?_, ?_⟩ (fun q hq => ?_))
  all_goals simp only [ah_sf, ah_mk]
  · repeat rw [up_ne _ _ (by omega)]
    exact up_at _ (a + 1) _
  · repeat rw [up_ne _ _ (by omega)]
    exact up_at _ (a + 1 + 1) _
  · repeat rw [up_ne _ _ (by omega)]
    exact up_at _ (a + 1 + 1 + 1) _
  · repeat rw [up_ne _ _ (by omega)]
    exact up_at _ (a + 1 + 1 + 1 + 1) _
  · repeat rw [up_ne _ _ (by omega)]
    exact up_at _ (a + 1 + 1 + 1 + 1 + 1) _
  · repeat rw [up_ne _ _ (by omega)]
/-- new cells get a tag -/
def xtg (w : Nat → Nat) (b e t : Nat) (q : Nat) : Nat := if b ≤ q ∧ q < e then t else w q
theorem xtg_in {b e t q : Nat} (h1 : b ≤ q) (h2 : q < e) : xtg w b e t q = t := if_pos ⟨h1, h2⟩
theorem xtg_out {b e t q : Nat} (h : q < b ∨ e ≤ q) : xtg w b e t q = w q := if_neg (by omega)
theorem xr_.some (k : xr_ S w tr Z) {q : Nat} (h : S.1 q ≠ none) : q < S.2 := by
  by_cases e : q < S.2
  · exact e
  · exact absurd (k.2.1.2 q (by omega)) h
theorem kx_keep {mc ms : Nat} {P : Int → ah_H → Prop} (h0 : xr S Z) (hmc : 6 ≤ mc) (hms : 79 ≤ ms) (hP : ∀ S', xr S' (zo_keep Z).2 → P (zo_keep Z).1 S') : kX0_keep l mc ms [am_R 32] S (am_qi P) := by
  obtain ⟨w, tr, h⟩ := h0
  have K8 := h.K8
  have b0 := h.2.1.1
  unfold zo_keep at hP
  refine bX0_keep _ ⟨_, h.I.2, _, ⟨rfl, am_rN (by omega)⟩, fun hb => ⟨_, rfl, by omega, by omega, ?_⟩, fun hb => am_qi_mk ⟨by decide, by decide⟩ ?_⟩
  · rw [if_neg (by omega)] at hP
    obtain ⟨kw, f, kt, k1, k2⟩ := h.K
    have m := h.B.2
    rintro _ rfl
    refine ⟨5, 74, by omega, kx_init (a := S.2) (by omega) (up_at S.1 S.2 _) rfl (Nat.le_refl _) (Nat.le_refl _) (fun S1 e1 o1 f1 => ?_)⟩
    have o1q : ∀ q, q < S.2 → S1.1 q = S.1 q := fun q hq => (f1 q (by omega)).trans (up_ne _ _ (by omega))
    refine ⟨_, _, (o1q 42 (by omega)).trans k1, by decide, ⟨by omega, by omega⟩, fun y hy => ?_, ?_⟩
    · cases hy
      exact ⟨2, _, _, o1.1, rfl, Or.inl rfl⟩
    rintro _ rfl
    have o2 := fun q (hq : q ≠ 42) => (up_ne S1.1 (some (.inr (3, 8, .inr (va_up f (zK Z : Int).toNat (some S.2))))) hq : va_up S1.1 42 _ q = S1.1 q)
    have o1' : xo (ah_sr S1 42 3 8 f (zK Z) (some S.2)).1 S.2 (fun _ => 0) (fun _ => 0) (fun _ => 0) (fun _ => 0) (fun _ => 0) := by
      obtain ⟨q0, q1, q2, q3, q4, q5⟩ := o1
      exact ⟨(o2 _ (by omega)).trans q0, (o2 _ (by omega)).trans q1, (o2 _ (by omega)).trans q2, (o2 _ (by omega)).trans q3, (o2 _ (by omega)).trans q4, (o2 _ (by omega)).trans q5⟩
    have m' : xt (ah_sr S1 42 3 8 f (zK Z) (some S.2)).1 36 (zn Z) (zs Z) (zT Z) := m.kept (fun q g1 g2 => (o2 q (by omega)).trans (o1q q (by omega)))
    refine ⟨_, (o2 32 (by decide)).trans ((o1q 32 (by omega)).trans h.I.2), _, rfl, _, ⟨rfl, am_rN (by omega)⟩, _, _, up_at S1.1 42 _, ⟨by omega, by omega⟩, _, up_at f _ _, _, rfl, _, o1'.1, kx_lay (by omega) o1' m' (by omega) (fun S3 t3 f3 => ?_)⟩
    have o3 : ∀ q, q < S.2 → q ≠ 42 → S3.1 q = S.1 q := fun q h1 h2 => (f3.2 q (by omega)).trans ((o2 q h2).trans (o1q q h1))
    refine ⟨_, (o3 32 (by omega) (by decide)).trans h.I.2, _, ⟨rfl, am_rN (by omega)⟩, by decide, (show 6 < 20 by decide), ?_⟩
    rintro _ rfl
    refine am_qi_mk (am_rN (by omega)) (hP _ ⟨xtg w S.2 (S.2 + 6) (100 + zK Z), tr, ?_⟩)
    have o4 : ∀ q, q ≠ 32 → (ah_sf S3 32 1 (xF_Z Z tr) 6 (am_I (↑(zK Z) + 1))).1 q = S3.1 q := fun q hq => up_ne _ _ hq
    have oI : (ah_sf S3 32 1 (xF_Z Z tr) 6 (am_I (↑(zK Z) + 1))).1 32 = some (.inl (1, (xF_Z Z tr).set 6 (am_I (↑(zK Z) + 1)))) := up_at S3.1 32 _
    have oK : (ah_sf S3 32 1 (xF_Z Z tr) 6 (am_I (↑(zK Z) + 1))).1 42 = some (.inr (3, 8, .inr (va_up f (zK Z : Int).toNat (some S.2)))) := (o4 42 (by decide)).trans ((f3.2 42 (by omega)).trans (up_at S1.1 42 _))
    have oT : xt (ah_sf S3 32 1 (xF_Z Z tr) 6 (am_I (↑(zK Z) + 1))).1 S.2 (zn Z) (zs Z) (zT Z) := t3.kept (fun q g1 g2 => o4 q (by omega))
    have oN : ∀ q, S.2 + 6 ≤ q → (ah_sf S3 32 1 (xF_Z Z tr) 6 (am_I (↑(zK Z) + 1))).1 q = none := fun q hq => (o4 q (by omega)).trans ((f3.2 q (by omega)).trans ((o2 q (by omega)).trans ((f1 q (by omega)).trans ((up_ne _ _ (by omega)).trans (h.2.1.2 q (by omega))))))
    have e2 : (ah_sf S3 32 1 (xF_Z Z tr) 6 (am_I (↑(zK Z) + 1))).2 = S.2 + 6 := f3.1.trans e1
    generalize ah_sf S3 32 1 (xF_Z Z tr) 6 (am_I (↑(zK Z) + 1)) = S4 at *
    have fr : ∀ q, S.1 q ≠ none → w q ∉ [0, 3] → S4.1 q = S.1 q ∧ xtg w S.2 (S.2 + 6) (100 + zK Z) q = w q := fun q hq hn => by
      have hq := h.some hq
      refine ⟨(o4 q (fun e => ?_)).trans (o3 q hq (fun e => ?_)), xtg_out (Or.inl hq)⟩
      · rw [e, h.I.1] at hn
        exact hn (by decide)
      · rw [e, kw] at hn
        exact hn (by decide)
    have hx := h.all (S' := S4) (w' := xtg w S.2 (S.2 + 6) (100 + zK Z)) ⟨⟨by omega, fun q hq => oN q (by omega)⟩, fr⟩ (fun q hq => (xtg_out (Or.inl (by omega))).trans (h.X.1 q hq)) (by decide)
    refine ⟨⟨h.1.1, ⟨h.1.2.1.1, by show zK Z + 1 ≤ 8; omega, fun q hq => ?_⟩, h.1.2.2.1, ⟨h.1.2.2.2.1.1, fun q hq => ?_⟩, h.1.2.2.2.2⟩, hx.1, ⟨(xtg_out (Or.inl (by omega))).trans h.I.1, oI⟩, h.A.kept fr (by decide), h.B.kept fr (by decide), ⟨(xtg_out (Or.inl (by omega))).trans kw, _, va_up kt (zK Z) S.2, oK, fun i hi => ?_⟩, h.C.kept fr (by decide), h.D.kept h.L8 h.e1 fr (by decide) (by decide) (by decide), h.E.kept fr (by decide) (by decide), h.N.kept h.e1 fr (by decide) (by decide) (by decide), h.G.kept fr (by decide), h.Y.kept fr (by decide), h.U.kept fr (by decide), hx.2⟩
    · show sp_ok (zn Z) (zs Z) (va_up (zKT Z) (zK Z) (zT Z) q)
      have hq : q < zK Z + 1 := hq
      rw [up_if]
      split
      · exact h.1.2.1.1
      · exact h.1.2.1.2.2 q (by omega)
    · have := h.1.2.2.2.1.2 q hq
      show (zLf Z q).1 < zK Z + 1 ∧ (zLf Z q).2.1 < zK Z + 1 ∧ (zLf Z q).2.2.2.1 ≤ 9
      omega
    · have hi : i < zK Z + 1 := hi
      rw [Int.toNat_natCast]
      show _ ∧ _ ∧ _ ∧ xt S4.1 _ (zn Z) (zs Z) (va_up (zKT Z) (zK Z) (zT Z) i)
      by_cases e : i = zK Z
      · rw [e, up_at, up_at, up_at]
        exact ⟨rfl, by omega, fun q g1 g2 => xtg_in g1 (by omega), oT⟩
      · rw [up_ne _ _ e, up_ne _ _ e, up_ne _ _ e]
        obtain ⟨p1, p2, p3, p4⟩ := k2 i (by omega)
        obtain ⟨q1, q2⟩ := p4.kept' p3 fr (by simp; omega)
        exact ⟨p1, p2, q2, q1⟩
  · rw [if_pos (by omega)] at hP
    exact hP S ⟨w, tr, h⟩
end KX12
