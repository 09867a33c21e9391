section KX13
variable {l : Launch} {S S' : ah_H} {w w' : Nat → Nat} {Z : sp_Z} {tr : Nat}
abbrev xL : List Nat := [1, 2, 100, 101, 102, 103, 104, 105, 106, 107]
theorem kx_thing_76 {a b c t : Nat} {S0 : ah_H} {f : Nat → Option Nat} {kt : Nat → Nat} {P : Int → ah_H → Prop} (h : xr_ S0 w tr Z) (ha : a < 4) (hb : 1 ≤ b ∧ b ≤ 20) (hc : c < 8) (hn : zn Z < 6) (ht : t ≤ zK Z)
    (e2 : S.2 = S0.2) (hN : ∀ q, S0.2 ≤ q → S.1 q = none) (fr : ∀ q, S0.1 q ≠ none → w q ∉ xL → S.1 q = S0.1 q ∧ w q = w q)
    (hA : ∃ f g, S.1 34 = some (.inr (0, 6, .inl f)) ∧ S.1 35 = some (.inr (0, 6, .inl g)) ∧ ∀ k, k < zn Z + 1 → (f k).toInt = va_up (zs Z) (zn Z) a k ∧ (g k).toInt = va_up (zw Z) (zn Z) b k)
    (hB : xt S.1 36 (zn Z + 1) (va_up (zs Z) (zn Z) a) (sp_put (zT Z) (zn Z) c))
    (k1 : S0.1 42 = some (.inr (3, 8, .inr f))) (k2 : ∀ i, i < zK Z → f i = some (kt i) ∧ 647 ≤ kt i ∧ ∀ q, kt i ≤ q → q ≤ kt i + 5 → w q = 100 + i)
    (hold : ∀ i, t ≤ i → i < zK Z → xt S.1 (kt i) (zn Z) (zs Z) (zKT Z i)) (hnew : ∀ i, i < t → xt S.1 (kt i) (zn Z + 1) (va_up (zs Z) (zn Z) a) (sp_put (zKT Z i) (zn Z) c))
    (hP : ∀ S', xr S' (z_B (z_A Z (zn Z + 1, va_up (zs Z) (zn Z) a, va_up (zw Z) (zn Z) b)) (sp_put (zT Z) (zn Z) c, zK Z, fun i => sp_put (zKT Z i) (zn Z) c)) → P (zn Z : Int) S') :
    VX0_thing l (am_qi P) 76 [(0, am_R 32), (3, am_I c), (4, am_I t)] [] S := by
  have K8 := h.K8
  have b0 := h.2.1.1
  generalize hm : zK Z - t = m
  induction m generalizing t S with
  | zero =>
    have htK : t = zK Z := by omega
    subst htK
    obtain ⟨i1, i2⟩ := h.I.kept fr (by decide)
    refine bX0_thing_76 _ _ (by first | exact am_rN (by omega) | exact ⟨by omega, by omega⟩ | assumption) _ (by first | exact am_rN (by omega) | exact ⟨by omega, by omega⟩ | assumption) ⟨_, i2, _, ⟨rfl, am_rN (by omega)⟩, fun _ => ⟨_, ⟨rfl, am_rN (by omega)⟩, by decide, (show 1 < 20 by decide), ?_⟩, fun z => absurd z (by omega)⟩
    rintro _ rfl
    refine am_qi_mk (am_rN (by omega)) (hP _ ⟨w, tr, ?_⟩)
    have o4 : ∀ q, q ≠ 32 → (ah_sf S 32 1 (xF_Z Z tr) 1 (am_I (↑(zn Z) + 1))).1 q = S.1 q := fun q hq => up_ne _ _ hq
    have oI : (ah_sf S 32 1 (xF_Z Z tr) 1 (am_I (↑(zn Z) + 1))).1 32 = some (.inl (1, (xF_Z Z tr).set 1 (am_I (↑(zn Z) + 1)))) := up_at S.1 32 _
    have e4 : (ah_sf S 32 1 (xF_Z Z tr) 1 (am_I (↑(zn Z) + 1))).2 = S.2 := rfl
    generalize ah_sf S 32 1 (xF_Z Z tr) 1 (am_I (↑(zn Z) + 1)) = S4 at *
    have fr4 : ∀ q, S0.1 q ≠ none → w q ∉ 0 :: xL → S4.1 q = S0.1 q ∧ w q = w q := fun q hq hn => by
      refine ⟨(o4 q (fun e => ?_)).trans (fr q hq (fun z => hn (List.mem_cons_of_mem _ z))).1, rfl⟩
      rw [e, h.I.1] at hn
      exact hn (by decide)
    have hx := h.all (S' := S4) (w' := w) ⟨⟨by omega, fun q hq => by rw [o4 q (by omega)]; exact hN q (by omega)⟩, fr4⟩ h.X.1 (by decide)
    obtain ⟨f1, g1, a1, a2, a3⟩ := hA
    have kw := h.K.1
    refine ⟨⟨⟨by show zn Z + 1 ≤ 6; omega, fun k hk => ?_⟩, ⟨sp_new_ok h.1.2.1.1 hn hc, h.1.2.1.2.1, fun i hi => sp_new_ok (h.1.2.1.2.2 i hi) hn hc⟩, h.1.2.2⟩, hx.1, ⟨h.I.1, oI⟩, ⟨h.A.1, f1, g1, (o4 34 (by decide)).trans a1, (o4 35 (by decide)).trans a2, a3⟩, ⟨h.B.1, hB.kept (fun q _ _ => o4 q (by omega))⟩, ⟨kw, f, kt, (xc_at fr4 kw (by decide) k1).1, fun i hi => ⟨(k2 i hi).1, (k2 i hi).2.1, (k2 i hi).2.2, (hnew i hi).kept (fun q g1 _ => o4 q (by have := (k2 i hi).2.1; omega))⟩⟩, h.C.kept fr4 (by decide), h.D.kept h.L8 h.e1 fr4 (by decide) (by decide) (by decide), h.E.kept fr4 (by decide) (by decide), h.N.kept h.e1 fr4 (by decide) (by decide) (by decide), h.G.kept fr4 (by decide), h.Y.kept fr4 (by decide), h.U.kept fr4 (by decide), hx.2⟩
    show va_up (zs Z) (zn Z) a k < 4 ∧ 1 ≤ va_up (zw Z) (zn Z) b k ∧ va_up (zw Z) (zn Z) b k ≤ 20
    have hk : k < zn Z + 1 := hk
    rw [up_if, up_if]
    by_cases e : k = zn Z
    · simp only [e, if_true]
      exact ⟨ha, hb⟩
    · simp only [e, if_false]
      exact h.1.1.2 k (by omega)
  | succ m ih =>
    have htK : t < zK Z := by omega
    obtain ⟨i1, i2⟩ := h.I.kept fr (by decide)
    have k1' := (xc_at fr h.K.1 (by decide) k1).1
    have t0 := hold t (Nat.le_refl _) htK
    obtain ⟨p1, p2, p3⟩ := k2 t htK
    have apart : ∀ i, i < zK Z → i ≠ t → kt i + 5 < kt t ∨ kt t + 5 < kt i := fun i hi hne => by
      obtain ⟨q1, q2, q3⟩ := k2 i hi
      by_cases g1 : kt i + 5 < kt t
      · exact Or.inl g1
      · by_cases g2 : kt t + 5 < kt i
        · exact Or.inr g2
        · exfalso
          by_cases g3 : kt i ≤ kt t
          · have := q3 (kt t) g3 (by omega)
            have := p3 (kt t) (Nat.le_refl _) (by omega)
            omega
          · have := p3 (kt i) (by omega) (by omega)
            have := q3 (kt i) (Nat.le_refl _) (by omega)
            omega
    refine bX0_thing_76 _ _ (by first | exact am_rN (by omega) | exact ⟨by omega, by omega⟩ | assumption) _ (by first | exact am_rN (by omega) | exact ⟨by omega, by omega⟩ | assumption) ⟨_, i2, _, ⟨rfl, am_rN (by omega)⟩, fun z => absurd z (by omega), fun _ => ⟨_, rfl, _, _, k1', ⟨by omega, by omega⟩, _, p1, _, ⟨rfl, am_rN (by omega)⟩, _, t0.hd, kx_begin (s' := va_up (zs Z) (zn Z) a) t0 hn hc (sp_new_ok (h.1.2.1.2.2 t htK) hn hc) (fun S1 t1 f1 => ?_)⟩⟩
    have lt : kt t + 5 < S0.2 := by
      obtain ⟨-, f', kt', q1, q2⟩ := h.K
      cases k1.symm.trans q1
      obtain ⟨m1, -, -, m4⟩ := q2 t htK
      have m1 : kt' t = kt t := by
        rw [p1] at m1
        exact (Option.some.inj m1).symm
      rw [m1] at m4
      obtain ⟨-, -, _, _, _, _, _, o0, -⟩ := m4
      exact h.some (by rw [o0.2.2.2.2.2]; exact fun z => by cases z)
    refine ih (t := t + 1) (by omega) (f1.1.trans e2) (fun q hq => (f1.2 q (by omega)).trans (hN q hq)) (fun q hq hn => ⟨?_, rfl⟩) ?_ (hB.fr f1 (by omega)) (fun i h1 h2 => (hold i (by omega) h2).fr f1 (apart i h2 (by omega))) (fun i h1 => ?_) (by omega)
    · refine (f1.2 q ?_).trans (fr q hq hn).1
      by_cases g1 : q ≤ kt t
      · exact Or.inl g1
      · by_cases g2 : kt t + 5 < q
        · exact Or.inr g2
        · exfalso
          have := p3 q (by omega) (by omega)
          rw [this] at hn
          apply hn
          have ht8 : t = 0 ∨ t = 1 ∨ t = 2 ∨ t = 3 ∨ t = 4 ∨ t = 5 ∨ t = 6 ∨ t = 7 := by omega
          rcases ht8 with rfl | rfl | rfl | rfl | rfl | rfl | rfl | rfl <;> decide
    · obtain ⟨f, g, a1, a2, a3⟩ := hA
      exact ⟨f, g, (f1.2 _ (by omega)).trans a1, (f1.2 _ (by omega)).trans a2, a3⟩
    · by_cases e : i = t
      · rw [e]
        exact t1
      · exact (hnew i (by omega)).fr f1 (apart i (by omega) e)
theorem kx_thing {a b c : Int} {P : Int → ah_H → Prop} (h0 : xr S Z) (ha : am_r a) (hb : am_r b) (hc : am_r c) (hP : ∀ S', xr S' (zo_thing Z a b c).2 → P (zo_thing Z a b c).1 S') : kX0_thing l [am_R 32, am_I a, am_I b, am_I c] S (am_qi P) := by
  obtain ⟨w, tr, h⟩ := h0
  have h6 := h.n6
  have b0 := h.2.1.1
  unfold zo_thing at hP
  refine bX0_thing _ _ (by first | exact am_rN (by omega) | exact ⟨by omega, by omega⟩ | assumption) _ (by first | exact am_rN (by omega) | exact ⟨by omega, by omega⟩ | assumption) _ (by first | exact am_rN (by omega) | exact ⟨by omega, by omega⟩ | assumption) (kx_isSort ha ⟨fun h1 => ?_, fun h1 => kx_isIn ⟨fun h2 => ?_, fun h2 => kx_isCell hc ⟨fun h3 => ⟨_, h.I.2, _, ⟨rfl, am_rN (by omega)⟩, fun h4 => ?_, fun h4 => ?_⟩, fun h3 => ?_⟩⟩⟩)
  · have h1 := of_decide_eq_false h1
    rw [if_neg (by omega)] at hP
    exact am_qi_mk ⟨by decide, by decide⟩ (hP _ ⟨w, tr, h⟩)
  · have h2 := of_decide_eq_false h2
    rw [if_neg (by omega)] at hP
    exact am_qi_mk ⟨by decide, by decide⟩ (hP _ ⟨w, tr, h⟩)
  · have h1 := of_decide_eq_true h1
    have h2 := of_decide_eq_true h2
    have h3 := of_decide_eq_true h3
    rw [if_pos ⟨h1, h2, h3⟩, if_neg (by omega)] at hP
    obtain ⟨a, rfl⟩ : ∃ o : Nat, a = o := ⟨a.toNat, by omega⟩
    obtain ⟨b, rfl⟩ : ∃ o : Nat, b = o := ⟨b.toNat, by omega⟩
    obtain ⟨c, rfl⟩ : ∃ o : Nat, c = o := ⟨c.toNat, by omega⟩
    obtain ⟨aw, f, g, a1, a2, a3⟩ := h.A
    refine ⟨_, rfl, _, _, a1, by decide, ⟨by omega, by omega⟩, ?_⟩
    rintro _ rfl
    have o1 : ∀ q, q ≠ 34 → (ah_si S 34 0 6 f (zn Z) (Int32.ofInt a)).1 q = S.1 q := fun q hq => up_ne _ _ hq
    refine ⟨_, (o1 32 (by decide)).trans h.I.2, _, rfl, _, ⟨rfl, am_rN (by omega)⟩, _, _, (o1 35 (by decide)).trans a2, by decide, ⟨by omega, by omega⟩, ?_⟩
    rintro _ rfl
    have o2 : ∀ q, q ≠ 35 → (ah_si (ah_si S 34 0 6 f (zn Z) (Int32.ofInt a)) 35 0 6 g (zn Z) (Int32.ofInt b)).1 q = (ah_si S 34 0 6 f (zn Z) (Int32.ofInt a)).1 q := fun q hq => up_ne _ _ hq
    have q1 : (ah_si (ah_si S 34 0 6 f (zn Z) (Int32.ofInt a)) 35 0 6 g (zn Z) (Int32.ofInt b)).1 34 = some (.inr (0, 6, .inl (va_up f (zn Z : Int).toNat (Int32.ofInt a)))) := (o2 34 (by decide)).trans (up_at S.1 34 _)
    have q2 : (ah_si (ah_si S 34 0 6 f (zn Z) (Int32.ofInt a)) 35 0 6 g (zn Z) (Int32.ofInt b)).1 35 = some (.inr (0, 6, .inl (va_up g (zn Z : Int).toNat (Int32.ofInt b)))) := up_at (ah_si S 34 0 6 f (zn Z) (Int32.ofInt a)).1 35 _
    have q3 : (ah_si (ah_si S 34 0 6 f (zn Z) (Int32.ofInt a)) 35 0 6 g (zn Z) (Int32.ofInt b)).2 = S.2 := rfl
    have o3 : ∀ q, q ≠ 34 → q ≠ 35 → (ah_si (ah_si S 34 0 6 f (zn Z) (Int32.ofInt a)) 35 0 6 g (zn Z) (Int32.ofInt b)).1 q = S.1 q := fun q z1 z2 => (o2 q z2).trans (o1 q z1)
    generalize ah_si (ah_si S 34 0 6 f (zn Z) (Int32.ofInt a)) 35 0 6 g (zn Z) (Int32.ofInt b) = S2 at *
    rw [Int.toNat_natCast] at q1 q2
    have m : xt S2.1 36 (zn Z) (zs Z) (zT Z) := h.B.2.kept (fun q _ _ => o3 q (by omega) (by omega))
    have hn : zn Z < 6 := by omega
    refine ⟨_, (o3 32 (by decide) (by decide)).trans h.I.2, _, rfl, _, ⟨rfl, am_rN (by omega)⟩, _, m.hd, kx_begin (s' := va_up (zs Z) (zn Z) a) (c := c) m hn (by omega) (sp_new_ok h.1.2.1.1 hn (by omega)) (fun S3 t3 f3 => ?_)⟩
    obtain ⟨-, fk, kt, k1, k2⟩ := id h.K
    refine kx_thing_76 (t := 0) (a := a) (b := b) (f := fk) (kt := kt) h (by omega) (by omega) (by omega) hn (Nat.zero_le _) (f3.1.trans q3) (fun q hq => (f3.2 q (by omega)).trans ((o3 q (by omega) (by omega)).trans (h.2.1.2 q hq))) (fun q hq hw => ⟨(f3.2 q ?_).trans (o3 q ?_ ?_), rfl⟩) ⟨_, _, (f3.2 34 (by omega)).trans q1, (f3.2 35 (by omega)).trans q2, fun k hk => ?_⟩ t3 k1 (fun i hi => ⟨(k2 i hi).1, (k2 i hi).2.1, (k2 i hi).2.2.1⟩) (fun i _ hi => ((k2 i hi).2.2.2.kept (fun q z1 z2 => (f3.2 q ?_).trans (o3 q ?_ ?_)))) (fun i hi => absurd hi (by omega)) hP
    · by_cases g1 : q ≤ 36
      · exact Or.inl g1
      · by_cases g2 : 36 + 5 < q
        · exact Or.inr g2
        · exact absurd (h.B.1 q (by omega) (by omega)) (fun e => hw (by rw [e]; decide))
    · intro e
      rw [e, aw.1] at hw
      exact hw (by decide)
    · intro e
      rw [e, aw.2] at hw
      exact hw (by decide)
    · rw [up_if, up_if, up_if, up_if]
      by_cases e : k = zn Z
      · simp only [e, if_true]
        exact ⟨am_ti (am_rN (by omega)), am_ti (am_rN (by omega))⟩
      · simp only [e, if_false]
        exact a3 k (by omega)
    all_goals
      have := (k2 i hi).2.1
      omega
  · have h1 := of_decide_eq_true h1
    have h2 := of_decide_eq_true h2
    have h3 := of_decide_eq_true h3
    rw [if_pos ⟨h1, h2, h3⟩, if_pos (by omega)] at hP
    exact am_qi_mk ⟨by decide, by decide⟩ (hP _ ⟨w, tr, h⟩)
  · have h3 := of_decide_eq_false h3
    rw [if_neg (by omega)] at hP
    exact am_qi_mk ⟨by decide, by decide⟩ (hP _ ⟨w, tr, h⟩)
end KX13
