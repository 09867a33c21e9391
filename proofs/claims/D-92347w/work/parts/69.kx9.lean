section KX9
variable {l : Launch} {S : ah_H} {w : Nat → Nat} {Z : sp_Z} {tr : Nat}
theorem kx_size {a n t : Nat} {Pe : Nat → Nat → Prop} {P : Int → ah_H → Prop} (h : xl S.1 w t a n Pe) (hP : P (n : Int) S) : kJ2_size l [am_R a] S (am_qi P) := by
  obtain ⟨-, mc, e, cap, f, h1, h2, h3, h4, h5, h6, h7⟩ := h
  exact bJ2_size _ ⟨_, h1, _, ⟨rfl, am_rN (by omega)⟩, am_qi_mk (am_rN (by omega)) hP⟩
theorem kx_get_ {a n i mc e cap o : Nat} {f : Nat → Option Nat} {P : Option Nat → ah_H → Prop} (h1 : S.1 a = some (.inl (15, [am_I (mc : Int), am_R e, am_I (n : Int)]))) (h2 : S.1 e = some (.inr (5, cap, .inr f))) (h3 : n ≤ cap) (h4 : cap ≤ 100) (hi : i < n) (ho : f i = some o) (hP : P (some o) S) : kJ2_get l [am_R a, am_I i] S (am_qo P) := by
  refine bJ2_get _ _ (by first | exact am_rN (by omega) | exact ⟨by omega, by omega⟩ | assumption) ⟨_, h1, _, ⟨rfl, am_rN (by omega)⟩, ?_⟩
  refine bJ12_checkIndex _ (by first | exact am_rN (by omega) | exact ⟨by omega, by omega⟩ | assumption) _ (by first | exact am_rN (by omega) | exact ⟨by omega, by omega⟩ | assumption) ?_
  refine bJ13_checkIndex_N _ (by first | exact am_rN (by omega) | exact ⟨by omega, by omega⟩ | assumption) _ (by first | exact am_rN (by omega) | exact ⟨by omega, by omega⟩ | assumption) ⟨fun z => absurd z (by omega), fun _ => ⟨fun _ => am_qi_mk (am_rN (by omega)) (am_qi_mk (am_rN (by omega)) ⟨_, h1, ?_⟩), fun z => absurd z (by omega)⟩⟩
  exact bJ2_elementData _ _ (by first | exact am_rN (by omega) | exact ⟨by omega, by omega⟩ | assumption) ⟨_, h1, _, rfl, _, _, h2, ⟨by omega, by omega⟩, o, ho, am_qo_mk ⟨o, rfl, am_qo_mk hP⟩⟩
theorem kx_get {a n t i : Nat} {Pe : Nat → Nat → Prop} {P : Option Nat → ah_H → Prop} (h : xl S.1 w t a n Pe) (hi : i < n) (hP : ∀ o, Pe i o → P (some o) S) : kJ2_get l [am_R a, am_I i] S (am_qo P) := by
  obtain ⟨-, mc, e, cap, f, h1, h2, h3, h4, h5, h6, h7⟩ := h
  obtain ⟨o, g1, g2⟩ := h7 i hi
  exact kx_get_ h1 h2 h4 h5 hi g1 (hP o g2)
theorem ah_is6 {o : Nat} {fs : List am_W} (h : S.1 o = some (.inl (6, fs))) : ah_is S (some o) "TableArms$Lesson" := fun y hy => by
  cases hy
  exact ⟨6, fs, _, h, rfl, Or.inl rfl⟩
theorem kx_isBarring {k o lo : Nat} {P : Bool → ah_H → Prop} (h : xr_ S w tr Z) (hk : k < zL Z) (ho : o < 96) (hlo : 647 ≤ lo) (hl : S.1 lo = some (.inl (6, [am_I ((zLf Z k).1 : Int), am_I ((zLf Z k).2.1 : Int), am_I (am_b (zLf Z k).2.2.1), am_I ((zLf Z k).2.2.2.1 : Int), am_I (am_b (zLf Z k).2.2.2.2)])))
    (hP : ∀ S', xr_ S' w tr Z → xw 43 S S' → P (z_barr Z k o) S') : kX0_isBarring l [am_R 32, am_R lo, am_I o] S (am_qz P) := by
  have K8 := h.K8
  have n6 := h.n6
  obtain ⟨s1, s2, s3⟩ := h.1.2.2.2.1.2 k hk
  obtain ⟨f, a, g1, g2, g3, g4⟩ := h.tk s1
  obtain ⟨p, hi, ce, bo, ho', o0⟩ := h.U.xs (Or.inl rfl)
  refine bX0_isBarring _ _ _ (by first | exact am_rN (by omega) | exact ⟨by omega, by omega⟩ | assumption) ⟨_, h.I.2, _, rfl, _, rfl, _, hl, _, ⟨rfl, am_rN (by omega)⟩, _, _, g1, ⟨by omega, by omega⟩, _, g2, _, o0.1, kx_lay (by decide) o0 g4 (by omega) (fun S1 t1 f1 => ?_)⟩
  have r1 := h.tab (Or.inl rfl) f1 (xs.of t1)
  refine ⟨_, r1.I.2, _, rfl, kx_done r1.xn t1 ho (fun S2 t2 f2 => ?_)⟩
  have r2 := r1.tab (Or.inl rfl) f2 (xs.of t2)
  have l2 : S2.1 lo = some (.inl (6, [am_I ((zLf Z k).1 : Int), am_I ((zLf Z k).2.1 : Int), am_I (am_b (zLf Z k).2.2.1), am_I ((zLf Z k).2.2.2.1 : Int), am_I (am_b (zLf Z k).2.2.2.2)])) := (f2.2 _ (by omega)).trans ((f1.2 _ (by omega)).trans hl)
  have hp := hP S2 r2 (f1.trans f2)
  have fin : ∀ g, z_gives Z k o = g → P (if (zLf Z k).2.2.1 = true then g else !g) S2 := fun g hg => by
    unfold z_barr at hp
    rw [hg] at hp
    exact hp
  refine ⟨fun hz => ?_, fun hz => ?_⟩
  · have e : z_gives Z k o = false := by
      unfold z_gives
      rw [sp_on_none.mp hz]
      rfl
    have q := fin _ e
    refine ⟨_, l2, _, rfl, fun hb => am_qz_mk ?_, fun hb => am_qz_mk ?_⟩
    · cases hb2 : (zLf Z k).2.2.1 with
      | true => rw [hb2] at q; exact q
      | false => rw [hb2] at hb; exact absurd rfl hb
    · cases hb2 : (zLf Z k).2.2.1 with
      | true => rw [hb2] at hb; exact absurd hb (by decide)
      | false => rw [hb2] at q; exact q
  · have e0 : (sp_order (zn Z) (zs Z) (zKT Z (zLf Z k).1) o).1.isSome = true := by
      cases hq : (sp_order (zn Z) (zs Z) (zKT Z (zLf Z k).1) o).1 with
      | none => rw [hq] at hz; exact absurd rfl hz
      | some y => rfl
    obtain ⟨f', b, q1, q2, q3, q4⟩ := r2.tk s2
    refine ⟨_, r2.I.2, _, rfl, _, rfl, _, l2, _, ⟨rfl, am_rN (by omega)⟩, _, _, q1, ⟨by omega, by omega⟩, _, q2, _, ⟨rfl, am_rN (by omega)⟩, _, t2.hd, kx_isSame t2 q4 ⟨fun hs => ?_, fun hs => ?_⟩⟩
    · have q := fin false (by unfold z_gives; rw [e0, Bool.true_and]; exact hs)
      refine ⟨_, l2, _, rfl, fun hb => am_qz_mk ?_, fun hb => am_qz_mk ?_⟩
      · cases hb2 : (zLf Z k).2.2.1 with
        | true => rw [hb2] at q; exact q
        | false => rw [hb2] at hb; exact absurd rfl hb
      · cases hb2 : (zLf Z k).2.2.1 with
        | true => rw [hb2] at hb; exact absurd hb (by decide)
        | false => rw [hb2] at q; exact q
    · have q := fin true (by unfold z_gives; rw [e0, Bool.true_and]; exact hs)
      refine ⟨_, l2, _, rfl, fun hb => am_qz_mk ?_, fun hb => am_qz_mk ?_⟩
      · cases hb2 : (zLf Z k).2.2.1 with
        | true => rw [hb2] at hb; exact absurd rfl hb
        | false => rw [hb2] at q; exact q
      · cases hb2 : (zLf Z k).2.2.1 with
        | true => rw [hb2] at q; exact q
        | false => rw [hb2] at hb; exact absurd hb (by decide)
theorem kx_barring_4 {o k : Nat} {S0 : ah_H} {P : Int → ah_H → Prop} (h : xr_ S w tr Z) (ho : o < 96) (hk : k ≤ zL Z) (hf : xw 43 S0 S) (hP : ∀ S', xr_ S' w tr Z → xw 43 S0 S' → P (z_off Z o : Int) S') :
    VX0_barring l (am_qi P) 4 [(0, am_R 32), (1, am_I o), (2, am_I (sp_set (z_bars Z o) k : Nat)), (3, am_I k)] [] S := by
  have L8 := h.L8
  generalize hm : zL Z - k = m
  induction m generalizing k S with
  | zero =>
    have e : k = zL Z := by omega
    subst e
    have hlt := sp_set_lt (z_bars Z o) (zL Z)
    have h2 : 2 ^ zL Z ≤ 2 ^ 8 := Nat.pow_le_pow_right (by decide) L8
    exact bX0_barring_4 _ _ (by first | exact am_rN (by omega) | exact ⟨by omega, by omega⟩ | assumption) _ (by first | exact am_rN (by omega) | exact ⟨by omega, by omega⟩ | assumption) _ (by first | exact am_rN (by omega) | exact ⟨by omega, by omega⟩ | assumption) ⟨_, h.I.2, _, rfl, _, h.D.2.choose_spec.choose_spec.choose_spec.choose_spec.1, kx_size h.D ⟨fun _ => am_qi_mk (am_rN (by omega)) (hP S h hf), fun z => absurd z (by omega)⟩⟩
  | succ m ih =>
    have hk' : k < zL Z := by omega
    have hlt := sp_set_lt (z_bars Z o) k
    have h2 : 2 ^ k ≤ 2 ^ 8 := Nat.pow_le_pow_right (by decide) (by omega)
    have nx : ∀ S1, xr_ S1 w tr Z → xw 43 S0 S1 → ∀ b, z_bars Z o k = b → VX0_barring l (am_qi P) 4 [(0, am_R 32), (1, am_I o), (2, am_I ((sp_set (z_bars Z o) k + if b = true then 2 ^ k else 0 : Nat) : Int)), (3, am_I ((k : Int) + 1))] [] S1 := fun S1 r1 q1 b hb => by
      have := ih (k := k + 1) r1 (by omega) q1 (by omega)
      rw [sp_set, hb] at this
      exact this
    obtain ⟨-, mc, e, cap, f, d1, d2, d3, d4, d5, d6, d7⟩ := id h.D
    have off : ∀ S1, xr_ S1 w tr Z → xw 43 S0 S1 → z_bars Z o k = false → VX0_barring l (am_qi P) 4 [(0, am_R 32), (1, am_I o), (2, am_I (am_or (sp_set (z_bars Z o) k : Nat) 0)), (3, am_I ((k : Int) + 1))] [] S1 := fun S1 r1 q1 hb => by
      rw [bt_or0 (by omega)]
      exact nx S1 r1 q1 false hb
    refine bX0_barring_4 _ _ (by first | exact am_rN (by omega) | exact ⟨by omega, by omega⟩ | assumption) _ (by first | exact am_rN (by omega) | exact ⟨by omega, by omega⟩ | assumption) _ (by first | exact am_rN (by omega) | exact ⟨by omega, by omega⟩ | assumption) ⟨_, h.I.2, _, rfl, _, d1, kx_size h.D ⟨fun z => absurd z (by omega), fun _ => ⟨_, h.I.2, _, rfl, _, d1, kx_get h.D hk' (fun lo hlo => ⟨lo, rfl, ah_is6 hlo.2.2, _, hlo.2.2, _, rfl, fun hb => ?_, fun hb => ⟨_, h.I.2, _, rfl, _, d1, kx_get h.D hk' (fun lo hlo => ⟨lo, rfl, ah_is6 hlo.2.2, _, h.I.2, kx_isBarring h hk' ho hlo.1 hlo.2.2 (fun S1 r1 q1 => ⟨fun hc => ?_, fun hc => ?_⟩)⟩)⟩⟩)⟩⟩⟩
    · refine off S h hf ?_
      unfold z_bars
      rw [hb]
      rfl
    · refine off S1 r1 (hf.trans q1) ?_
      unfold z_bars
      rw [hb, hc]
      rfl
    · rw [bt_or (by omega) hlt]
      refine nx S1 r1 (hf.trans q1) true ?_
      unfold z_bars
      rw [hb, hc]
      rfl
theorem kx_barring {o : Nat} {P : Int → ah_H → Prop} (h : xr_ S w tr Z) (ho : o < 96) (hP : ∀ S', xr_ S' w tr Z → xw 43 S S' → P (z_off Z o : Int) S') : kX0_barring l [am_R 32, am_I o] S (am_qi P) :=
  bX0_barring _ _ (by first | exact am_rN (by omega) | exact ⟨by omega, by omega⟩ | assumption) (kx_barring_4 (k := 0) h ho (Nat.zero_le _) (xw.refl _ _) hP)
theorem sp_set_zero {p : Nat → Bool} : ∀ m, sp_set p m = 0 ↔ ∀ k, k < m → p k = false := by
  intro m
  induction m with
  | zero => exact ⟨fun _ k hk => absurd hk (by omega), fun _ => rfl⟩
  | succ m ih =>
    rw [sp_set]
    constructor
    · intro h k hk
      have h1 : sp_set p m = 0 := by omega
      by_cases e : k = m
      · subst e
        cases hp : p k with
        | false => rfl
        | true =>
          rw [hp, if_pos rfl] at h
          have : 0 < 2 ^ k := Nat.two_pow_pos k
          omega
      · exact ih.mp h1 k (by omega)
    · intro h
      rw [h m (by omega), ih.mpr (fun k hk => h k (by omega))]
      rfl
theorem z_off_none {o : Nat} : z_off Z o = 0 ↔ z_barredBy Z o = none := by
  unfold z_off z_barredBy
  rw [sp_set_zero]
  constructor
  · intro h
    exact sp_find_none h
  · intro h k hk
    rw [List.find?_eq_none] at h
    have := h k (List.mem_range.mpr hk)
    simpa using this
theorem kx_fits_12 {i : Int} {m n : Nat} {P : Int → ah_H → Prop} (h : xr_ S w tr Z) (hi : am_r i) (hi1 : -1 ≤ i) (hm : m ≤ 96) (hn : n + m ≤ 96) (hP : ∀ S', xr_ S' w tr Z → P (z_fits (fun o => (z_barredBy Z o).isNone) i m n) S') :
    VX0_fits l (am_qi P) 12 [(0, am_R 32), (1, am_I i), (2, am_I n), (3, am_I (96 - m : Nat))] [] S := by
  induction m generalizing n S with
  | zero =>
    have hP := hP _ h
    rw [z_fits] at hP
    refine bX0_fits_12 _ _ (by first | exact am_rN (by omega) | exact ⟨by omega, by omega⟩ | assumption) _ (by first | exact am_rN (by omega) | exact ⟨by omega, by omega⟩ | assumption) _ (by first | exact am_rN (by omega) | exact ⟨by omega, by omega⟩ | assumption) ⟨fun _ => ⟨fun h1 => ?_, fun h1 => ?_⟩, fun z => absurd z (by omega)⟩
    · rw [if_neg h1] at hP
      exact am_qi_mk ⟨by decide, by decide⟩ hP
    · rw [if_pos h1] at hP
      exact am_qi_mk (am_rN (by omega)) hP
  | succ m ih =>
    rw [z_fits] at hP
    have eo : ((96 - (m + 1) : Nat) : Int) + 1 = ((96 - m : Nat) : Int) := by omega
    refine bX0_fits_12 _ _ (by first | exact am_rN (by omega) | exact ⟨by omega, by omega⟩ | assumption) _ (by first | exact am_rN (by omega) | exact ⟨by omega, by omega⟩ | assumption) _ (by first | exact am_rN (by omega) | exact ⟨by omega, by omega⟩ | assumption) ⟨fun z => absurd z (by omega), fun _ => ⟨_, h.I.2, kx_barring h (by omega) (fun S1 h1 _ => ⟨fun h2 => ?_, fun h2 => ?_⟩)⟩⟩
    · have e : (z_barredBy Z (96 - (m + 1))).isNone = true := by
        rw [z_off_none.mp (by omega)]
        rfl
      rw [e, if_pos rfl] at hP
      refine ⟨fun h3 => ?_, fun h3 => ?_⟩
      · rw [if_neg h3] at hP
        rw [eo]
        exact ih (n := n + 1) h1 (by omega) (by omega) hP
      · rw [if_pos h3] at hP
        exact am_qi_mk (am_rN (by omega)) (hP _ h1)
    · have e : (z_barredBy Z (96 - (m + 1))).isNone = false := by
        rw [Bool.eq_false_iff]
        exact fun z => h2 (by rw [z_off_none.mpr (Option.isNone_iff_eq_none.mp z)]; rfl)
      rw [e, if_neg (by decide)] at hP
      rw [eo]
      exact ih h1 (by omega) (by omega) hP
theorem kx_fits {i : Int} {P : Int → ah_H → Prop} (h0 : xr S Z) (hi : am_r i) (hP : ∀ S', xr S' (zo_fits Z i).2 → P (zo_fits Z i).1 S') : kX0_fits l [am_R 32, am_I i] S (am_qi P) := by
  obtain ⟨w, tr, h⟩ := h0
  unfold zo_fits at hP
  refine bX0_fits _ _ (by first | exact am_rN (by omega) | exact ⟨by omega, by omega⟩ | assumption) ⟨fun h1 => ?_, fun h1 => ?_⟩
  · rw [if_neg (by omega)] at hP
    exact kx_fits_12 (m := 96) (n := 0) h hi h1 (Nat.le_refl _) (Nat.le_refl _) (fun S1 r1 => hP S1 ⟨w, tr, r1⟩)
  · rw [if_pos (by omega)] at hP
    exact am_qi_mk ⟨by decide, by decide⟩ (hP _ ⟨w, tr, h⟩)
theorem kx_unteach {k : Int} {P : Int → ah_H → Prop} (h0 : xr S Z) (hk : am_r k) (hP : ∀ S', xr S' (zo_unteach Z k).2 → P (zo_unteach Z k).1 S') : kX0_unteach l [am_R 32, am_I k] S (am_qi P) := by
  obtain ⟨w, tr, h⟩ := h0
  have L8 := h.L8
  unfold zo_unteach at hP
  obtain ⟨d0, mc, e, cap, f, d1, d2, d3, d4, d5, d6, d7⟩ := id h.D
  refine bX0_unteach _ _ (by first | exact am_rN (by omega) | exact ⟨by omega, by omega⟩ | assumption) ⟨_, h.I.2, _, rfl, _, d1, kx_size h.D ⟨⟨by omega, by omega⟩, kx_isIn ⟨fun h1 => ⟨_, h.I.2, _, rfl, _, d1, ?_⟩, fun h1 => am_qi_mk ⟨by decide, by decide⟩ ?_⟩⟩⟩
  · have h1 := of_decide_eq_true h1
    obtain ⟨k, rfl⟩ : ∃ o : Nat, k = o := ⟨k.toNat, by omega⟩
    have hk' : k < zL Z := by omega
    rw [if_pos (by omega), Int.toNat_natCast] at hP
    obtain ⟨lo, glo, hlo⟩ := d7 k hk'
    refine kx_get_ d1 d2 d4 d5 hk' glo ⟨lo, rfl, ah_is6 hlo.2.2, _, hlo.2.2, _, rfl, fun hb => ⟨_, h.I.2, _, rfl, _, d1, kx_get_ d1 d2 d4 d5 hk' glo ⟨lo, rfl, ah_is6 hlo.2.2, _, hlo.2.2, Nat.le_trans (by decide) hlo.1, by show 4 < 5; decide, ?_⟩⟩, fun hb => am_qi_mk ⟨by decide, by decide⟩ ?_⟩
    · rintro G rfl
      rw [if_pos hb] at hP
      obtain ⟨fr, fn⟩ := h.w1 hlo.2.2 hlo.2.1 (.inl (6, [am_I ((zLf Z k).1 : Int), am_I ((zLf Z k).2.1 : Int), am_I (am_b (zLf Z k).2.2.1), am_I ((zLf Z k).2.2.2.1 : Int), am_I (am_b false)]))
      have n1 : ∀ i, i < 8 → 100 + i ∉ [300 + k] := fun i hi => by simp; omega
      have n2 : ∀ i, i < 8 → 200 + i ∉ [300 + k] := fun i hi => by simp; omega
      have n0 : ∀ t, t < 300 → t ∉ [300 + k] := fun t ht => by simp; omega
      refine am_qi_mk ⟨by decide, by decide⟩ (hP _ ⟨w, tr, ⟨h.1.1, h.1.2.1, h.1.2.2.1, ⟨L8, fun j hj => ?_⟩, h.1.2.2.2.2⟩, ⟨h.2.1.1, fn⟩, h.I.kept fr (n0 _ (by omega)), h.A.kept fr (n0 _ (by omega)), h.B.kept fr (n0 _ (by omega)), h.K.kept h.K8 fr (n0 _ (by omega)) n1, h.C.kept fr (n0 _ (by omega)), ?_, h.E.kept fr (n0 _ (by omega)) n2, h.N.kept h.e1 fr (n0 _ (by omega)) (n0 _ (by omega)) (n0 _ (by omega)), h.G.kept fr (n0 _ (by omega)), h.Y.kept fr (n0 _ (by omega)), h.U.kept fr (n0 _ (by omega)), h.X.kept fr (n0 _ (by omega)) h.X.1⟩)
      · show (va_up (zLf Z) k _ j).1 < zK Z ∧ (va_up (zLf Z) k _ j).2.1 < zK Z ∧ (va_up (zLf Z) k _ j).2.2.2.1 ≤ 9
        rw [up_if]
        split
        · exact h.1.2.2.2.1.2 k hk'
        · exact h.1.2.2.2.1.2 j hj
      · obtain ⟨q1, q2⟩ := xc_at fr d0 (n0 _ (by omega)) d1
        refine ⟨q2, mc, e, cap, f, q1, ?_, d3, d4, d5, d6, fun i hi => ?_⟩
        · rcases d6 with ⟨rfl, -⟩ | ⟨-, m, -⟩
          · exact (xc_at fr h.e1.2 (n0 _ (by omega)) d2).1
          · exact (xc_at fr m (n0 _ (by omega)) d2).1
        · obtain ⟨o, m1, m2, m3, m4⟩ := d7 i hi
          refine ⟨o, m1, m2, m3, ?_⟩
          show va_up S.1 lo _ o = some (.inl (6, [am_I ((va_up (zLf Z) k _ i).1 : Int), am_I ((va_up (zLf Z) k _ i).2.1 : Int), am_I (am_b (va_up (zLf Z) k _ i).2.2.1), am_I ((va_up (zLf Z) k _ i).2.2.2.1 : Int), am_I (am_b (va_up (zLf Z) k _ i).2.2.2.2)]))
          by_cases ei : i = k
          · subst ei
            have eo : o = lo := Option.some.inj (m1.symm.trans glo)
            subst eo
            rw [up_at, up_at]
            rfl
          · rw [up_ne _ _ ei, up_ne _ _ (fun z => by rw [z, hlo.2.1] at m3; omega)]
            exact m4
    · rw [if_neg (by rw [hb]; decide)] at hP
      exact hP S ⟨w, tr, h⟩
  · have h1 := of_decide_eq_false h1
    rw [if_neg (by omega)] at hP
    exact hP S ⟨w, tr, h⟩
end KX9
