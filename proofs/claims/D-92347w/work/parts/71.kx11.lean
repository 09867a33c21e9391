section KX11
variable {l : Launch} {S : ah_H} {w : Nat → Nat} {Z : sp_Z} {tr : Nat}
theorem kx_question_54 {v b y : Int} {m : Nat} {P : Int → ah_H → Prop} (h : xr_ S w tr Z) (hfit : xfit S Z 96) (hw : v = 0 ∨ v = 1) (hm : m ≤ zK Z) (hb : b = -1000000 ∨ 0 ≤ b ∧ b ≤ 8) (hy : 0 ≤ y ∧ y ≤ 100) (hP : ∀ S', xr_ S' w tr Z → P (if v = 0 then (z_que Z m b y).1 else (z_que Z m b y).2) S') :
    VX0_question l (am_qi P) 54 [(0, am_R 32), (1, am_I v), (2, am_I b), (3, am_I y), (4, am_I (zK Z - m : Nat))] [] S := by
  have hK := h.K8
  induction m generalizing S b y with
  | zero =>
    have hP := hP _ h
    rw [z_que] at hP
    refine bX0_question_54 _ _ (by first | exact am_rN (by omega) | exact ⟨by omega, by omega⟩ | assumption) _ (by first | exact am_rN (by omega) | exact ⟨by omega, by omega⟩ | assumption) _ (by first | exact am_rN (by omega) | exact ⟨by omega, by omega⟩ | assumption) _ (by first | exact am_rN (by omega) | exact ⟨by omega, by omega⟩ | assumption) ⟨_, h.I.2, _, ⟨rfl, am_rN (by omega)⟩, fun _ => ⟨fun h1 => ?_, fun h1 => ?_⟩, fun z => absurd z (by omega)⟩
    · rw [if_neg h1] at hP
      exact am_qi_mk ⟨by omega, by omega⟩ hP
    · rw [if_pos h1] at hP
      exact am_qi_mk ⟨by omega, by omega⟩ hP
  | succ m ih =>
    rw [z_que] at hP
    have eo : ((zK Z - (m + 1) : Nat) : Int) + 1 = ((zK Z - m : Nat) : Int) := by omega
    have hu := z_unl_le (Z := Z) (T := zKT Z (zK Z - (m + 1))) 96 [] 0 (by decide)
    simp only [List.length_nil] at hu
    obtain ⟨f, a, g1, g2, g3, g4⟩ := h.tk (i := zK Z - (m + 1)) (by omega)
    refine bX0_question_54 _ _ (by first | exact am_rN (by omega) | exact ⟨by omega, by omega⟩ | assumption) _ (by first | exact am_rN (by omega) | exact ⟨by omega, by omega⟩ | assumption) _ (by first | exact am_rN (by omega) | exact ⟨by omega, by omega⟩ | assumption) _ (by first | exact am_rN (by omega) | exact ⟨by omega, by omega⟩ | assumption) ⟨_, h.I.2, _, ⟨rfl, am_rN (by omega)⟩, fun z => absurd z (by omega), fun _ => ⟨_, rfl, _, _, g1, ⟨by omega, by omega⟩, _, g2, kx_unlike h hfit g3 g4 (fun S1 h1 q1 => ⟨fun h2 => ?_, fun h2 => ⟨fun h3 => ?_, fun h3 => ?_⟩⟩)⟩⟩
    · rw [if_pos (Or.inl h2)] at hP
      rw [eo]
      exact ih h1 q1 (by omega) (by omega) (by omega) hP
    · rw [if_pos (Or.inr (by omega))] at hP
      rw [eo]
      exact ih h1 q1 (by omega) (by omega) (by omega) hP
    · rw [if_neg (show ¬ (b = -1000000 ∨ y < (z_unl Z (zKT Z (zK Z - (m + 1))) 96 [] 0 : Nat)) by omega)] at hP
      rw [eo]
      exact ih h1 q1 (by omega) hb hy hP
theorem xr_.fit (h : xr_ S w tr Z) {c0 c : ah_C} (hc : S.1 69 = some c0) (hu : ∃ u, c = .inr (1, 96, .inl u)) : xr_ (va_up S.1 69 (some c), S.2) w tr Z := by
  obtain ⟨u1, ⟨s1, s2, s3, s4⟩, ⟨g1, u2, u3⟩, ⟨g2, u4, u5⟩, -, g4, u7⟩ := h.U
  have hw : w 69 = 4 := u1.2 69 (by omega) (by omega)
  have ne : ∀ q, q ≠ 69 → va_up S.1 69 (some c) q = S.1 q := fun q hq => up_ne _ _ hq
  have h6 := h.2.1.1
  have kx : ∀ a, a + 5 < 69 ∨ 69 < a → xs S.1 a → xs (va_up S.1 69 (some c)) a := fun a ha ⟨p, hi, ce, bo, ho, k0, k1, k2, k3, k4, k5⟩ => ⟨p, hi, ce, bo, ho, (ne _ (by omega)).trans k0, (ne _ (by omega)).trans k1, (ne _ (by omega)).trans k2, (ne _ (by omega)).trans k3, (ne _ (by omega)).trans k4, (ne _ (by omega)).trans k5⟩
  refine h.scr rfl (fun q hq => ne q (fun e => hq (by rw [e, hw]))) ⟨u1, ⟨kx _ (by omega) s1, kx _ (by omega) s2, kx _ (by omega) s3, fun k hk => kx _ (by omega) (s4 k hk)⟩, ⟨g1, (ne _ (by omega)).trans u2, u3⟩, ⟨g2, (ne _ (by omega)).trans u4, u5⟩, ?_, g4, (ne _ (by omega)).trans u7⟩ (fun q hq => ?_)
  · obtain ⟨u, rfl⟩ := hu
    exact ⟨u, up_at S.1 69 _⟩
  · rw [show (va_up S.1 69 (some c), S.2).1 q = S.1 q from ne q (by omega)]
    exact h.2.1.2 q hq
theorem kx_question_15 {v : Int} {m : Nat} {P : Int → ah_H → Prop} (h : xr_ S w tr Z) (hv : v = 0 ∨ v = 1) (hm : m ≤ 96) (hfit : xfit S Z (96 - m)) (hP : ∀ S', xr_ S' w tr Z → xfit S' Z 96 → VX0_question l (am_qi P) 54 [(0, am_R 32), (1, am_I v), (2, am_I (-1000000)), (3, am_I 0), (4, am_I 0)] [] S') :
    VX0_question l (am_qi P) 15 [(0, am_R 32), (1, am_I v), (2, am_I (96 - m : Nat))] [] S := by
  induction m generalizing S with
  | zero => exact bX0_question_15 _ _ (by first | exact am_rN (by omega) | exact ⟨by omega, by omega⟩ | assumption) _ (by first | exact am_rN (by omega) | exact ⟨by omega, by omega⟩ | assumption) ⟨fun _ => hP S h hfit, fun z => absurd z (by omega)⟩
  | succ m ih =>
    have nx : ∀ (S1 : ah_H) (u : Nat → Int32) (b : Bool), xr_ S1 w tr Z → S1.1 69 = some (.inr (1, 96, .inl u)) → (∀ o, o < 96 - (m + 1) → (u o).toInt = am_b ((z_barredBy Z o).isNone)) → (z_barredBy Z (96 - (m + 1))).isNone = b →
        VX0_question l (am_qi P) 15 [(0, am_R 32), (1, am_I v), (2, am_I (((96 - (m + 1) : Nat) : Int) + 1))] [] (ah_si S1 69 1 96 u ((96 - (m + 1) : Nat) : Int) (Int32.ofInt (am_b b))) := fun S1 u b r1 e1 e2 e3 => by
      rw [show ((96 - (m + 1) : Nat) : Int) + 1 = ((96 - m : Nat) : Int) by omega]
      refine ih (r1.fit e1 ⟨_, rfl⟩) (by omega) ⟨va_up u ((96 - (m + 1) : Nat) : Int).toNat (Int32.ofInt (am_b b)), up_at S1.1 69 _, fun o ho => ?_⟩
      rw [Int.toNat_natCast]
      by_cases e : o = 96 - (m + 1)
      · rw [e, up_at, e3]
        exact am_ti (am_rb b)
      · rw [up_ne _ _ e]
        exact e2 o (by omega)
    refine bX0_question_15 _ _ (by first | exact am_rN (by omega) | exact ⟨by omega, by omega⟩ | assumption) _ (by first | exact am_rN (by omega) | exact ⟨by omega, by omega⟩ | assumption) ⟨fun z => absurd z (by omega), fun _ => ⟨_, h.I.2, _, rfl, kx_barring h (by omega) (fun S1 r1 f1 => ?_)⟩⟩
    obtain ⟨u, e1, e2⟩ := hfit.fr f1 (by omega)
    refine ⟨fun z => ⟨_, _, e1, by decide, ⟨by omega, by omega⟩, ?_⟩, fun z => ⟨_, _, e1, by decide, ⟨by omega, by omega⟩, ?_⟩⟩
    · rintro G rfl
      refine nx S1 u false r1 e1 e2 ?_
      cases q : z_barredBy Z (96 - (m + 1)) with
      | none => exact absurd (z_off_none.mpr q) (by omega)
      | some x => rfl
    · rintro G rfl
      refine nx S1 u true r1 e1 e2 ?_
      rw [z_off_none.mp (by omega)]
      rfl
theorem kx_question {v : Int} {P : Int → ah_H → Prop} (h0 : xr S Z) (hv : am_r v) (hP : ∀ S', xr S' (zo_question Z v).2 → P (zo_question Z v).1 S') : kX0_question l [am_R 32, am_I v] S (am_qi P) := by
  obtain ⟨w, tr, h⟩ := h0
  unfold zo_question at hP
  refine bX0_question _ _ (by first | exact am_rN (by omega) | exact ⟨by omega, by omega⟩ | assumption) (kx_isIn ⟨fun h1 => ?_, fun h1 => ?_⟩)
  · have h1 := of_decide_eq_true h1
    rw [if_pos h1] at hP
    obtain ⟨u, hu⟩ := h.U.2.2.2.2.1
    refine kx_question_15 (m := 96) h (by omega) (Nat.le_refl _) ⟨u, hu, fun o ho => absurd ho (by omega)⟩ (fun S1 r1 f1 => ?_)
    have := kx_question_54 (l := l) (m := zK Z) (b := -1000000) (y := 0) (v := v) r1 f1 (by omega) (Nat.le_refl _) (by omega) (by omega) (fun S' r => hP S' ⟨w, tr, r⟩)
    rw [Nat.sub_self] at this
    exact this
  · have h1 := of_decide_eq_false h1
    rw [if_neg h1] at hP
    exact am_qi_mk ⟨by decide, by decide⟩ (hP _ ⟨w, tr, h⟩)
/-! the least quarrel -/
theorem sp_bits_sub {x y : Nat} (m : Nat) (h : ∀ k, k < m → x.testBit k = true → y.testBit k = true) : sp_bits x m ≤ sp_bits y m ∧ (sp_bits x m = sp_bits y m → ∀ k, k < m → x.testBit k = y.testBit k) := by
  induction m with
  | zero => exact ⟨Nat.le_refl _, fun _ k hk => absurd hk (by omega)⟩
  | succ m ih =>
    obtain ⟨i1, i2⟩ := ih (fun k hk => h k (by omega))
    have hm := h m (by omega)
    rw [sp_bits, sp_bits]
    cases q1 : x.testBit m <;> cases q2 : y.testBit m <;> rw [q1, q2] at hm <;> simp only [if_true, if_false, Bool.false_eq_true, Nat.add_zero] <;> first
      | exact absurd (hm rfl) (by decide)
      | (refine ⟨by omega, fun e k hk => ?_⟩
         by_cases ek : k = m
         · rw [ek, q1, q2]
         · exact i2 (by omega) k (by omega))
      | exact ⟨by omega, fun e => absurd e (by omega)⟩
theorem z_quar_0 (h : zL Z ≤ 8) : z_quar Z 96 (z_stand Z) = z_quar Z 95 (z_off Z 0) := by
  have hs : z_stand Z < 2 ^ zL Z := sp_set_lt _ _
  have ho : z_off Z 0 < 2 ^ zL Z := sp_set_lt _ _
  have hp : 2 ^ zL Z ≤ 2 ^ 8 := Nat.pow_le_pow_right (by decide) h
  have sub : ∀ k, k < 8 → (z_off Z 0).testBit k = true → (z_stand Z).testBit k = true := fun k _ hb => by
    unfold z_off at hb
    unfold z_stand
    rw [sp_set_bit, Bool.and_eq_true] at hb
    rw [sp_set_bit, Bool.and_eq_true]
    refine ⟨hb.1, ?_⟩
    have := hb.2
    unfold z_bars at this
    rw [Bool.and_eq_true] at this
    exact this.1
  obtain ⟨b1, b2⟩ := sp_bits_sub 8 sub
  rw [show (96 : Nat) = 95 + 1 from rfl, z_quar, show 96 - (95 + 1) = 0 from rfl]
  split
  · rfl
  · rename_i hn
    have e : z_off Z 0 = z_stand Z := by
      refine Nat.eq_of_testBit_eq (fun k => ?_)
      by_cases hk : k < 8
      · exact b2 (by omega) k hk
      · rw [Nat.testBit_lt_two_pow (Nat.lt_of_lt_of_le (Nat.lt_of_lt_of_le ho hp) (Nat.pow_le_pow_right (by decide) (by omega))), Nat.testBit_lt_two_pow (Nat.lt_of_lt_of_le (Nat.lt_of_lt_of_le hs hp) (Nat.pow_le_pow_right (by decide) (by omega)))]
    rw [e]
theorem kx_quarrel_5 {b m : Nat} {P : Int → ah_H → Prop} (h : xr_ S w tr Z) (hb : b < 256) (hm : m ≤ 95) (hP : ∀ S', xr_ S' w tr Z → P (z_quar Z m b : Nat) S') :
    VX0_quarrel l (am_qi P) 5 [(0, am_R 32), (1, am_I b), (2, am_I (96 - m : Nat))] [] S := by
  have L8 := h.L8
  induction m generalizing S b with
  | zero =>
    have hP := hP S h
    rw [z_quar] at hP
    exact bX0_quarrel_5 _ _ (by first | exact am_rN (by omega) | exact ⟨by omega, by omega⟩ | assumption) _ (by first | exact am_rN (by omega) | exact ⟨by omega, by omega⟩ | assumption) ⟨fun _ => am_qi_mk (am_rN (by omega)) hP, fun z => absurd z (by omega)⟩
  | succ m ih =>
    rw [z_quar] at hP
    have hof := z_off_lt L8 (96 - (m + 1))
    have eo : ((96 - (m + 1) : Nat) : Int) + 1 = ((96 - m : Nat) : Int) := by omega
    refine bX0_quarrel_5 _ _ (by first | exact am_rN (by omega) | exact ⟨by omega, by omega⟩ | assumption) _ (by first | exact am_rN (by omega) | exact ⟨by omega, by omega⟩ | assumption) ⟨fun z => absurd z (by omega), fun _ => ⟨_, h.I.2, kx_barring h (by omega) (fun S1 r1 f1 => ⟨fun z => absurd z (by omega), fun _ => kx_bitCount hof (kx_bitCount hb ⟨fun h2 => ?_, fun h2 => kx_bitCount hof (kx_bitCount hb ⟨fun h3 => ?_, fun h3 => ⟨fun h4 => ?_, fun h4 => ?_⟩⟩)⟩)⟩)⟩⟩
    · rw [if_pos (Or.inl (by omega))] at hP
      rw [eo]
      exact ih r1 hof (by omega) hP
    · rw [if_neg (by omega)] at hP
      rw [eo]
      exact ih r1 hb (by omega) hP
    · rw [if_neg (by omega)] at hP
      rw [eo]
      exact ih r1 hb (by omega) hP
    · rw [if_pos (Or.inr (by omega))] at hP
      rw [eo]
      exact ih r1 hof (by omega) hP
theorem kx_quarrel {P : Int → ah_H → Prop} (h0 : xr S Z) (hP : ∀ S', xr S' (zo_quarrel Z).2 → P (zo_quarrel Z).1 S') : kX0_quarrel l [am_R 32] S (am_qi P) := by
  obtain ⟨w, tr, h⟩ := h0
  have L8 := h.L8
  unfold zo_quarrel at hP
  rw [z_quar_0 L8] at hP
  have hof := z_off_lt L8 0
  refine bX0_quarrel _ (bX0_quarrel_5 _ _ (by first | exact am_rN (by omega) | exact ⟨by omega, by omega⟩ | assumption) _ (by first | exact am_rN (by omega) | exact ⟨by omega, by omega⟩ | assumption) ⟨fun z => absurd z (by omega), fun _ => ⟨_, h.I.2, kx_barring (o := 0) h (by omega) (fun S1 r1 f1 => ⟨fun _ => ?_, fun z => absurd rfl z⟩)⟩⟩)
  exact kx_quarrel_5 (m := 95) r1 hof (Nat.le_refl _) (fun S' r => hP S' ⟨w, tr, r⟩)
end KX11
