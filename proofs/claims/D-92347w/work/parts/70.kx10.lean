theorem am_qi_eq {σ : Type} {P : Int → σ → Prop} {r k : Int} {S : σ} (h : r = k) (hr : am_r k) (hP : P k S) : am_qi P (some (am_I r)) S := by
  rw [h]
  exact am_qi_mk hr hP
set_option maxRecDepth 100000 in
theorem jx_bc_f : ∀ x : Fin 256, (am_and (((am_and (((am_and ((x.val : Int) - (am_and (am_ushr (x.val : Int) 1) 1431655765)) 858993459) + (am_and (am_ushr ((x.val : Int) - (am_and (am_ushr (x.val : Int) 1) 1431655765)) 2) 858993459)) + (am_ushr ((am_and ((x.val : Int) - (am_and (am_ushr (x.val : Int) 1) 1431655765)) 858993459) + (am_and (am_ushr ((x.val : Int) - (am_and (am_ushr (x.val : Int) 1) 1431655765)) 2) 858993459)) 4)) 252645135) + (am_ushr (am_and (((am_and ((x.val : Int) - (am_and (am_ushr (x.val : Int) 1) 1431655765)) 858993459) + (am_and (am_ushr ((x.val : Int) - (am_and (am_ushr (x.val : Int) 1) 1431655765)) 2) 858993459)) + (am_ushr ((am_and ((x.val : Int) - (am_and (am_ushr (x.val : Int) 1) 1431655765)) 858993459) + (am_and (am_ushr ((x.val : Int) - (am_and (am_ushr (x.val : Int) 1) 1431655765)) 2) 858993459)) 4)) 252645135) 8)) + (am_ushr ((am_and (((am_and ((x.val : Int) - (am_and (am_ushr (x.val : Int) 1) 1431655765)) 858993459) + (am_and (am_ushr ((x.val : Int) - (am_and (am_ushr (x.val : Int) 1) 1431655765)) 2) 858993459)) + (am_ushr ((am_and ((x.val : Int) - (am_and (am_ushr (x.val : Int) 1) 1431655765)) 858993459) + (am_and (am_ushr ((x.val : Int) - (am_and (am_ushr (x.val : Int) 1) 1431655765)) 2) 858993459)) 4)) 252645135) + (am_ushr (am_and (((am_and ((x.val : Int) - (am_and (am_ushr (x.val : Int) 1) 1431655765)) 858993459) + (am_and (am_ushr ((x.val : Int) - (am_and (am_ushr (x.val : Int) 1) 1431655765)) 2) 858993459)) + (am_ushr ((am_and ((x.val : Int) - (am_and (am_ushr (x.val : Int) 1) 1431655765)) 858993459) + (am_and (am_ushr ((x.val : Int) - (am_and (am_ushr (x.val : Int) 1) 1431655765)) 2) 858993459)) 4)) 252645135) 8)) 16)) 63) = ((sp_bits x.val 8 : Nat) : Int) := by decide +kernel
theorem jx_tz_f : ∀ x : Fin 256, x.val ≠ 0 → ∃ k : Fin 8, (am_and (am_xor (x.val : Int) (-1)) ((x.val : Int) - 1)) = ((2 ^ k.val - 1 : Nat) : Int) ∧ x.val.testBit k.val = true ∧ ∀ j : Fin 8, j.val < k.val → x.val.testBit j.val = false := by decide +kernel
section KX10
variable {l : Launch} {S : ah_H} {w : Nat → Nat} {Z : sp_Z} {tr : Nat}
theorem kx_bitCount {x : Nat} {P : Int → ah_H → Prop} (hx : x < 256) (hP : P (sp_bits x 8 : Nat) S) : kJ14_bitCount l [am_I x] S (am_qi P) := by
  have hb := sp_bits_le x 8
  exact bJ14_bitCount _ (by first | exact am_rN (by omega) | exact ⟨by omega, by omega⟩ | assumption) (am_qi_eq (k := ((sp_bits x 8 : Nat) : Int)) (jx_bc_f ⟨x, hx⟩) (am_rN (by omega)) hP)
theorem kx_ntz {x : Nat} {P : Int → ah_H → Prop} (hx : x < 256) (h0 : x ≠ 0) (hP : ∀ k : Nat, k < 8 → x.testBit k = true → (∀ j, j < k → x.testBit j = false) → P (k : Int) S) : kJ14_numberOfTrailingZeros l [am_I x] S (am_qi P) := by
  obtain ⟨⟨k, hkl⟩, hk1, hk2, hk3⟩ := jx_tz_f ⟨x, hx⟩ h0
  have hk1 : (am_and (am_xor (x : Int) (-1)) ((x : Int) - 1)) = ((2 ^ k - 1 : Nat) : Int) := hk1
  have hp := hP k hkl hk2 (fun j hj => hk3 ⟨j, by omega⟩ hj)
  refine bJ14_numberOfTrailingZeros _ (by first | exact am_rN (by omega) | exact ⟨by omega, by omega⟩ | assumption) ?_
  rw [hk1]
  clear hk1 hk2 hk3 hP
  have hkk : k = 0 ∨ k = 1 ∨ k = 2 ∨ k = 3 ∨ k = 4 ∨ k = 5 ∨ k = 6 ∨ k = 7 := by omega
  rcases hkk with rfl | rfl | rfl | rfl | rfl | rfl | rfl | rfl
  · repeat' (first | (refine ⟨fun h => ?_, fun h => ?_⟩ <;> (try exact absurd h (by decide +kernel))) | fail)
    all_goals exact am_qi_eq (k := 0) (by decide +kernel) ⟨by decide, by decide⟩ hp
  · repeat' (first | (refine ⟨fun h => ?_, fun h => ?_⟩ <;> (try exact absurd h (by decide +kernel))) | fail)
    all_goals exact am_qi_eq (k := 1) (by decide +kernel) ⟨by decide, by decide⟩ hp
  · repeat' (first | (refine ⟨fun h => ?_, fun h => ?_⟩ <;> (try exact absurd h (by decide +kernel))) | fail)
    all_goals exact am_qi_eq (k := 2) (by decide +kernel) ⟨by decide, by decide⟩ hp
  · repeat' (first | (refine ⟨fun h => ?_, fun h => ?_⟩ <;> (try exact absurd h (by decide +kernel))) | fail)
    all_goals exact am_qi_eq (k := 3) (by decide +kernel) ⟨by decide, by decide⟩ hp
  · repeat' (first | (refine ⟨fun h => ?_, fun h => ?_⟩ <;> (try exact absurd h (by decide +kernel))) | fail)
    all_goals exact am_qi_eq (k := 4) (by decide +kernel) ⟨by decide, by decide⟩ hp
  · repeat' (first | (refine ⟨fun h => ?_, fun h => ?_⟩ <;> (try exact absurd h (by decide +kernel))) | fail)
    all_goals exact am_qi_eq (k := 5) (by decide +kernel) ⟨by decide, by decide⟩ hp
  · repeat' (first | (refine ⟨fun h => ?_, fun h => ?_⟩ <;> (try exact absurd h (by decide +kernel))) | fail)
    all_goals exact am_qi_eq (k := 6) (by decide +kernel) ⟨by decide, by decide⟩ hp
  · repeat' (first | (refine ⟨fun h => ?_, fun h => ?_⟩ <;> (try exact absurd h (by decide +kernel))) | fail)
    all_goals exact am_qi_eq (k := 7) (by decide +kernel) ⟨by decide, by decide⟩ hp
theorem kx_barred {o v : Int} {P : Int → ah_H → Prop} (h0 : xr S Z) (ho : am_r o) (hv : am_r v) (hP : ∀ S', xr S' (zo_barred Z o v).2 → P (zo_barred Z o v).1 S') : kX0_barred l [am_R 32, am_I o, am_I v] S (am_qi P) := by
  obtain ⟨w, tr, h⟩ := h0
  have L8 := h.L8
  unfold zo_barred at hP
  refine bX0_barred _ _ (by first | exact am_rN (by omega) | exact ⟨by omega, by omega⟩ | assumption) _ (by first | exact am_rN (by omega) | exact ⟨by omega, by omega⟩ | assumption) (kx_isOrder ho ⟨fun h1 => am_qi_mk ⟨by decide, by decide⟩ ?_, fun h1 => kx_isIn ⟨fun h2 => ⟨_, h.I.2, ?_⟩, fun h2 => am_qi_mk ⟨by decide, by decide⟩ ?_⟩⟩)
  · have h1 := of_decide_eq_false h1
    rw [if_neg (fun z => h1 z.1)] at hP
    exact hP S ⟨w, tr, h⟩
  · have h1 := of_decide_eq_true h1
    have h2 := of_decide_eq_true h2
    obtain ⟨o, rfl⟩ : ∃ q : Nat, o = q := ⟨o.toNat, by omega⟩
    rw [if_pos ⟨h1, h2⟩, Int.toNat_natCast] at hP
    refine kx_barring h (by omega) (fun S1 r1 _ => ⟨fun h3 => ?_, fun h3 => am_qi_mk ⟨by decide, by decide⟩ ?_⟩)
    · refine kx_ntz (z_off_lt L8 o) (by omega) (fun k hk hk2 hk3 => ?_)
      unfold z_off at hk2 hk3
      have hkL : k < zL Z ∧ z_bars Z o k = true := by
        rw [sp_set_bit, Bool.and_eq_true, decide_eq_true_eq] at hk2
        exact hk2
      have he : z_barredBy Z o = some k := by
        unfold z_barredBy
        refine sp_find_some hkL.1 hkL.2 (fun j hj => ?_)
        have := hk3 j hj
        rw [sp_set_bit, decide_eq_true (show j < zL Z by omega), Bool.true_and] at this
        exact this
      rw [he] at hP
      obtain ⟨-, mc, e, cap, f, d1, d2, d3, d4, d5, d6, d7⟩ := id r1.D
      obtain ⟨lo, glo, hlo⟩ := d7 k hkL.1
      have t9 := (r1.1.2.2.2.1.2 k hkL.1).2.2
      refine ⟨fun h4 => ⟨_, r1.I.2, _, rfl, _, d1, kx_get_ d1 d2 d4 d5 hkL.1 glo ⟨lo, rfl, ah_is6 hlo.2.2, _, hlo.2.2, _, ⟨rfl, am_rN (by omega)⟩, am_qi_mk (am_rN (by omega)) ?_⟩⟩, fun h4 => am_qi_mk (am_rN (by omega)) ?_⟩
      · have hp := hP S1
        simp only [if_neg h4] at hp
        exact hp ⟨w, tr, r1⟩
      · have hp := hP S1
        simp only [if_pos h4] at hp
        exact hp ⟨w, tr, r1⟩
    · have he : z_barredBy Z o = none := z_off_none.mp (by omega)
      rw [he] at hP
      exact hP S1 ⟨w, tr, r1⟩
  · have h2 := of_decide_eq_false h2
    rw [if_neg (fun z => h2 z.2)] at hP
    exact hP S ⟨w, tr, h⟩
/-! how many unlike tables -/
def xfit (S : ah_H) (Z : sp_Z) (m : Nat) : Prop := ∃ u, S.1 69 = some (.inr (1, 96, .inl u)) ∧ ∀ o, o < m → (u o).toInt = am_b ((z_barredBy Z o).isNone)
def xgv (S : ah_H) (Z : sp_Z) (G : List sp_T) : Prop := ∀ k U, G[k]? = some U → xt S.1 (71 + 6 * k) (zn Z) (zs Z) U
theorem xfit.fr {S' : ah_H} {a m : Nat} (h : xfit S Z m) (f : xw a S S') (ha : a + 5 < 69 ∨ 69 ≤ a) : xfit S' Z m := by
  obtain ⟨u, h1, h2⟩ := h
  exact ⟨u, (f.2 _ (by omega)).trans h1, h2⟩
theorem xgv.fr {S' : ah_H} {a : Nat} {G : List sp_T} (h : xgv S Z G) (f : xw a S S') (ha : a + 5 < 71 ∨ 71 + 6 * G.length ≤ a) : xgv S' Z G := fun k U hk => (h k U hk).fr f (by
  have := (List.getElem?_eq_some_iff.mp hk).1
  omega)
theorem kx_unlike_65 {a o f j m : Nat} {v : Bool} {G : List sp_T} {T' : sp_T} {P : Int → ah_H → Prop} (h : xr_ S w tr Z) (hg : xgv S Z G) (hT : xt S.1 (71 + 6 * G.length) (zn Z) (zs Z) T') (hG : G.length + 1 ≤ 96) (ho : o < 96) (hf : f ≤ 1) (hj : j ≤ G.length)
    (hv : v = !(G.take j).any (fun U => sp_same (zn Z) U T'))
    (n0 : G.any (fun U => sp_same (zn Z) U T') = false → VX0_unlike l (am_qi P) 7 [(0, am_R 32), (1, am_R a), (2, am_I f), (3, am_I ((G.length : Int) + 1)), (4, am_I ((o : Int) + 1))] [] S)
    (n1 : G.any (fun U => sp_same (zn Z) U T') = true → VX0_unlike l (am_qi P) 7 [(0, am_R 32), (1, am_R a), (2, am_I f), (3, am_I ((G.length : Int) + 0)), (4, am_I ((o : Int) + 1))] [] S) :
    VX0_unlike l (am_qi P) 65 [(0, am_R 32), (1, am_R a), (2, am_I f), (3, am_I G.length), (4, am_I o), (5, am_I (am_b v)), (6, am_I j)] [] S := by
  have n6 := h.n6
  have hvr : am_r (am_b v) := am_rb v
  generalize hm : G.length - j = q
  induction q generalizing j v with
  | zero =>
    rw [List.take_of_length_le (by omega)] at hv
    refine bX0_unlike_65 _ _ _ (by first | exact am_rN (by omega) | exact ⟨by omega, by omega⟩ | assumption) _ (by first | exact am_rN (by omega) | exact ⟨by omega, by omega⟩ | assumption) _ (by first | exact am_rN (by omega) | exact ⟨by omega, by omega⟩ | assumption) _ (by first | exact am_rN (by omega) | exact ⟨by omega, by omega⟩ | assumption) _ (by first | exact am_rN (by omega) | exact ⟨by omega, by omega⟩ | assumption) ⟨fun _ => ⟨fun z => n1 ?_, fun z => n0 ?_⟩, fun z => absurd z (by omega)⟩
    · cases hq : G.any (fun U => sp_same (zn Z) U T') with
      | true => rfl
      | false => rw [hv, hq] at z; exact absurd z (by decide)
    · cases hq : G.any (fun U => sp_same (zn Z) U T') with
      | false => rfl
      | true => rw [hv, hq] at z; exact absurd rfl z
  | succ q ih =>
    have hjl : j < G.length := by omega
    have hx := List.getElem?_eq_getElem hjl
    have g1 := hg j _ hx
    obtain ⟨-, -, -, ⟨f9, u4, u5⟩, -⟩ := h.U
    have e5 : f9 (j : Int).toNat = some (71 + 6 * j) := u5 j (by omega)
    have e6 : f9 (G.length : Int).toNat = some (71 + 6 * G.length) := u5 G.length (by omega)
    have nx : ∀ b, sp_same (zn Z) G[j] T' = b → VX0_unlike l (am_qi P) 65 [(0, am_R 32), (1, am_R a), (2, am_I f), (3, am_I G.length), (4, am_I o), (5, am_I (am_b (v && !b))), (6, am_I ((j : Int) + 1))] [] S := fun b hb => by
      refine ih (j := j + 1) (by omega) ?_ (am_rb _) (by omega)
      rw [List.take_add_one, hx, List.any_append, hv]
      simp [hb, Bool.not_or]
    refine bX0_unlike_65 _ _ _ (by first | exact am_rN (by omega) | exact ⟨by omega, by omega⟩ | assumption) _ (by first | exact am_rN (by omega) | exact ⟨by omega, by omega⟩ | assumption) _ (by first | exact am_rN (by omega) | exact ⟨by omega, by omega⟩ | assumption) _ (by first | exact am_rN (by omega) | exact ⟨by omega, by omega⟩ | assumption) _ (by first | exact am_rN (by omega) | exact ⟨by omega, by omega⟩ | assumption) ⟨fun z => absurd z (by omega), fun _ => ⟨_, h.I.2, _, rfl, _, _, u4, ⟨by omega, by omega⟩, _, e5, ⟨by omega, by omega⟩, _, e6, _, ⟨rfl, am_rN (by omega)⟩, _, g1.hd, kx_isSame g1 hT ⟨fun z => ?_, fun z => ?_⟩⟩⟩
    · have := nx true z
      rw [Bool.not_true, Bool.and_false] at this
      rw [show am_and (am_b v) 0 = am_b false by cases v <;> decide +kernel]
      exact this
    · have := nx false z
      rw [Bool.not_false, Bool.and_true] at this
      rw [show am_and (am_b v) 1 = am_b v by cases v <;> decide +kernel]
      exact this
theorem kx_unlike_7 {a t m f : Nat} {G : List sp_T} {P : Int → ah_H → Prop} (h : xr_ S w tr Z) (hfit : xfit S Z 96) (hg : xgv S Z G) (ha : 647 ≤ a) (ht : xt S.1 a (zn Z) (zs Z) (zKT Z t)) (hm : m ≤ 96) (hf : f ≤ 1) (hG : G.length + m ≤ 96) (hP : ∀ S', xr_ S' w tr Z → xfit S' Z 96 → P (z_unl Z (zKT Z t) m G f : Nat) S') :
    VX0_unlike l (am_qi P) 7 [(0, am_R 32), (1, am_R a), (2, am_I f), (3, am_I G.length), (4, am_I (96 - m : Nat))] [] S := by
  induction m generalizing S f G with
  | zero =>
    have hP := hP S h hfit
    rw [z_unl] at hP
    refine bX0_unlike_7 _ _ _ (by first | exact am_rN (by omega) | exact ⟨by omega, by omega⟩ | assumption) _ (by first | exact am_rN (by omega) | exact ⟨by omega, by omega⟩ | assumption) _ (by first | exact am_rN (by omega) | exact ⟨by omega, by omega⟩ | assumption) ⟨fun _ => ⟨fun z => am_qi_eq (k := ((G.length + f : Nat) : Int)) (by omega) (am_rN (by omega)) hP, fun z => am_qi_eq (k := ((G.length + f : Nat) : Int)) (by omega) (am_rN (by omega)) hP⟩, fun z => absurd z (by omega)⟩
  | succ m ih =>
    rw [z_unl] at hP
    have eo : ((96 - (m + 1) : Nat) : Int) + 1 = ((96 - m : Nat) : Int) := by omega
    obtain ⟨u, f1, f2⟩ := id hfit
    obtain ⟨-, -, -, ⟨f9, u4, u5⟩, -⟩ := id h.U
    have eu : (u ((96 - (m + 1) : Nat) : Int).toNat).toInt = am_b ((z_barredBy Z (96 - (m + 1))).isNone) := f2 (96 - (m + 1)) (by omega)
    have e6 : f9 (G.length : Int).toNat = some (71 + 6 * G.length) := u5 G.length (by omega)
    have hsc : xsc (71 + 6 * G.length) := Or.inr (Or.inr (Or.inr ⟨G.length, by omega, rfl⟩))
    obtain ⟨p, hi, ce, bo, ho', o0⟩ := h.U.xs hsc
    refine bX0_unlike_7 _ _ _ (by first | exact am_rN (by omega) | exact ⟨by omega, by omega⟩ | assumption) _ (by first | exact am_rN (by omega) | exact ⟨by omega, by omega⟩ | assumption) _ (by first | exact am_rN (by omega) | exact ⟨by omega, by omega⟩ | assumption) ⟨fun z => absurd z (by omega), fun _ => ⟨_, h.I.2, _, rfl, _, _, f1, ⟨by omega, by omega⟩, fun z => ⟨_, rfl, _, _, u4, ⟨by omega, by omega⟩, _, e6, _, o0.1, kx_lay (by omega) o0 ht (by omega) (fun S1 t1 w1 => ?_)⟩, fun z => ?_⟩⟩
    · rw [eu] at z
      have hb : (z_barredBy Z (96 - (m + 1))).isNone = true := by
        cases q : (z_barredBy Z (96 - (m + 1))).isNone with
        | true => rfl
        | false => rw [q] at z; exact absurd rfl z
      rw [if_pos hb] at hP
      have r1 := h.tab hsc w1 (xs.of t1)
      obtain ⟨-, -, -, ⟨g9, q4, q5⟩, -⟩ := id r1.U
      refine ⟨_, r1.I.2, _, rfl, _, _, q4, ⟨by omega, by omega⟩, _, q5 G.length (by omega), kx_done r1.xn t1 (by omega) (fun S2 t2 w2 => ?_)⟩
      have r2 := r1.tab hsc w2 (xs.of t2)
      have fit2 := (hfit.fr w1 (by omega)).fr w2 (by omega)
      have g2 := (hg.fr w1 (by omega)).fr w2 (by omega)
      have a2 := (ht.fr w1 (by omega)).fr w2 (by omega)
      cases he : sp_order (zn Z) (zs Z) (zKT Z t) (96 - (m + 1)) with
      | mk r T' =>
        rw [he] at hP t2
        cases r with
        | none =>
          refine ⟨fun z => absurd rfl z, fun _ => ?_⟩
          rw [eo]
          exact ih r2 fit2 g2 a2 (by omega) (Nat.le_refl 1) (by omega) hP
        | some x =>
          refine ⟨fun _ => ?_, fun z => absurd (sp_on_none.mp z) (by simp)⟩
          refine kx_unlike_65 (j := 0) (v := true) (m := m) (o := 96 - (m + 1)) r2 g2 t2 (by omega) (by omega) hf (Nat.zero_le _) (by simp) (fun q => ?_) (fun q => ?_)
          · have hP : ∀ S', xr_ S' w tr Z → xfit S' Z 96 → P (z_unl Z (zKT Z t) m (G ++ [T']) f : Nat) S' := fun S' q1 q2 => by
              have hp := hP S' q1 q2
              simp only [q] at hp
              exact hp
            rw [eo]
            have hl : (G ++ [T']).length = G.length + 1 := by rw [List.length_append, List.length_singleton]
            have := ih (G := G ++ [T']) r2 fit2 (fun k U hk => ?_) a2 (by omega) hf (by rw [hl]; omega) hP
            · rw [hl] at this
              exact this
            · by_cases e : k < G.length
              · rw [List.getElem?_append_left e] at hk
                exact g2 k U hk
              · have h1 := (List.getElem?_eq_some_iff.mp hk).1
                rw [hl] at h1
                have ek : k = G.length := by omega
                rw [ek, List.getElem?_append_right (Nat.le_refl _), Nat.sub_self] at hk
                cases hk
                rw [ek]
                exact t2
          · have hP : ∀ S', xr_ S' w tr Z → xfit S' Z 96 → P (z_unl Z (zKT Z t) m G f : Nat) S' := fun S' q1 q2 => by
              have hp := hP S' q1 q2
              simp only [q] at hp
              exact hp
            rw [eo, Int.add_zero]
            exact ih r2 fit2 g2 a2 (by omega) hf (by omega) hP
    · rw [eu] at z
      have hb : (z_barredBy Z (96 - (m + 1))).isNone = false := by
        cases q : (z_barredBy Z (96 - (m + 1))).isNone with
        | false => rfl
        | true => rw [q] at z; exact absurd z (by decide)
      rw [if_neg (by rw [hb]; decide)] at hP
      rw [eo]
      exact ih h hfit hg ht (by omega) hf (by omega) hP
theorem kx_unlike {a t : Nat} {P : Int → ah_H → Prop} (h : xr_ S w tr Z) (hfit : xfit S Z 96) (ha : 647 ≤ a) (ht : xt S.1 a (zn Z) (zs Z) (zKT Z t)) (hP : ∀ S', xr_ S' w tr Z → xfit S' Z 96 → P (z_unl Z (zKT Z t) 96 [] 0 : Nat) S') : kX0_unlike l [am_R 32, am_R a] S (am_qi P) :=
  bX0_unlike _ _ (kx_unlike_7 (m := 96) (f := 0) (G := []) h hfit (fun k U hk => by simp at hk) ha ht (Nat.le_refl _) (by omega) (by simp) hP)
end KX10
