/-- how many unlike tables the fitting orders give, from the order 96 - m on -/
def z_unl (Z : sp_Z) (T : sp_T) : Nat → List sp_T → Nat → Nat
  | 0, G, f => G.length + f
  | m + 1, G, f => if (z_barredBy Z (96 - (m + 1))).isNone = true then match sp_order (zn Z) (zs Z) T (96 - (m + 1)) with
      | (none, _) => z_unl Z T m G 1
      | (some _, T') => if G.any (fun U => sp_same (zn Z) U T') = true then z_unl Z T m G f else z_unl Z T m (G ++ [T']) f
    else z_unl Z T m G f
def z_que (Z : sp_Z) : Nat → Int → Int → Int × Int
  | 0, b, w => (b, w)
  | m + 1, b, w => if b = -1000000 ∨ w < z_unl Z (zKT Z (zK Z - (m + 1))) 96 [] 0 then z_que Z m ((zK Z - (m + 1) : Nat) : Int) (z_unl Z (zKT Z (zK Z - (m + 1))) 96 [] 0) else z_que Z m b w
def zo_question (Z : sp_Z) (w : Int) : Int × sp_Z := if 0 ≤ w ∧ w ≤ 1 then (if w = 0 then (z_que Z (zK Z) (-1000000) 0).1 else (z_que Z (zK Z) (-1000000) 0).2, Z) else (-1000001, Z)
def sp_bits (x : Nat) : Nat → Nat
  | 0 => 0
  | m + 1 => sp_bits x m + if x.testBit m = true then 1 else 0
def z_off (Z : sp_Z) (o : Nat) : Nat := sp_set (z_bars Z o) (zL Z)
def z_quar (Z : sp_Z) : Nat → Nat → Nat
  | 0, b => b
  | m + 1, b => z_quar Z m (if sp_bits (z_off Z (96 - (m + 1))) 8 < sp_bits b 8 ∨ sp_bits (z_off Z (96 - (m + 1))) 8 = sp_bits b 8 ∧ z_off Z (96 - (m + 1)) < b then z_off Z (96 - (m + 1)) else b)
def zo_quarrel (Z : sp_Z) : Int × sp_Z := ((z_quar Z 96 (z_stand Z) : Nat), Z)
section KM9
variable {l : Launch} {S : am_M} {Z : sp_Z}
theorem km_teach {a b no who : Int} {P : Int → am_M → Prop} (h : mr S Z) (ha : am_r a) (hb : am_r b) (hno : am_r no) (hw : am_r who) (hP : ∀ S', mr S' (zo_teach Z a b no who).2 → P (zo_teach Z a b no who).1 S') : kX3_teach l [am_R 0, am_I a, am_I b, am_I no, am_I who] S (am_qi P) := by
  have eL := h.eL
  have L8 := h.L8
  unfold zo_teach at hP
  have bad : ¬ ((0 ≤ a ∧ a < zK Z) ∧ (0 ≤ b ∧ b < zK Z) ∧ (0 ≤ no ∧ no ≤ 1) ∧ 0 ≤ who ∧ who ≤ 9) → am_qi P (some (am_I (-1000001))) S := by
    intro hx
    rw [if_neg hx] at hP
    exact am_qi_mk ⟨by decide, by decide⟩ (hP _ h)
  refine bX3_teach _ (by first | exact am_rN (by omega) | exact ⟨by omega, by omega⟩ | assumption) _ (by first | exact am_rN (by omega) | exact ⟨by omega, by omega⟩ | assumption) _ (by first | exact am_rN (by omega) | exact ⟨by omega, by omega⟩ | assumption) _ (by first | exact am_rN (by omega) | exact ⟨by omega, by omega⟩ | assumption) (km_isKept h ha ⟨fun h1 => bad (fun z => of_decide_eq_false h1 z.1), fun h1 => km_isKept h hb ⟨fun h2 => bad (fun z => of_decide_eq_false h2 z.2.1), fun h2 => km_in ⟨fun h3 => bad (fun z => of_decide_eq_false h3 z.2.2.1), fun h3 => km_in ⟨fun h4 => ?_, fun h4 => bad (fun z => of_decide_eq_false h4 z.2.2.2)⟩⟩⟩⟩)
  have h1 := of_decide_eq_true h1
  have h2 := of_decide_eq_true h2
  have h3 := of_decide_eq_true h3
  have h4 := of_decide_eq_true h4
  rw [if_pos ⟨h1, h2, h3, h4⟩] at hP
  refine ⟨fun h8 => ⟨by omega, ?_⟩, fun h8 => ?_⟩
  · rw [if_neg (by omega)] at hP
    rw [eL, show ((zL Z : Int) + 1) = ((zL Z + 1 : Nat) : Int) by omega, am_ti (am_rN (by omega)), show (((zL Z + 1 : Nat) : Int) - 1) = (zL Z : Int) by omega]
    have key : ∀ q : Bool, q = decide (no = 1) → am_qi P (some (am_I (zL Z))) (am_sv (am_sa (am_sa (am_sa (am_sa S 4 (zL Z) a) 5 (zL Z) b) 6 (zL Z) (am_b q)) 7 (zL Z) who) 4 ((zL Z + 1 : Nat) : Int)) := by
      intro q hq
      refine am_qi_mk (am_rN (by omega)) (hP _ ?_)
      obtain ⟨z, za, zb, zc, zd, zr⟩ := h
      refine ⟨⟨z.1, z.2.1, z.2.2.1, ⟨by show zL Z + 1 ≤ 8; omega, fun k hk => ?_⟩, z.2.2.2.2⟩, za, zb, zc, ⟨?_, fun k hk => ?_, fun k hk hk8 => ?_⟩, zr⟩
      · show (va_up (zLf Z) (zL Z) _ k).1 < zK Z ∧ (va_up (zLf Z) (zL Z) _ k).2.1 < zK Z ∧ (va_up (zLf Z) (zL Z) _ k).2.2.2.1 ≤ 9
        have hk : k < zL Z + 1 := hk
        by_cases e : k = zL Z
        · rw [e, up_at]
          show a.toNat < zK Z ∧ b.toNat < zK Z ∧ who.toNat ≤ 9
          omega
        · rw [up_ne _ _ e]
          exact z.2.2.2.1.2 k (by omega)
      · show (va_up S.1 4 (Int32.ofInt ((zL Z + 1 : Nat) : Int)) 4).toInt = (zL Z + 1 : Nat)
        rw [up_at]
        exact am_ti (am_rN (by omega))
      · show (va_up (S.2 4) (zL Z : Int).toNat (Int32.ofInt a) k).toInt = ((va_up (zLf Z) (zL Z) (a.toNat, b.toNat, decide (no = 1), who.toNat, true) k).1 : Nat) ∧ (va_up (S.2 5) (zL Z : Int).toNat (Int32.ofInt b) k).toInt = ((va_up (zLf Z) (zL Z) (a.toNat, b.toNat, decide (no = 1), who.toNat, true) k).2.1 : Nat) ∧ (va_up (S.2 6) (zL Z : Int).toNat (Int32.ofInt (am_b q)) k).toInt = am_b (va_up (zLf Z) (zL Z) (a.toNat, b.toNat, decide (no = 1), who.toNat, true) k).2.2.1 ∧ (va_up (S.2 7) (zL Z : Int).toNat (Int32.ofInt who) k).toInt = ((va_up (zLf Z) (zL Z) (a.toNat, b.toNat, decide (no = 1), who.toNat, true) k).2.2.2.1 : Nat) ∧ (S.2 8 k).toInt = am_b (!(va_up (zLf Z) (zL Z) (a.toNat, b.toNat, decide (no = 1), who.toNat, true) k).2.2.2.2)
        have hk : k < zL Z + 1 := hk
        rw [Int.toNat_natCast]
        by_cases e : k = zL Z
        · rw [e]
          simp only [up_at]
          rw [am_ti ha, am_ti hb, am_ti hw, hq]
          refine ⟨by omega, by omega, ?_, by omega, zd.2.2 _ (Nat.le_refl _) (by omega)⟩
          refine am_ti ?_
          cases decide (no = 1) <;> exact ⟨by decide, by decide⟩
        · simp only [up_ne _ _ e]
          exact zd.2.1 k (by omega)
      · show (S.2 8 k).toInt = 0
        have hk : zL Z + 1 ≤ k := hk
        exact zd.2.2 k (by omega) hk8
    exact ⟨fun e => key false (by rw [decide_eq_false e]), fun e => key true (by rw [decide_eq_true e])⟩
  · rw [if_pos (by omega)] at hP
    exact am_qi_mk ⟨by decide, by decide⟩ (hP _ h)
theorem km_lesson {a b no who : Int} {P : Int → am_M → Prop} (h : mr S Z) (ha : am_r a) (hb : am_r b) (hno : am_r no) (hw : am_r who) (hP : ∀ S', mr S' (zo_teach Z a b no who).2 → P (zo_teach Z a b no who).1 S') (hr : am_r (zo_teach Z a b no who).1) : kX3_lesson l [am_R 0, am_I a, am_I b, am_I no, am_I who] S (am_qi P) :=
  bX3_lesson _ (by first | exact am_rN (by omega) | exact ⟨by omega, by omega⟩ | assumption) _ (by first | exact am_rN (by omega) | exact ⟨by omega, by omega⟩ | assumption) _ (by first | exact am_rN (by omega) | exact ⟨by omega, by omega⟩ | assumption) _ (by first | exact am_rN (by omega) | exact ⟨by omega, by omega⟩ | assumption) (km_teach h.th ha hb hno hw (fun S' m' => am_qi_mk hr (hP S' m')))
theorem km_unteach {k : Int} {P : Int → am_M → Prop} (h : mr S Z) (hk : am_r k) (hP : ∀ S', mr S' (zo_unteach Z k).2 → P (zo_unteach Z k).1 S') : kX3_unteach l [am_R 0, am_I k] S (am_qi P) := by
  have eL := h.eL
  have L8 := h.L8
  unfold zo_unteach at hP
  refine bX3_unteach _ (by first | exact am_rN (by omega) | exact ⟨by omega, by omega⟩ | assumption) ⟨by rw [eL]; exact ⟨by omega, by omega⟩, km_in ⟨fun h1 => ⟨?_, ?_⟩, fun h1 => ?_⟩ (hh := by rw [eL]; exact ⟨by omega, by omega⟩)⟩
  · have h1 := of_decide_eq_true h1
    omega
  · have h1 := of_decide_eq_true h1
    rw [eL] at h1
    obtain ⟨k, rfl⟩ : ∃ o : Nat, k = o := ⟨k.toNat, by omega⟩
    rw [if_pos (by omega), Int.toNat_natCast] at hP
    rw [Int.toNat_natCast]
    have e8 := (h.th.2.2.2.2.1.2.1 k (by omega)).2.2.2.2
    refine ⟨fun h2 => ?_, fun h2 => ?_⟩
    · have hs : (zLf Z k).2.2.2.2 = true := by
        cases q : (zLf Z k).2.2.2.2 with
        | true => rfl
        | false => rw [e8, q] at h2; exact absurd h2 (by decide)
      rw [if_pos hs] at hP
      refine am_qi_mk ⟨by decide, by decide⟩ (hP _ ?_)
      obtain ⟨z, za, zb, zc, zd, zr⟩ := h
      refine ⟨⟨z.1, z.2.1, z.2.2.1, ⟨L8, fun i hi => ?_⟩, z.2.2.2.2⟩, za, zb, zc, ⟨eL, fun i hi => ?_, fun i hi hi8 => ?_⟩, zr⟩
      · show (va_up (zLf Z) k _ i).1 < zK Z ∧ (va_up (zLf Z) k _ i).2.1 < zK Z ∧ (va_up (zLf Z) k _ i).2.2.2.1 ≤ 9
        by_cases e : i = k
        · rw [e, up_at]
          exact z.2.2.2.1.2 k (by omega)
        · rw [up_ne _ _ e]
          exact z.2.2.2.1.2 i hi
      · show (S.2 4 i).toInt = ((va_up (zLf Z) k ((zLf Z k).1, (zLf Z k).2.1, (zLf Z k).2.2.1, (zLf Z k).2.2.2.1, false) i).1 : Nat) ∧ (S.2 5 i).toInt = ((va_up (zLf Z) k ((zLf Z k).1, (zLf Z k).2.1, (zLf Z k).2.2.1, (zLf Z k).2.2.2.1, false) i).2.1 : Nat) ∧ (S.2 6 i).toInt = am_b (va_up (zLf Z) k ((zLf Z k).1, (zLf Z k).2.1, (zLf Z k).2.2.1, (zLf Z k).2.2.2.1, false) i).2.2.1 ∧ (S.2 7 i).toInt = ((va_up (zLf Z) k ((zLf Z k).1, (zLf Z k).2.1, (zLf Z k).2.2.1, (zLf Z k).2.2.2.1, false) i).2.2.2.1 : Nat) ∧ (va_up (S.2 8) (k : Int).toNat (Int32.ofInt (am_b true)) i).toInt = am_b (!(va_up (zLf Z) k ((zLf Z k).1, (zLf Z k).2.1, (zLf Z k).2.2.1, (zLf Z k).2.2.2.1, false) i).2.2.2.2)
        rw [Int.toNat_natCast]
        by_cases e : i = k
        · rw [e]
          simp only [up_at]
          have := zd.2.1 k (by omega)
          exact ⟨this.1, this.2.1, this.2.2.1, this.2.2.2.1, am_ti ⟨by decide, by decide⟩⟩
        · simp only [up_ne _ _ e]
          exact zd.2.1 i hi
      · show (va_up (S.2 8) (k : Int).toNat (Int32.ofInt (am_b true)) i).toInt = 0
        have hi : zL Z ≤ i := hi
        rw [Int.toNat_natCast, up_ne _ _ (by omega)]
        exact zd.2.2 i hi hi8
    · have hs : (zLf Z k).2.2.2.2 = false := by
        cases q : (zLf Z k).2.2.2.2 with
        | false => rfl
        | true => rw [e8, q] at h2; exact absurd (show am_b (!true) = 0 by decide) h2
      rw [if_neg (by rw [hs]; decide)] at hP
      exact am_qi_mk ⟨by decide, by decide⟩ (hP _ h.th)
  · have h1 := of_decide_eq_false h1
    rw [eL] at h1
    rw [if_neg (by omega)] at hP
    exact am_qi_mk ⟨by decide, by decide⟩ (hP _ h.th)
theorem km_isBarring {k o : Nat} {P : Bool → am_M → Prop} (h : mr S Z) (hk : k < zL Z) (ho : o < 96) (hP : ∀ S', mr S' Z → md_fr 9 S S' → P (z_barr Z k o) S') : kX3_isBarring l [am_R 0, am_I k, am_I o] S (am_qz P) := by
  have L8 := h.L8
  have K8 := h.K8
  have ez := h.1.2.2.2.1.2 k hk
  have e4 : (S.2 4 (k : Int).toNat).toInt = (zLf Z k).1 := (h.2.2.2.2.1.2.1 k hk).1
  unfold z_barr z_gives at hP
  refine bX3_isBarring _ (by first | exact am_rN (by omega) | exact ⟨by omega, by omega⟩ | assumption) _ (by first | exact am_rN (by omega) | exact ⟨by omega, by omega⟩ | assumption) ⟨by omega, ?_⟩
  rw [e4, show ((zLf Z k).1 : Int) + 1 = ((((zLf Z k).1) + 1 : Nat) : Int) by omega]
  refine km_copyTable (a := (zLf Z k).1 + 1) (b := 9) (by omega) (by decide) (by omega) (h.tk ez.1).2.2.1 (fun S1 r1 f1 => ?_)
  have h1 := h.fr f1 (by decide)
  refine km_doOrder (t := 9) ⟨by decide, h1.mn, r1, (h.tk ez.1).2.2.2⟩ ho (fun r T' S2 he m2 f2 => ?_)
  have h2 := h1.fr f2 (by decide)
  rw [he] at hP
  have e6 : (S2.2 6 (k : Int).toNat).toInt = am_b (zLf Z k).2.2.1 := (h2.2.2.2.2.1.2.1 k hk).2.2.1
  have e5 : (S2.2 5 (k : Int).toNat).toInt = (zLf Z k).2.1 := (h2.2.2.2.2.1.2.1 k hk).2.1
  have hP := hP _ h2 (f1.trans f2)
  have fin : ∀ g : Bool, g = (r.isSome && sp_same (zn Z) T' (zKT Z (zLf Z k).2.1)) → ((am_b (zLf Z k).2.2.1 = 0) → am_qz P (some (am_I (am_b (!g)))) S2) ∧ ((¬ am_b (zLf Z k).2.2.1 = 0) → am_qz P (some (am_I (am_b g))) S2) := by
    intro g hg
    have hP : P (if (zLf Z k).2.2.1 = true then (r.isSome && sp_same (zn Z) T' (zKT Z (zLf Z k).2.1)) else !(r.isSome && sp_same (zn Z) T' (zKT Z (zLf Z k).2.1))) S2 := hP
    rw [← hg] at hP
    cases q : (zLf Z k).2.2.1 with
    | true =>
      rw [q] at hP
      exact ⟨fun z => absurd z (by decide), fun _ => am_qz_mk hP⟩
    | false =>
      rw [q] at hP
      exact ⟨fun _ => am_qz_mk hP, fun z => absurd rfl z⟩
  refine ⟨fun hr => ?_, fun hr => ?_⟩
  · have hs : r.isSome = true := by
      cases r with
      | none => exact absurd rfl hr
      | some x => rfl
    rw [e5, show ((zLf Z k).2.1 : Int) + 1 = ((((zLf Z k).2.1) + 1 : Nat) : Int) by omega]
    refine km_isSame (a := 9) (by decide) (by omega) m2.2.2.1 (h2.tk ez.2.1).2.2.1 m2.2.2.2 (h2.tk ez.2.1).2.2.2 ?_
    rw [e6]
    have := fin (sp_same (zn Z) T' (zKT Z (zLf Z k).2.1)) (by rw [hs, Bool.true_and])
    refine ⟨fun hf => ?_, fun hf => ?_⟩
    · rw [hf] at this
      exact this
    · rw [hf] at this
      exact this
  · have hs : r = none := by
      cases r with
      | none => rfl
      | some x => exact absurd hr (show ¬ (x : Int) = -1000000 by omega)
    rw [e6]
    have := fin false (by rw [hs]; rfl)
    exact this
theorem km_barredBy_2 {o k : Nat} {S0 : am_M} {P : Int → am_M → Prop} (h : mr S Z) (ho : o < 96) (hk : k ≤ zL Z) (hf : md_fr 9 S0 S) (hno : ∀ i, i < k → z_bars Z o i = false) (hP : ∀ S', mr S' Z → md_fr 9 S0 S' → P (sp_on (z_barredBy Z o)) S') :
    VX3_barredBy l (am_qi P) 2 [(0, am_R 0), (1, am_I o), (2, am_I (z_stand Z)), (3, am_I k)] [] S := by
  have L8 := h.L8
  have hst : z_stand Z < 256 := Nat.lt_of_lt_of_le (sp_set_lt _ _) (Nat.pow_le_pow_right (by decide) L8)
  generalize hm : zL Z - k = m
  induction m generalizing k S with
  | zero =>
    have eL := h.eL
    refine bX3_barredBy_2 _ (by first | exact am_rN (by omega) | exact ⟨by omega, by omega⟩ | assumption) _ (by first | exact am_rN (by omega) | exact ⟨by omega, by omega⟩ | assumption) _ (by first | exact am_rN (by omega) | exact ⟨by omega, by omega⟩ | assumption) ⟨fun _ => ?_, fun z => absurd z (by omega)⟩
    have e : z_barredBy Z o = none := sp_find_none (fun j hj => hno j (by omega))
    have hP := hP _ h hf
    rw [e] at hP
    exact am_qi_mk ⟨by decide, by decide⟩ hP
  | succ m ih =>
    have eL := h.eL
    have nx : z_bars Z o k = false → ∀ i, i < k + 1 → z_bars Z o i = false := by
      intro hx i hi
      by_cases e : i = k
      · rw [e]; exact hx
      · exact hno i (by omega)
    refine bX3_barredBy_2 _ (by first | exact am_rN (by omega) | exact ⟨by omega, by omega⟩ | assumption) _ (by first | exact am_rN (by omega) | exact ⟨by omega, by omega⟩ | assumption) _ (by first | exact am_rN (by omega) | exact ⟨by omega, by omega⟩ | assumption) ⟨fun z => absurd z (by omega), fun _ => ?_⟩
    rw [bt_nat hst (by omega), z_stand, sp_set_bit, decide_eq_true (show k < zL Z by omega), Bool.true_and]
    refine ⟨fun hs => ?_, fun hs => km_isBarring h (by omega) ho (fun S1 h1 f1 => ⟨fun hb => ?_, fun hb => ?_⟩)⟩
    · refine ih (k := k + 1) h (by omega) hf (nx ?_) (by omega)
      unfold z_bars
      cases q : (zLf Z k).2.2.2.2 with
      | false => rfl
      | true => rw [q] at hs; exact absurd rfl hs
    · refine ih (k := k + 1) h1 (by omega) (hf.trans f1) (nx ?_) (by omega)
      unfold z_bars
      rw [hb, Bool.and_false]
    · have hs' : (zLf Z k).2.2.2.2 = true := by
        cases q : (zLf Z k).2.2.2.2 with
        | true => rfl
        | false => rw [q] at hs; exact absurd hs (by decide)
      have e : z_barredBy Z o = some k := sp_find_some (by omega) (by unfold z_bars; rw [hs', hb]; rfl) (fun j hj => hno j hj)
      have hP := hP _ h1 (hf.trans f1)
      rw [e] at hP
      exact am_qi_mk (am_rN (by omega)) hP
theorem km_barredBy {o : Nat} {P : Int → am_M → Prop} (h : mr S Z) (ho : o < 96) (hP : ∀ S', mr S' Z → md_fr 9 S S' → P (sp_on (z_barredBy Z o)) S') : kX3_barredBy l [am_R 0, am_I o, am_I (z_stand Z)] S (am_qi P) := by
  have L8 := h.L8
  have hst : z_stand Z < 256 := Nat.lt_of_lt_of_le (sp_set_lt _ _) (Nat.pow_le_pow_right (by decide) L8)
  exact bX3_barredBy _ (by first | exact am_rN (by omega) | exact ⟨by omega, by omega⟩ | assumption) _ (by first | exact am_rN (by omega) | exact ⟨by omega, by omega⟩ | assumption) (km_barredBy_2 (k := 0) h ho (Nat.zero_le _) (md_fr.refl 9 S) (fun _ z => absurd z (Nat.not_lt_zero _)) hP)
theorem km_standing_4 {k : Nat} {P : Int → am_M → Prop} (h : mr S Z) (hk : k ≤ zL Z) (hP : P (z_stand Z : Int) S) :
    VX3_standing l (am_qi P) 4 [(0, am_R 0), (1, am_I (sp_set (fun k => (zLf Z k).2.2.2.2) k)), (2, am_I k)] [] S := by
  have L8 := h.L8
  have eL := h.eL
  generalize hm : zL Z - k = m
  induction m generalizing k with
  | zero =>
    have e : k = zL Z := by omega
    subst e
    have hst : sp_set (fun k => (zLf Z k).2.2.2.2) (zL Z) < 256 := Nat.lt_of_lt_of_le (sp_set_lt _ _) (Nat.pow_le_pow_right (by decide) L8)
    refine bX3_standing_4 _ (by first | exact am_rN (by omega) | exact ⟨by omega, by omega⟩ | assumption) _ (by first | exact am_rN (by omega) | exact ⟨by omega, by omega⟩ | assumption) ⟨fun _ => am_qi_mk (am_rN (by omega)) hP, fun z => absurd z (by omega)⟩
  | succ m ih =>
    have hlt := sp_set_lt (fun k => (zLf Z k).2.2.2.2) k
    have hst : sp_set (fun k => (zLf Z k).2.2.2.2) k < 256 := Nat.lt_of_lt_of_le hlt (show 2 ^ k ≤ 2 ^ 8 from Nat.pow_le_pow_right (by decide) (by omega))
    have e8 : (S.2 8 (k : Int).toNat).toInt = am_b (!(zLf Z k).2.2.2.2) := (h.2.2.2.2.1.2.1 k (by omega)).2.2.2.2
    have := ih (k := k + 1) (by omega) (by omega)
    refine bX3_standing_4 _ (by first | exact am_rN (by omega) | exact ⟨by omega, by omega⟩ | assumption) _ (by first | exact am_rN (by omega) | exact ⟨by omega, by omega⟩ | assumption) ⟨fun z => absurd z (by omega), fun _ => ⟨by omega, fun h1 => ?_, fun h1 => ?_⟩⟩
    · have hs : (zLf Z k).2.2.2.2 = true := by
        cases q : (zLf Z k).2.2.2.2 with
        | true => rfl
        | false => rw [e8, q] at h1; exact absurd h1 (by decide)
      rw [bt_or (by omega) hlt]
      rw [sp_set, hs] at this
      exact this
    · have hs : (zLf Z k).2.2.2.2 = false := by
        cases q : (zLf Z k).2.2.2.2 with
        | false => rfl
        | true => rw [e8, q] at h1; exact absurd (show am_b (!true) = 0 by decide) h1
      rw [bt_or0 hst]
      rw [sp_set, hs] at this
      exact this
theorem km_standing {P : Int → am_M → Prop} (h : mr S Z) (hP : P (z_stand Z : Int) S) : kX3_standing l [am_R 0] S (am_qi P) :=
  bX3_standing (km_standing_4 (k := 0) h (Nat.zero_le _) hP)
theorem km_fits_17 {i : Int} {m n : Nat} {P : Int → am_M → Prop} (h : mr S Z) (hi : am_r i) (hi1 : -1 ≤ i) (hm : m ≤ 96) (hn : n + m ≤ 96) (hP : ∀ S', mr S' Z → P (z_fits (fun o => (z_barredBy Z o).isNone) i m n) S') :
    VX3_fits l (am_qi P) 17 [(0, am_R 0), (1, am_I i), (2, am_I n), (3, am_I (96 - m : Nat))] [] S := by
  induction m generalizing n S with
  | zero =>
    have hP := hP _ h
    rw [z_fits] at hP
    refine bX3_fits_17 _ (by first | exact am_rN (by omega) | exact ⟨by omega, by omega⟩ | assumption) _ (by first | exact am_rN (by omega) | exact ⟨by omega, by omega⟩ | assumption) _ (by first | exact am_rN (by omega) | exact ⟨by omega, by omega⟩ | assumption) ⟨fun _ => ⟨fun h1 => ?_, fun h1 => ?_⟩, fun z => absurd z (by omega)⟩
    · rw [if_neg h1] at hP
      exact am_qi_mk ⟨by decide, by decide⟩ hP
    · rw [if_pos h1] at hP
      exact am_qi_mk (am_rN (by omega)) hP
  | succ m ih =>
    rw [z_fits] at hP
    have eo : ((96 - (m + 1) : Nat) : Int) + 1 = ((96 - m : Nat) : Int) := by omega
    refine bX3_fits_17 _ (by first | exact am_rN (by omega) | exact ⟨by omega, by omega⟩ | assumption) _ (by first | exact am_rN (by omega) | exact ⟨by omega, by omega⟩ | assumption) _ (by first | exact am_rN (by omega) | exact ⟨by omega, by omega⟩ | assumption) ⟨fun z => absurd z (by omega), fun _ => km_standing h (km_barredBy h (by omega) (fun S1 h1 f1 => ⟨fun h2 => ?_, fun h2 => ?_⟩))⟩
    · have e : (z_barredBy Z (96 - (m + 1))).isNone = false := by
        cases q : z_barredBy Z (96 - (m + 1)) with
        | none => rw [q] at h2; exact absurd rfl h2
        | some x => rfl
      rw [e, if_neg (by decide)] at hP
      rw [eo]
      exact ih h1 (by omega) (by omega) hP
    · have e : (z_barredBy Z (96 - (m + 1))).isNone = true := by
        cases q : z_barredBy Z (96 - (m + 1)) with
        | none => rfl
        | some x => rw [q] at h2; exact absurd h2 (show ¬ (x : Int) = -1000000 by omega)
      rw [e, if_pos rfl] at hP
      refine ⟨fun h3 => ?_, fun h3 => ?_⟩
      · rw [if_neg h3] at hP
        rw [eo]
        exact ih (n := n + 1) h1 (by omega) (by omega) hP
      · rw [if_pos h3] at hP
        exact am_qi_mk (am_rN (by omega)) (hP _ h1)
theorem km_fits {i : Int} {P : Int → am_M → Prop} (h : mr S Z) (hi : am_r i) (hP : ∀ S', mr S' (zo_fits Z i).2 → P (zo_fits Z i).1 S') : kX3_fits l [am_R 0, am_I i] S (am_qi P) := by
  unfold zo_fits at hP
  refine bX3_fits _ (by first | exact am_rN (by omega) | exact ⟨by omega, by omega⟩ | assumption) ⟨fun h1 => ?_, fun h1 => ?_⟩
  · rw [if_neg (by omega)] at hP
    exact km_fits_17 (m := 96) (n := 0) h.th hi h1 (Nat.le_refl _) (Nat.le_refl _) hP
  · rw [if_pos (by omega)] at hP
    exact am_qi_mk ⟨by decide, by decide⟩ (hP _ h.th)
theorem z_barredBy_lt {o k : Nat} (h : z_barredBy Z o = some k) : k < zL Z := List.mem_range.mp (List.mem_of_find?_eq_some h)
theorem km_barred {o w : Int} {P : Int → am_M → Prop} (h : mr S Z) (ho : am_r o) (hw : am_r w) (hP : ∀ S', mr S' (zo_barred Z o w).2 → P (zo_barred Z o w).1 S') : kX3_barred l [am_R 0, am_I o, am_I w] S (am_qi P) := by
  have L8 := h.L8
  unfold zo_barred at hP
  refine bX3_barred _ (by first | exact am_rN (by omega) | exact ⟨by omega, by omega⟩ | assumption) _ (by first | exact am_rN (by omega) | exact ⟨by omega, by omega⟩ | assumption) (km_isOrder ho ⟨fun h1 => ?_, fun h1 => km_in ⟨fun h2 => ?_, fun h2 => ?_⟩⟩)
  · have h1 := of_decide_eq_false h1
    rw [if_neg (by omega)] at hP
    exact am_qi_mk ⟨by decide, by decide⟩ (hP _ h.th)
  · have h1 := of_decide_eq_true h1
    have h2 := of_decide_eq_true h2
    rw [if_pos ⟨h1, h2⟩] at hP
    obtain ⟨o, rfl⟩ : ∃ q : Nat, o = q := ⟨o.toNat, by omega⟩
    rw [Int.toNat_natCast] at hP
    refine km_standing h.th (km_barredBy h.th (by omega) (fun S1 m1 f1 => ?_))
    cases q : z_barredBy Z o with
    | none =>
      rw [q] at hP
      exact ⟨fun z => absurd rfl z, fun _ => am_qi_mk ⟨by decide, by decide⟩ (hP _ m1)⟩
    | some k =>
      rw [q] at hP
      have hk := z_barredBy_lt q
      refine ⟨fun _ => ⟨fun h3 => ⟨by simp only [sp_on]; omega, ?_⟩, fun h3 => ?_⟩, fun z => absurd z (show ¬ (k : Int) = -1000000 by omega)⟩
      · have e7 : (S1.2 7 (k : Int).toNat).toInt = (zLf Z k).2.2.2.1 := (m1.2.2.2.2.1.2.1 k hk).2.2.2.1
        have e9 := (h.1.2.2.2.1.2 k hk).2.2
        have hP : ∀ S', mr S' Z → P (if w = 0 then (k : Int) else (zLf Z k).2.2.2.1) S' := hP
        rw [if_neg h3] at hP
        show am_qi P (some (am_I (S1.2 7 (k : Int).toNat).toInt)) S1
        rw [e7]
        exact am_qi_mk (am_rN (by omega)) (hP _ m1)
      · have hP : ∀ S', mr S' Z → P (if w = 0 then (k : Int) else (zLf Z k).2.2.2.1) S' := hP
        rw [if_pos h3] at hP
        exact am_qi_mk (am_rN (n := k) (by omega)) (hP _ m1)
  · have h2 := of_decide_eq_false h2
    rw [if_neg (by omega)] at hP
    exact am_qi_mk ⟨by decide, by decide⟩ (hP _ h.th)
end KM9
