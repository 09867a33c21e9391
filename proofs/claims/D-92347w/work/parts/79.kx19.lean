theorem ah_is9 {S : ah_H} {o : Nat} {fs : List am_W} (h : S.1 o = some (.inl (9, fs))) : ah_is S (some o) "TableArms$Never" := fun y hy => by
  cases hy
  exact ⟨9, fs, _, h, rfl, Or.inl rfl⟩
theorem any_range_none {d : Nat} {f : Nat → Bool} (h : ∀ j, j < d → f j = false) : (List.range d).any f = false := by
  rw [List.any_eq_false]
  intro x hx
  rw [h x (List.mem_range.mp hx)]
  decide
section KX19
variable {l : Launch} {S : ah_H} {w : Nat → Nat} {Z : sp_Z} {tr : Nat}
theorem kx_isBroken_32 {a o i k : Nat} {T : sp_T} {P : Bool → ah_H → Prop} (h : xr_ S w tr Z) (m : xt S.1 a (zn Z) (zs Z) T) (hi : i < zN Z) (ho : S.1 o = some (.inl (9, [am_I ((zNf Z i).2.1 : Int), am_I ((zNf Z i).1 : Int), am_I ((zNf Z i).2.2 : Int)]))) (h4 : (zNf Z i).2.1 ≠ 4) (hk : k ≤ zn Z)
    (hno : ∀ j, j < k → z_brk Z T (zNf Z i).1 (zNf Z i).2.1 (zNf Z i).2.2 j = false) (hP : P (z_broken Z T i) S) :
    VX0_isBroken l (am_qz P) 32 [(0, am_R 32), (1, am_R a), (2, am_R o), (3, am_I k)] [] S := by
  have n6 := h.n6
  obtain ⟨r1, r2, r3, r4⟩ := h.1.2.2.2.2.2.1.2 i hi
  have r43 : (zNf Z i).2.1 = 3 ∨ (zNf Z i).2.1 < 3 := by omega
  have ra : (zNf Z i).1 < 4 ∧ (zNf Z i).2.2 < 8 := by
    rcases r43 with z | z
    · exact r3 z
    · have := r4 z
      omega
  obtain ⟨hX, hok, p, hi', ce, bo, ho', ⟨e0, e1, e2, e3, e4, e5⟩, hq⟩ := id m
  obtain ⟨-, f, g, a1, a2, a3⟩ := h.A
  unfold z_broken at hP
  rw [if_neg h4] at hP
  generalize hd : zn Z - k = d
  induction d generalizing k with
  | zero =>
    have e : k = zn Z := by omega
    subst e
    rw [any_range_none hno] at hP
    exact bX0_isBroken_32 _ _ _ _ (by first | exact am_rN (by omega) | exact ⟨by omega, by omega⟩ | assumption) ⟨_, h.I.2, _, ⟨rfl, am_rN (by omega)⟩, fun _ => am_qz_mk (b := false) hP, fun z => absurd z (by omega)⟩
  | succ d ih =>
    have hkn : k < zn Z := by omega
    have es : (f (k : Int).toNat).toInt = zs Z k := (a3 k hkn).1
    have no : z_brk Z T (zNf Z i).1 (zNf Z i).2.1 (zNf Z i).2.2 k = false → VX0_isBroken l (am_qz P) 32 [(0, am_R 32), (1, am_R a), (2, am_R o), (3, am_I ((k : Int) + 1))] [] S := fun q => ih (k := k + 1) (by omega) (fun j hj => by
      by_cases e : j = k
      · rw [e]; exact q
      · exact hno j (by omega)) (by omega)
    have yes : z_brk Z T (zNf Z i).1 (zNf Z i).2.1 (zNf Z i).2.2 k = true → P true S := fun q => by
      rw [List.any_eq_true.mpr ⟨k, List.mem_range.mpr hkn, q⟩] at hP
      exact hP
    unfold z_brk at no yes
    refine bX0_isBroken_32 _ _ _ _ (by first | exact am_rN (by omega) | exact ⟨by omega, by omega⟩ | assumption) ⟨_, h.I.2, _, ⟨rfl, am_rN (by omega)⟩, fun z => absurd z (by omega), fun _ => ⟨_, rfl, _, _, a1, ⟨by omega, by omega⟩, _, ho, _, ⟨rfl, am_rN (by omega)⟩, fun h1 => ?_, fun h1 => no ?_⟩⟩
    · rw [es] at h1
      have h1 : zs Z k = (zNf Z i).1 := by omega
      rw [decide_eq_true h1, Bool.true_and] at no yes
      refine ⟨_, ⟨rfl, am_rN (by omega)⟩, fun h2 => ?_, fun h2 => ?_⟩
      · rw [if_neg (by omega)] at no yes
        exact ⟨_, ⟨rfl, am_rN (by omega)⟩, kx_isAsTold h.xn m hkn (by have := r4 (by omega); omega) (by omega) ⟨fun q => no q, fun q => am_qz_mk (b := true) (yes q)⟩⟩
      · rw [if_pos (by omega)] at no yes
        refine ⟨_, e0, _, rfl, _, _, e4, ⟨by omega, by omega⟩, fun h3 => no ?_, fun h3 => ⟨_, rfl, _, _, e3, ⟨by omega, by omega⟩, _, ⟨rfl, am_rN (by omega)⟩, ?_⟩⟩
        · cases q : T.2.2 k with
          | none => exact absurd ((hq.bN hkn).mpr q) h3
          | some y => rfl
        · have hb := (hq.bN hkn).mp h3
          have ec : sp_cell T k = T.2.1 k := by
            unfold sp_cell sp_base
            rw [hb]
            rfl
          rw [hb, ec, Option.isNone_none, Bool.true_and] at no yes
          rw [hq.cN hkn hb]
          exact ⟨fun h5 => no (decide_eq_false (by omega)), fun h5 => am_qz_mk (b := true) (yes (decide_eq_true (by omega)))⟩
    · rw [es] at h1
      rw [decide_eq_false (by omega), Bool.false_and]
theorem kx_isBroken {a o i : Nat} {T : sp_T} {P : Bool → ah_H → Prop} (h : xr_ S w tr Z) (m : xt S.1 a (zn Z) (zs Z) T) (hi : i < zN Z) (ho : S.1 o = some (.inl (9, [am_I ((zNf Z i).2.1 : Int), am_I ((zNf Z i).1 : Int), am_I ((zNf Z i).2.2 : Int)]))) (hP : P (z_broken Z T i) S) :
    kX0_isBroken l [am_R 32, am_R a, am_R o] S (am_qz P) := by
  have n6 := h.n6
  obtain ⟨r1, r2, r3, r4⟩ := h.1.2.2.2.2.2.1.2 i hi
  refine bX0_isBroken _ _ _ ⟨_, ho, _, ⟨rfl, am_rN (by omega)⟩, fun h4 => kx_isBroken_32 (k := 0) h m hi ho (by omega) (Nat.zero_le _) (fun j hj => absurd hj (by omega)) hP, fun h4 => ?_⟩
  have r5 := r2 (by omega)
  unfold z_broken at hP
  rw [if_pos (by omega)] at hP
  refine ⟨_, ⟨rfl, am_rN (by omega)⟩, _, h.I.2, kx_weightOn h m r5.1 ⟨_, ho, _, ⟨rfl, am_rN (by omega)⟩, fun h5 => ?_, fun h5 => ?_⟩⟩
  · rw [decide_eq_false (by omega)] at hP
    exact am_qz_mk (b := false) hP
  · rw [decide_eq_true (by omega)] at hP
    exact am_qz_mk (b := true) hP
theorem kx_brokenOn_4 {a i : Nat} {T : sp_T} {P : Int → ah_H → Prop} (h : xr_ S w tr Z) (m : xt S.1 a (zn Z) (zs Z) T) (hi : i ≤ zN Z) (hP : P (z_brokenOn Z T : Nat) S) :
    VX0_brokenOn l (am_qi P) 4 [(0, am_R 32), (1, am_R a), (2, am_I (sp_cnt (z_broken Z T) i : Nat)), (3, am_I i)] [] S := by
  have N16 := h.N16
  have hle := sp_cnt_le (z_broken Z T) i
  obtain ⟨-, mc, e, cap, f, d1, d2, d3, d4, d5, d6, d7⟩ := id h.N
  generalize hd : zN Z - i = d
  induction d generalizing i with
  | zero =>
    have e : i = zN Z := by omega
    subst e
    exact bX0_brokenOn_4 _ _ _ (by first | exact am_rN (by omega) | exact ⟨by omega, by omega⟩ | assumption) _ (by first | exact am_rN (by omega) | exact ⟨by omega, by omega⟩ | assumption) ⟨_, h.I.2, _, rfl, _, d1, kx_size h.N ⟨fun _ => am_qi_mk (am_rN (by omega)) hP, fun z => absurd z (by omega)⟩⟩
  | succ d ih =>
    have nx := ih (i := i + 1) (by omega) (sp_cnt_le _ _) (by omega)
    rw [sp_cnt] at nx
    refine bX0_brokenOn_4 _ _ _ (by first | exact am_rN (by omega) | exact ⟨by omega, by omega⟩ | assumption) _ (by first | exact am_rN (by omega) | exact ⟨by omega, by omega⟩ | assumption) ⟨_, h.I.2, _, rfl, _, d1, kx_size h.N ⟨fun z => absurd z (by omega), fun _ => ⟨_, h.I.2, _, rfl, _, d1, kx_get h.N (by omega) (fun o ho => ⟨o, rfl, ah_is9 ho.2.2, _, h.I.2, kx_isBroken h m (by omega) ho.2.2 ⟨fun q => ?_, fun q => ?_⟩⟩)⟩⟩⟩
    · rw [q] at nx
      exact nx
    · rw [q] at nx
      exact nx
theorem kx_brokenOn {a : Nat} {T : sp_T} {P : Int → ah_H → Prop} (h : xr_ S w tr Z) (m : xt S.1 a (zn Z) (zs Z) T) (hP : P (z_brokenOn Z T : Nat) S) : kX0_brokenOn l [am_R 32, am_R a] S (am_qi P) :=
  bX0_brokenOn _ _ (kx_brokenOn_4 (i := 0) h m (Nat.zero_le _) hP)
theorem kx_broken {P : Int → ah_H → Prop} (h0 : xr S Z) (hP : ∀ S', xr S' (zo_broken Z).2 → P (zo_broken Z).1 S') : kX0_broken l [am_R 32] S (am_qi P) := by
  obtain ⟨w, tr, h⟩ := h0
  have N16 := h.N16
  have := z_brokenOn_le Z (zT Z)
  exact bX0_broken _ ⟨_, h.I.2, _, rfl, kx_brokenOn h h.B.2 (am_qi_mk (am_rN (by omega)) (hP S ⟨w, tr, h⟩))⟩
theorem kx_isSafe {k to : Nat} {P : Bool → ah_H → Prop} (h : xr_ S w tr Z) (hk : k < zn Z) (hto : 8 ≤ to → to < 8 + zn Z ∧ zs Z (to - 8) = 2) (hto2 : to < 8 + zn Z) (hcan : sp_can (zn Z) (zs Z) (zT Z) k to = true) (hP : ∀ S', xr_ S' w tr Z → P (z_safe Z k to) S') : kX0_isSafe l [am_R 32, am_I k, am_I to] S (am_qz P) := by
  have n6 := h.n6
  obtain ⟨p, hi, ce, bo, ho', o0⟩ := h.U.xs (Or.inl rfl)
  unfold z_safe at hP
  refine bX0_isSafe _ _ (by first | exact am_rN (by omega) | exact ⟨by omega, by omega⟩ | assumption) _ (by first | exact am_rN (by omega) | exact ⟨by omega, by omega⟩ | assumption) ⟨_, h.I.2, _, rfl, _, rfl, _, o0.1, kx_lay (by decide) o0 h.B.2 (by omega) (fun S1 t1 f1 => ?_)⟩
  have r1 := h.tab (Or.inl rfl) f1 (xs.of t1)
  refine ⟨_, r1.I.2, _, rfl, kx_carry t1 hk hto hto2 hcan (fun S2 t2 f2 => ?_)⟩
  have r2 := r1.tab (Or.inl rfl) f2 (xs.of t2)
  have hp := hP S2 r2
  refine ⟨_, r2.I.2, _, rfl, kx_brokenOn r2 t2 ⟨fun q => ?_, fun q => ?_⟩⟩
  · rw [decide_eq_false (by omega)] at hp
    exact am_qz_mk (b := false) hp
  · rw [decide_eq_true (by omega)] at hp
    exact am_qz_mk (b := true) hp
theorem kx_let_54 {k to c : Nat} {v : Bool} {P : Int → ah_H → Prop} (h : xr_ S w tr Z) (hk : k < zn Z) (hto : to < 8 + zn Z) (hl : sp_loose (zT Z) k = true) (hc : c ≤ (if to < 8 then 8 else 0)) (hv : v = z_let Z k to c) (hP : ∀ S', xr_ S' w tr Z → P (if z_let Z k to (if to < 8 then 8 else 0) = true then 1 else 0) S') :
    VX0_let l (am_qi P) 54 [(0, am_R 32), (2, am_I k), (3, am_I to), (4, am_I (am_b v)), (5, am_I c)] [] S := by
  have h6 := h.n6
  have fin : ∀ v' S', xr_ S' w tr Z → v' = z_let Z k to (if to < 8 then 8 else 0) → (am_b v' = 0 → am_qi P (some (am_I 0)) S') ∧ (¬ am_b v' = 0 → am_qi P (some (am_I 1)) S') := by
    intro v' S' h' e
    have hP := hP S' h'
    rw [← e] at hP
    refine ⟨fun q => ?_, fun q => ?_⟩
    · have q : v' = false := by
        cases v' with
        | false => rfl
        | true => exact absurd q (by decide)
      rw [q] at hP
      exact am_qi_mk ⟨by decide, by decide⟩ hP
    · have q : v' = true := by
        cases v' with
        | true => rfl
        | false => exact absurd rfl q
      rw [q] at hP
      exact am_qi_mk ⟨by decide, by decide⟩ hP
  have hvr := am_rb v
  by_cases h8 : to < 8
  · rw [if_pos h8] at hc fin
    generalize hq : 8 - c = q
    induction q generalizing c v S with
    | zero =>
      have e : c = 8 := by omega
      subst e
      exact bX0_let_54 _ _ (by first | exact am_rN (by omega) | exact ⟨by omega, by omega⟩ | assumption) _ (by first | exact am_rN (by omega) | exact ⟨by omega, by omega⟩ | assumption) _ (by first | exact am_rN (by omega) | exact ⟨by omega, by omega⟩ | assumption) _ (by first | exact am_rN (by omega) | exact ⟨by omega, by omega⟩ | assumption) ⟨fun _ => fin v S h hv, fun z => absurd z (by omega)⟩
    | succ q ih =>
      have nx : ∀ v' S', xr_ S' w tr Z → v' = (v && (!sp_near to c || z_safe Z k c)) → VX0_let l (am_qi P) 54 [(0, am_R 32), (2, am_I k), (3, am_I to), (4, am_I (am_b v')), (5, am_I ((c : Int) + 1))] [] S' := by
        intro v' S' h' e
        refine ih (c := c + 1) h' (by omega) ?_ (am_rb _) (by omega)
        rw [e, hv]
        unfold z_let
        rw [bo_all_range, Bool.and_assoc]
      have a1 : am_and (am_b v) 1 = am_b v := by cases v <;> decide +kernel
      have a0 : am_and (am_b v) 0 = am_b false := by cases v <;> decide +kernel
      refine bX0_let_54 _ _ (by first | exact am_rN (by omega) | exact ⟨by omega, by omega⟩ | assumption) _ (by first | exact am_rN (by omega) | exact ⟨by omega, by omega⟩ | assumption) _ (by first | exact am_rN (by omega) | exact ⟨by omega, by omega⟩ | assumption) _ (by first | exact am_rN (by omega) | exact ⟨by omega, by omega⟩ | assumption) ⟨fun z => absurd z (by omega), fun _ => ⟨fun z => absurd z (by omega), fun _ => kx_isNeighbour h8 (by omega) ⟨fun hn => ?_, fun hn => ⟨_, h.I.2, kx_isSafe h hk (fun z => absurd z (by omega)) (by omega) ?_ (fun S' h' => ⟨fun hs => ?_, fun hs => ?_⟩)⟩⟩⟩⟩
      · rw [a1]
        exact nx v S h (by rw [hn]; cases v <;> rfl)
      · unfold sp_can
        rw [if_pos (by omega)]
        exact hl
      · rw [a0]
        exact nx false S' h' (by rw [hn, hs]; cases v <;> rfl)
      · rw [a1]
        exact nx v S' h' (by rw [hn, hs]; cases v <;> rfl)
  · rw [if_neg h8] at hc fin
    have e : c = 0 := by omega
    subst e
    exact bX0_let_54 _ _ (by first | exact am_rN (by omega) | exact ⟨by omega, by omega⟩ | assumption) _ (by first | exact am_rN (by omega) | exact ⟨by omega, by omega⟩ | assumption) _ (by first | exact am_rN (by omega) | exact ⟨by omega, by omega⟩ | assumption) _ (by first | exact am_rN (by omega) | exact ⟨by omega, by omega⟩ | assumption) ⟨fun _ => fin v S h hv, fun _ => ⟨fun _ => fin v S h hv, fun z => absurd z (by omega)⟩⟩
theorem kx_let {a k to : Int} {P : Int → ah_H → Prop} (h0 : xr S Z) (ha : am_r a) (hk : am_r k) (hto : am_r to) (hP : ∀ S', xr S' (zo_let Z a k to).2 → P (zo_let Z a k to).1 S') : kX0_let l [am_R 32, am_I a, am_I k, am_I to] S (am_qi P) := by
  obtain ⟨w, tr, h⟩ := h0
  have h6 := h.n6
  unfold zo_let z_canMove at hP
  refine bX0_let _ _ (by first | exact am_rN (by omega) | exact ⟨by omega, by omega⟩ | assumption) _ (by first | exact am_rN (by omega) | exact ⟨by omega, by omega⟩ | assumption) _ (by first | exact am_rN (by omega) | exact ⟨by omega, by omega⟩ | assumption) ⟨_, h.I.2, kx_isMove h ha hk hto ⟨fun hm => ?_, fun hm => ?_⟩⟩
  · rw [hm, if_pos rfl] at hP
    unfold z_mayMove at hm
    rw [Bool.and_eq_true] at hm
    obtain ⟨hm, hd⟩ := hm
    have hm := of_decide_eq_true hm
    have hp := z_isTo_pos hd
    obtain ⟨a, rfl⟩ : ∃ o : Nat, a = o := ⟨a.toNat, by omega⟩
    obtain ⟨k, rfl⟩ : ∃ o : Nat, k = o := ⟨k.toNat, by omega⟩
    obtain ⟨to, rfl⟩ : ∃ o : Nat, to = o := ⟨to.toNat, by omega⟩
    simp only [Int.toNat_natCast] at hP
    obtain ⟨t1, t2⟩ := z_isTo_lt hd
    have e8 : (if (to : Int) < 8 then 8 else 0) = (if to < 8 then 8 else 0) := by
      by_cases e : to < 8
      · rw [if_pos e, if_pos (by omega)]
      · rw [if_neg e, if_neg (by omega)]
    rw [e8] at hP
    refine ⟨_, h.I.2, _, rfl, kx_can h.xn h.B.2 (by omega) t1 t2 ⟨fun he => ?_, fun he => ⟨_, h.I.2, _, rfl, kx_isReached h h.B.2 (by omega) (by omega) t1 ⟨fun hr => ?_, fun hr => ?_⟩⟩⟩⟩
    · rw [he] at hP
      exact am_qi_mk ⟨by decide, by decide⟩ (hP S ⟨w, tr, h⟩)
    · rw [he, hr, if_pos (show (true && true) = true from rfl)] at hP
      refine ⟨_, h.I.2, kx_isSafe h (by omega) (fun z => ⟨t1, t2 z⟩) t1 he (fun S1 h1 => kx_let_54 (c := 0) h1 (by omega) t1 (sp_can_loose he) (Nat.zero_le _) ?_ (fun S' r => hP S' ⟨w, tr, r⟩))⟩
      unfold z_let
      simp
    · rw [he, hr] at hP
      exact am_qi_mk ⟨by decide, by decide⟩ (hP S ⟨w, tr, h⟩)
  · rw [hm] at hP
    exact am_qi_mk ⟨by decide, by decide⟩ (hP S ⟨w, tr, h⟩)
end KX19
