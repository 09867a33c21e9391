theorem fd_congr {p q : Nat → Bool} : ∀ l : List Nat, (∀ x, x ∈ l → p x = q x) → l.find? p = l.find? q := by
  intro l
  induction l with
  | nil => intro _; rfl
  | cons x l ih =>
    intro h
    rw [List.find?_cons, List.find?_cons, h x (List.mem_cons_self), ih (fun y hy => h y (List.mem_cons_of_mem _ hy))]
theorem sp_in_none {n y : Nat} {T : sp_T} (h : ∀ j, j < n → T.2.2 j ≠ some y) : sp_inside n T y = none := sp_find_none (fun j hj => decide_eq_false (h j hj))
theorem sp_in_some {n y j : Nat} {s : Nat → Nat} {T : sp_T} (hok : sp_ok n s T) (h : T.2.2 j = some y) : sp_inside n T y = some j := by
  refine sp_find_some (hok.2.2.2.1 j y h).1 (decide_eq_true h) (fun i hi => decide_eq_false (fun z => ?_))
  have := hok.2.2.2.2 i j y z h
  omega
theorem sp_in_cong {n y : Nat} {T U : sp_T} (h : ∀ j, j < n → (T.2.2 j = some y ↔ U.2.2 j = some y)) : sp_inside n T y = sp_inside n U y := by
  refine fd_congr _ (fun j hj => ?_)
  rw [decide_eq_decide]
  exact h j (List.mem_range.mp hj)
/-- as a table's arrays are while the thing k is in no place -/
def xz (n k : Nat) (U : sp_T) (p hi ce bo ho : Nat → Int32) : Prop :=
  (∀ c, c < 8 → (hi c).toInt = (U.1 c).length ∧ ∀ i j : Nat, (U.1 c)[i]? = some j → (p (6 * c + i)).toInt = j) ∧
  ∀ j, j < n → (j ≠ k → (bo j).toInt = sp_on (U.2.2 j) ∧ (ce j).toInt = (if (U.2.2 j).isSome = true then -1000000 else (U.2.1 j : Int))) ∧ (ho j).toInt = sp_on (sp_inside n U j)
section KX2
variable {l : Launch} {S : ah_H} {a n : Nat} {s : Nat → Nat} {T U : sp_T} {p hi ce bo ho : Nat → Int32}
theorem xz_put {k c : Nat} (h : xz n k U p hi ce bo ho) (hb : U.2.2 k = none) (hk : k < 6) (hc : c < 8) (hl : ∀ d, d < 8 → (U.1 d).length ≤ 6) (hlc : (U.1 c).length < 6) :
    xq n (sp_put U k c) (va_up p (6 * c + (U.1 c).length) (Int32.ofInt k)) (va_up hi c (Int32.ofInt ((U.1 c).length + 1))) (va_up ce k (Int32.ofInt c)) (va_up bo k (Int32.ofInt (-1000000))) ho := by
  refine ⟨fun d hd => ?_, fun j hj => ⟨?_, ?_, (h.2 j hj).2⟩⟩
  · show (va_up hi c _ d).toInt = ((va_up U.1 c (U.1 c ++ [k]) d).length : Int) ∧ ∀ i j : Nat, (va_up U.1 c (U.1 c ++ [k]) d)[i]? = some j → (va_up p (6 * c + (U.1 c).length) _ (6 * d + i)).toInt = j
    by_cases e : d = c
    · rw [e, up_at, up_at]
      refine ⟨?_, fun i j hij => ?_⟩
      · rw [am_ti ⟨by omega, by omega⟩, List.length_append]
        simp
      · by_cases e2 : i = (U.1 c).length
        · rw [e2, List.getElem?_append_right (Nat.le_refl _), Nat.sub_self] at hij
          rw [e2, up_at, am_ti (am_rN (by omega))]
          have : k = j := Option.some.inj hij
          omega
        · have h1 := (List.getElem?_eq_some_iff.mp hij).1
          rw [List.length_append] at h1
          have h1 : i < (U.1 c).length + 1 := h1
          rw [List.getElem?_append_left (by omega)] at hij
          rw [up_ne _ _ (by omega)]
          exact (h.1 c hc).2 i j hij
    · rw [up_ne _ _ e, up_ne _ _ e]
      refine ⟨(h.1 d hd).1, fun i j hij => ?_⟩
      have h1 := (List.getElem?_eq_some_iff.mp hij).1
      have h2 := hl d hd
      rw [up_ne _ _ (by omega)]
      exact (h.1 d hd).2 i j hij
  · show (va_up bo k _ j).toInt = sp_on (U.2.2 j)
    by_cases e : j = k
    · rw [e, up_at, hb]
      exact am_ti ⟨by decide, by decide⟩
    · rw [up_ne _ _ e]
      exact ((h.2 j hj).1 e).1
  · show (va_up ce k _ j).toInt = (if (U.2.2 j).isSome = true then -1000000 else ((va_up U.2.1 k c j : Nat) : Int))
    by_cases e : j = k
    · rw [e, up_at, up_at, hb]
      exact am_ti (am_rN (by omega))
    · rw [up_ne _ _ e, up_ne _ _ e]
      exact ((h.2 j hj).1 e).2
theorem xz_take {k : Nat} {hi' ho' : Nat → Int32} (h : xq n T p hi ce bo ho) (hok : sp_ok n s T) (hk : k < n) (hl : sp_loose T k = true)
    (h1 : ∀ x, T.2.2 k = some x → hi' = hi ∧ ho' = va_up ho x (Int32.ofInt (-1000000))) (h2 : T.2.2 k = none → ho' = ho ∧ hi' = va_up hi (T.2.1 k) (Int32.ofInt ((T.1 (T.2.1 k)).length - 1))) : xz n k (sp_take T k) p hi' ce bo ho' := by
  unfold sp_take
  cases hb : T.2.2 k with
  | some x =>
    obtain ⟨rfl, rfl⟩ := h1 x hb
    rw [if_pos (show (some x).isSome = true from rfl)]
    refine ⟨h.1, fun j hj => ⟨fun hjk => ?_, ?_⟩⟩
    · show (bo j).toInt = sp_on (va_up T.2.2 k none j) ∧ (ce j).toInt = (if (va_up T.2.2 k none j).isSome = true then -1000000 else (T.2.1 j : Int))
      rw [up_ne _ _ hjk]
      exact ⟨(h.2 j hj).1, (h.2 j hj).2.1⟩
    · by_cases e : j = x
      · rw [e, up_at, sp_in_none (fun i hi => ?_)]
        · exact am_ti ⟨by decide, by decide⟩
        · show va_up T.2.2 k none i ≠ some x
          rw [up_if]
          split
          · simp
          · rename_i e2
            exact fun z => e2 (hok.2.2.2.2 i k x z hb)
      · rw [up_ne _ _ e, (h.2 j hj).2.2]
        refine congrArg sp_on (sp_in_cong (fun i hi => ?_))
        show T.2.2 i = some j ↔ va_up T.2.2 k none i = some j
        rw [up_if]
        split
        · rename_i e2
          rw [e2, hb]
          constructor
          · intro z
            exact absurd (Option.some.inj z).symm e
          · intro z
            cases z
        · exact Iff.rfl
  | none =>
    obtain ⟨rfl, rfl⟩ := h2 hb
    rw [if_neg (by decide)]
    refine ⟨fun d hd => ?_, fun j hj => ⟨fun _ => ⟨(h.2 j hj).1, (h.2 j hj).2.1⟩, (h.2 j hj).2.2⟩⟩
    show (va_up hi (T.2.1 k) _ d).toInt = ((va_up T.1 (T.2.1 k) (T.1 (T.2.1 k)).dropLast d).length : Int) ∧ ∀ i j : Nat, (va_up T.1 (T.2.1 k) (T.1 (T.2.1 k)).dropLast d)[i]? = some j → (p (6 * d + i)).toInt = j
    have hc := hok.2.2.1 k hk hb
    have hmem : k ∈ T.1 (T.2.1 k) := ((hok.2.1 _ hc).2 k).mpr ⟨hk, hb, rfl⟩
    have hpos := List.length_pos_of_mem hmem
    have hlen := hok.len hc
    have hn := hok.1
    by_cases e : d = T.2.1 k
    · rw [e, up_at, up_at]
      refine ⟨?_, fun i j hij => ?_⟩
      · rw [am_ti ⟨by omega, by omega⟩, List.length_dropLast]
        omega
      · refine (h.1 _ hc).2 i j ?_
        rw [List.getElem?_dropLast] at hij
        split at hij
        · exact hij
        · cases hij
    · rw [up_ne _ _ e, up_ne _ _ e]
      exact h.1 d hd
theorem xz_into {k x : Nat} (h : xz n k U p hi ce bo ho) (hb : U.2.2 k = none) (hk : k < n) (hx : x < n) (hn : n ≤ 6) (hin : ∀ j, U.2.2 j ≠ some x) :
    xq n (U.1, U.2.1, va_up U.2.2 k (some x)) p hi (va_up ce k (Int32.ofInt (-1000000))) (va_up bo k (Int32.ofInt x)) (va_up ho x (Int32.ofInt k)) := by
  refine ⟨h.1, fun j hj => ⟨?_, ?_, ?_⟩⟩
  · show (va_up bo k _ j).toInt = sp_on (va_up U.2.2 k (some x) j)
    by_cases e : j = k
    · rw [e, up_at, up_at]
      exact am_ti (am_rN (by omega))
    · rw [up_ne _ _ e, up_ne _ _ e]
      exact ((h.2 j hj).1 e).1
  · show (va_up ce k _ j).toInt = (if (va_up U.2.2 k (some x) j).isSome = true then -1000000 else (U.2.1 j : Int))
    by_cases e : j = k
    · rw [e, up_at, up_at]
      exact am_ti ⟨by decide, by decide⟩
    · rw [up_ne _ _ e, up_ne _ _ e]
      exact ((h.2 j hj).1 e).2
  · by_cases e : j = x
    · have g : sp_inside n (U.1, U.2.1, va_up U.2.2 k (some x)) x = some k := by
        refine sp_find_some hk (decide_eq_true (up_at _ _ _)) (fun i hi => decide_eq_false ?_)
        show va_up U.2.2 k (some x) i ≠ some x
        rw [up_ne _ _ (by omega)]
        exact hin i
      rw [e, up_at, g]
      exact am_ti (am_rN (by omega))
    · rw [up_ne _ _ e, (h.2 j hj).2]
      refine congrArg sp_on (sp_in_cong (fun i hi => ?_))
      show U.2.2 i = some j ↔ va_up U.2.2 k (some x) i = some j
      rw [up_if]
      split
      · rename_i e2
        rw [e2, hb]
        constructor
        · intro z
          cases z
        · intro z
          exact absurd (Option.some.inj z).symm e
      · exact Iff.rfl
theorem sp_take_k {k : Nat} : (sp_take T k).2.2 k = none := by
  unfold sp_take
  cases hb : T.2.2 k with
  | some x => exact up_at _ _ _
  | none => exact hb
/-- a loose thing is taken, and put on a cell -/
theorem kx_lp {k c : Nat} {P : ah_H → Prop} (h : xt S.1 a n s T) (hk : k < n) (hl : sp_loose T k = true) (hc : c < 8) (hne : (T.2.2 k).isSome = true ∨ T.2.1 k ≠ c) (hP : ∀ S', xt S'.1 a n s (sp_move T k c) → xw a S S' → P S') :
    kX1_leave l [am_R a, am_I k] S (am_qv fun G => ∃ fs, G.1 a = some (.inl (2, fs)) ∧ kX1_push l [am_R a, am_I k, am_I c] G (am_qv fun G' => (am_qv P) none G')) := by
  have hn := h.2.1.1
  have hX := h.X
  have h36 := h.1
  have hok := h.2.1
  obtain ⟨-, -, p, hi, ce, bo, ho, h0, hq⟩ := id h
  have em : sp_move T k c = sp_put (sp_take T k) k c := by
    unfold sp_move
    rw [if_neg (by omega), if_pos hne]
  have hcan : sp_can n s T k c = true := by
    unfold sp_can
    rw [if_pos hc]
    exact hl
  have hok' := sp_move_ok hok hk (fun z => absurd z (by omega)) hcan
  obtain ⟨a1, a2, a3⟩ := sp_take_ok hok hk hl
  have hlen : ∀ d, d < 8 → ((sp_take T k).1 d).length < 6 := fun d hd => sp_take_len (c := 0) (p := fun j => T.2.2 j = none ∧ T.2.1 j = d) hk hn (a1 d hd).1 (a1 d hd).2
  refine kx_leave h hk h0 hq (fun S1 hi' ho' o1 w1 c1 c2 => ⟨_, o1.1, ?_⟩)
  have hz := xz_take hq hok hk hl c1 c2
  refine kx_push (m := ((sp_take T k).1 c).length) hX o1 (by omega) hc (hz.1 c hc).1 (hlen c hc) (fun S2 o2 w2 => am_qv_mk (hP S2 ?_ (w1.trans w2)))
  rw [em] at hok' ⊢
  exact ⟨h36, hok', _, _, _, _, _, o2, xz_put hz sp_take_k (by omega) hc (fun d hd => Nat.le_of_lt (hlen d hd)) (hlen c hc)⟩
theorem kx_move {k c : Nat} {P : ah_H → Prop} (h : xt S.1 a n s T) (hk : k < n) (hl : sp_loose T k = true) (hc : c < 8) (hP : ∀ S', xt S'.1 a n s (sp_move T k c) → xw a S S' → P S') : kX1_move l [am_R a, am_I k, am_I c] S (am_qv P) := by
  have hn := h.2.1.1
  have H := h
  obtain ⟨hX, hok, p, hi, ce, bo, ho, ⟨e0, e1, e2, e3, e4, e5⟩, hq⟩ := h
  refine bX1_move _ _ (by first | exact am_rN (by omega) | exact ⟨by omega, by omega⟩ | assumption) _ (by first | exact am_rN (by omega) | exact ⟨by omega, by omega⟩ | assumption) ⟨_, e0, _, rfl, _, _, e4, ⟨by omega, by omega⟩, fun hx => kx_lp H hk hl hc (Or.inl ?_) hP, fun hx => ⟨_, rfl, _, _, e3, ⟨by omega, by omega⟩, fun hy => kx_lp H hk hl hc (Or.inr ?_) hP, fun hy => am_qv_mk (hP S ?_ (xw.refl _ _))⟩⟩
  · cases hb : T.2.2 k with
    | none => exact absurd ((hq.bN hk).mpr hb) hx
    | some x => rfl
  · have hb := (hq.bN hk).mp hx
    rw [hq.cN hk hb] at hy
    omega
  · have hb := (hq.bN hk).mp hx
    rw [hq.cN hk hb] at hy
    have e : sp_move T k c = T := by
      unfold sp_move
      rw [if_neg (by omega), if_neg]
      rintro (z | z)
      · rw [hb] at z
        cases z
      · omega
    rw [e]
    exact H
theorem kx_into {k x : Nat} {P : ah_H → Prop} (h : xt S.1 a n s T) (hk : k < n) (hx : x < n) (hsx : s x = 2) (hcan : sp_can n s T k (8 + x) = true) (hP : ∀ S', xt S'.1 a n s (sp_move T k (8 + x)) → xw a S S' → P S') : kX1_into l [am_R a, am_I k, am_I x] S (am_qv P) := by
  have hn := h.2.1.1
  have hX := h.X
  have h36 := h.1
  have hok := h.2.1
  have hl := sp_can_loose hcan
  obtain ⟨-, -, p, hi, ce, bo, ho, h0, hq⟩ := id h
  have hok' := sp_move_ok hok hk (fun z => ⟨by omega, by rw [Nat.add_sub_cancel_left]; exact hsx⟩) hcan
  have em : sp_move T k (8 + x) = ((sp_take T k).1, (sp_take T k).2.1, va_up (sp_take T k).2.2 k (some x)) := by
    unfold sp_move
    rw [if_pos (by omega), Nat.add_sub_cancel_left]
  have hin : ∀ j, (sp_take T k).2.2 j ≠ some x := by
    intro j
    obtain ⟨a1, a2, a3⟩ := sp_take_ok hok hk hl
    rw [a3]
    split
    · simp
    · intro z
      unfold sp_can at hcan
      rw [if_neg (by omega), Nat.add_sub_cancel_left] at hcan
      simp only [Bool.and_eq_true, decide_eq_true_eq] at hcan
      obtain ⟨-, c4⟩ := hcan
      rw [sp_in_some hok z] at c4
      cases c4
  refine bX1_into _ _ (by first | exact am_rN (by omega) | exact ⟨by omega, by omega⟩ | assumption) _ (by first | exact am_rN (by omega) | exact ⟨by omega, by omega⟩ | assumption) ⟨_, h0.1, kx_leave h hk h0 hq (fun S1 hi' ho' o1 w1 c1 c2 => ⟨_, o1.1, _, rfl, _, _, o1.2.2.2.1, by omega, ⟨by omega, by omega⟩, ?_⟩)⟩
  have hz := xz_take hq hok hk hl c1 c2
  have o2 := o1.up3 (va_up ce k (Int32.ofInt (-1000000)))
  have o3 := o2.up4 (va_up bo k (Int32.ofInt x))
  have o4 := o3.up5 (va_up ho' x (Int32.ofInt k))
  rintro G1 rfl
  refine ⟨_, o2.1, _, rfl, _, _, o2.2.2.2.2.1, by omega, ⟨by omega, by omega⟩, ?_⟩
  rintro G2 rfl
  refine ⟨_, o3.1, _, rfl, _, _, o3.2.2.2.2.2, by omega, ⟨by omega, by omega⟩, ?_⟩
  rintro G3 rfl
  refine am_qv_mk (hP _ ?_ (((w1.trans (xw.up _ _ (by omega) (by omega))).trans (xw.up _ _ (by omega) (by omega))).trans (xw.up _ _ (by omega) (by omega))))
  rw [em] at hok' ⊢
  exact ⟨h36, hok', _, _, _, _, _, o4, xz_into hz sp_take_k hk hx hn hin⟩
theorem kx_carry {k to : Nat} {P : ah_H → Prop} (h : xt S.1 a n s T) (hk : k < n) (hto : 8 ≤ to → to < 8 + n ∧ s (to - 8) = 2) (hto2 : to < 8 + n) (hcan : sp_can n s T k to = true) (hP : ∀ S', xt S'.1 a n s (sp_move T k to) → xw a S S' → P S') : kX0_carry l [am_R a, am_I k, am_I to] S (am_qv P) := by
  have hn := h.2.1.1
  have e0 : S.1 a = some (.inl (2, [am_R (a + 1), am_R (a + 2), am_R (a + 3), am_R (a + 4), am_R (a + 5)])) := by
    obtain ⟨-, -, p, hi, ce, bo, ho, h0, hq⟩ := h
    exact h0.1
  refine bX0_carry _ _ (by first | exact am_rN (by omega) | exact ⟨by omega, by omega⟩ | assumption) _ (by first | exact am_rN (by omega) | exact ⟨by omega, by omega⟩ | assumption) ⟨fun hx => ⟨_, e0, ?_⟩, fun hx => ⟨_, e0, kx_move h hk (sp_can_loose hcan) (by omega) (fun S' h1 h2 => am_qv_mk (hP S' h1 h2))⟩⟩
  obtain ⟨x, rfl⟩ : ∃ x, to = 8 + x := ⟨to - 8, by omega⟩
  rw [show (((8 + x : Nat) : Int) - 8) = (x : Int) by omega]
  have := hto (by omega)
  rw [Nat.add_sub_cancel_left] at this
  exact kx_into h hk (by omega) this.2 hcan (fun S' h1 h2 => am_qv_mk (hP S' h1 h2))
theorem kx_begin {c : Nat} {s' : Nat → Nat} {P : ah_H → Prop} (h : xt S.1 a n s T) (hn6 : n < 6) (hc : c < 8) (hok' : sp_ok (n + 1) s' (sp_put T n c)) (hP : ∀ S', xt S'.1 a (n + 1) s' (sp_put T n c) → xw a S S' → P S') : kX1_begin l [am_R a, am_I n, am_I c] S (am_qv P) := by
  have hX := h.X
  have h36 := h.1
  have hok := h.2.1
  obtain ⟨-, -, p, hi, ce, bo, ho, h0, hq⟩ := id h
  have o1 := h0.up5 (va_up ho n (Int32.ofInt (-1000000)))
  have hbn : T.2.2 n = none := by
    cases hb : T.2.2 n with
    | none => rfl
    | some x => exact absurd (hok.2.2.2.1 n x hb).1 (Nat.lt_irrefl n)
  have hcg : ∀ j, sp_inside (n + 1) T j = sp_inside n T j := fun j => by
    unfold sp_inside
    rw [List.range_succ, List.find?_append]
    cases hf : (List.range n).find? (fun k => decide (T.2.2 k = some j)) with
    | some y => rfl
    | none => simp [hbn]
  have hz : xz (n + 1) n T p hi ce bo (va_up ho n (Int32.ofInt (-1000000))) := by
    refine ⟨hq.1, fun j hj => ⟨fun hjn => ⟨(hq.2 j (by omega)).1, (hq.2 j (by omega)).2.1⟩, ?_⟩⟩
    rw [hcg]
    by_cases e : j = n
    · rw [e, up_at, sp_in_none (fun i hi z => ?_)]
      · exact am_ti ⟨by decide, by decide⟩
      · exact absurd (hok.2.2.2.1 i n z).2.1 (Nat.lt_irrefl n)
    · rw [up_ne _ _ e]
      exact (hq.2 j (by omega)).2.2
  refine bX1_begin _ _ (by first | exact am_rN (by omega) | exact ⟨by omega, by omega⟩ | assumption) _ (by first | exact am_rN (by omega) | exact ⟨by omega, by omega⟩ | assumption) ⟨_, h0.1, _, rfl, _, _, h0.2.2.2.2.2, by omega, ⟨by omega, by omega⟩, ?_⟩
  rintro G1 rfl
  refine ⟨_, o1.1, kx_push (m := (T.1 c).length) hX o1 (by omega) hc (hz.1 c hc).1 (Nat.lt_of_le_of_lt (hok.len hc) hn6) (fun S2 o2 w2 => am_qv_mk (hP S2 ?_ ((xw.up _ _ (by omega) (by omega)).trans w2)))⟩
  exact ⟨h36, hok', _, _, _, _, _, o2, xz_put hz hbn (by omega) hc (fun d hd => Nat.le_trans (hok.len hd) (Nat.le_of_lt hn6)) (Nat.lt_of_le_of_lt (hok.len hc) hn6)⟩
theorem kx_lay {b : Nat} {p0 hi0 ce0 bo0 ho0 : Nat → Int32} {P : ah_H → Prop} (h36 : 36 ≤ a) (h0 : xo S.1 a p0 hi0 ce0 bo0 ho0) (h : xt S.1 b n s T) (hab : a + 5 < b ∨ b + 5 < a) (hP : ∀ S', xt S'.1 a n s T → xw a S S' → P S') : kX1_lay l [am_R a, am_R b] S (am_qv P) := by
  have hok := h.2.1
  have hn := hok.1
  have hX : ah_X ≤ a := Nat.le_trans (by decide) h36
  have hXb := h.X
  obtain ⟨-, -, p, hi, ce, bo, ho, k0, hq⟩ := id h
  have o1 := h0.up1 (va_cpy p p0 (0 : Int).toNat (0 : Int).toNat (48 : Int).toNat)
  have o2 := o1.up2 (va_cpy hi hi0 (0 : Int).toNat (0 : Int).toNat (8 : Int).toNat)
  have o3 := o2.up3 (va_cpy ce ce0 (0 : Int).toNat (0 : Int).toNat (6 : Int).toNat)
  have o4 := o3.up4 (va_cpy bo bo0 (0 : Int).toNat (0 : Int).toNat (6 : Int).toNat)
  have o5 := o4.up5 (va_cpy ho ho0 (0 : Int).toNat (0 : Int).toNat (6 : Int).toNat)
  have fr : ∀ (V : Nat → Option ah_C) (i : Nat) (c : Option ah_C), xo V b p hi ce bo ho → a < i → i ≤ a + 5 → xo (va_up V i c) b p hi ce bo ho := fun V i c k h1 h2 =>
    ⟨(up_ne _ _ (by omega)).trans k.1, (up_ne _ _ (by omega)).trans k.2.1, (up_ne _ _ (by omega)).trans k.2.2.1, (up_ne _ _ (by omega)).trans k.2.2.2.1, (up_ne _ _ (by omega)).trans k.2.2.2.2.1, (up_ne _ _ (by omega)).trans k.2.2.2.2.2⟩
  refine bX1_lay _ _ ⟨_, k0.1, _, rfl, _, h0.1, _, rfl, _, _, k0.2.1, _, _, h0.2.1, by omega, by omega, by omega, by omega, ?_⟩
  rintro G1 rfl
  have k1 := fr S.1 (a + 1) (some (.inr (0, 48, .inl (va_cpy p p0 (0 : Int).toNat (0 : Int).toNat (48 : Int).toNat)))) k0 (by omega) (by omega)
  refine ⟨_, k1.1, _, rfl, _, o1.1, _, rfl, _, _, k1.2.2.1, _, _, o1.2.2.1, by omega, by omega, by omega, by omega, ?_⟩
  rintro G2 rfl
  have k2 := fr _ (a + 2) (some (.inr (0, 8, .inl (va_cpy hi hi0 (0 : Int).toNat (0 : Int).toNat (8 : Int).toNat)))) k1 (by omega) (by omega)
  refine ⟨_, k2.1, _, rfl, _, o2.1, _, rfl, _, _, k2.2.2.2.1, _, _, o2.2.2.2.1, by omega, by omega, by omega, by omega, ?_⟩
  rintro G3 rfl
  have k3 := fr _ (a + 3) (some (.inr (0, 6, .inl (va_cpy ce ce0 (0 : Int).toNat (0 : Int).toNat (6 : Int).toNat)))) k2 (by omega) (by omega)
  refine ⟨_, k3.1, _, rfl, _, o3.1, _, rfl, _, _, k3.2.2.2.2.1, _, _, o3.2.2.2.2.1, by omega, by omega, by omega, by omega, ?_⟩
  rintro G4 rfl
  have k4 := fr _ (a + 4) (some (.inr (0, 6, .inl (va_cpy bo bo0 (0 : Int).toNat (0 : Int).toNat (6 : Int).toNat)))) k3 (by omega) (by omega)
  refine ⟨_, k4.1, _, rfl, _, o4.1, _, rfl, _, _, k4.2.2.2.2.2, _, _, o4.2.2.2.2.2, by omega, by omega, by omega, by omega, ?_⟩
  rintro G5 rfl
  have cp : ∀ (f g : Nat → Int32) (m i : Nat), i < m → va_cpy f g 0 0 m i = f i := fun f g m i him => by
    unfold va_cpy
    rw [if_pos ⟨Nat.zero_le _, by omega⟩, Nat.sub_zero, Nat.zero_add]
  refine am_qv_mk (hP _ ⟨h36, hok, _, _, _, _, _, o5, ⟨fun c hc => ⟨?_, fun i k hik => ?_⟩, fun k hk => ⟨?_, ?_, ?_⟩⟩⟩ ?_)
  · exact (congrArg Int32.toInt (cp hi hi0 8 c hc)).trans (hq.1 c hc).1
  · have h1 := (List.getElem?_eq_some_iff.mp hik).1
    have h2 := hok.len hc
    exact (congrArg Int32.toInt (cp p p0 48 (6 * c + i) (by omega))).trans ((hq.1 c hc).2 i k hik)
  · exact (congrArg Int32.toInt (cp bo bo0 6 k (by omega))).trans (hq.2 k hk).1
  · exact (congrArg Int32.toInt (cp ce ce0 6 k (by omega))).trans (hq.2 k hk).2.1
  · exact (congrArg Int32.toInt (cp ho ho0 6 k (by omega))).trans (hq.2 k hk).2.2
  · exact ((((xw.up S _ (by omega) (by omega)).trans (xw.up _ _ (by omega) (by omega))).trans (xw.up _ _ (by omega) (by omega))).trans (xw.up _ _ (by omega) (by omega))).trans (xw.up _ _ (by omega) (by omega))
theorem sp_same_iff : sp_same n T U = true ↔ (∀ c, c < 8 → T.1 c = U.1 c) ∧ ∀ k, k < n → T.2.2 k = U.2.2 k := by
  unfold sp_same
  simp only [Bool.and_eq_true, List.all_eq_true, List.mem_range, beq_iff_eq]
theorem sp_same_cell (hT : sp_ok n s T) (hU : sp_ok n s U) (h : sp_same n T U = true) {k : Nat} (hk : k < n) (hb : T.2.2 k = none) : T.2.1 k = U.2.1 k := by
  obtain ⟨h1, h2⟩ := sp_same_iff.mp h
  have hc := hT.2.2.1 k hk hb
  have hm := ((hT.2.1 _ hc).2 k).mpr ⟨hk, hb, rfl⟩
  rw [h1 _ hc] at hm
  exact (((hU.2.1 _ hc).2 k).mp hm).2.2.symm
theorem sp_same_len (hT : sp_ok n s T) (hU : sp_ok n s U) (h : ∀ k, k < n → T.2.2 k = U.2.2 k ∧ (T.2.2 k = none → T.2.1 k = U.2.1 k)) {c : Nat} (hc : c < 8) : (T.1 c).length = (U.1 c).length := by
  refine List.Perm.length_eq ((List.perm_ext_iff_of_nodup (hT.2.1 c hc).1 (hU.2.1 c hc).1).mpr (fun k => ?_))
  rw [(hT.2.1 c hc).2 k, (hU.2.1 c hc).2 k]
  constructor
  · intro z
    exact ⟨z.1, (h k z.1).1 ▸ z.2.1, ((h k z.1).2 z.2.1) ▸ z.2.2⟩
  · intro z
    have hb : T.2.2 k = none := (h k z.1).1.trans z.2.1
    exact ⟨z.1, hb, ((h k z.1).2 hb).trans z.2.2⟩
theorem kx_isSame_56 {b c i : Nat} {P : Bool → ah_H → Prop} (h : xt S.1 a n s T) (hu : xt S.1 b n s U) (hc : c < 8) (hlen : (T.1 c).length = (U.1 c).length) (hi : i ≤ (T.1 c).length) (he : ∀ j, j < i → (T.1 c)[j]? = (U.1 c)[j]?)
    (hP : T.1 c ≠ U.1 c → P false S) (next : T.1 c = U.1 c → VX1_isSame l (am_qz P) 47 [(0, am_R a), (1, am_R b), (3, am_I ((c : Int) + 1))] [] S) :
    VX1_isSame l (am_qz P) 56 [(0, am_R a), (1, am_R b), (3, am_I c), (4, am_I i)] [] S := by
  have hn := h.2.1.1
  have hl := h.2.1.len hc
  obtain ⟨hX, hok, p, hi', ce, bo, ho, ⟨e0, e1, e2, e3, e4, e5⟩, hq⟩ := id h
  obtain ⟨-, -, pu, hiu, ceu, bou, hou, ⟨u0, u1, u2, u3, u4, u5⟩, hqu⟩ := id hu
  generalize hm : (T.1 c).length - i = m
  induction m generalizing i with
  | zero =>
    refine bX1_isSame_56 _ _ _ (by first | exact am_rN (by omega) | exact ⟨by omega, by omega⟩ | assumption) _ (by first | exact am_rN (by omega) | exact ⟨by omega, by omega⟩ | assumption) ⟨_, e0, _, rfl, _, _, e2, ⟨by omega, by omega⟩, fun _ => next ?_, fun z => absurd (hq.len hc) (by omega)⟩
    refine List.ext_getElem? (fun j => ?_)
    by_cases hj : j < (T.1 c).length
    · exact he j (by omega)
    · rw [List.getElem?_eq_none (by omega), List.getElem?_eq_none (by omega)]
  | succ m ih =>
    obtain ⟨x, g1, g2, -⟩ := h.tb hc (i := i) (by omega)
    obtain ⟨y, q1, q2, -⟩ := hu.tb hc (i := i) (by omega)
    refine bX1_isSame_56 _ _ _ (by first | exact am_rN (by omega) | exact ⟨by omega, by omega⟩ | assumption) _ (by first | exact am_rN (by omega) | exact ⟨by omega, by omega⟩ | assumption) ⟨_, e0, _, rfl, _, _, e2, ⟨by omega, by omega⟩, fun z => absurd (hq.len hc) (by omega), fun _ => kx_at h hc g1 ⟨_, u0, kx_at hu hc q1 ⟨fun hxy => ih (i := i + 1) (by omega) (fun j hj => ?_) (by omega), fun hxy => am_qz_mk (hP (fun z => hxy ?_))⟩⟩⟩
    · by_cases hji : j = i
      · rw [hji, g1, q1, show x = y by omega]
      · exact he j (by omega)
    · rw [z, q1] at g1
      rw [Option.some.inj g1]
theorem kx_isSame_47 {b c : Nat} {P : Bool → ah_H → Prop} (h : xt S.1 a n s T) (hu : xt S.1 b n s U) (hc : c ≤ 8) (he : ∀ k, k < n → T.2.2 k = U.2.2 k ∧ (T.2.2 k = none → T.2.1 k = U.2.1 k)) (hd : ∀ d, d < c → T.1 d = U.1 d)
    (hP : P (sp_same n T U) S) : VX1_isSame l (am_qz P) 47 [(0, am_R a), (1, am_R b), (3, am_I c)] [] S := by
  generalize hm : 8 - c = m
  induction m generalizing c with
  | zero =>
    refine bX1_isSame_47 _ _ _ (by first | exact am_rN (by omega) | exact ⟨by omega, by omega⟩ | assumption) ⟨fun _ => am_qz_mk ?_, fun z => absurd z (by omega)⟩
    rw [sp_same_iff.mpr ⟨fun d hd' => hd d (by omega), fun k hk => (he k hk).1⟩] at hP
    exact hP
  | succ m ih =>
    refine bX1_isSame_47 _ _ _ (by first | exact am_rN (by omega) | exact ⟨by omega, by omega⟩ | assumption) ⟨fun z => absurd z (by omega), fun _ => kx_isSame_56 (i := 0) h hu (by omega) (sp_same_len h.2.1 hu.2.1 he (by omega)) (Nat.zero_le _) (fun j hj => absurd hj (by omega)) (fun z => ?_) (fun z => ih (c := c + 1) (by omega) (fun d hd' => ?_) (by omega))⟩
    · rw [Bool.eq_false_iff.mpr (fun q => z ((sp_same_iff.mp q).1 c (by omega)))] at hP
      exact hP
    · by_cases e : d = c
      · rw [e]
        exact z
      · exact hd d (by omega)
theorem kx_isSame_2 {b k : Nat} {P : Bool → ah_H → Prop} (h : xt S.1 a n s T) (hu : xt S.1 b n s U) (hk : k ≤ n) (he : ∀ j, j < k → T.2.2 j = U.2.2 j ∧ (T.2.2 j = none → T.2.1 j = U.2.1 j))
    (hP : P (sp_same n T U) S) : VX1_isSame l (am_qz P) 2 [(0, am_R a), (1, am_R b), (2, am_I n), (3, am_I k)] [] S := by
  have hn := h.2.1.1
  obtain ⟨hX, hok, p, hi', ce, bo, ho, ⟨e0, e1, e2, e3, e4, e5⟩, hq⟩ := id h
  obtain ⟨-, hoku, pu, hiu, ceu, bou, hou, ⟨u0, u1, u2, u3, u4, u5⟩, hqu⟩ := id hu
  generalize hm : n - k = m
  induction m generalizing k with
  | zero =>
    refine bX1_isSame_2 _ _ _ (by first | exact am_rN (by omega) | exact ⟨by omega, by omega⟩ | assumption) _ (by first | exact am_rN (by omega) | exact ⟨by omega, by omega⟩ | assumption) ⟨fun _ => kx_isSame_47 (c := 0) h hu (by omega) (fun j hj => he j (by omega)) (fun d hd => absurd hd (by omega)) hP, fun z => absurd z (by omega)⟩
  | succ m ih =>
    have hk' : k < n := by omega
    have c1 := (hq.2 k hk').2.1
    have c2 := (hqu.2 k hk').2.1
    have b1 := (hq.2 k hk').1
    have b2 := (hqu.2 k hk').1
    refine bX1_isSame_2 _ _ _ (by first | exact am_rN (by omega) | exact ⟨by omega, by omega⟩ | assumption) _ (by first | exact am_rN (by omega) | exact ⟨by omega, by omega⟩ | assumption) ⟨fun z => absurd z (by omega), fun _ => ⟨_, e0, _, rfl, _, _, e3, ⟨by omega, by omega⟩, _, u0, _, rfl, _, _, u3, ⟨by omega, by omega⟩, fun z => am_qz_mk ?_, fun z1 => ⟨_, rfl, _, _, e4, ⟨by omega, by omega⟩, _, rfl, _, _, u4, ⟨by omega, by omega⟩, fun z2 => ih (k := k + 1) (by omega) (fun j hj => ?_) (by omega), fun z2 => am_qz_mk ?_⟩⟩⟩
    · rw [show sp_same n T U = false from Bool.eq_false_iff.mpr (fun q => z ?_)] at hP
      · exact hP
      · show (ce k).toInt = (ceu k).toInt
        rw [c1, c2, ← (sp_same_iff.mp q).2 k hk']
        cases hb : T.2.2 k with
        | some x => rfl
        | none => rw [sp_same_cell hok hoku q hk' hb]
    · by_cases e : j = k
      · rw [e]
        have z2 : (bo k).toInt = (bou k).toInt := z2
        have z1 : (ce k).toInt = (ceu k).toInt := z1
        rw [b1, b2] at z2
        have eb : T.2.2 k = U.2.2 k := by
          cases hb : U.2.2 k with
          | none => rw [hb] at z2; exact sp_on_none.mp z2
          | some x => rw [hb] at z2; exact sp_on_eq.mp z2
        refine ⟨eb, fun hb => ?_⟩
        rw [c1, c2, ← eb, hb] at z1
        have z1 : (T.2.1 k : Int) = (U.2.1 k : Int) := z1
        omega
      · exact he j (by omega)
    · rw [show sp_same n T U = false from Bool.eq_false_iff.mpr (fun q => z2 ?_)] at hP
      · exact hP
      · show (bo k).toInt = (bou k).toInt
        rw [b1, b2, (sp_same_iff.mp q).2 k hk']
theorem kx_isSame {b : Nat} {P : Bool → ah_H → Prop} (h : xt S.1 a n s T) (hu : xt S.1 b n s U) (hP : P (sp_same n T U) S) : kX1_isSame l [am_R a, am_R b, am_I n] S (am_qz P) := by
  have hn := h.2.1.1
  exact bX1_isSame _ _ _ (by first | exact am_rN (by omega) | exact ⟨by omega, by omega⟩ | assumption) (kx_isSame_2 (k := 0) h hu (Nat.zero_le _) (fun j hj => absurd hj (by omega)) hP)
end KX2
