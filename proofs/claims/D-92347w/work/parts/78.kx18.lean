theorem sp_sum_congr {f g : Nat → Nat} : ∀ m, (∀ k, k < m → f k = g k) → sp_sum f m = sp_sum g m := by
  intro m
  induction m with
  | zero => exact fun _ => rfl
  | succ m ih =>
    intro h
    rw [sp_sum, sp_sum, ih (fun k hk => h k (by omega)), h m (by omega)]
theorem sp_sum_add {f g : Nat → Nat} : ∀ m, sp_sum (fun k => f k + g k) m = sp_sum f m + sp_sum g m := by
  intro m
  induction m with
  | zero => rfl
  | succ m ih =>
    rw [sp_sum, sp_sum, sp_sum, ih]
    omega
theorem sp_sum_zero {f : Nat → Nat} : ∀ m, (∀ k, k < m → f k = 0) → sp_sum f m = 0 := by
  intro m
  induction m with
  | zero => exact fun _ => rfl
  | succ m ih =>
    intro h
    rw [sp_sum, ih (fun k hk => h k (by omega)), h m (by omega)]
theorem sp_sum_one {f : Nat → Nat} {x : Nat} : ∀ m, x < m → sp_sum (fun k => if k = x then f k else 0) m = f x := by
  intro m
  induction m with
  | zero => exact fun h => absurd h (by omega)
  | succ m ih =>
    intro h
    rw [sp_sum]
    by_cases e : m = x
    · rw [if_pos e, e, sp_sum_zero _ (fun k hk => if_neg (by omega)), Nat.zero_add]
    · rw [if_neg e, ih (by omega), Nat.add_zero]
/-- the weight that a thing of a pile brings: its own and that of what is in it -/
def z_wt (Z : sp_Z) (T : sp_T) (x : Nat) : Nat := zw Z x + match sp_inside (zn Z) T x with
  | none => 0
  | some y => zw Z y
section KX18
variable {l : Launch} {S : ah_H} {w : Nat → Nat} {Z : sp_Z} {tr : Nat}
theorem z_wt_one {T : sp_T} (hok : sp_ok (zn Z) (zs Z) T) {x : Nat} (hx : x < zn Z) (hb : T.2.2 x = none) : sp_sum (fun k => if sp_base T k = x then zw Z k else 0) (zn Z) = z_wt Z T x := by
  unfold z_wt
  have hbase : ∀ k, sp_base T k = x ↔ (T.2.2 k = none ∧ k = x) ∨ T.2.2 k = some x := fun k => by
    unfold sp_base
    cases q : T.2.2 k with
    | none => simp
    | some y => simp
  cases hi : sp_inside (zn Z) T x with
  | none =>
    rw [← sp_sum_one (f := zw Z) (zn Z) hx]
    refine sp_sum_congr _ (fun k hk => ?_)
    by_cases e : k = x
    · rw [if_pos e, if_pos ((hbase k).mpr (Or.inl ⟨by rw [e]; exact hb, e⟩))]
    · rw [if_neg e, if_neg (fun z => ?_)]
      rcases (hbase k).mp z with z | z
      · exact e z.2
      · have := sp_in_some hok z
        rw [hi] at this
        cases this
  | some y =>
    have hy := List.find?_some hi
    have hy2 := List.mem_of_find?_eq_some hi
    rw [List.mem_range] at hy2
    have hy : T.2.2 y = some x := of_decide_eq_true hy
    have hne : y ≠ x := fun z => by
      rw [z, hb] at hy
      cases hy
    show _ = zw Z x + zw Z y
    rw [← sp_sum_one (f := zw Z) (zn Z) hx, ← sp_sum_one (f := zw Z) (zn Z) hy2, ← sp_sum_add]
    refine sp_sum_congr _ (fun k hk => ?_)
    by_cases e : k = x
    · rw [if_pos ((hbase k).mpr (Or.inl ⟨by rw [e]; exact hb, e⟩)), if_pos e, if_neg (by omega), Nat.add_zero]
    · by_cases e2 : k = y
      · rw [if_pos ((hbase k).mpr (Or.inr (by rw [e2]; exact hy))), if_neg e, if_pos e2, Nat.zero_add]
      · rw [if_neg e, if_neg e2, if_neg (fun z => ?_)]
        rcases (hbase k).mp z with z | z
        · exact e z.2
        · exact e2 (hok.2.2.2.2 k y x z hy)
theorem z_wt_list {T : sp_T} (hok : sp_ok (zn Z) (zs Z) T) : ∀ L : List Nat, L.Nodup → (∀ x, x ∈ L → x < zn Z ∧ T.2.2 x = none) → sp_sum (fun k => if sp_base T k ∈ L then zw Z k else 0) (zn Z) = (L.map (z_wt Z T)).sum := by
  intro L
  induction L with
  | nil => exact fun _ _ => sp_sum_zero _ (fun k _ => if_neg (by simp))
  | cons x L ih =>
    intro hn hL
    obtain ⟨h1, h2⟩ := hL x List.mem_cons_self
    rw [List.nodup_cons] at hn
    rw [List.map_cons, List.sum_cons, ← ih hn.2 (fun y hy => hL y (List.mem_cons_of_mem _ hy)), ← z_wt_one hok h1 h2, ← sp_sum_add]
    refine sp_sum_congr _ (fun k hk => ?_)
    by_cases e : sp_base T k = x
    · rw [if_pos (by rw [e]; exact List.mem_cons_self), if_pos e, if_neg (by rw [e]; exact hn.1), Nat.add_zero]
    · by_cases e2 : sp_base T k ∈ L
      · rw [if_pos (List.mem_cons_of_mem _ e2), if_neg e, if_pos e2, Nat.zero_add]
      · rw [if_neg (fun z => (List.mem_cons.mp z).elim e e2), if_neg e, if_neg e2]
theorem z_weightOn_eq {T : sp_T} (hok : sp_ok (zn Z) (zs Z) T) {c : Nat} (hc : c < 8) : z_weightOn Z T c (zn Z) = ((T.1 c).map (z_wt Z T)).sum := by
  rw [← z_wt_list hok (T.1 c) (hok.2.1 c hc).1 (fun x hx => ⟨(((hok.2.1 c hc).2 x).mp hx).1, (((hok.2.1 c hc).2 x).mp hx).2.1⟩)]
  unfold z_weightOn
  refine sp_sum_congr _ (fun k hk => ?_)
  have hb := hok.base hk
  have hm := (hok.2.1 c hc).2 (sp_base T k)
  by_cases e : sp_cell T k = c
  · rw [if_pos e, if_pos (hm.mpr ⟨hb.1, hb.2.1, e⟩)]
  · rw [if_neg e, if_neg (fun z => e (hm.mp z).2.2)]
theorem z_wt_le {T : sp_T} (h : xr_ S w tr Z) (hok : sp_ok (zn Z) (zs Z) T) {x : Nat} (hx : x < zn Z) : z_wt Z T x ≤ 40 := by
  have h1 := (h.1.1.2 x hx).2.2
  unfold z_wt
  cases hi : sp_inside (zn Z) T x with
  | none =>
    show zw Z x + 0 ≤ 40
    omega
  | some y =>
    have hy2 := List.mem_of_find?_eq_some hi
    rw [List.mem_range] at hy2
    have := (h.1.1.2 y hy2).2.2
    show zw Z x + zw Z y ≤ 40
    omega
theorem kx_weightOn_5 {a c i : Nat} {T : sp_T} {P : Int → ah_H → Prop} (h : xr_ S w tr Z) (m : xt S.1 a (zn Z) (zs Z) T) (hc : c < 8) (hi : i ≤ (T.1 c).length) (hP : P (z_weightOn Z T c (zn Z) : Int) S) :
    VX0_weightOn l (am_qi P) 5 [(0, am_R 32), (1, am_R a), (2, am_I c), (3, am_I (((T.1 c).take i).map (z_wt Z T)).sum), (4, am_I i)] [] S := by
  have n6 := h.n6
  obtain ⟨hX, hok, p, hi', ce, bo, ho, ⟨e0, e1, e2, e3, e4, e5⟩, hq⟩ := id m
  have hl := hq.len (c := c) hc
  have hl2 := hok.len (c := c) hc
  have hb : ∀ i, (((T.1 c).take i).map (z_wt Z T)).sum ≤ 40 * 6 := fun i => by
    have g : ∀ L : List Nat, (∀ x, x ∈ L → x < zn Z) → (L.map (z_wt Z T)).sum ≤ 40 * L.length := by
      intro L
      induction L with
      | nil => exact fun _ => Nat.le_refl _
      | cons x L ih =>
        intro hL
        have g1 := ih (fun y hy => hL y (List.mem_cons_of_mem _ hy))
        have g2 := z_wt_le h hok (hL x List.mem_cons_self)
        rw [List.map_cons, List.sum_cons, List.length_cons]
        omega
    have := g ((T.1 c).take i) (fun x hx => (((hok.2.1 c hc).2 x).mp (List.mem_of_mem_take hx)).1)
    have hlt : ((T.1 c).take i).length ≤ 6 := by
      rw [List.length_take]
      omega
    omega
  have hbi := hb i
  rw [z_weightOn_eq hok hc] at hP
  generalize hd : (T.1 c).length - i = d
  induction d generalizing i with
  | zero =>
    rw [List.take_of_length_le (by omega)] at hbi ⊢
    refine bX0_weightOn_5 _ _ _ (by first | exact am_rN (by omega) | exact ⟨by omega, by omega⟩ | assumption) _ (by first | exact am_rN (by omega) | exact ⟨by omega, by omega⟩ | assumption) _ (by first | exact am_rN (by omega) | exact ⟨by omega, by omega⟩ | assumption) ⟨_, e0, _, rfl, _, _, e2, ⟨by omega, by omega⟩, fun _ => am_qi_mk (am_rN (by omega)) hP, fun z => ?_⟩
    rw [hl] at z
    omega
  | succ d ih =>
    have hil : i < (T.1 c).length := by omega
    obtain ⟨x, hx, hxn, hxb, hxc, -⟩ := m.tb hc hil
    have nx := ih (i := i + 1) (by omega) (hb _) (by omega)
    rw [List.take_add_one, hx, Option.toList_some, List.map_append, List.sum_append, List.map_singleton, List.sum_singleton] at nx
    obtain ⟨-, f, g, a1, a2, a3⟩ := h.A
    have ex : (g (x : Int).toNat).toInt = zw Z x := (a3 x hxn).2
    have wx := (h.1.1.2 x hxn).2
    refine bX0_weightOn_5 _ _ _ (by first | exact am_rN (by omega) | exact ⟨by omega, by omega⟩ | assumption) _ (by first | exact am_rN (by omega) | exact ⟨by omega, by omega⟩ | assumption) _ (by first | exact am_rN (by omega) | exact ⟨by omega, by omega⟩ | assumption) ⟨_, e0, _, rfl, _, _, e2, ⟨by omega, by omega⟩, fun z => by rw [hl] at z; omega, fun _ => kx_at m hc hx ⟨_, h.I.2, _, rfl, _, _, a2, ⟨by omega, by omega⟩, _, e0, _, rfl, _, _, e5, ⟨by omega, by omega⟩, fun hz => ?_, fun hz => ?_⟩⟩
    · cases hin : sp_inside (zn Z) T x with
      | none => exact absurd ((hq.hN hxn).mpr hin) hz
      | some y =>
        have eh : (ho (x : Int).toNat).toInt = (y : Int) := by
          have := (hq.2 x hxn).2.2
          rw [hin] at this
          exact this
        have hy2 := List.mem_of_find?_eq_some hin
        rw [List.mem_range] at hy2
        rw [eh]
        refine ⟨⟨by omega, by omega⟩, ?_⟩
        have ey : (g (y : Int).toNat).toInt = zw Z y := (a3 y hy2).2
        rw [ex, ey]
        unfold z_wt at nx
        rw [hin] at nx
        have e9 : ((List.map (z_wt Z T) (List.take i (T.1 c))).sum : Int) + ((zw Z x : Int) + (zw Z y : Int)) = (((List.map (fun x => zw Z x + match sp_inside (zn Z) T x with | none => 0 | some y => zw Z y) (List.take i (T.1 c))).sum + (zw Z x + zw Z y) : Nat) : Int) := by
          rw [Int.natCast_add, Int.natCast_add]
          rfl
        rw [e9]
        exact nx
    · have hin := (hq.hN hxn).mp hz
      rw [ex]
      unfold z_wt at nx
      rw [hin] at nx
      have e9 : ((List.map (z_wt Z T) (List.take i (T.1 c))).sum : Int) + ((zw Z x : Int) + 0) = (((List.map (fun x => zw Z x + match sp_inside (zn Z) T x with | none => 0 | some y => zw Z y) (List.take i (T.1 c))).sum + (zw Z x + 0) : Nat) : Int) := by
        rw [Int.natCast_add, Int.natCast_add]
        rfl
      rw [e9]
      exact nx
theorem kx_weightOn {a c : Nat} {T : sp_T} {P : Int → ah_H → Prop} (h : xr_ S w tr Z) (m : xt S.1 a (zn Z) (zs Z) T) (hc : c < 8) (hP : P (z_weightOn Z T c (zn Z) : Int) S) : kX0_weightOn l [am_R 32, am_R a, am_I c] S (am_qi P) :=
  bX0_weightOn _ _ _ (by first | exact am_rN (by omega) | exact ⟨by omega, by omega⟩ | assumption) (kx_weightOn_5 (i := 0) h m hc (Nat.zero_le _) hP)
end KX18
