section KX37
variable {l : Launch} {S : ah_H} {w : Nat → Nat} {Z : sp_Z} {tr : Nat}
theorem kx_begins {b : Nat} {P : ah_H → Prop} (h : xr_ S w tr Z) (hb : b < 32) (hP : ∀ S', xr_ S' w tr (z_be Z b) → (∀ q, w q ≠ 12 → S'.1 q = S.1 q) → P S') : kX2_begins l [am_R tr, am_I b] S (am_qv P) := by
  obtain ⟨⟨y1, y2, y3⟩, f, y4, y5, y6⟩ := h.Y
  have Y16 := h.1.2.2.2.2.2.2.2.2.1
  have b0 := h.2.1.1
  unfold z_be at hP
  refine bX2_begins _ _ (by first | exact am_rN (by omega) | exact ⟨by omega, by omega⟩ | assumption) ⟨_, y4, _, ⟨rfl, am_rN (by omega)⟩, fun h1 => ?_, fun h1 => ⟨_, rfl, by show 32 ≤ tr; omega, (show 1 < 2 by decide), ?_⟩⟩
  · rw [if_neg (by omega)] at hP
    exact am_qv_mk (hP S h (fun _ _ => rfl))
  · rw [if_pos (by omega)] at hP
    rintro _ rfl
    refine ⟨_, _, (up_ne _ _ (by omega)).trans y5, by show 32 ≤ tr + 1; omega, ⟨by omega, by omega⟩, ?_⟩
    rintro _ rfl
    have o1 : ∀ q, q ≠ tr → q ≠ tr + 1 → (ah_si (ah_sf S tr 3 [am_R (tr + 1), am_I ((zY Z : Nat) : Int)] 1 (am_I (((zY Z : Nat) : Int) + 1))) (tr + 1) 0 16 f ((zY Z : Nat) : Int) (Int32.ofInt (b : Int))).1 q = S.1 q := fun q h1 h2 => (up_ne _ _ h2).trans (up_ne _ _ h1)
    have oA : (ah_si (ah_sf S tr 3 [am_R (tr + 1), am_I ((zY Z : Nat) : Int)] 1 (am_I (((zY Z : Nat) : Int) + 1))) (tr + 1) 0 16 f ((zY Z : Nat) : Int) (Int32.ofInt (b : Int))).1 tr = some (.inl (3, [am_R (tr + 1), am_I (((zY Z : Nat) : Int) + 1)])) := (up_ne _ _ (by omega)).trans (up_at S.1 tr _)
    have oB : (ah_si (ah_sf S tr 3 [am_R (tr + 1), am_I ((zY Z : Nat) : Int)] 1 (am_I (((zY Z : Nat) : Int) + 1))) (tr + 1) 0 16 f ((zY Z : Nat) : Int) (Int32.ofInt (b : Int))).1 (tr + 1) = some (.inr (0, 16, .inl (va_up f ((zY Z : Nat) : Int).toNat (Int32.ofInt (b : Int))))) := up_at (ah_sf S _ _ _ _ _).1 (tr + 1) _
    have e2 : (ah_si (ah_sf S tr 3 [am_R (tr + 1), am_I ((zY Z : Nat) : Int)] 1 (am_I (((zY Z : Nat) : Int) + 1))) (tr + 1) 0 16 f ((zY Z : Nat) : Int) (Int32.ofInt (b : Int))).2 = S.2 := rfl
    generalize ah_si (ah_sf S tr 3 [am_R (tr + 1), am_I ((zY Z : Nat) : Int)] 1 (am_I (((zY Z : Nat) : Int) + 1))) (tr + 1) 0 16 f ((zY Z : Nat) : Int) (Int32.ofInt (b : Int)) = S4 at *
    have l1 : tr < S.2 := h.some (by rw [y4]; exact fun z => by cases z)
    have l2 : tr + 1 < S.2 := h.some (by rw [y5]; exact fun z => by cases z)
    have off : ∀ q, w q ≠ 12 → S4.1 q = S.1 q := fun q hq => o1 q (fun e => hq (by rw [e]; exact y1)) (fun e => hq (by rw [e]; exact y2))
    have fr : ∀ q, S.1 q ≠ none → w q ∉ [12] → S4.1 q = S.1 q ∧ w q = w q := fun q _ hn => ⟨off q (by simpa using hn), rfl⟩
    have hx := h.all (S' := S4) (w' := w) ⟨⟨by omega, fun q hq => (o1 q (by omega) (by omega)).trans (h.2.1.2 q (by omega))⟩, fr⟩ h.X.1 (by decide)
    refine am_qv_mk (hP S4 ⟨⟨h.1.1, h.1.2.1, h.1.2.2.1, h.1.2.2.2.1, h.1.2.2.2.2.1, h.1.2.2.2.2.2.1, h.1.2.2.2.2.2.2.1, h.1.2.2.2.2.2.2.2.1, ⟨by show zY Z + 1 ≤ 16; omega, fun i hi => ?_⟩⟩, hx.1, h.I.kept fr (by decide), h.A.kept fr (by decide), h.B.kept fr (by decide), h.K.kept h.K8 fr (by decide) (by decide), h.C.kept fr (by decide), h.D.kept h.L8 h.e1 fr (by decide) (by decide) (by decide), h.E.kept fr (by decide) (by decide), h.N.kept h.e1 fr (by decide) (by decide) (by decide), h.G.kept fr (by decide), ⟨⟨y1, y2, y3⟩, _, oA, oB, fun i hi => ?_⟩, h.U.kept fr (by decide), hx.2⟩ off)
    · show va_up (zYf Z) (zY Z) b i < 32
      have hi : i < zY Z + 1 := hi
      rw [up_if]
      split
      · exact hb
      · exact h.1.2.2.2.2.2.2.2.2.2 i (by omega)
    · show _ = ((va_up (zYf Z) (zY Z) b i : Nat) : Int)
      have hi : i < zY Z + 1 := hi
      rw [Int.toNat_natCast, up_if, up_if]
      split
      · exact am_ti (am_rN (by omega))
      · exact y6 i (by omega)
/-- the object of a thing stands at a -/
def xAs (S : ah_H) (w : Nat → Nat) (a ci k : Nat) : Prop := (647 ≤ a ∧ w a = 14) ∧ S.1 a = some (.inl (ci, if ci = 13 then xob4 k else xob k))
theorem xAs.fr {S' : ah_H} {a ci k : Nat} (h : xAs S w a ci k) (o : ∀ q, w q ≠ 12 → S'.1 q = S.1 q) : xAs S' w a ci k := ⟨h.1, (o a (by rw [h.1.2]; decide)).trans h.2⟩
theorem kx_size12 {a k : Nat} {P : Int → ah_H → Prop} (h : xr_ S w tr Z) (o : xAs S w a 11 k) (hk : k < zn Z) (hP : ∀ S', xr_ S' w tr (z_be Z 10) → (∀ q, w q ≠ 12 → S'.1 q = S.1 q) → P (zw Z k : Int) S') : kX10_size l [am_R a, am_R tr] S (am_qi P) := by
  have n6 := h.n6
  have wr := (h.1.1.2 k hk).2
  refine bX10_size_X12 _ _ ⟨_, h.Y.2.choose_spec.1, kx_begins h (by decide) (fun S1 r1 f1 => ?_)⟩
  have o1 := o.fr f1
  obtain ⟨-, f, g, a1, a2, a3⟩ := r1.A
  refine ⟨_, o1.2, _, rfl, _, r1.I.2, _, rfl, _, ⟨rfl, am_rN (by omega)⟩, _, _, a2, ⟨by omega, by omega⟩, am_qi_eq (a3 k hk).2 (am_rN (by show zw Z k < 2147483648; omega)) (hP S1 r1 f1)⟩
theorem kx_size13_ {a k : Nat} {P : Int → ah_H → Prop} (h : xr_ S w tr Z) (o : xAs S w a 12 k) (hk : k < zn Z) (hP : ∀ S', xr_ S' w tr (z_be Z 10) → (∀ q, w q ≠ 12 → S'.1 q = S.1 q) → P (zw Z k : Int) S') : kX10_size l [am_R a, am_R tr] S (am_qi P) := by
  have n6 := h.n6
  have wr := (h.1.1.2 k hk).2
  refine bX10_size_X13 _ _ ⟨_, h.Y.2.choose_spec.1, kx_begins h (by decide) (fun S1 r1 f1 => ?_)⟩
  have o1 := o.fr f1
  obtain ⟨-, f, g, a1, a2, a3⟩ := r1.A
  refine ⟨_, o1.2, _, rfl, _, r1.I.2, _, rfl, _, ⟨rfl, am_rN (by omega)⟩, _, _, a2, ⟨by omega, by omega⟩, am_qi_eq (a3 k hk).2 (am_rN (by show zw Z k < 2147483648; omega)) (hP S1 r1 f1)⟩
theorem kx_size14_ {a k : Nat} {P : Int → ah_H → Prop} (h : xr_ S w tr Z) (o : xAs S w a 13 k) (hk : k < zn Z) (hP : ∀ S', xr_ S' w tr (z_be Z 10) → (∀ q, w q ≠ 12 → S'.1 q = S.1 q) → P (zw Z k : Int) S') : kX10_size l [am_R a, am_R tr] S (am_qi P) := by
  have n6 := h.n6
  have wr := (h.1.1.2 k hk).2
  refine bX10_size_X14 _ _ ⟨_, h.Y.2.choose_spec.1, kx_begins h (by decide) (fun S1 r1 f1 => ?_)⟩
  have o1 := o.fr f1
  obtain ⟨-, f, g, a1, a2, a3⟩ := r1.A
  refine ⟨_, o1.2, _, rfl, _, r1.I.2, _, rfl, _, ⟨rfl, am_rN (by omega)⟩, _, _, a2, ⟨by omega, by omega⟩, am_qi_eq (a3 k hk).2 (am_rN (by show zw Z k < 2147483648; omega)) (hP S1 r1 f1)⟩
theorem kx_size15_ {a k : Nat} {P : Int → ah_H → Prop} (h : xr_ S w tr Z) (o : xAs S w a 14 k) (hk : k < zn Z) (hP : ∀ S', xr_ S' w tr (z_be Z 10) → (∀ q, w q ≠ 12 → S'.1 q = S.1 q) → P (zw Z k : Int) S') : kX10_size l [am_R a, am_R tr] S (am_qi P) := by
  have n6 := h.n6
  have wr := (h.1.1.2 k hk).2
  refine bX10_size_X15 _ _ ⟨_, h.Y.2.choose_spec.1, kx_begins h (by decide) (fun S1 r1 f1 => ?_)⟩
  have o1 := o.fr f1
  obtain ⟨-, f, g, a1, a2, a3⟩ := r1.A
  refine ⟨_, o1.2, _, rfl, _, r1.I.2, _, rfl, _, ⟨rfl, am_rN (by omega)⟩, _, _, a2, ⟨by omega, by omega⟩, am_qi_eq (a3 k hk).2 (am_rN (by show zw Z k < 2147483648; omega)) (hP S1 r1 f1)⟩
theorem kx_size15 {a k : Nat} {P : Int → ah_H → Prop} (h : xr_ S w tr Z) (o : xAs S w a 14 k) (hk : k < zn Z) (hP : ∀ S', xr_ S' w tr (z_be (z_be Z 14) 10) → (∀ q, w q ≠ 12 → S'.1 q = S.1 q) → P ((zw Z k + (if ((zT Z).2.2 k).isNone = true then sp_below (zT Z) k else 0) : Nat) : Int) S') : kX15_size l [am_R a, am_R tr] S (am_qi P) := by
  have n6 := h.n6
  have wr := (h.1.1.2 k hk).2
  refine bX15_size _ _ ⟨_, h.Y.2.choose_spec.1, kx_begins h (by decide) (fun S1 r1 f1 => ?_)⟩
  have o1 := o.fr f1
  refine ⟨_, o1.2, kx_size15_ r1 o1 hk (fun S2 r2 f2 => ?_)⟩
  have o2 := o1.fr f2
  have m : xt S2.1 36 (zn Z) (zs Z) (zT Z) := r2.B.2
  obtain ⟨hX, hok, p, hi', ce, bo, ho, ⟨e0, e1, e2, e3, e4, e5⟩, hq⟩ := id m
  have hp := hP S2 r2 (fun q hq => (f2 q hq).trans (f1 q hq))
  refine ⟨_, o2.2, _, rfl, _, r2.I.2, _, rfl, _, e0, _, rfl, bX10_number_X15 _ ⟨_, o2.2, _, ⟨rfl, am_rN (by omega)⟩, am_qi_mk (am_rN (by omega)) ⟨_, _, e4, ⟨by omega, by omega⟩, fun h1 => ?_, fun h1 => ?_⟩⟩⟩
  · have hb : ¬ ((zT Z).2.2 k).isNone = true := fun z => h1 ((hq.bN hk).mpr (by simpa using z))
    rw [if_neg hb] at hp
    exact am_qi_eq (k := ((zw Z k + 0 : Nat) : Int)) (by show ((zw Z k : Nat) : Int) + 0 = ((zw Z k + 0 : Nat) : Int); omega) (am_rN (by omega)) hp
  · have hb := (hq.bN hk).mp h1
    have hb2 : ((zT Z).2.2 k).isNone = true := by rw [hb]; rfl
    rw [if_pos hb2] at hp
    obtain ⟨q1, q2, q3⟩ : sp_below (zT Z) k ≤ 6 ∧ True ∧ True := ⟨by
      have b3 := hok.2.2.1 k hk hb
      have := hok.len b3
      have hbl : sp_below (zT Z) k < ((zT Z).1 ((zT Z).2.1 k)).length := List.idxOf_lt_length_of_mem (((hok.2.1 _ b3).2 k).mpr ⟨hk, hb, rfl⟩)
      omega, trivial, trivial⟩
    exact ⟨_, o2.2, _, rfl, _, r2.I.2, _, rfl, bX10_number_X15 _ ⟨_, o2.2, _, ⟨rfl, am_rN (by omega)⟩, am_qi_mk (am_rN (by omega)) ⟨_, e0, kx_below m hk hb (am_qi_eq (k := ((zw Z k + sp_below (zT Z) k : Nat) : Int)) (by show ((zw Z k : Nat) : Int) + ((sp_below (zT Z) k : Nat) : Int) = ((zw Z k + sp_below (zT Z) k : Nat) : Int); omega) (am_rN (by omega)) hp)⟩⟩⟩
theorem z_load_le {k : Nat} (h : xr_ S w tr Z) (hk : k < zn Z) : z_load Z k ≤ 40 := by
  have h1 := (h.1.1.2 k hk).2.2
  unfold z_load
  cases hi : sp_inside (zn Z) (zT Z) k with
  | none =>
    show zw Z k + 0 ≤ 40
    omega
  | some y =>
    have hy2 := List.mem_of_find?_eq_some hi
    rw [List.mem_range] at hy2
    have := (h.1.1.2 y hy2).2.2
    show zw Z k + zw Z y ≤ 40
    omega
theorem kx_size13 {a k : Nat} {P : Int → ah_H → Prop} (h : xr_ S w tr Z) (o : xAs S w a 12 k) (hk : k < zn Z) (hP : ∀ S', xr_ S' w tr (z_be (z_be Z 12) 10) → (∀ q, w q ≠ 12 → S'.1 q = S.1 q) → P (z_load Z k : Int) S') : kX13_size l [am_R a, am_R tr] S (am_qi P) := by
  have n6 := h.n6
  have hl := z_load_le h hk
  have wr := (h.1.1.2 k hk).2
  refine bX13_size_X13 _ _ ⟨_, h.Y.2.choose_spec.1, kx_begins h (by decide) (fun S1 r1 f1 => ?_)⟩
  have o1 := o.fr f1
  refine ⟨_, o1.2, kx_size13_ r1 o1 hk (fun S2 r2 f2 => ?_)⟩
  have o2 := o1.fr f2
  have m : xt S2.1 36 (zn Z) (zs Z) (zT Z) := r2.B.2
  obtain ⟨hX, hok, p, hi', ce, bo, ho, ⟨e0, e1, e2, e3, e4, e5⟩, hq⟩ := id m
  obtain ⟨-, f, g, a1, a2, a3⟩ := r2.A
  have hp := hP S2 r2 (fun q hq => (f2 q hq).trans (f1 q hq))
  unfold z_load at hp hl
  refine ⟨_, o2.2, _, rfl, _, r2.I.2, _, rfl, _, e0, _, rfl, bX10_number_X13 _ ⟨_, o2.2, _, ⟨rfl, am_rN (by omega)⟩, am_qi_mk (am_rN (by omega)) ⟨_, _, e5, ⟨by omega, by omega⟩, fun h1 => ⟨_, o2.2, _, rfl, _, r2.I.2, _, rfl, _, rfl, _, e0, _, rfl, bX10_number_X13 _ ⟨_, o2.2, _, ⟨rfl, am_rN (by omega)⟩, am_qi_mk (am_rN (by omega)) ?_⟩⟩, fun h1 => ?_⟩⟩⟩
  · cases hin : sp_inside (zn Z) (zT Z) k with
    | none => exact absurd ((hq.hN hk).mpr hin) h1
    | some y =>
      have eh : (ho (k : Int).toNat).toInt = (y : Int) := by
        have := (hq.2 k hk).2.2
        rw [hin] at this
        exact this
      have hy2 := List.mem_of_find?_eq_some hin
      rw [List.mem_range] at hy2
      have ey : (g (y : Int).toNat).toInt = zw Z y := (a3 y hy2).2
      rw [hin] at hp hl
      refine ⟨_, _, e5, ⟨by omega, by omega⟩, _, _, a2, ?_⟩
      rw [eh, ey]
      exact ⟨⟨by omega, by omega⟩, am_qi_eq (k := ((zw Z k + zw Z y : Nat) : Int)) (by show ((zw Z k : Nat) : Int) + ((zw Z y : Nat) : Int) = ((zw Z k + zw Z y : Nat) : Int); omega) (am_rN (by have hl : zw Z k + zw Z y ≤ 40 := hl; omega)) hp⟩
  · have hin := (hq.hN hk).mp h1
    rw [hin] at hp
    exact am_qi_eq (k := ((zw Z k + 0 : Nat) : Int)) (by show ((zw Z k : Nat) : Int) + 0 = ((zw Z k + 0 : Nat) : Int); omega) (am_rN (by omega)) hp
theorem kx_size13_4 {a k : Nat} {P : Int → ah_H → Prop} (h : xr_ S w tr Z) (o : xAs S w a 13 k) (hk : k < zn Z) (hP : ∀ S', xr_ S' w tr (z_be (z_be Z 12) 10) → (∀ q, w q ≠ 12 → S'.1 q = S.1 q) → P (z_load Z k : Int) S') : kX13_size l [am_R a, am_R tr] S (am_qi P) := by
  have n6 := h.n6
  have hl := z_load_le h hk
  have wr := (h.1.1.2 k hk).2
  refine bX13_size_X14 _ _ ⟨_, h.Y.2.choose_spec.1, kx_begins h (by decide) (fun S1 r1 f1 => ?_)⟩
  have o1 := o.fr f1
  refine ⟨_, o1.2, kx_size14_ r1 o1 hk (fun S2 r2 f2 => ?_)⟩
  have o2 := o1.fr f2
  have m : xt S2.1 36 (zn Z) (zs Z) (zT Z) := r2.B.2
  obtain ⟨hX, hok, p, hi', ce, bo, ho, ⟨e0, e1, e2, e3, e4, e5⟩, hq⟩ := id m
  obtain ⟨-, f, g, a1, a2, a3⟩ := r2.A
  have hp := hP S2 r2 (fun q hq => (f2 q hq).trans (f1 q hq))
  unfold z_load at hp hl
  refine ⟨_, o2.2, _, rfl, _, r2.I.2, _, rfl, _, e0, _, rfl, bX10_number_X14 _ ⟨_, o2.2, _, ⟨rfl, am_rN (by omega)⟩, am_qi_mk (am_rN (by omega)) ⟨_, _, e5, ⟨by omega, by omega⟩, fun h1 => ⟨_, o2.2, _, rfl, _, r2.I.2, _, rfl, _, rfl, _, e0, _, rfl, bX10_number_X14 _ ⟨_, o2.2, _, ⟨rfl, am_rN (by omega)⟩, am_qi_mk (am_rN (by omega)) ?_⟩⟩, fun h1 => ?_⟩⟩⟩
  · cases hin : sp_inside (zn Z) (zT Z) k with
    | none => exact absurd ((hq.hN hk).mpr hin) h1
    | some y =>
      have eh : (ho (k : Int).toNat).toInt = (y : Int) := by
        have := (hq.2 k hk).2.2
        rw [hin] at this
        exact this
      have hy2 := List.mem_of_find?_eq_some hin
      rw [List.mem_range] at hy2
      have ey : (g (y : Int).toNat).toInt = zw Z y := (a3 y hy2).2
      rw [hin] at hp hl
      refine ⟨_, _, e5, ⟨by omega, by omega⟩, _, _, a2, ?_⟩
      rw [eh, ey]
      exact ⟨⟨by omega, by omega⟩, am_qi_eq (k := ((zw Z k + zw Z y : Nat) : Int)) (by show ((zw Z k : Nat) : Int) + ((zw Z y : Nat) : Int) = ((zw Z k + zw Z y : Nat) : Int); omega) (am_rN (by have hl : zw Z k + zw Z y ≤ 40 := hl; omega)) hp⟩
  · have hin := (hq.hN hk).mp h1
    rw [hin] at hp
    exact am_qi_eq (k := ((zw Z k + 0 : Nat) : Int)) (by show ((zw Z k : Nat) : Int) + 0 = ((zw Z k + 0 : Nat) : Int); omega) (am_rN (by omega)) hp
theorem kx_size14 {a k : Nat} {P : Int → ah_H → Prop} (h : xr_ S w tr Z) (o : xAs S w a 13 k) (hk : k < zn Z) (hP : ∀ S', xr_ S' w tr (z_be (z_be (z_be Z 13) 12) 10) → (∀ q, w q ≠ 12 → S'.1 q = S.1 q) → P ((2 * z_load Z k : Nat) : Int) S') : kX14_size l [am_R a, am_R tr] S (am_qi P) := by
  have hl := z_load_le h hk
  refine bX14_size _ _ ⟨_, h.Y.2.choose_spec.1, kx_begins h (by decide) (fun S1 r1 f1 => ⟨_, (o.fr f1).2, kx_size13_4 r1 (o.fr f1) hk (fun S2 r2 f2 => ?_)⟩)⟩
  exact am_qi_eq (k := ((2 * z_load Z k : Nat) : Int)) (by show 2 * ((z_load Z k : Nat) : Int) = ((2 * z_load Z k : Nat) : Int); omega) (am_rN (by omega)) (hP S2 r2 (fun q hq => (f2 q hq).trans (f1 q hq)))
end KX37
