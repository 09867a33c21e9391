section KX16
variable {l : Launch} {S : ah_H} {w : Nat → Nat} {Z : sp_Z} {tr : Nat}
theorem kx_isShut {k : Nat} {P : Bool → ah_H → Prop} (h : xr_ S w tr Z) (hk : k < zn Z) (hP : P (decide (z_kind Z k = 4)) S) : kX0_isShut l [am_R 32, am_I k] S (am_qz P) := by
  have n6 := h.n6
  have m := h.B.2
  obtain ⟨hX, hok, p, hi, ce, bo, ho, ⟨e0, e1, e2, e3, e4, e5⟩, hq⟩ := id m
  obtain ⟨-, f, g, a1, a2, a3⟩ := h.A
  have es : ∀ j, j < zn Z → (f (j : Int).toNat).toInt = zs Z j := fun j hj => (a3 j hj).1
  unfold z_kind at hP
  refine bX0_isShut _ _ (by first | exact am_rN (by omega) | exact ⟨by omega, by omega⟩ | assumption) ⟨_, h.I.2, _, rfl, _, _, a1, ⟨by omega, by omega⟩, fun e => ?_, fun e => ?_⟩
  · rw [es k hk] at e
    have hs : zs Z k = 2 := by omega
    rw [if_pos hs] at hP
    have hb : (zT Z).2.2 k = none := by
      cases q : (zT Z).2.2 k with
      | none => rfl
      | some x => exact absurd hs (hok.2.2.2.1 k x q).2.2.2.2
    have b3 := hok.2.2.1 k hk hb
    refine ⟨_, rfl, _, e0, _, rfl, _, _, e3, ⟨by omega, by omega⟩, kx_below m hk hb ⟨_, h.I.2, _, rfl, _, e0, _, rfl, _, _, e2, ?_⟩⟩
    rw [hq.cN hk hb, hq.len b3]
    have hlen := hok.len b3
    have hbl : sp_below (zT Z) k < ((zT Z).1 ((zT Z).2.1 k)).length := List.idxOf_lt_length_of_mem (((hok.2.1 _ b3).2 k).mpr ⟨hk, hb, rfl⟩)
    refine ⟨⟨by omega, by omega⟩, ⟨by omega, by omega⟩, fun h1 => ?_, fun h1 => ?_⟩
    · have e7 : z_isShut Z k = false := by
        unfold z_isShut
        rw [List.getElem?_eq_none (by omega)]
        rfl
      rw [e7] at hP
      exact am_qz_mk (b := false) hP
    · obtain ⟨x, hx, hxn, -⟩ := m.tb b3 (i := sp_below (zT Z) k + 1) (by omega)
      refine ⟨_, rfl, ?_⟩
      rw [show (sp_below (zT Z) k : Int) + 1 = ((sp_below (zT Z) k + 1 : Nat) : Int) by omega]
      refine kx_at m b3 hx ⟨_, _, a1, ⟨by omega, by omega⟩, fun h2 => ?_, fun h2 => ?_⟩
      · rw [es x hxn] at h2
        have e7 : z_isShut Z k = false := by
          unfold z_isShut
          rw [hx]
          simp
          omega
        rw [e7] at hP
        exact am_qz_mk (b := false) hP
      · rw [es x hxn] at h2
        have e7 : z_isShut Z k = true := by
          unfold z_isShut
          rw [hx]
          simp
          omega
        rw [e7] at hP
        exact am_qz_mk (b := true) hP
  · rw [es k hk] at e
    have hs : ¬ zs Z k = 2 := by omega
    rw [if_neg hs] at hP
    refine am_qz_mk (b := false) ?_
    rw [decide_eq_false (by split <;> first | decide | (split <;> decide))] at hP
    exact hP
theorem kx_status {P : Int → ah_H → Prop} (h0 : xr S Z) (hP : ∀ S', xr S' (zo_status Z).2 → P (zo_status Z).1 S') : kX0_status l [am_R 32] S (am_qi P) := by
  obtain ⟨w, tr, h⟩ := h0
  have := h.1.2.2.2.2.2.2.2.1.2
  exact bX0_status _ ⟨_, h.I.2, _, ⟨rfl, am_rN (by omega)⟩, am_qi_mk (am_rN (by omega)) (hP S ⟨w, tr, h⟩)⟩
theorem kx_fault {P : Int → ah_H → Prop} (h0 : xr S Z) (hP : ∀ S', xr S' (zo_fault Z).2 → P (zo_fault Z).1 S') : kX0_fault l [am_R 32] S (am_qi P) := by
  obtain ⟨w, tr, h⟩ := h0
  have := h.1.2.2.2.2.2.2.2.1.1
  exact bX0_fault _ ⟨_, h.I.2, _, ⟨rfl, am_rN (by omega)⟩, am_qi_mk (am_rN (by omega)) (hP S ⟨w, tr, h⟩)⟩
theorem kx_trace {i : Int} {P : Int → ah_H → Prop} (h0 : xr S Z) (hi : am_r i) (hP : ∀ S', xr S' (zo_trace Z i).2 → P (zo_trace Z i).1 S') : kX0_trace l [am_R 32, am_I i] S (am_qi P) := by
  obtain ⟨w, tr, h⟩ := h0
  have Y16 := h.1.2.2.2.2.2.2.2.2.1
  have yr := h.1.2.2.2.2.2.2.2.2.2
  unfold zo_trace at hP
  obtain ⟨-, f, y1, y2, y3⟩ := h.Y
  refine bX0_trace _ _ (by first | exact am_rN (by omega) | exact ⟨by omega, by omega⟩ | assumption) ⟨_, h.I.2, _, rfl, _, y1, _, ⟨rfl, am_rN (by omega)⟩, ⟨by omega, by omega⟩, kx_isIn ⟨fun h1 => ?_, fun h1 => ⟨_, h.I.2, _, rfl, _, y1, _, rfl, _, _, y2, ?_⟩⟩⟩
  · have h1 := of_decide_eq_false h1
    rw [if_neg (by omega)] at hP
    exact am_qi_mk ⟨by decide, by decide⟩ (hP S ⟨w, tr, h⟩)
  · have h1 := of_decide_eq_true h1
    rw [if_pos (by omega)] at hP
    have e := y3 i.toNat (by omega)
    have := yr i.toNat (by omega)
    exact ⟨⟨by omega, by omega⟩, am_qi_eq e (am_rN (by omega)) (hP S ⟨w, tr, h⟩)⟩
theorem kx_count_50 {k : Nat} {P : Int → ah_H → Prop} (h : xr_ S w tr Z) (hk : k ≤ 8) (hP : P (sp_cnt (fun k => (zSh Z k).isSome) 8 : Nat) S) : VX0_count l (am_qi P) 50 [(0, am_R 32), (2, am_I (sp_cnt (fun k => (zSh Z k).isSome) k : Nat)), (3, am_I k)] [] S := by
  have hle := sp_cnt_le (fun k => (zSh Z k).isSome) k
  generalize hq : 8 - k = q
  induction q generalizing k with
  | zero =>
    have e : k = 8 := by omega
    subst e
    exact bX0_count_50 _ _ (by first | exact am_rN (by omega) | exact ⟨by omega, by omega⟩ | assumption) _ (by first | exact am_rN (by omega) | exact ⟨by omega, by omega⟩ | assumption) ⟨fun _ => am_qi_mk (am_rN (by omega)) hP, fun z => absurd z (by omega)⟩
  | succ q ih =>
    have nx := ih (k := k + 1) (by omega) (sp_cnt_le _ _) (by omega)
    rw [sp_cnt] at nx
    obtain ⟨-, f, sh, g0, g⟩ := h.E
    obtain ⟨g1, g2⟩ := g k (by omega)
    refine bX0_count_50 _ _ (by first | exact am_rN (by omega) | exact ⟨by omega, by omega⟩ | assumption) _ (by first | exact am_rN (by omega) | exact ⟨by omega, by omega⟩ | assumption) ⟨fun z => absurd z (by omega), fun _ => ⟨_, h.I.2, _, rfl, _, _, g0, ⟨by omega, by omega⟩, ?_⟩⟩
    rw [Int.toNat_natCast]
    rintro _ rfl
    cases hx : zSh Z k with
    | none =>
      rw [hx] at nx
      exact ⟨fun z => absurd (g1 hx) z, fun _ => nx⟩
    | some x =>
      rw [hx] at nx
      exact ⟨fun _ => nx, fun z => by rw [(g2 x hx).1] at z; cases z⟩
theorem sp_cnt_congr {p q : Nat → Bool} : ∀ m, (∀ k, k < m → p k = q k) → sp_cnt p m = sp_cnt q m := by
  intro m
  induction m with
  | zero => exact fun _ => rfl
  | succ m ih =>
    intro h
    rw [sp_cnt, sp_cnt, ih (fun k hk => h k (by omega)), h m (by omega)]
theorem sp_cnt_cut {p : Nat → Bool} {L : Nat} : ∀ d, sp_cnt (fun k => decide (k < L) && p k) (L + d) = sp_cnt p L := by
  intro d
  induction d with
  | zero => exact sp_cnt_congr _ (fun k hk => by rw [decide_eq_true (show k < L by omega), Bool.true_and])
  | succ d ih =>
    rw [← Nat.add_assoc, sp_cnt, ih, decide_eq_false (by omega), Bool.false_and]
    rfl
theorem sp_bits_cnt (x m : Nat) : sp_bits x m = sp_cnt (fun k => x.testBit k) m := by
  induction m with
  | zero => rfl
  | succ m ih => rw [sp_bits, sp_cnt, ih]
theorem z_stand_cnt (h : zL Z ≤ 8) : sp_bits (z_stand Z) 8 = sp_cnt (fun k => (zLf Z k).2.2.2.2) (zL Z) := by
  rw [sp_bits_cnt]
  have e := sp_cnt_cut (p := fun k => (zLf Z k).2.2.2.2) (L := zL Z) (8 - zL Z)
  rw [show zL Z + (8 - zL Z) = 8 by omega] at e
  rw [← e]
  refine sp_cnt_congr 8 (fun k _ => ?_)
  unfold z_stand
  rw [sp_set_bit]
theorem kx_count_93 {k : Nat} {P : Int → ah_H → Prop} (h : xr_ S w tr Z) (hk : k ≤ zL Z) (hP : P (sp_cnt (fun k => (zLf Z k).2.2.2.2) (zL Z) : Nat) S) : VX0_count l (am_qi P) 93 [(0, am_R 32), (2, am_I (sp_cnt (fun k => (zLf Z k).2.2.2.2) k : Nat)), (3, am_I k)] [] S := by
  have L8 := h.L8
  have hle := sp_cnt_le (fun k => (zLf Z k).2.2.2.2) k
  obtain ⟨-, mc, e, cap, f, d1, d2, d3, d4, d5, d6, d7⟩ := id h.D
  generalize hq : zL Z - k = q
  induction q generalizing k with
  | zero =>
    have e : k = zL Z := by omega
    subst e
    exact bX0_count_93 _ _ (by first | exact am_rN (by omega) | exact ⟨by omega, by omega⟩ | assumption) _ (by first | exact am_rN (by omega) | exact ⟨by omega, by omega⟩ | assumption) ⟨_, h.I.2, _, rfl, _, d1, kx_size h.D ⟨fun _ => am_qi_mk (am_rN (by omega)) hP, fun z => absurd z (by omega)⟩⟩
  | succ q ih =>
    have nx := ih (k := k + 1) (by omega) (sp_cnt_le _ _) (by omega)
    rw [sp_cnt] at nx
    refine bX0_count_93 _ _ (by first | exact am_rN (by omega) | exact ⟨by omega, by omega⟩ | assumption) _ (by first | exact am_rN (by omega) | exact ⟨by omega, by omega⟩ | assumption) ⟨_, h.I.2, _, rfl, _, d1, kx_size h.D ⟨fun z => absurd z (by omega), fun _ => ⟨_, h.I.2, _, rfl, _, d1, kx_get h.D (by omega) (fun lo hlo => ⟨lo, rfl, ah_is6 hlo.2.2, _, hlo.2.2, _, rfl, fun hb => ?_, fun hb => ?_⟩)⟩⟩⟩
    · rw [hb] at nx
      exact nx
    · rw [hb] at nx
      exact nx
theorem kx_count_153 {k : Nat} {P : Int → ah_H → Prop} (h : xr_ S w tr Z) (hk : k ≤ zn Z) (hP : P (sp_cnt (fun k => decide (z_kind Z k = 4)) (zn Z) : Nat) S) : VX0_count l (am_qi P) 153 [(0, am_R 32), (2, am_I (sp_cnt (fun k => decide (z_kind Z k = 4)) k : Nat)), (3, am_I k)] [] S := by
  have n6 := h.n6
  have hle := sp_cnt_le (fun k => decide (z_kind Z k = 4)) k
  generalize hq : zn Z - k = q
  induction q generalizing k with
  | zero =>
    have e : k = zn Z := by omega
    subst e
    exact bX0_count_153 _ _ (by first | exact am_rN (by omega) | exact ⟨by omega, by omega⟩ | assumption) _ (by first | exact am_rN (by omega) | exact ⟨by omega, by omega⟩ | assumption) ⟨_, h.I.2, _, ⟨rfl, am_rN (by omega)⟩, fun _ => am_qi_mk (am_rN (by omega)) hP, fun z => absurd z (by omega)⟩
  | succ q ih =>
    have nx := ih (k := k + 1) (by omega) (sp_cnt_le _ _) (by omega)
    rw [sp_cnt] at nx
    refine bX0_count_153 _ _ (by first | exact am_rN (by omega) | exact ⟨by omega, by omega⟩ | assumption) _ (by first | exact am_rN (by omega) | exact ⟨by omega, by omega⟩ | assumption) ⟨_, h.I.2, _, ⟨rfl, am_rN (by omega)⟩, fun z => absurd z (by omega), fun _ => kx_isShut h (by omega) ⟨fun hb => ?_, fun hb => ?_⟩⟩
    · rw [hb] at nx
      exact nx
    · rw [hb] at nx
      exact nx
theorem kx_count_187 {k : Nat} {P : Int → ah_H → Prop} (h : xr_ S w tr Z) (hk : k ≤ zn Z) (hP : P (sp_cnt (fun k => sp_clear (zT Z) k) (zn Z) : Nat) S) : VX0_count l (am_qi P) 187 [(0, am_R 32), (2, am_I (sp_cnt (fun k => sp_clear (zT Z) k) k : Nat)), (3, am_I k)] [] S := by
  have n6 := h.n6
  have hle := sp_cnt_le (fun k => sp_clear (zT Z) k) k
  generalize hq : zn Z - k = q
  induction q generalizing k with
  | zero =>
    have e : k = zn Z := by omega
    subst e
    exact bX0_count_187 _ _ (by first | exact am_rN (by omega) | exact ⟨by omega, by omega⟩ | assumption) _ (by first | exact am_rN (by omega) | exact ⟨by omega, by omega⟩ | assumption) ⟨_, h.I.2, _, ⟨rfl, am_rN (by omega)⟩, fun _ => am_qi_mk (am_rN (by omega)) hP, fun z => absurd z (by omega)⟩
  | succ q ih =>
    have nx := ih (k := k + 1) (by omega) (sp_cnt_le _ _) (by omega)
    rw [sp_cnt] at nx
    refine bX0_count_187 _ _ (by first | exact am_rN (by omega) | exact ⟨by omega, by omega⟩ | assumption) _ (by first | exact am_rN (by omega) | exact ⟨by omega, by omega⟩ | assumption) ⟨_, h.I.2, _, ⟨rfl, am_rN (by omega)⟩, fun z => absurd z (by omega), fun _ => ⟨_, rfl, _, h.B.2.hd, kx_isClear h.B.2 (by omega) ⟨fun hb => ?_, fun hb => ?_⟩⟩⟩
    · rw [hb] at nx
      exact nx
    · rw [hb] at nx
      exact nx
theorem kx_count {v : Int} {P : Int → ah_H → Prop} (h0 : xr S Z) (hv : am_r v) (hP : ∀ S', xr S' (zo_count Z v).2 → P (zo_count Z v).1 S') : kX0_count l [am_R 32, am_I v] S (am_qi P) := by
  obtain ⟨w, tr, h⟩ := h0
  have n6 := h.n6
  have K8 := h.K8
  have L8 := h.L8
  have N16 := h.N16
  have P3 := h.P300
  unfold zo_count at hP
  have g : ∀ j : Nat, j ≤ 7 → v = j → P (zo_countV Z j : Nat) S := by
    intro j hj e
    rw [e, if_pos (by omega), Int.toNat_natCast] at hP
    exact hP _ ⟨w, tr, h⟩
  obtain ⟨-, mc, e, cap, f, d1, -⟩ := id h.N
  refine bX0_count _ _ (by first | exact am_rN (by omega) | exact ⟨by omega, by omega⟩ | assumption) ⟨fun e => kx_count_50 (k := 0) h (by decide) (g 0 (by decide) e), fun e => ⟨_, h.I.2, _, ⟨rfl, am_rN (by omega)⟩, am_qi_mk (am_rN (by omega)) (g 1 (by decide) e)⟩, fun e => ⟨_, h.I.2, _, ⟨rfl, am_rN (by omega)⟩, am_qi_mk (am_rN (by omega)) (g 2 (by decide) e)⟩, fun e => ?_, fun e => ⟨_, h.I.2, _, rfl, _, d1, kx_size h.N (am_qi_mk (am_rN (by omega)) (g 4 (by decide) e))⟩, fun e => kx_count_153 (k := 0) h (Nat.zero_le _) (g 5 (by decide) e), fun e => kx_count_187 (k := 0) h (Nat.zero_le _) (g 6 (by decide) e), fun e => ⟨_, h.I.2, _, ⟨rfl, am_rN (by omega)⟩, am_qi_mk (am_rN (by omega)) (g 7 (by decide) e)⟩, fun e => ?_⟩
  · have g3 := g 3 (by decide) e
    rw [show zo_countV Z 3 = sp_bits (z_stand Z) 8 from rfl, z_stand_cnt L8] at g3
    exact kx_count_93 (k := 0) h (Nat.zero_le _) g3
  · rw [if_neg (by omega)] at hP
    exact am_qi_mk ⟨by decide, by decide⟩ (hP _ ⟨w, tr, h⟩)
end KX16
