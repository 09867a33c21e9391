section KM17
variable {l : Launch} {S : am_M} {Z : sp_Z}
theorem km_askSize {k a : Nat} {V : Nat} {P : Int → am_M → Prop} (h : mr S Z) (hk : k < zn Z) (ha : 1 ≤ a ∧ a ≤ 5)
    (hV : V = if a = 1 then zw Z k + (k + (if sp_clear (zT Z) k = true then 100 else 0)) else if a = 2 then zw Z k else if a = 3 then z_load Z k else if a = 4 then 2 * z_load Z k else zw Z k + (if ((zT Z).2.2 k).isNone = true then sp_below (zT Z) k else 0))
    (hP : ∀ S', mr S' (z_bes Z (z_sizeT a)) → P (V : Nat) S') : kX3_askSize l [am_R 0, am_I k, am_I a] S (am_qi P) := by
  have h6 := h.n6
  have hl := z_load_r h hk
  obtain ⟨w1, w2, w3⟩ := h.wt hk
  have ww : ∀ S' Z', mr S' Z' → zn Z' = zn Z → zw Z' = zw Z → (S'.2 2 (k : Int).toNat).toInt = zw Z k := fun S' Z' h' en ew => by
    have := (h'.wt (show k < zn Z' by omega)).1
    rw [ew] at this
    exact this
  refine bX3_askSize _ (by first | exact am_rN (by omega) | exact ⟨by omega, by omega⟩ | assumption) _ (by first | exact am_rN (by omega) | exact ⟨by omega, by omega⟩ | assumption) (km_isOf (b := 3) ha.2 (by decide) ⟨fun h1 => ⟨fun e1 => ⟨fun z => absurd e1 z, fun _ => km_began (b := 11) h (by decide) (fun S1 m1 => km_began (b := 10) m1 (by decide) (fun S2 m2 => ⟨by omega, fun z => absurd e1 z, fun _ => ?_⟩))⟩, fun e1 => ⟨fun e5 => km_began (b := 10) h (by decide) (fun S1 m1 => ⟨by omega, fun _ => ⟨fun _ => ?_, fun z => absurd z e5⟩, fun z => absurd z e1⟩), fun e5 => ⟨fun _ => km_began (b := 14) h (by decide) (fun S1 m1 => km_began (b := 10) m1 (by decide) (fun S2 m2 => ⟨by omega, fun _ => ⟨fun z => absurd e5 z, fun _ => ?_⟩, fun z => absurd z e1⟩)), fun z => absurd z e1⟩⟩⟩, fun h1 => ?_⟩)
  · have e : a = 1 := by omega
    subst e
    rw [if_pos rfl] at hV
    have := ww _ _ m2 rfl rfl
    refine km_markOf (V := k + (if sp_clear (zT Z) k = true then 100 else 0)) (Z := z_be (z_be Z 11) 10) m2 hk (by decide) rfl (fun S3 m3 => ?_)
    have hP := hP S3 m3
    rw [this, show ((zw Z k : Int) + (k + (if sp_clear (zT Z) k = true then 100 else 0) : Nat)) = ((V : Nat) : Int) by rw [hV]; omega]
    refine am_qi_mk (am_rN ?_) hP
    rw [hV]
    split <;> omega
  · have h1' := of_decide_eq_false h1
    have e : a = 2 := by omega
    subst e
    rw [if_neg (by decide), if_pos rfl] at hV
    have := ww _ _ m1 rfl rfl
    rw [this]
    rw [hV] at hP
    exact am_qi_mk (am_rN (by omega)) (hP S1 m1)
  · have e : a = 5 := by omega
    subst e
    rw [if_neg (by decide), if_neg (by decide), if_neg (by decide), if_neg (by decide)] at hV
    have e2 := ww _ _ m2 rfl rfl
    rw [e2]
    have hP := hP S2 m2
    refine km_box (t := 0) m2.t0 (by omega) ⟨fun hx => ?_, fun hx => ?_⟩
    · obtain ⟨x, hx⟩ := sp_ob_ge (o := (zT Z).2.2 k) (by have hx : 0 ≤ sp_ob ((zT Z).2.2 k) := hx; omega)
      rw [hx, if_neg (show ¬ (some x).isNone = true by simp)] at hV
      rw [hV] at hP
      exact am_qi_mk (am_rN (by omega)) hP
    · have hx : (zT Z).2.2 k = none := sp_ob_lt.mp (by have hx : ¬ 0 ≤ sp_ob ((zT Z).2.2 k) := hx; omega)
      have hb := h.t0.on hk hx
      rw [hx, if_pos (show (none : Option Nat).isNone = true from rfl)] at hV
      rw [hV] at hP
      refine km_below (t := 0) m2.t0 hk hx ?_
      show am_qi P (some (am_I ((zw Z k : Int) + sp_below (zT Z) k))) S2
      rw [show ((zw Z k : Int) + sp_below (zT Z) k) = ((zw Z k + sp_below (zT Z) k : Nat) : Int) by omega]
      exact am_qi_mk (am_rN (by omega)) hP
  · have h1 := of_decide_eq_true h1
    have e : a = 3 ∨ a = 4 := by omega
    refine km_boxSize h hk e (fun S1 m1 => ?_)
    rcases e with e | e
    · subst e
      rw [if_neg (by decide), if_neg (by decide), if_pos rfl] at hV
      rw [if_neg (by decide)]
      subst hV
      exact am_qi_mk (am_rN (by omega)) (hP S1 m1)
    · subst e
      rw [if_neg (by decide), if_neg (by decide), if_neg (by decide), if_pos rfl] at hV
      rw [if_pos rfl]
      subst hV
      exact am_qi_mk (am_rN (by omega)) (hP S1 m1)
theorem z_sizeV_eq (Z : sp_Z) (k : Nat) : z_sizeV Z k = if z_kind Z k = 1 then zw Z k + (k + (if sp_clear (zT Z) k = true then 100 else 0)) else if z_kind Z k = 2 then zw Z k else if z_kind Z k = 3 then z_load Z k else if z_kind Z k = 4 then 2 * z_load Z k else zw Z k + (if ((zT Z).2.2 k).isNone = true then sp_below (zT Z) k else 0) := by
  have h := z_kind_le Z k
  unfold z_sizeV
  generalize z_kind Z k = a at *
  have : a = 1 ∨ a = 2 ∨ a = 3 ∨ a = 4 ∨ a = 5 := by omega
  rcases this with rfl | rfl | rfl | rfl | rfl <;> rfl
theorem z_markV_eq (Z : sp_Z) (k : Nat) : z_markV Z k = if z_kind Z k = 1 then k + (if sp_clear (zT Z) k = true then 100 else 0) else if z_kind Z k = 2 then k + 1000 else if z_kind Z k = 4 then k + 2 * z_load Z k else k := by
  have h := z_kind_le Z k
  unfold z_markV
  generalize z_kind Z k = a at *
  have : a = 1 ∨ a = 2 ∨ a = 3 ∨ a = 4 ∨ a = 5 := by omega
  rcases this with rfl | rfl | rfl | rfl | rfl <;> rfl
theorem mr.trail0 (h : mr S Z) : mr (am_sv S 16 0) (z_Y Z (0, fun _ => 0)) := by
  obtain ⟨z, za, zb, zc, zd, ze, zf, zg, zj, zy⟩ := h
  refine ⟨⟨z.1, z.2.1, z.2.2.1, z.2.2.2.1, z.2.2.2.2.1, z.2.2.2.2.2.1, z.2.2.2.2.2.2.1, z.2.2.2.2.2.2.2.1, ⟨Nat.zero_le _, fun i hi => absurd hi (Nat.not_lt_zero _)⟩⟩, za, zb, zc, zd, ze, zf, zg, zj, ⟨?_, fun i hi => absurd hi (Nat.not_lt_zero _)⟩⟩
  show (va_up S.1 16 (Int32.ofInt 0) 16).toInt = (0 : Nat)
  rw [up_at]
  rfl
theorem z_vals_r (h : mr S Z) {k : Nat} (hk : k < zn Z) : z_sizeV Z k ≤ 2000 ∧ z_markV Z k ≤ 2000 := by
  have h6 := h.n6
  have hl := z_load_r h hk
  have w3 := (h.wt hk).2.2
  have hb : (if ((zT Z).2.2 k).isNone = true then sp_below (zT Z) k else 0) ≤ 6 := by
    split
    · rename_i q
      have := h.t0.on hk (Option.isNone_iff_eq_none.mp q)
      omega
    · decide
  rw [z_sizeV_eq, z_markV_eq]
  have hc : (if sp_clear (zT Z) k = true then 100 else 0) ≤ 100 := by split <;> decide
  constructor
  · split
    · omega
    · split
      · omega
      · split
        · omega
        · split <;> omega
  · split
    · omega
    · split
      · omega
      · split <;> omega
theorem km_ask {k w : Int} {P : Int → am_M → Prop} (h : mr S Z) (hk : am_r k) (hw : am_r w) (hP : ∀ S', mr S' (zo_ask Z k w).2 → P (zo_ask Z k w).1 S') : kX3_ask l [am_R 0, am_I k, am_I w] S (am_qi P) := by
  have h6 := h.n6
  unfold zo_ask at hP
  refine bX3_ask _ (by first | exact am_rN (by omega) | exact ⟨by omega, by omega⟩ | assumption) _ (by first | exact am_rN (by omega) | exact ⟨by omega, by omega⟩ | assumption) (km_isThing h.th hk ⟨fun h1 => ?_, fun h1 => km_in ⟨fun h2 => ?_, fun h2 => ?_⟩⟩)
  · have h1 := of_decide_eq_false h1
    rw [if_neg (by omega)] at hP
    exact am_qi_mk ⟨by decide, by decide⟩ (hP _ h.th)
  · have h1 := of_decide_eq_true h1
    have h2 := of_decide_eq_true h2
    rw [if_pos ⟨h1, h2⟩] at hP
    obtain ⟨k, rfl⟩ : ∃ o : Nat, k = o := ⟨k.toNat, by omega⟩
    rw [Int.toNat_natCast] at hP
    have hkn : k < zn Z := by omega
    have h0 := h.th.trail0
    have hk5 := z_kind_le Z k
    obtain ⟨r1, r2⟩ := z_vals_r h hkn
    refine ⟨fun e => km_kindOf h0 hkn (km_markOf (V := z_markV Z k) h0 hkn hk5 (z_markV_eq Z k) (fun S' m' => ?_)), fun e => km_kindOf h0 hkn (km_askSize (V := z_sizeV Z k) h0 hkn hk5 (z_sizeV_eq Z k) (fun S' m' => ?_))⟩
    · rw [if_neg e] at hP
      exact am_qi_mk (am_rN (by omega)) (hP S' m')
    · rw [if_pos e] at hP
      exact am_qi_mk (am_rN (by omega)) (hP S' m')
  · have h2 := of_decide_eq_false h2
    rw [if_neg (by omega)] at hP
    exact am_qi_mk ⟨by decide, by decide⟩ (hP _ h.th)
theorem km_trace {i : Int} {P : Int → am_M → Prop} (h : mr S Z) (hi : am_r i) (hP : ∀ S', mr S' (zo_trace Z i).2 → P (zo_trace Z i).1 S') : kX3_trace l [am_R 0, am_I i] S (am_qi P) := by
  have eY : (S.1 16).toInt = zY Z := h.2.2.2.2.2.2.2.2.2.1
  have Y16 := h.1.2.2.2.2.2.2.2.2.1
  unfold zo_trace at hP
  refine bX3_trace _ (by first | exact am_rN (by omega) | exact ⟨by omega, by omega⟩ | assumption) ⟨by rw [eY]; exact ⟨by omega, by omega⟩, km_in ⟨fun h1 => ?_, fun h1 => ⟨?_, ?_⟩⟩ (hh := by rw [eY]; exact ⟨by omega, by omega⟩)⟩
  · have h1 := of_decide_eq_false h1
    rw [if_neg (by omega)] at hP
    exact am_qi_mk ⟨by decide, by decide⟩ (hP _ h.th)
  · have h1 := of_decide_eq_true h1
    omega
  · have h1 := of_decide_eq_true h1
    rw [if_pos (by omega)] at hP
    obtain ⟨i, rfl⟩ : ∃ o : Nat, i = o := ⟨i.toNat, by omega⟩
    rw [Int.toNat_natCast] at hP
    have e := h.2.2.2.2.2.2.2.2.2.2 i (by omega)
    have e2 := h.1.2.2.2.2.2.2.2.2.2 i (by omega)
    show am_qi P (some (am_I (S.2 16 (i : Int).toNat).toInt)) _
    rw [Int.toNat_natCast, e]
    exact am_qi_mk (am_rN (by omega)) (hP _ h.th)
theorem km_status {P : Int → am_M → Prop} (h : mr S Z) (hP : ∀ S', mr S' (zo_status Z).2 → P (zo_status Z).1 S') : kX3_status l [am_R 0] S (am_qi P) := by
  have e : (S.1 1).toInt = zSt Z := h.2.2.2.2.2.2.2.2.1.2
  have e2 := h.1.2.2.2.2.2.2.2.1.2
  refine bX3_status ?_
  rw [e]
  exact am_qi_mk (am_rN (by omega)) (hP _ h.th)
theorem km_fault {P : Int → am_M → Prop} (h : mr S Z) (hP : ∀ S', mr S' (zo_fault Z).2 → P (zo_fault Z).1 S') : kX3_fault l [am_R 0] S (am_qi P) := by
  have e : (S.1 8).toInt = zF Z := h.2.2.2.2.2.2.2.2.1.1
  have e2 := h.1.2.2.2.2.2.2.2.1.1
  refine bX3_fault ?_
  rw [e]
  exact am_qi_mk (am_rN (by omega)) (hP _ h.th)
theorem km_count_58 {k : Nat} {P : Int → am_M → Prop} (h : mr S Z) (hk : k ≤ 8) (hP : P (sp_cnt (fun k => (zSh Z k).isSome) 8 : Nat) S) : VX3_count l (am_qi P) 58 [(0, am_R 0), (2, am_I (sp_cnt (fun k => (zSh Z k).isSome) k : Nat)), (3, am_I k)] [] S := by
  have hle := sp_cnt_le (fun k => (zSh Z k).isSome) k
  generalize hq : 8 - k = q
  induction q generalizing k with
  | zero =>
    have e : k = 8 := by omega
    subst e
    exact bX3_count_58 _ (by first | exact am_rN (by omega) | exact ⟨by omega, by omega⟩ | assumption) _ (by first | exact am_rN (by omega) | exact ⟨by omega, by omega⟩ | assumption) ⟨fun _ => am_qi_mk (am_rN (by omega)) hP, fun z => absurd z (by omega)⟩
  | succ q ih =>
    have nx := ih (k := k + 1) (by omega) (sp_cnt_le _ _) (by omega)
    rw [sp_cnt] at nx
    obtain ⟨g1, g2⟩ := h.lane (i := k) (by omega)
    refine bX3_count_58 _ (by first | exact am_rN (by omega) | exact ⟨by omega, by omega⟩ | assumption) _ (by first | exact am_rN (by omega) | exact ⟨by omega, by omega⟩ | assumption) ⟨fun z => absurd z (by omega), fun _ => ⟨by omega, ?_⟩⟩
    rw [Int.toNat_natCast]
    cases hx : zSh Z k with
    | none =>
      have g1 := g1 hx
      rw [hx] at nx
      exact ⟨fun _ => nx, fun z => absurd (show (S.2 9 k).toInt < 0 by omega) z⟩
    | some x =>
      obtain ⟨g3, _⟩ := g2 x hx
      rw [hx] at nx
      exact ⟨fun z => absurd z (by omega), fun _ => nx⟩
theorem km_count_114 {w k : Nat} {p : Nat → Bool} {P : Int → am_M → Prop} (h : mr S Z) (hk : k ≤ zn Z) (hp : w = 5 ∧ p = (fun k => decide (z_kind Z k = 4)) ∨ w = 6 ∧ p = (fun k => sp_clear (zT Z) k)) (hP : P (sp_cnt p (zn Z) : Nat) S) : VX3_count l (am_qi P) 114 [(0, am_R 0), (1, am_I w), (2, am_I (sp_cnt p k : Nat)), (3, am_I k)] [] S := by
  have h6 := h.n6
  have en := h.en
  have hle := sp_cnt_le p k
  generalize hq : zn Z - k = q
  induction q generalizing k with
  | zero =>
    have e : k = zn Z := by omega
    subst e
    exact bX3_count_114 _ (by first | exact am_rN (by omega) | exact ⟨by omega, by omega⟩ | assumption) _ (by first | exact am_rN (by omega) | exact ⟨by omega, by omega⟩ | assumption) _ (by first | exact am_rN (by omega) | exact ⟨by omega, by omega⟩ | assumption) ⟨fun _ => am_qi_mk (am_rN (by omega)) hP, fun z => absurd z (by omega)⟩
  | succ q ih =>
    have nx := ih (k := k + 1) (by omega) (sp_cnt_le _ _) (by omega)
    rw [sp_cnt] at nx
    refine bX3_count_114 _ (by first | exact am_rN (by omega) | exact ⟨by omega, by omega⟩ | assumption) _ (by first | exact am_rN (by omega) | exact ⟨by omega, by omega⟩ | assumption) _ (by first | exact am_rN (by omega) | exact ⟨by omega, by omega⟩ | assumption) ⟨fun z => absurd z (by omega), fun _ => ⟨fun e => km_isClear (t := 0) h.t0 (by omega) ⟨fun hc => ?_, fun hc => ?_⟩, fun e => km_kindOf h (by omega) ⟨fun hc => ?_, fun hc => ?_⟩⟩⟩
    · have ep : p k = false := by
        rcases hp with hp | hp
        · omega
        · rw [hp.2]; exact hc
      rw [ep] at nx
      exact nx
    · have ep : p k = true := by
        rcases hp with hp | hp
        · omega
        · rw [hp.2]; exact hc
      rw [ep] at nx
      exact nx
    · have ep : p k = false := by
        rcases hp with hp | hp
        · rw [hp.2]; exact decide_eq_false (by omega)
        · omega
      rw [ep] at nx
      exact nx
    · have ep : p k = true := by
        rcases hp with hp | hp
        · rw [hp.2]; exact decide_eq_true (by omega)
        · omega
      rw [ep] at nx
      exact nx
theorem km_count {w : Int} {P : Int → am_M → Prop} (h : mr S Z) (hw : am_r w) (hP : ∀ S', mr S' (zo_count Z w).2 → P (zo_count Z w).1 S') : kX3_count l [am_R 0, am_I w] S (am_qi P) := by
  have h6 := h.n6
  have K8 := h.K8
  have L8 := h.L8
  have N16 := h.1.2.2.2.2.2.1.1
  have P3 := h.1.2.2.2.2.2.2.1.1
  have eN : (S.1 5).toInt = zN Z := h.2.2.2.2.2.2.1.1
  have eP : (S.1 7).toInt = zP Z := h.2.2.2.2.2.2.2.1.1
  unfold zo_count at hP
  have v : ∀ j : Nat, j ≤ 7 → w = j → P (zo_countV Z j : Nat) (am_sv S 0 0) := by
    intro j hj e
    rw [e, if_pos (by omega), Int.toNat_natCast] at hP
    exact hP _ h.th
  refine bX3_count _ (by first | exact am_rN (by omega) | exact ⟨by omega, by omega⟩ | assumption) ⟨fun e => km_count_58 (k := 0) h.th (by decide) (v 0 (by decide) e), fun e => ?_, fun e => ?_, fun e => ?_, fun e => ?_, fun e => ?_, fun e => ?_, fun e => ?_, fun e => ?_⟩
  · rw [h.en]
    exact am_qi_mk (am_rN (by omega)) (v 1 (by decide) e)
  · rw [h.eK]
    exact am_qi_mk (am_rN (by omega)) (v 2 (by decide) e)
  · have hst : z_stand Z < 256 := Nat.lt_of_lt_of_le (sp_set_lt _ _) (show 2 ^ zL Z ≤ 2 ^ 8 from Nat.pow_le_pow_right (by decide) L8)
    have := sp_bits_le (z_stand Z) 8
    exact km_standing h.th (km_bits hst (am_qi_mk (am_rN (by omega)) (v 3 (by decide) e)))
  · rw [eN]
    exact am_qi_mk (am_rN (by omega)) (v 4 (by decide) e)
  · rw [e]
    exact km_count_114 (w := 5) (k := 0) h.th (Nat.zero_le _) (Or.inl ⟨rfl, rfl⟩) (v 5 (by decide) e)
  · rw [e]
    exact km_count_114 (w := 6) (k := 0) h.th (Nat.zero_le _) (Or.inr ⟨rfl, rfl⟩) (v 6 (by decide) e)
  · rw [eP]
    exact am_qi_mk (am_rN (by omega)) (v 7 (by decide) e)
  · rw [if_neg (by omega)] at hP
    exact am_qi_mk ⟨by decide, by decide⟩ (hP _ h.th)
end KM17
