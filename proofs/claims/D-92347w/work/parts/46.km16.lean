def z_isShut (Z : sp_Z) (k : Nat) : Bool := ((zT Z).1 ((zT Z).2.1 k))[sp_below (zT Z) k + 1]?.map (zs Z) == some 3
def z_kind (Z : sp_Z) (k : Nat) : Nat := if zs Z k = 2 then (if z_isShut Z k = true then 4 else 3) else if zs Z k = 0 then 1 else if zs Z k = 1 then 2 else 5
def z_isOf (a b : Nat) : Bool := decide (b = 0 ∨ a = b ∨ b = 3 ∧ a = 4)
def zo_kind (Z : sp_Z) (k : Int) : Int × sp_Z := if 0 ≤ k ∧ k < zn Z then ((z_kind Z k.toNat : Nat), Z) else (-1000001, Z)
def zo_as (Z : sp_Z) (k b : Int) : Int × sp_Z := if (0 ≤ k ∧ k < zn Z) ∧ 0 ≤ b ∧ b ≤ 5 then if z_isOf (z_kind Z k.toNat) b.toNat = true then ((zw Z k.toNat : Nat), z_St Z 0) else z_bad Z 3 else (-1000001, Z)
def z_be (Z : sp_Z) (b : Nat) : sp_Z := z_Y Z (if zY Z < 16 then (zY Z + 1, va_up (zYf Z) (zY Z) b) else (zY Z, zYf Z))
def z_bes (Z : sp_Z) (l : List Nat) : sp_Z := l.foldl z_be Z
def z_load (Z : sp_Z) (k : Nat) : Nat := zw Z k + match sp_inside (zn Z) (zT Z) k with
  | none => 0
  | some x => zw Z x
def z_sizeV (Z : sp_Z) (k : Nat) : Nat := match z_kind Z k with
  | 1 => zw Z k + (k + if sp_clear (zT Z) k = true then 100 else 0)
  | 2 => zw Z k
  | 3 => z_load Z k
  | 4 => 2 * z_load Z k
  | _ => zw Z k + if ((zT Z).2.2 k).isNone = true then sp_below (zT Z) k else 0
def z_sizeT (a : Nat) : List Nat := match a with
  | 1 => [11, 10, 21, 20]
  | 2 => [10]
  | 3 => [12, 10]
  | 4 => [13, 12, 10]
  | _ => [14, 10]
def z_markV (Z : sp_Z) (k : Nat) : Nat := match z_kind Z k with
  | 1 => k + if sp_clear (zT Z) k = true then 100 else 0
  | 2 => k + 1000
  | 4 => k + 2 * z_load Z k
  | _ => k
def z_markT (a : Nat) : List Nat := match a with
  | 1 => [21, 20]
  | 2 => [23, 20]
  | 4 => [22, 20, 13, 12, 10]
  | _ => [20]
def zo_ask (Z : sp_Z) (k w : Int) : Int × sp_Z := if (0 ≤ k ∧ k < zn Z) ∧ 0 ≤ w ∧ w ≤ 1 then if w = 0 then ((z_sizeV Z k.toNat : Nat), z_bes (z_Y Z (0, fun _ => 0)) (z_sizeT (z_kind Z k.toNat))) else ((z_markV Z k.toNat : Nat), z_bes (z_Y Z (0, fun _ => 0)) (z_markT (z_kind Z k.toNat))) else (-1000001, Z)
def zo_trace (Z : sp_Z) (i : Int) : Int × sp_Z := if 0 ≤ i ∧ i < zY Z then ((zYf Z i.toNat : Nat), Z) else (-1000000, Z)
def zo_countV (Z : sp_Z) (w : Nat) : Nat := match w with
  | 0 => sp_cnt (fun k => (zSh Z k).isSome) 8
  | 1 => zn Z
  | 2 => zK Z
  | 3 => sp_bits (z_stand Z) 8
  | 4 => zN Z
  | 5 => sp_cnt (fun k => decide (z_kind Z k = 4)) (zn Z)
  | 6 => sp_cnt (fun k => sp_clear (zT Z) k) (zn Z)
  | _ => zP Z
def zo_count (Z : sp_Z) (w : Int) : Int × sp_Z := if 0 ≤ w ∧ w ≤ 7 then ((zo_countV Z w.toNat : Nat), Z) else (-1000001, Z)
def zo_status (Z : sp_Z) : Int × sp_Z := ((zSt Z : Nat), Z)
def zo_fault (Z : sp_Z) : Int × sp_Z := ((zF Z : Nat), Z)
section KM16
variable {l : Launch} {S : am_M} {Z : sp_Z}
theorem z_kind_le (Z : sp_Z) (k : Nat) : 1 ≤ z_kind Z k ∧ z_kind Z k ≤ 5 := by
  unfold z_kind
  split
  · split <;> decide
  · split
    · decide
    · split <;> decide
theorem km_kindOf {k : Nat} {P : Int → am_M → Prop} (h : mr S Z) (hk : k < zn Z) (hP : P (z_kind Z k : Nat) S) : kX3_kindOf l [am_R 0, am_I k] S (am_qi P) := by
  have h6 := h.n6
  have m := h.t0
  have es : (S.2 1 (k : Int).toNat).toInt = zs Z k := m.sort hk
  have s4 := (h.1.1.2 k hk).1
  unfold z_kind at hP
  refine bX3_kindOf _ (by first | exact am_rN (by omega) | exact ⟨by omega, by omega⟩ | assumption) ⟨⟨by omega, by omega⟩, ?_⟩
  rw [es]
  refine ⟨fun e => ?_, fun e => ⟨fun e0 => ⟨fun e1 => ?_, fun e1 => ?_⟩, fun e0 => ?_⟩⟩
  · have hb : (zT Z).2.2 k = none := by
      cases q : (zT Z).2.2 k with
      | none => rfl
      | some x => exact absurd (show zs Z k = 2 by omega) (m.2.2.2.2.2.2.1 k x q).2.2.2.2
    obtain ⟨ec, b3, b4, b5, b6⟩ := m.on hk hb
    rw [if_pos (by omega)] at hP
    unfold z_isShut at hP
    refine km_cellOn m hk hb (km_below m hk hb (km_sizeOf (t := 0) (by decide) b3 m.2.2.1 ⟨⟨by omega, by omega⟩, fun h1 => ?_, fun h1 => ?_⟩))
    · rw [List.getElem?_eq_none (by omega)] at hP
      exact am_qi_mk ⟨by decide, by decide⟩ hP
    · rw [show (sp_below (zT Z) k : Int) + 1 = ((sp_below (zT Z) k + 1 : Nat) : Int) by omega]
      obtain ⟨x, hx, hxn, -⟩ := m.tb b3 (i := sp_below (zT Z) k + 1) (by omega)
      refine km_thingAt (t := 0) (by decide) b3 (by omega) m.2.2.1 ?_
      rw [hx] at hP ⊢
      have ex : (S.2 1 (sp_ob (some x)).toNat).toInt = zs Z x := m.sort hxn
      refine ⟨⟨by simp only [sp_ob]; omega, by simp only [sp_ob]; omega⟩, fun h2 => ?_, fun h2 => ?_⟩
      · rw [ex] at h2
        rw [if_neg (by simp; omega)] at hP
        exact am_qi_mk ⟨by decide, by decide⟩ hP
      · rw [ex] at h2
        rw [if_pos (by simp; omega)] at hP
        exact am_qi_mk ⟨by decide, by decide⟩ hP
  · rw [if_neg (by omega), if_neg (by omega), if_neg (by omega)] at hP
    exact am_qi_mk ⟨by decide, by decide⟩ hP
  · rw [if_neg (by omega), if_neg (by omega), if_pos (by omega)] at hP
    exact am_qi_mk ⟨by decide, by decide⟩ hP
  · rw [if_neg (by omega), if_pos (by omega)] at hP
    exact am_qi_mk ⟨by decide, by decide⟩ hP
theorem km_isOf {a b : Nat} {P : Bool → am_M → Prop} (ha : a ≤ 5) (hb : b ≤ 5) (hP : P (z_isOf a b) S) : kX3_isOf l [am_I a, am_I b] S (am_qz P) := by
  unfold z_isOf at hP
  refine bX3_isOf _ (by first | exact am_rN (by omega) | exact ⟨by omega, by omega⟩ | assumption) _ (by first | exact am_rN (by omega) | exact ⟨by omega, by omega⟩ | assumption) ⟨fun e => ?_, fun e => ⟨fun e1 => ?_, fun e1 => ⟨fun e2 => ?_, fun e2 => ⟨fun e3 => ?_, fun e3 => ?_⟩⟩⟩⟩
  · rw [decide_eq_true (by omega)] at hP
    exact am_qz_mk hP
  · rw [decide_eq_true (by omega)] at hP
    exact am_qz_mk hP
  · rw [decide_eq_false (by omega)] at hP
    exact am_qz_mk hP
  · rw [decide_eq_false (by omega)] at hP
    exact am_qz_mk hP
  · rw [decide_eq_true (by omega)] at hP
    exact am_qz_mk hP
theorem km_kind {k : Int} {P : Int → am_M → Prop} (h : mr S Z) (hk : am_r k) (hP : ∀ S', mr S' (zo_kind Z k).2 → P (zo_kind Z k).1 S') : kX3_kind l [am_R 0, am_I k] S (am_qi P) := by
  unfold zo_kind at hP
  refine bX3_kind _ (by first | exact am_rN (by omega) | exact ⟨by omega, by omega⟩ | assumption) (km_isThing h.th hk ⟨fun h1 => ?_, fun h1 => ?_⟩)
  · rw [if_neg (of_decide_eq_false h1)] at hP
    exact am_qi_mk ⟨by decide, by decide⟩ (hP _ h.th)
  · have h1 := of_decide_eq_true h1
    rw [if_pos h1] at hP
    obtain ⟨k, rfl⟩ : ∃ o : Nat, k = o := ⟨k.toNat, by omega⟩
    rw [Int.toNat_natCast] at hP
    have := (z_kind_le Z k).2
    exact km_kindOf h.th (by omega) (am_qi_mk (am_rN (by omega)) (hP _ h.th))
theorem km_as {k b : Int} {P : Int → am_M → Prop} (h : mr S Z) (hk : am_r k) (hb : am_r b) (hP : ∀ S', mr S' (zo_as Z k b).2 → P (zo_as Z k b).1 S') : kX3_as l [am_R 0, am_I k, am_I b] S (am_qi P) := by
  have h6 := h.n6
  unfold zo_as at hP
  refine bX3_as _ (by first | exact am_rN (by omega) | exact ⟨by omega, by omega⟩ | assumption) _ (by first | exact am_rN (by omega) | exact ⟨by omega, by omega⟩ | assumption) (km_isThing h.th hk ⟨fun h1 => ?_, fun h1 => km_in ⟨fun h2 => ?_, fun h2 => ?_⟩⟩)
  · have h1 := of_decide_eq_false h1
    rw [if_neg (by omega)] at hP
    exact am_qi_mk ⟨by decide, by decide⟩ (hP _ h.th)
  · have h1 := of_decide_eq_true h1
    have h2 := of_decide_eq_true h2
    rw [if_pos ⟨h1, h2⟩] at hP
    obtain ⟨k, rfl⟩ : ∃ o : Nat, k = o := ⟨k.toNat, by omega⟩
    obtain ⟨b, rfl⟩ : ∃ o : Nat, b = o := ⟨b.toNat, by omega⟩
    simp only [Int.toNat_natCast] at hP
    have hk5 := (z_kind_le Z k).2
    have h0 : mr (am_sv (am_sv S 0 0) 1 0) (z_St Z 0) := h.th.stat (k := 0) (by decide)
    refine km_kindOf (Z := z_St Z 0) h0 (show k < zn Z by omega) (km_isOf hk5 (by omega) ⟨fun h3 => ?_, fun h3 => ⟨⟨by omega, by omega⟩, ?_⟩⟩)
    · have h3 : z_isOf (z_kind Z k) b = false := h3
      rw [h3, if_neg (by decide)] at hP
      exact km_finding' (Z := Z) (k := 3) h0 (by decide) (fun S' m' => am_qi_mk (z_bad_r (by decide)) (hP S' m'))
    · have h3 : z_isOf (z_kind Z k) b = true := h3
      rw [h3, if_pos rfl] at hP
      obtain ⟨w1, w2, w3⟩ := h.wt (k := k) (by omega)
      show am_qi P (some (am_I (S.2 2 (k : Int).toNat).toInt)) _
      rw [w1]
      exact am_qi_mk (am_rN (by omega)) (hP _ h0)
  · have h2 := of_decide_eq_false h2
    rw [if_neg (by omega)] at hP
    exact am_qi_mk ⟨by decide, by decide⟩ (hP _ h.th)
theorem km_began {b : Nat} {P : am_M → Prop} (h : mr S Z) (hb : b < 32) (hP : ∀ S', mr S' (z_be Z b) → P S') : kX3_began l [am_R 0, am_I b] S (am_qv P) := by
  have eY : (S.1 16).toInt = zY Z := h.2.2.2.2.2.2.2.2.2.1
  have Y16 := h.1.2.2.2.2.2.2.2.2.1
  unfold z_be at hP
  refine bX3_began _ (by first | exact am_rN (by omega) | exact ⟨by omega, by omega⟩ | assumption) ⟨fun h1 => ?_, fun h1 => ⟨by omega, ?_⟩⟩
  · rw [if_neg (by omega)] at hP
    exact am_qv_mk (hP S h)
  · rw [if_pos (by omega)] at hP
    rw [eY, show (zY Z : Int) + 1 = ((zY Z + 1 : Nat) : Int) by omega]
    refine am_qv_mk (hP _ ?_)
    obtain ⟨z, za, zb, zc, zd, ze, zf, zg, zj, zy⟩ := h
    refine ⟨⟨z.1, z.2.1, z.2.2.1, z.2.2.2.1, z.2.2.2.2.1, z.2.2.2.2.2.1, z.2.2.2.2.2.2.1, z.2.2.2.2.2.2.2.1, ⟨by show zY Z + 1 ≤ 16; omega, fun i hi => ?_⟩⟩, za, zb, zc, zd, ze, zf, zg, zj, ⟨?_, fun i hi => ?_⟩⟩
    · show va_up (zYf Z) (zY Z) b i < 32
      have hi : i < zY Z + 1 := hi
      rw [up_if]
      split
      · exact hb
      · exact z.2.2.2.2.2.2.2.2.2 i (by omega)
    · show (va_up S.1 16 (Int32.ofInt ((zY Z + 1 : Nat) : Int)) 16).toInt = (zY Z + 1 : Nat)
      rw [up_at]
      exact am_ti (am_rN (by omega))
    · show (va_up (S.2 16) (zY Z : Int).toNat (Int32.ofInt (b : Int)) i).toInt = (va_up (zYf Z) (zY Z) b i : Nat)
      have hi : i < zY Z + 1 := hi
      rw [Int.toNat_natCast, up_if, up_if]
      split
      · exact am_ti (am_rN (by omega))
      · exact zy.2 i (by omega)
theorem z_be_n (Z : sp_Z) (b : Nat) : zn (z_be Z b) = zn Z ∧ zs (z_be Z b) = zs Z ∧ zw (z_be Z b) = zw Z ∧ zT (z_be Z b) = zT Z := ⟨rfl, rfl, rfl, rfl⟩
theorem z_load_r (h : mr S Z) {k : Nat} (hk : k < zn Z) : z_load Z k ≤ 40 := by
  have h1 := (h.wt hk).2.2
  unfold z_load
  cases q : sp_inside (zn Z) (zT Z) k with
  | none =>
    show zw Z k + 0 ≤ 40
    omega
  | some x =>
    have h2 := (h.wt (List.mem_range.mp (List.mem_of_find?_eq_some q))).2.2
    show zw Z k + zw Z x ≤ 40
    omega
theorem km_boxSize {k a : Nat} {P : Int → am_M → Prop} (h : mr S Z) (hk : k < zn Z) (ha : a = 3 ∨ a = 4) (hP : ∀ S', mr S' (z_bes Z (z_sizeT a)) → P (if a = 4 then 2 * z_load Z k else z_load Z k : Nat) S') : kX3_boxSize l [am_R 0, am_I k, am_I a] S (am_qi P) := by
  have h6 := h.n6
  have hl := z_load_r h hk
  have fin : ∀ S' Z', mr S' Z' → zn Z' = zn Z → zw Z' = zw Z → zT Z' = zT Z → (∀ S', mr S' Z' → P (if a = 4 then 2 * z_load Z k else z_load Z k : Nat) S') → kX3_insideOf l [am_R 0, am_I 0, am_I k] S' (am_qi fun r7 S6 =>
              (0 ≤ (k : Int) ∧ (k : Int) < 6) ∧
              ((0 ≤ r7) →
                (0 ≤ r7 ∧ r7 < 6) ∧
                ((¬ (a : Int) = 4) →
                  am_qi P (some (am_I ((S6.2 2 (k : Int).toNat).toInt + (S6.2 2 r7.toNat).toInt))) S6) ∧
                (((a : Int) = 4) →
                  am_qi P (some (am_I (2 * ((S6.2 2 (k : Int).toNat).toInt + (S6.2 2 r7.toNat).toInt)))) S6)) ∧
              ((¬ 0 ≤ r7) →
                ((¬ (a : Int) = 4) →
                  am_qi P (some (am_I ((S6.2 2 (k : Int).toNat).toInt + 0))) S6) ∧
                (((a : Int) = 4) →
                  am_qi P (some (am_I (2 * ((S6.2 2 (k : Int).toNat).toInt + 0)))) S6))) := by
    intro S' Z' h' en ew eT hP
    have hP := hP S' h'
    have hk' : k < zn Z' := by omega
    obtain ⟨w1, w2, w3⟩ := h'.wt hk'
    refine km_insideOf (t := 0) h'.t0 hk' ⟨by omega, fun h1 => ?_, fun h1 => ?_⟩
    · obtain ⟨x, hx⟩ := sp_ob_ge (by omega : ¬ sp_ob (sp_inside (zn Z') (zT Z') k) < 0)
      have hxn : x < zn Z' := List.mem_range.mp (List.mem_of_find?_eq_some hx)
      obtain ⟨x1, x2, x3⟩ := h'.wt hxn
      have el : z_load Z k = zw Z' k + zw Z' x := by
        unfold z_load
        rw [← en, ← eT, hx, ew]
      rw [el] at hP
      rw [hx, w1, show (S'.2 2 (sp_ob (some x)).toNat).toInt = zw Z' x from x1]
      refine ⟨⟨by simp only [sp_ob]; omega, by simp only [sp_ob]; omega⟩, fun e => ?_, fun e => ?_⟩
      · rw [if_neg (by omega)] at hP
        rw [show ((zw Z' k : Int) + zw Z' x) = ((zw Z' k + zw Z' x : Nat) : Int) by omega]
        exact am_qi_mk (am_rN (by omega)) hP
      · rw [if_pos (by omega)] at hP
        rw [show (2 * ((zw Z' k : Int) + zw Z' x)) = ((2 * (zw Z' k + zw Z' x) : Nat) : Int) by omega]
        exact am_qi_mk (am_rN (by omega)) hP
    · have hx := sp_ob_lt.mp (by omega : sp_ob (sp_inside (zn Z') (zT Z') k) < 0)
      have el : z_load Z k = zw Z' k + 0 := by
        unfold z_load
        rw [← en, ← eT, hx, ew]
      rw [el] at hP
      rw [w1]
      refine ⟨fun e => ?_, fun e => ?_⟩
      · rw [if_neg (by omega)] at hP
        rw [show ((zw Z' k : Int) + 0) = ((zw Z' k + 0 : Nat) : Int) by omega]
        exact am_qi_mk (am_rN (by omega)) hP
      · rw [if_pos (by omega)] at hP
        rw [show (2 * ((zw Z' k : Int) + 0)) = ((2 * (zw Z' k + 0) : Nat) : Int) by omega]
        exact am_qi_mk (am_rN (by omega)) hP
  refine bX3_boxSize _ (by first | exact am_rN (by omega) | exact ⟨by omega, by omega⟩ | assumption) _ (by first | exact am_rN (by omega) | exact ⟨by omega, by omega⟩ | assumption) ⟨fun e => km_began (b := 12) h (by decide) (fun S1 h1 => km_began (b := 10) h1 (by decide) (fun S2 h2 => fin S2 _ h2 rfl rfl rfl ?_)), fun e => km_began (b := 13) h (by decide) (fun S1 h1 => km_began (b := 12) h1 (by decide) (fun S2 h2 => km_began (b := 10) h2 (by decide) (fun S3 h3 => fin S3 _ h3 rfl rfl rfl ?_)))⟩
  · have ea : a = 3 := by omega
    subst ea
    exact hP
  · have ea : a = 4 := by omega
    subst ea
    exact hP
theorem z_kind_Y (Z : sp_Z) (x : Nat × (Nat → Nat)) (k : Nat) : z_kind (z_Y Z x) k = z_kind Z k := rfl
theorem km_markOf_47 {k a : Nat} {V : Nat} {P : Int → am_M → Prop} (h : mr S Z) (hk : k < zn Z) (ha : 1 ≤ a ∧ a ≤ 5)
    (hV : V = if a = 1 then k + (if sp_clear (zT Z) k = true then 100 else 0) else if a = 2 then k + 1000 else if a = 4 then k + 2 * z_load Z k else k)
    (hP : ∀ S', mr S' (if a = 4 then z_bes Z [13, 12, 10] else Z) → P (V : Nat) S') : VX3_markOf l (am_qi P) 47 [(0, am_R 0), (1, am_I k), (2, am_I a)] [] S := by
  have h6 := h.n6
  have hl := z_load_r h hk
  have hclear : a ≠ 1 → ((¬ (a : Int) = 4) → ((¬ (a : Int) = 2) → am_qi P (some (am_I (k : Int))) S) ∧ (((a : Int) = 2) → am_qi P (some (am_I ((k : Int) + 1000))) S)) ∧ (((a : Int) = 4) → kX3_boxSize l [am_R 0, am_I k, am_I a] S (am_qi fun r11 S10 => am_qi P (some (am_I ((k : Int) + r11))) S10)) := by
    intro h1
    rw [if_neg h1] at hV
    refine ⟨fun e4 => ⟨fun e2 => ?_, fun e2 => ?_⟩, fun e4 => km_boxSize h hk (Or.inr (by omega)) (fun S' h' => ?_)⟩
    · rw [if_neg (by omega)] at hP
      rw [if_neg (by omega), if_neg (by omega)] at hV
      rw [hV] at hP
      exact am_qi_mk (am_rN (by omega)) (hP S h)
    · rw [if_neg (by omega)] at hP
      rw [if_pos (by omega)] at hV
      rw [hV] at hP
      rw [show (k : Int) + 1000 = ((k + 1000 : Nat) : Int) by omega]
      exact am_qi_mk (am_rN (by omega)) (hP S h)
    · have e : a = 4 := by omega
      subst e
      rw [if_pos rfl] at hP ⊢
      rw [if_neg (by decide), if_pos rfl] at hV
      rw [hV] at hP
      rw [show (k : Int) + (2 * z_load Z k : Nat) = ((k + 2 * z_load Z k : Nat) : Int) by omega]
      exact am_qi_mk (am_rN (by omega)) (hP S' h')
  refine bX3_markOf_47 _ (by first | exact am_rN (by omega) | exact ⟨by omega, by omega⟩ | assumption) _ (by first | exact am_rN (by omega) | exact ⟨by omega, by omega⟩ | assumption) ⟨fun h1 => hclear (by omega), fun h1 => km_isClear (t := 0) h.t0 hk ⟨fun hc => ?_, fun hc => ?_⟩⟩
  · have e : a = 1 := by omega
    subst e
    rw [if_pos rfl, hc, if_neg (by decide)] at hV
    rw [if_neg (by decide), hV] at hP
    exact ⟨fun _ => ⟨fun _ => am_qi_mk (am_rN (by omega)) (hP S h), fun z => absurd z (by decide)⟩, fun z => absurd z (by decide)⟩
  · have e : a = 1 := by omega
    subst e
    rw [if_pos rfl, hc, if_pos rfl] at hV
    rw [if_neg (by decide), hV] at hP
    rw [show (k : Int) + 100 = ((k + 100 : Nat) : Int) by omega]
    exact am_qi_mk (am_rN (by omega)) (hP S h)
theorem km_markOf {k a : Nat} {V : Nat} {P : Int → am_M → Prop} (h : mr S Z) (hk : k < zn Z) (ha : 1 ≤ a ∧ a ≤ 5)
    (hV : V = if a = 1 then k + (if sp_clear (zT Z) k = true then 100 else 0) else if a = 2 then k + 1000 else if a = 4 then k + 2 * z_load Z k else k)
    (hP : ∀ S', mr S' (z_bes Z (z_markT a)) → P (V : Nat) S') : kX3_markOf l [am_R 0, am_I k, am_I a] S (am_qi P) := by
  have h6 := h.n6
  have nx : ∀ S' Z', mr S' Z' → zn Z' = zn Z → zw Z' = zw Z → zT Z' = zT Z → (∀ S'', mr S'' (if a = 4 then z_bes (z_be Z' 20) [13, 12, 10] else z_be Z' 20) → P (V : Nat) S'') → VX3_markOf l (am_qi P) 41 [(0, am_R 0), (1, am_I k), (2, am_I a)] [] S' := by
    intro S' Z' h' en ew eT hp
    refine bX3_markOf_41 _ (by first | exact am_rN (by omega) | exact ⟨by omega, by omega⟩ | assumption) _ (by first | exact am_rN (by omega) | exact ⟨by omega, by omega⟩ | assumption) (km_began (b := 20) h' (by decide) (fun S1 h1 => km_markOf_47 (V := V) h1 (show k < zn Z' by omega) ha ?_ hp))
    have el : z_load (z_be Z' 20) k = z_load Z k := by
      show (zw Z' k + match sp_inside (zn Z') (zT Z') k with | none => 0 | some x => zw Z' x) = _
      rw [en, ew, eT]
      rfl
    rw [el]
    show V = if a = 1 then k + (if sp_clear (zT Z') k = true then 100 else 0) else _
    rw [eT]
    exact hV
  refine bX3_markOf _ (by first | exact am_rN (by omega) | exact ⟨by omega, by omega⟩ | assumption) _ (by first | exact am_rN (by omega) | exact ⟨by omega, by omega⟩ | assumption) ⟨fun h1 => ⟨fun z => absurd h1 z, fun _ => km_began (b := 21) h (by decide) (fun S1 h1' => nx S1 _ h1' rfl rfl rfl ?_)⟩, fun h1 => ⟨fun h4 => ⟨fun _ => ⟨fun z => absurd h4 z, fun _ => km_began (b := 22) h (by decide) (fun S1 h1' => nx S1 _ h1' rfl rfl rfl ?_)⟩, fun z => absurd z h1⟩, fun h4 => ⟨fun h2 => nx S Z h rfl rfl rfl ?_, fun h2 => ⟨fun _ => ⟨fun _ => km_began (b := 23) h (by decide) (fun S1 h1' => nx S1 _ h1' rfl rfl rfl ?_), fun z => absurd z h4⟩, fun z => absurd z h1⟩⟩⟩⟩
  · have e : a = 1 := by omega
    subst e
    exact hP
  · have e : a = 4 := by omega
    subst e
    exact hP
  · have e : a = 3 ∨ a = 5 := by omega
    rcases e with e | e
    · subst e
      exact hP
    · subst e
      exact hP
  · have e : a = 2 := by omega
    subst e
    exact hP
end KM16
