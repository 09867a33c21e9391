theorem am_wrap (z : Int) : Int32.ofInt (z + 4294967296) = Int32.ofInt z := by
  rw [Int32.ofInt_add, show Int32.ofInt 4294967296 = 0 from rfl, Int32.add_zero]
theorem am_Cas {σ : Type} {rep : am_X → σ → Heap → Prop} {l : Launch} {y : MethodName} {ws : List Cond} {rm : Room} {mc ms : Nat} {as as' : List am_W} {S : σ} {Q : Option am_W → σ → Prop} (h : ∀ ad : Nat → Nat, as.map (am_c ad) = as'.map (am_c ad)) (k : am_C rep l y ws rm mc ms as' S Q) : am_C rep l y ws rm mc ms as S Q := by
  intro G
  have K := k G
  unfold am_P at K ⊢
  rw [h]
  exact K
section KX6
variable {l : Launch} {S : ah_H} {w : Nat → Nat} {Z : sp_Z} {tr : Nat}
theorem kx_isOrder {v : Int} {P : Bool → ah_H → Prop} (hv : am_r v) (hP : P (decide (0 ≤ v ∧ v ≤ 95)) S) : kX0_isOrder l [am_I v] S (am_qz P) := bX0_isOrder _ (by first | exact am_rN (by omega) | exact ⟨by omega, by omega⟩ | assumption) (kx_isIn (am_qz_mk hP))
theorem kx_isCell {v : Int} {P : Bool → ah_H → Prop} (hv : am_r v) (hP : P (decide (0 ≤ v ∧ v ≤ 7)) S) : kX0_isCell l [am_I v] S (am_qz P) := bX0_isCell _ (by first | exact am_rN (by omega) | exact ⟨by omega, by omega⟩ | assumption) (kx_isIn (am_qz_mk hP))
theorem kx_isArm {v : Int} {P : Bool → ah_H → Prop} (hv : am_r v) (hP : P (decide (0 ≤ v ∧ v ≤ 1)) S) : kX0_isArm l [am_I v] S (am_qz P) := bX0_isArm _ (by first | exact am_rN (by omega) | exact ⟨by omega, by omega⟩ | assumption) (kx_isIn (am_qz_mk hP))
theorem kx_isSheet {v : Int} {P : Bool → ah_H → Prop} (hv : am_r v) (hP : P (decide (0 ≤ v ∧ v ≤ 7)) S) : kX0_isSheet l [am_I v] S (am_qz P) := bX0_isSheet _ (by first | exact am_rN (by omega) | exact ⟨by omega, by omega⟩ | assumption) (kx_isIn (am_qz_mk hP))
theorem kx_isSort {v : Int} {P : Bool → ah_H → Prop} (hv : am_r v) (hP : P (decide (0 ≤ v ∧ v ≤ 3)) S) : kX0_isSort l [am_I v] S (am_qz P) := bX0_isSort _ (by first | exact am_rN (by omega) | exact ⟨by omega, by omega⟩ | assumption) (kx_isIn (am_qz_mk hP))
theorem kx_isThing {v : Int} {P : Bool → ah_H → Prop} (h : xr_ S w tr Z) (hv : am_r v) (hP : P (decide (0 ≤ v ∧ v < zn Z)) S) : kX0_isThing l [am_R 32, am_I v] S (am_qz P) := by
  have h6 := h.n6
  refine bX0_isThing _ _ (by first | exact am_rN (by omega) | exact ⟨by omega, by omega⟩ | assumption) ⟨_, h.I.2, _, ⟨rfl, am_rN (by omega)⟩, ⟨by omega, by omega⟩, kx_isIn (am_qz_mk ?_)⟩
  rw [show decide (0 ≤ v ∧ v ≤ (zn Z : Int) - 1) = decide (0 ≤ v ∧ v < zn Z) by rw [decide_eq_decide]; omega]
  exact hP
theorem kx_isKept {v : Int} {P : Bool → ah_H → Prop} (h : xr_ S w tr Z) (hv : am_r v) (hP : P (decide (0 ≤ v ∧ v < zK Z)) S) : kX0_isKept l [am_R 32, am_I v] S (am_qz P) := by
  have h6 := h.K8
  refine bX0_isKept _ _ (by first | exact am_rN (by omega) | exact ⟨by omega, by omega⟩ | assumption) ⟨_, h.I.2, _, ⟨rfl, am_rN (by omega)⟩, ⟨by omega, by omega⟩, kx_isIn (am_qz_mk ?_)⟩
  rw [show decide (0 ≤ v ∧ v ≤ (zK Z : Int) - 1) = decide (0 ≤ v ∧ v < zK Z) by rw [decide_eq_decide]; omega]
  exact hP
theorem kx_isTo {v : Int} {P : Bool → ah_H → Prop} (h : xr_ S w tr Z) (hv : am_r v) (hP : P (z_isTo Z v) S) : kX0_isTo l [am_R 32, am_I v] S (am_qz P) := by
  have h6 := h.n6
  obtain ⟨v1, v2⟩ := id hv
  unfold z_isTo at hP
  obtain ⟨-, f, g, a1, a2, a3⟩ := h.A
  refine bX0_isTo _ _ (by first | exact am_rN (by omega) | exact ⟨by omega, by omega⟩ | assumption) (kx_isCell hv ⟨fun h1 => am_qz_mk ?_, fun h1 => ⟨_, h.I.2, ?_⟩⟩)
  · rw [h1] at hP
    exact hP
  · have h1' := of_decide_eq_false h1
    rw [h1, Bool.false_or] at hP
    by_cases hlow : -2147483640 ≤ v
    · refine kx_isThing h ⟨by omega, by omega⟩ ⟨fun h2 => am_qz_mk ?_, fun h2 => ⟨_, h.I.2, _, rfl, _, _, a1, ?_⟩⟩
      · have h2 := of_decide_eq_false h2
        rw [decide_eq_false (by omega)] at hP
        exact hP
      · have h2 := of_decide_eq_true h2
        have hs := (a3 (v - 8).toNat (by omega)).1
        refine ⟨⟨by omega, by omega⟩, fun h4 => am_qz_mk ?_, fun h4 => am_qz_mk ?_⟩
        · rw [hs] at h4
          rw [decide_eq_false (by omega)] at hP
          exact hP
        · rw [hs] at h4
          rw [decide_eq_true (by omega)] at hP
          exact hP
    · refine am_Cas (as' := [am_R 32, am_I (v - 8 + 4294967296)]) (fun ad => ?_) (kx_isThing h ⟨by omega, by omega⟩ ⟨fun h2 => am_qz_mk ?_, fun h2 => absurd (of_decide_eq_true h2) (by omega)⟩)
      · show [Value.ref (ad 32), Value.int (Int32.ofInt (v - 8))] = [Value.ref (ad 32), Value.int (Int32.ofInt (v - 8 + 4294967296))]
        rw [am_wrap]
      · rw [decide_eq_false (by omega)] at hP
        exact hP
theorem kx_isReached {a arm k to : Nat} {T : sp_T} {P : Bool → ah_H → Prop} (h : xr_ S w tr Z) (m : xt S.1 a (zn Z) (zs Z) T) (ha : arm < 2) (hk : k < zn Z) (hto : to < 8 + zn Z) (hP : P (z_reaches Z T arm k to) S) : kX0_isReached l [am_R 32, am_R a, am_I arm, am_I k, am_I to] S (am_qz P) := by
  have h6 := h.n6
  obtain ⟨c0, f, c1, c2⟩ := h.C
  have hR := h.1.2.2.1 arm ha
  have er : (f (arm : Int).toNat).toInt = (zR Z arm : Int) := c2 arm ha
  obtain ⟨-, -, hc, -⟩ := m.2.1.base hk
  have eb := bt_nat (x := zR Z arm) (k := sp_cell T k) (by omega) hc
  have go : ∀ (y : Nat), y < 8 → (P ((zR Z arm).testBit (sp_cell T k) && (zR Z arm).testBit y) S) →
      ((¬ am_and (am_shr (f (arm : Int).toNat).toInt (sp_cell T k : Int)) 1 = 1) → am_qz P (some (am_I (am_b false))) S) ∧
      ((am_and (am_shr (f (arm : Int).toNat).toInt (sp_cell T k : Int)) 1 = 1) →
        ((¬ am_and (am_shr (f (arm : Int).toNat).toInt (y : Int)) 1 = 1) → am_qz P (some (am_I (am_b false))) S) ∧ ((am_and (am_shr (f (arm : Int).toNat).toInt (y : Int)) 1 = 1) → am_qz P (some (am_I (am_b true))) S)) := by
    intro y hy hp
    have ey := bt_nat (x := zR Z arm) (k := y) (by omega) hy
    rw [er, eb, ey]
    cases hb : (zR Z arm).testBit (sp_cell T k) with
    | false =>
      rw [hb] at hp
      exact ⟨fun _ => am_qz_mk hp, fun z => by simp at z⟩
    | true =>
      rw [hb, Bool.true_and] at hp
      refine ⟨fun z => by simp at z, fun _ => ?_⟩
      cases hb2 : (zR Z arm).testBit y with
      | false =>
        rw [hb2] at hp
        exact ⟨fun _ => am_qz_mk hp, fun z => by simp at z⟩
      | true =>
        rw [hb2] at hp
        exact ⟨fun z => by simp at z, fun _ => am_qz_mk hp⟩
  unfold z_reaches at hP
  refine bX0_isReached _ _ _ (by first | exact am_rN (by omega) | exact ⟨by omega, by omega⟩ | assumption) _ (by first | exact am_rN (by omega) | exact ⟨by omega, by omega⟩ | assumption) _ (by first | exact am_rN (by omega) | exact ⟨by omega, by omega⟩ | assumption) ⟨fun h8 => ?_, fun h8 => ⟨_, h.I.2, _, rfl, _, _, c1, ⟨by omega, by omega⟩, _, m.hd, kx_cellOf m hk ?_⟩⟩
  · obtain ⟨x, rfl⟩ : ∃ x, to = 8 + x := ⟨to - 8, by omega⟩
    rw [if_neg (by omega), Nat.add_sub_cancel_left] at hP
    rw [show (((8 + x : Nat) : Int) - 8) = (x : Int) by omega]
    obtain ⟨-, -, hcx, -⟩ := m.2.1.base (k := x) (by omega)
    obtain ⟨g1, g2⟩ := go _ hcx hP
    exact ⟨_, m.hd, kx_cellOf m (by omega) ⟨_, h.I.2, _, rfl, _, _, c1, ⟨by omega, by omega⟩, _, m.hd, kx_cellOf m hk ⟨g1, fun hz => ⟨_, h.I.2, _, rfl, _, _, c1, ⟨by omega, by omega⟩, (g2 hz).1, (g2 hz).2⟩⟩⟩⟩
  · rw [if_pos (by omega)] at hP
    obtain ⟨g1, g2⟩ := go to (by omega) hP
    exact ⟨g1, fun hz => ⟨_, h.I.2, _, rfl, _, _, c1, ⟨by omega, by omega⟩, (g2 hz).1, (g2 hz).2⟩⟩
theorem kx_isMove {a k to : Int} {P : Bool → ah_H → Prop} (h : xr_ S w tr Z) (ha : am_r a) (hk : am_r k) (hto : am_r to) (hP : P (z_mayMove Z a k to) S) : kX0_isMove l [am_R 32, am_I a, am_I k, am_I to] S (am_qz P) := by
  unfold z_mayMove at hP
  refine bX0_isMove _ _ (by first | exact am_rN (by omega) | exact ⟨by omega, by omega⟩ | assumption) _ (by first | exact am_rN (by omega) | exact ⟨by omega, by omega⟩ | assumption) _ (by first | exact am_rN (by omega) | exact ⟨by omega, by omega⟩ | assumption) (kx_isArm ha ⟨fun h1 => am_qz_mk ?_, fun h1 => ⟨_, h.I.2, kx_isThing h hk ⟨fun h2 => am_qz_mk ?_, fun h2 => ⟨_, h.I.2, kx_isTo h hto ⟨fun h3 => am_qz_mk ?_, fun h3 => am_qz_mk ?_⟩⟩⟩⟩⟩)
  · have h1 := of_decide_eq_false h1
    rw [decide_eq_false (by omega)] at hP
    exact hP
  · have h2 := of_decide_eq_false h2
    rw [decide_eq_false (by omega)] at hP
    exact hP
  · rw [h3, Bool.and_false] at hP
    exact hP
  · have h1 := of_decide_eq_true h1
    have h2 := of_decide_eq_true h2
    rw [h3, decide_eq_true (by omega)] at hP
    exact hP
theorem sp_do_none {n : Nat} {s : Nat → Nat} {a rel b : Nat} {odd : Bool} : ∀ (m : Nat) (T : sp_T) (put such : Nat), ((sp_do n s a rel b odd m T put such).1 = none → put = 0 → (sp_do n s a rel b odd m T put such).2 = T) ∧ (odd = true → put ≠ 0 → (sp_do n s a rel b odd m T put such).1 ≠ none) := by
  intro m
  induction m with
  | zero =>
    intro T put such
    refine ⟨fun _ _ => rfl, fun h1 h2 => ?_⟩
    unfold sp_do
    rw [if_pos ⟨h1, Or.inr h2⟩]
    simp
  | succ m ih =>
    intro T put such
    rw [sp_do]
    split
    · split
      · rename_i ho
        split
        · exact ih T put (such + 1)
        · rename_i T' _
          refine ⟨fun h1 h2 => absurd h1 ((ih T' (put + 1) (such + 1)).2 ho (by omega)), fun _ _ => (ih T' (put + 1) (such + 1)).2 ho (by omega)⟩
      · rename_i ho
        split
        · split
          · exact ⟨fun _ _ => rfl, fun h1 _ => absurd h1 ho⟩
          · exact ⟨fun h1 _ => (nomatch h1), fun h1 _ => absurd h1 ho⟩
        · exact ih T put such
    · exact ih T put such
theorem sp_order_none {n : Nat} {s : Nat → Nat} {T : sp_T} {o : Nat} (h : (sp_order n s T o).1 = none) : (sp_order n s T o).2 = T := (sp_do_none n T 0 0).1 h rfl
theorem kx_order {v : Int} {P : Int → ah_H → Prop} (h0 : xr S Z) (hv : am_r v) (hP : ∀ S', xr S' (zo_order Z v).2 → P (zo_order Z v).1 S') : kX0_order l [am_R 32, am_I v] S (am_qi P) := by
  obtain ⟨w, tr, h⟩ := h0
  have h6 := h.n6
  unfold zo_order at hP
  refine bX0_order _ _ (by first | exact am_rN (by omega) | exact ⟨by omega, by omega⟩ | assumption) (kx_isOrder hv ⟨fun h1 => ⟨_, h.I.2, _, rfl, ?_⟩, fun h1 => am_qi_mk ⟨by decide, by decide⟩ ?_⟩)
  · have h1 := of_decide_eq_true h1
    obtain ⟨o, rfl⟩ : ∃ o : Nat, v = o := ⟨v.toNat, by omega⟩
    rw [if_pos h1, Int.toNat_natCast] at hP
    refine kx_done h.xn h.B.2 (by omega) (fun S' x f => ?_)
    have hr := h.t0 f x
    cases he : (sp_order (zn Z) (zs Z) (zT Z) o).1 with
    | none =>
      have e2 := sp_order_none he
      refine ⟨fun z => absurd rfl z, fun _ => am_qi_mk ⟨by decide, by decide⟩ ?_⟩
      have hp := hP S'
      rw [show sp_order (zn Z) (zs Z) (zT Z) o = (none, zT Z) from Prod.ext he e2] at hp
      rw [e2] at hr
      exact hp ⟨w, tr, hr⟩
    | some q =>
      have hq : am_r (q : Int) := by
        have he2 : sp_order (zn Z) (zs Z) (zT Z) o = (some q, (sp_order (zn Z) (zs Z) (zT Z) o).2) := Prod.ext he rfl
        have := sp_do_le _ _ _ _ he2
        exact am_rN (by omega)
      refine ⟨fun _ => am_qi_mk hq ?_, fun z => absurd (sp_on_none.mp z) (by simp)⟩
      have hp := hP S'
      rw [show sp_order (zn Z) (zs Z) (zT Z) o = (some q, (sp_order (zn Z) (zs Z) (zT Z) o).2) from Prod.ext he rfl] at hp
      exact hp ⟨w, tr, hr⟩
  · have h1 := of_decide_eq_false h1
    rw [if_neg h1] at hP
    exact hP S ⟨w, tr, h⟩
theorem kx_move_ {a k to : Int} {P : Int → ah_H → Prop} (h0 : xr S Z) (ha : am_r a) (hk : am_r k) (hto : am_r to) (hP : ∀ S', xr S' (zo_move Z a k to).2 → P (zo_move Z a k to).1 S') : kX0_move l [am_R 32, am_I a, am_I k, am_I to] S (am_qi P) := by
  obtain ⟨w, tr, h⟩ := h0
  have h6 := h.n6
  unfold zo_move at hP
  refine bX0_move _ _ (by first | exact am_rN (by omega) | exact ⟨by omega, by omega⟩ | assumption) _ (by first | exact am_rN (by omega) | exact ⟨by omega, by omega⟩ | assumption) _ (by first | exact am_rN (by omega) | exact ⟨by omega, by omega⟩ | assumption) ⟨_, h.I.2, kx_isMove h ha hk hto ⟨fun h1 => ⟨_, h.I.2, _, rfl, ?_⟩, fun h1 => am_qi_mk ⟨by decide, by decide⟩ ?_⟩⟩
  · rw [if_pos h1] at hP
    unfold z_mayMove z_isTo at h1
    simp only [Bool.and_eq_true, Bool.or_eq_true, decide_eq_true_eq] at h1
    obtain ⟨⟨g1, g2, g3⟩, g4⟩ := h1
    obtain ⟨a, rfl⟩ : ∃ o : Nat, a = o := ⟨a.toNat, by omega⟩
    obtain ⟨k, rfl⟩ : ∃ o : Nat, k = o := ⟨k.toNat, by omega⟩
    obtain ⟨to, rfl⟩ : ∃ o : Nat, to = o := ⟨to.toNat, by omega⟩
    unfold z_canMove at hP
    rw [Int.toNat_natCast, Int.toNat_natCast, Int.toNat_natCast] at hP
    have t8 : 8 ≤ to → zs Z (to - 8) = 2 := fun z => by
      rcases g4 with g | g
      · omega
      · rw [show to - 8 = ((to : Int) - 8).toNat by omega]
        exact g.2.2
    have tn : to < 8 + zn Z := by omega
    refine kx_can h.xn h.B.2 (by omega) tn t8 ⟨fun h2 => am_qi_mk ⟨by decide, by decide⟩ ?_, fun h2 => ⟨_, h.I.2, _, rfl, kx_isReached h h.B.2 (by omega) (by omega) tn ⟨fun h3 => ⟨_, h.I.2, _, rfl, kx_carry h.B.2 (by omega) (fun z => ⟨tn, t8 z⟩) tn h2 (fun S' x f => am_qi_mk ⟨by decide, by decide⟩ ?_)⟩, fun h3 => am_qi_mk ⟨by decide, by decide⟩ ?_⟩⟩⟩
    · rw [h2, if_neg (by simp)] at hP
      exact hP S ⟨w, tr, h⟩
    · rw [h2, h3, if_pos (by rfl)] at hP
      exact hP S' ⟨w, tr, h.t0 f x⟩
    · rw [h2, h3, if_neg (by simp)] at hP
      exact hP S ⟨w, tr, h⟩
  · rw [if_neg (by rw [h1]; simp)] at hP
    exact hP S ⟨w, tr, h⟩
end KX6
