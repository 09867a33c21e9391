/-! THE STATE, as both classes have it -/
/-- things: how many, sorts, weights; tables: the table, how many kept, the kept ones; reaches; lessons: how many, (start, end, no, teacher, stands); sheets: (lane, size, items); nevers: how many, (a, what, b); the tape; fault, status; the trail -/
abbrev sp_Z : Type := (Nat × (Nat → Nat) × (Nat → Nat)) × (sp_T × Nat × (Nat → sp_T)) × (Nat → Nat) × (Nat × (Nat → Nat × Nat × Bool × Nat × Bool)) × (Nat → Option (Nat × Nat × (Nat → Int))) × (Nat × (Nat → Nat × Nat × Nat)) × (Nat × (Nat → Nat)) × (Nat × Nat) × (Nat × (Nat → Nat))
def zn (Z : sp_Z) : Nat := Z.1.1
def zs (Z : sp_Z) : Nat → Nat := Z.1.2.1
def zw (Z : sp_Z) : Nat → Nat := Z.1.2.2
def zT (Z : sp_Z) : sp_T := Z.2.1.1
def zK (Z : sp_Z) : Nat := Z.2.1.2.1
def zKT (Z : sp_Z) : Nat → sp_T := Z.2.1.2.2
def zR (Z : sp_Z) : Nat → Nat := Z.2.2.1
def zL (Z : sp_Z) : Nat := Z.2.2.2.1.1
def zLf (Z : sp_Z) : Nat → Nat × Nat × Bool × Nat × Bool := Z.2.2.2.1.2
def zSh (Z : sp_Z) : Nat → Option (Nat × Nat × (Nat → Int)) := Z.2.2.2.2.1
def zN (Z : sp_Z) : Nat := Z.2.2.2.2.2.1.1
def zNf (Z : sp_Z) : Nat → Nat × Nat × Nat := Z.2.2.2.2.2.1.2
def zP (Z : sp_Z) : Nat := Z.2.2.2.2.2.2.1.1
def zPf (Z : sp_Z) : Nat → Nat := Z.2.2.2.2.2.2.1.2
def zF (Z : sp_Z) : Nat := Z.2.2.2.2.2.2.2.1.1
def zSt (Z : sp_Z) : Nat := Z.2.2.2.2.2.2.2.1.2
def zY (Z : sp_Z) : Nat := Z.2.2.2.2.2.2.2.2.1
def zYf (Z : sp_Z) : Nat → Nat := Z.2.2.2.2.2.2.2.2.2
def z_A (Z : sp_Z) (x : Nat × (Nat → Nat) × (Nat → Nat)) : sp_Z := (x, Z.2)
def z_B (Z : sp_Z) (x : sp_T × Nat × (Nat → sp_T)) : sp_Z := (Z.1, x, Z.2.2)
def z_C (Z : sp_Z) (x : Nat → Nat) : sp_Z := (Z.1, Z.2.1, x, Z.2.2.2)
def z_D (Z : sp_Z) (x : Nat × (Nat → Nat × Nat × Bool × Nat × Bool)) : sp_Z := (Z.1, Z.2.1, Z.2.2.1, x, Z.2.2.2.2)
def z_E (Z : sp_Z) (x : Nat → Option (Nat × Nat × (Nat → Int))) : sp_Z := (Z.1, Z.2.1, Z.2.2.1, Z.2.2.2.1, x, Z.2.2.2.2.2)
def z_F (Z : sp_Z) (x : Nat × (Nat → Nat × Nat × Nat)) : sp_Z := (Z.1, Z.2.1, Z.2.2.1, Z.2.2.2.1, Z.2.2.2.2.1, x, Z.2.2.2.2.2.2)
def z_G (Z : sp_Z) (x : Nat × (Nat → Nat)) : sp_Z := (Z.1, Z.2.1, Z.2.2.1, Z.2.2.2.1, Z.2.2.2.2.1, Z.2.2.2.2.2.1, x, Z.2.2.2.2.2.2.2)
def z_H (Z : sp_Z) (x : Nat × Nat) : sp_Z := (Z.1, Z.2.1, Z.2.2.1, Z.2.2.2.1, Z.2.2.2.2.1, Z.2.2.2.2.2.1, Z.2.2.2.2.2.2.1, x, Z.2.2.2.2.2.2.2.2)
def z_Y (Z : sp_Z) (x : Nat × (Nat → Nat)) : sp_Z := (Z.1, Z.2.1, Z.2.2.1, Z.2.2.2.1, Z.2.2.2.2.1, Z.2.2.2.2.2.1, Z.2.2.2.2.2.2.1, Z.2.2.2.2.2.2.2.1, x)
def z_T (Z : sp_Z) (T : sp_T) : sp_Z := z_B Z (T, zK Z, zKT Z)
def z_St (Z : sp_Z) (k : Nat) : sp_Z := z_H Z (zF Z, k)
/-- what holds of the state, whoever has it -/
def z_ok (Z : sp_Z) : Prop :=
  (zn Z ≤ 6 ∧ (∀ k, k < zn Z → zs Z k < 4 ∧ 1 ≤ zw Z k ∧ zw Z k ≤ 20)) ∧
  (sp_ok (zn Z) (zs Z) (zT Z) ∧ zK Z ≤ 8 ∧ ∀ i, i < zK Z → sp_ok (zn Z) (zs Z) (zKT Z i)) ∧
  (∀ i, i < 2 → zR Z i ≤ 255) ∧
  (zL Z ≤ 8 ∧ ∀ k, k < zL Z → (zLf Z k).1 < zK Z ∧ (zLf Z k).2.1 < zK Z ∧ (zLf Z k).2.2.2.1 ≤ 9) ∧
  (∀ i, i < 8 → ∀ x, zSh Z i = some x → x.1 < 3 ∧ x.2.1 ≤ 40) ∧
  (zN Z ≤ 16 ∧ ∀ k, k < zN Z → (zNf Z k).2.1 ≤ 4 ∧ ((zNf Z k).2.1 = 4 → (zNf Z k).1 < 8 ∧ (zNf Z k).2.2 ≤ 200) ∧ ((zNf Z k).2.1 = 3 → (zNf Z k).1 < 4 ∧ (zNf Z k).2.2 < 8) ∧ ((zNf Z k).2.1 < 3 → (zNf Z k).1 < 4 ∧ (zNf Z k).2.2 < 4)) ∧
  (zP Z ≤ 300 ∧ ∀ i, i < zP Z → zPf Z i ≤ 255) ∧
  (zF Z ≤ 3 ∧ zSt Z ≤ 5) ∧
  (zY Z ≤ 16 ∧ ∀ i, i < zY Z → zYf Z i < 32)
/-! THE MODEL has it so -/
def mrA (v2 : Int32) (a1 a2 : Nat → Int32) (Z : sp_Z) : Prop := v2.toInt = zn Z ∧ ∀ k, k < zn Z → (a1 k).toInt = zs Z k ∧ (a2 k).toInt = zw Z k
def mrB (S : am_M) (Z : sp_Z) : Prop := (S.1 3).toInt = zK Z ∧ mt_r S 0 (zT Z) ∧ ∀ i, i < zK Z → mt_r S (i + 1) (zKT Z i)
def mrC (a3 : Nat → Int32) (Z : sp_Z) : Prop := ∀ i, i < 2 → (a3 i).toInt = zR Z i
def mrD (v4 : Int32) (a4 a5 a6 a7 a8 : Nat → Int32) (Z : sp_Z) : Prop := v4.toInt = zL Z ∧ (∀ k, k < zL Z → (a4 k).toInt = (zLf Z k).1 ∧ (a5 k).toInt = (zLf Z k).2.1 ∧ (a6 k).toInt = am_b (zLf Z k).2.2.1 ∧ (a7 k).toInt = (zLf Z k).2.2.2.1 ∧ (a8 k).toInt = am_b (!(zLf Z k).2.2.2.2)) ∧ ∀ k, zL Z ≤ k → k < 8 → (a8 k).toInt = 0
def mrE (a9 a10 a11 : Nat → Int32) (Z : sp_Z) : Prop := ∀ i, i < 8 → (zSh Z i = none → (a9 i).toInt = -1) ∧ ∀ x, zSh Z i = some x → (a9 i).toInt = x.1 ∧ (a10 i).toInt = x.2.1 ∧ ∀ j, j < x.2.1 → (a11 (40 * i + j)).toInt = x.2.2 j
def mrF (v5 : Int32) (a12 : Nat → Int32) (Z : sp_Z) : Prop := v5.toInt = zN Z ∧ ∀ k, k < zN Z → (a12 (3 * k)).toInt = (zNf Z k).1 ∧ (a12 (3 * k + 1)).toInt = (zNf Z k).2.1 ∧ (a12 (3 * k + 2)).toInt = (zNf Z k).2.2
def mrG (v7 : Int32) (a13 : Nat → Int32) (Z : sp_Z) : Prop := v7.toInt = zP Z ∧ ∀ i, i < zP Z → (a13 i).toInt = zPf Z i
def mrH (v8 v1 : Int32) (Z : sp_Z) : Prop := v8.toInt = zF Z ∧ v1.toInt = zSt Z
def mrY (v16 : Int32) (a16 : Nat → Int32) (Z : sp_Z) : Prop := v16.toInt = zY Z ∧ ∀ i, i < zY Z → (a16 i).toInt = zYf Z i
def mr (S : am_M) (Z : sp_Z) : Prop := z_ok Z ∧ mrA (S.1 2) (S.2 1) (S.2 2) Z ∧ mrB S Z ∧ mrC (S.2 3) Z ∧ mrD (S.1 4) (S.2 4) (S.2 5) (S.2 6) (S.2 7) (S.2 8) Z ∧ mrE (S.2 9) (S.2 10) (S.2 11) Z ∧ mrF (S.1 5) (S.2 12) Z ∧ mrG (S.1 7) (S.2 13) Z ∧ mrH (S.1 8) (S.1 1) Z ∧ mrY (S.1 16) (S.2 16) Z
section KM6
variable {l : Launch} {S : am_M} {Z : sp_Z}
theorem mr.th (h : mr S Z) : mr (am_sv S 0 0) Z := h
theorem mr.n6 (h : mr S Z) : zn Z ≤ 6 := h.1.1.1
theorem mr.en (h : mr S Z) : (S.1 2).toInt = zn Z := h.2.1.1
theorem mr.eK (h : mr S Z) : (S.1 3).toInt = zK Z := h.2.2.1.1
theorem mr.K8 (h : mr S Z) : zK Z ≤ 8 := h.1.2.1.2.1
theorem mr.eL (h : mr S Z) : (S.1 4).toInt = zL Z := h.2.2.2.2.1.1
theorem mr.L8 (h : mr S Z) : zL Z ≤ 8 := h.1.2.2.2.1.1
theorem mr.mn (h : mr S Z) : mn_r S (zn Z) (zs Z) := ⟨h.2.1.1, h.1.1.1, fun k hk => ⟨(h.2.1.2 k hk).1, (h.1.1.2 k hk).1⟩⟩
theorem mr.t0 (h : mr S Z) : mt S 0 (zn Z) (zs Z) (zT Z) := ⟨by decide, h.mn, h.2.2.1.2.1, h.1.2.1.1⟩
theorem mr.tk (h : mr S Z) {i : Nat} (hi : i < zK Z) : mt S (i + 1) (zn Z) (zs Z) (zKT Z i) := ⟨by have := h.K8; omega, h.mn, h.2.2.1.2.2 i hi, h.1.2.1.2.2 i hi⟩
theorem mr.fr {S' : am_M} {t : Nat} (h : mr S Z) (f : md_fr t S S') (ht : 9 ≤ t) : mr S' Z := by
  obtain ⟨z, a, b, c, d, e, g, i, j, y⟩ := h
  have b' : mrB S' Z := by
    refine ⟨?_, f.tab (by omega) b.2.1, fun k hk => f.tab (by have := z.2.1.2.1; omega) (b.2.2 k hk)⟩
    rw [f.1]
    exact b.1
  obtain ⟨S1, S2⟩ := S'
  obtain ⟨f1, f2, f3⟩ := f
  have f1 : S1 = S.1 := f1
  subst f1
  have e2 : ∀ j, j ≠ 0 → S2 j = S.2 j := f2
  refine ⟨z, ?_, b', ?_, ?_, ?_, ?_, ?_, j, ?_⟩
  · show mrA (S.1 2) (S2 1) (S2 2) Z
    rw [e2 1 (by decide), e2 2 (by decide)]
    exact a
  · show mrC (S2 3) Z
    rw [e2 3 (by decide)]
    exact c
  · show mrD (S.1 4) (S2 4) (S2 5) (S2 6) (S2 7) (S2 8) Z
    rw [e2 4 (by decide), e2 5 (by decide), e2 6 (by decide), e2 7 (by decide), e2 8 (by decide)]
    exact d
  · show mrE (S2 9) (S2 10) (S2 11) Z
    rw [e2 9 (by decide), e2 10 (by decide), e2 11 (by decide)]
    exact e
  · show mrF (S.1 5) (S2 12) Z
    rw [e2 12 (by decide)]
    exact g
  · show mrG (S.1 7) (S2 13) Z
    rw [e2 13 (by decide)]
    exact i
  · show mrY (S.1 16) (S2 16) Z
    rw [e2 16 (by decide)]
    exact y
/-- a table that the state has is another now -/
theorem mr.tabs {S' : am_M} {t : Nat} {T : sp_T} {KT : Nat → sp_T} (h : mr S Z) (f : md_fr t S S') (hT : mt_r S' 0 T) (hK : ∀ i, i < zK Z → mt_r S' (i + 1) (KT i)) (oT : sp_ok (zn Z) (zs Z) T) (oK : ∀ i, i < zK Z → sp_ok (zn Z) (zs Z) (KT i)) : mr S' (z_B Z (T, zK Z, KT)) := by
  obtain ⟨z, a, b, c, d, e, g, i, j, y⟩ := h
  obtain ⟨S1, S2⟩ := S'
  obtain ⟨f1, f2, f3⟩ := f
  have f1 : S1 = S.1 := f1
  subst f1
  have e2 : ∀ j, j ≠ 0 → S2 j = S.2 j := f2
  refine ⟨⟨z.1, ⟨oT, z.2.1.2.1, oK⟩, z.2.2⟩, ?_, ⟨b.1, hT, hK⟩, ?_, ?_, ?_, ?_, ?_, j, ?_⟩
  · show mrA (S.1 2) (S2 1) (S2 2) Z
    rw [e2 1 (by decide), e2 2 (by decide)]
    exact a
  · show mrC (S2 3) Z
    rw [e2 3 (by decide)]
    exact c
  · show mrD (S.1 4) (S2 4) (S2 5) (S2 6) (S2 7) (S2 8) Z
    rw [e2 4 (by decide), e2 5 (by decide), e2 6 (by decide), e2 7 (by decide), e2 8 (by decide)]
    exact d
  · show mrE (S2 9) (S2 10) (S2 11) Z
    rw [e2 9 (by decide), e2 10 (by decide), e2 11 (by decide)]
    exact e
  · show mrF (S.1 5) (S2 12) Z
    rw [e2 12 (by decide)]
    exact g
  · show mrG (S.1 7) (S2 13) Z
    rw [e2 13 (by decide)]
    exact i
  · show mrY (S.1 16) (S2 16) Z
    rw [e2 16 (by decide)]
    exact y
theorem mr.tab0 {S' : am_M} {T : sp_T} (h : mr S Z) (f : md_fr 0 S S') (m : mt S' 0 (zn Z) (zs Z) T) : mr S' (z_T Z T) :=
  h.tabs f m.2.2.1 (fun i hi => f.tab (by omega) (h.2.2.1.2.2 i hi)) m.2.2.2 (fun i hi => h.1.2.1.2.2 i hi)
/-! small ones -/
theorem km_in {v lo hi : Int} {P : Bool → am_M → Prop} (hP : P (decide (lo ≤ v ∧ v ≤ hi)) S) (hv : am_r v := by first | assumption | exact ⟨by omega, by omega⟩) (hl : am_r lo := by exact ⟨by omega, by omega⟩) (hh : am_r hi := by exact ⟨by omega, by omega⟩) : kX3_in l [am_J v, am_J lo, am_J hi] S (am_qz P) := by
  obtain ⟨v1, v2⟩ := hv
  obtain ⟨l1, l2⟩ := hl
  obtain ⟨g1, g2⟩ := hh
  refine bX3_in _ (by exact ⟨by omega, by omega⟩) _ (by exact ⟨by omega, by omega⟩) _ (by exact ⟨by omega, by omega⟩) ⟨fun h => ?_, fun h => ⟨fun h2 => ?_, fun h2 => ?_⟩⟩
  · rw [decide_eq_false (by omega)] at hP
    exact am_qz_mk hP
  · rw [decide_eq_false (by omega)] at hP
    exact am_qz_mk hP
  · rw [decide_eq_true (by omega)] at hP
    exact am_qz_mk hP
theorem km_isOrder {v : Int} {P : Bool → am_M → Prop} (hv : am_r v) (hP : P (decide (0 ≤ v ∧ v ≤ 95)) S) : kX3_isOrder l [am_I v] S (am_qz P) := bX3_isOrder _ (by first | exact am_rN (by omega) | exact ⟨by omega, by omega⟩ | assumption) (km_in (am_qz_mk hP))
theorem km_isCell {v : Int} {P : Bool → am_M → Prop} (hv : am_r v) (hP : P (decide (0 ≤ v ∧ v ≤ 7)) S) : kX3_isCell l [am_I v] S (am_qz P) := bX3_isCell _ (by first | exact am_rN (by omega) | exact ⟨by omega, by omega⟩ | assumption) (km_in (am_qz_mk hP))
theorem km_isArm {v : Int} {P : Bool → am_M → Prop} (hv : am_r v) (hP : P (decide (0 ≤ v ∧ v ≤ 1)) S) : kX3_isArm l [am_I v] S (am_qz P) := bX3_isArm _ (by first | exact am_rN (by omega) | exact ⟨by omega, by omega⟩ | assumption) (km_in (am_qz_mk hP))
theorem km_isSheet {v : Int} {P : Bool → am_M → Prop} (hv : am_r v) (hP : P (decide (0 ≤ v ∧ v ≤ 7)) S) : kX3_isSheet l [am_I v] S (am_qz P) := bX3_isSheet _ (by first | exact am_rN (by omega) | exact ⟨by omega, by omega⟩ | assumption) (km_in (am_qz_mk hP))
theorem km_isThing {v : Int} {P : Bool → am_M → Prop} (h : mr S Z) (hv : am_r v) (hP : P (decide (0 ≤ v ∧ v < zn Z)) S) : kX3_isThing l [am_R 0, am_I v] S (am_qz P) := by
  have h6 := h.n6
  have e := h.en
  refine bX3_isThing _ (by first | exact am_rN (by omega) | exact ⟨by omega, by omega⟩ | assumption) ⟨by rw [e]; exact ⟨by omega, by omega⟩, km_in (am_qz_mk ?_)⟩
  rw [e, show decide (0 ≤ v ∧ v ≤ (zn Z : Int) - 1) = decide (0 ≤ v ∧ v < zn Z) by rw [decide_eq_decide]; omega]
  exact hP
theorem km_isKept {v : Int} {P : Bool → am_M → Prop} (h : mr S Z) (hv : am_r v) (hP : P (decide (0 ≤ v ∧ v < zK Z)) S) : kX3_isKept l [am_R 0, am_I v] S (am_qz P) := by
  have h6 := h.K8
  have e := h.eK
  refine bX3_isKept _ (by first | exact am_rN (by omega) | exact ⟨by omega, by omega⟩ | assumption) ⟨by rw [e]; exact ⟨by omega, by omega⟩, km_in (am_qz_mk ?_)⟩
  rw [e, show decide (0 ≤ v ∧ v ≤ (zK Z : Int) - 1) = decide (0 ≤ v ∧ v < zK Z) by rw [decide_eq_decide]; omega]
  exact hP
def z_isTo (Z : sp_Z) (v : Int) : Bool := decide (0 ≤ v ∧ v ≤ 7) || decide (8 ≤ v ∧ v < 8 + zn Z ∧ zs Z (v - 8).toNat = 2)
theorem km_isTo {v : Int} {P : Bool → am_M → Prop} (h : mr S Z) (hv : am_r v) (hP : P (z_isTo Z v) S) : kX3_isTo l [am_R 0, am_I v] S (am_qz P) := by
  have h6 := h.n6
  unfold z_isTo at hP
  refine bX3_isTo _ (by first | exact am_rN (by omega) | exact ⟨by omega, by omega⟩ | assumption) (km_isCell hv ⟨fun h1 => ?_, fun h1 => km_in ⟨fun h2 => ?_, fun h2 => ?_⟩⟩)
  · rw [h1] at hP
    exact am_qz_mk hP
  · have h2 := of_decide_eq_false h2
    rw [h1, decide_eq_false (by omega)] at hP
    exact am_qz_mk hP
  · have h2 := of_decide_eq_true h2
    have h1' := of_decide_eq_false h1
    rw [h1] at hP
    refine km_isThing h ⟨by omega, by omega⟩ ⟨fun h3 => ?_, fun h3 => ⟨⟨by omega, by omega⟩, fun h4 => ?_, fun h4 => ?_⟩⟩
    · have h3 := of_decide_eq_false h3
      rw [decide_eq_false (by omega)] at hP
      exact am_qz_mk hP
    all_goals
      have h3 := of_decide_eq_true h3
      have hs : (S.2 1 (v - 8).toNat).toInt = zs Z (v - 8).toNat := (h.2.1.2 (v - 8).toNat (by omega)).1
      rw [hs] at h4
    · rw [decide_eq_false (by omega)] at hP
      exact am_qz_mk hP
    · rw [decide_eq_true (by omega)] at hP
      exact am_qz_mk hP
/-! bits -/
theorem bt_ofInt {x : Nat} (hx : x < 2147483648) : Int32.ofInt (x : Int) = Int32.ofNat x := rfl
theorem bt_f : ∀ x : Fin 256, ∀ k : Fin 8, (am_and (am_shr (x.val : Int) (k.val : Int)) 1 = if x.val.testBit k.val then 1 else 0) := by decide +kernel
theorem bt_nat {x k : Nat} (hx : x < 256) (hk : k < 8) : am_and (am_shr (x : Int) (k : Int)) 1 = if x.testBit k then 1 else 0 := bt_f ⟨x, hx⟩ ⟨k, hk⟩
theorem bt_or_f : ∀ k : Fin 8, ∀ x : Fin 256, x.val < 2 ^ k.val → am_or (x.val : Int) (am_shl 1 (k.val : Int)) = ((x.val + 2 ^ k.val : Nat) : Int) := by decide +kernel
theorem bt_or {x k : Nat} (hk : k < 8) (hx : x < 2 ^ k) : am_or (x : Int) (am_shl 1 (k : Int)) = ((x + 2 ^ k : Nat) : Int) := by
  have h2 : 2 ^ k ≤ 2 ^ 8 := Nat.pow_le_pow_right (by decide) (by omega)
  exact bt_or_f ⟨k, hk⟩ ⟨x, by omega⟩ hx
theorem bt_or0_f : ∀ x : Fin 256, am_or (x.val : Int) 0 = (x.val : Int) := by decide +kernel
theorem bt_or0 {x : Nat} (hx : x < 256) : am_or (x : Int) 0 = (x : Int) := bt_or0_f ⟨x, hx⟩
def z_reaches (Z : sp_Z) (T : sp_T) (arm k to : Nat) : Bool := (zR Z arm).testBit (sp_cell T k) && (zR Z arm).testBit (if to < 8 then to else sp_cell T (to - 8))
theorem km_doesReach {t arm k to : Nat} {T : sp_T} {P : Bool → am_M → Prop} (h : mr S Z) (m : mt S t (zn Z) (zs Z) T) (ha : arm < 2) (hk : k < zn Z) (hto : to < 8 + zn Z) (hP : P (z_reaches Z T arm k to) S) : kX3_doesReach l [am_R 0, am_I t, am_I arm, am_I k, am_I to] S (am_qz P) := by
  have h6 := h.n6
  have ht := m.1
  have hR : (S.2 3 (arm : Int).toNat).toInt = zR Z arm := h.2.2.2.1 arm ha
  have hR2 := h.1.2.2.1 arm ha
  have hck := (m.2.2.2.base hk).2.2.1
  unfold z_reaches at hP
  refine bX3_doesReach _ (by first | exact am_rN (by omega) | exact ⟨by omega, by omega⟩ | assumption) _ (by first | exact am_rN (by omega) | exact ⟨by omega, by omega⟩ | assumption) _ (by first | exact am_rN (by omega) | exact ⟨by omega, by omega⟩ | assumption) _ (by first | exact am_rN (by omega) | exact ⟨by omega, by omega⟩ | assumption) ⟨fun h8 => ?_, fun h8 => ⟨⟨by omega, by omega⟩, km_cellOf ht m.2.2.1 m.2.2.2 hk ?_⟩⟩
  · have hct := (m.2.2.2.base (show to - 8 < zn Z by omega)).2.2.1
    rw [show (to : Int) - 8 = ((to - 8 : Nat) : Int) by omega]
    rw [if_neg (by omega)] at hP
    refine km_cellOf ht m.2.2.1 m.2.2.2 (by omega) ⟨⟨by omega, by omega⟩, km_cellOf ht m.2.2.1 m.2.2.2 hk ?_⟩
    rw [hR, bt_nat (by omega) hck, bt_nat (by omega) hct]
    refine ⟨fun h1 => ?_, fun h1 => ⟨fun h2 => ?_, fun h2 => ?_⟩⟩
    · have e : (zR Z arm).testBit (sp_cell T k) = false := by
        cases q : (zR Z arm).testBit (sp_cell T k) with
        | false => rfl
        | true => rw [q] at h1; exact absurd rfl h1
      rw [e] at hP
      exact am_qz_mk hP
    all_goals
      have e : (zR Z arm).testBit (sp_cell T k) = true := by
        cases q : (zR Z arm).testBit (sp_cell T k) with
        | true => rfl
        | false => rw [q] at h1; exact absurd h1 (by decide)
      rw [e] at hP
    · have e : (zR Z arm).testBit (sp_cell T (to - 8)) = false := by
        cases q : (zR Z arm).testBit (sp_cell T (to - 8)) with
        | false => rfl
        | true => rw [q] at h2; exact absurd rfl h2
      rw [e] at hP
      exact am_qz_mk hP
    · have e : (zR Z arm).testBit (sp_cell T (to - 8)) = true := by
        cases q : (zR Z arm).testBit (sp_cell T (to - 8)) with
        | true => rfl
        | false => rw [q] at h2; exact absurd h2 (by decide)
      rw [e] at hP
      exact am_qz_mk hP
  · rw [if_pos (by omega)] at hP
    rw [hR, bt_nat (by omega) hck, bt_nat (by omega) (show to < 8 by omega)]
    refine ⟨fun h1 => ?_, fun h1 => ⟨fun h2 => ?_, fun h2 => ?_⟩⟩
    · have e : (zR Z arm).testBit (sp_cell T k) = false := by
        cases q : (zR Z arm).testBit (sp_cell T k) with
        | false => rfl
        | true => rw [q] at h1; exact absurd rfl h1
      rw [e] at hP
      exact am_qz_mk hP
    all_goals
      have e : (zR Z arm).testBit (sp_cell T k) = true := by
        cases q : (zR Z arm).testBit (sp_cell T k) with
        | true => rfl
        | false => rw [q] at h1; exact absurd h1 (by decide)
      rw [e] at hP
    · have e : (zR Z arm).testBit to = false := by
        cases q : (zR Z arm).testBit to with
        | false => rfl
        | true => rw [q] at h2; exact absurd rfl h2
      rw [e] at hP
      exact am_qz_mk hP
    · have e : (zR Z arm).testBit to = true := by
        cases q : (zR Z arm).testBit to with
        | true => rfl
        | false => rw [q] at h2; exact absurd h2 (by decide)
      rw [e] at hP
      exact am_qz_mk hP
end KM6
