section KM2
variable {l : Launch} {S : am_M} {n t : Nat} {s : Nat → Nat} {T : sp_T}
theorem mt.tb (h : mt S t n s T) {c i : Nat} (hc : c < 8) (hi : i < (T.1 c).length) : ∃ k, (T.1 c)[i]? = some k ∧ k < n ∧ T.2.2 k = none ∧ T.2.1 k = c ∧ i < n := by
  have h1 := List.getElem?_eq_getElem hi
  refine ⟨_, h1, ?_⟩
  have h2 := ((h.2.2.2.2.1 c hc).2 _).mp (List.mem_of_getElem? h1)
  exact ⟨h2.1, h2.2.1, h2.2.2, Nat.lt_of_lt_of_le hi (h.2.2.2.len hc)⟩
theorem km_below_10 {k i : Nat} {P : Int → am_M → Prop} (h : mt S t n s T) (hk : k < n) (hb : T.2.2 k = none) (hP : P (sp_below T k : Int) S) (hi : i ≤ sp_below T k) :
    VX3_below l (am_qi P) 10 [(0, am_R 0), (1, am_I t), (2, am_I k), (3, am_I (T.2.1 k)), (4, am_I i)] [] S := by
  have hn := h.2.2.2.1
  have ht := h.1
  have hc := h.2.2.2.2.2.1 k hk hb
  have hmem : k ∈ T.1 (T.2.1 k) := ((h.2.2.2.2.1 _ hc).2 k).mpr ⟨hk, hb, rfl⟩
  have hlt := sp_idx_lt hmem
  have hlen := h.2.2.2.len hc
  obtain ⟨e1, e2⟩ := sp_idx hmem
  unfold sp_below at hi hP
  generalize hm : (T.1 (T.2.1 k)).idxOf k - i = m
  induction m generalizing i with
  | zero =>
    have hie : i = (T.1 (T.2.1 k)).idxOf k := by omega
    refine bX3_below_10 _ (by first | exact am_rN (by omega) | exact ⟨by omega, by omega⟩ | assumption) _ (by first | exact am_rN (by omega) | exact ⟨by omega, by omega⟩ | assumption) _ (by first | exact am_rN (by omega) | exact ⟨by omega, by omega⟩ | assumption) _ (by first | exact am_rN (by omega) | exact ⟨by omega, by omega⟩ | assumption) (km_thingAt ht hc (by omega) h.2.2.1 ⟨fun _ => ?_, fun hne => ?_⟩)
    · rw [hie]
      exact am_qi_mk (am_rN (by omega)) hP
    · rw [hie, e1] at hne
      exact absurd rfl hne
  | succ m ih =>
    refine bX3_below_10 _ (by first | exact am_rN (by omega) | exact ⟨by omega, by omega⟩ | assumption) _ (by first | exact am_rN (by omega) | exact ⟨by omega, by omega⟩ | assumption) _ (by first | exact am_rN (by omega) | exact ⟨by omega, by omega⟩ | assumption) _ (by first | exact am_rN (by omega) | exact ⟨by omega, by omega⟩ | assumption) (km_thingAt ht hc (by omega) h.2.2.1 ⟨fun he => ?_, fun hne => ?_⟩)
    · exact absurd (sp_ob_eq.mp he) (e2 i (by omega))
    · exact ih (i := i + 1) (by omega) (by omega)
theorem km_below {k : Nat} {P : Int → am_M → Prop} (h : mt S t n s T) (hk : k < n) (hb : T.2.2 k = none) (hP : P (sp_below T k : Int) S) : kX3_below l [am_R 0, am_I t, am_I k] S (am_qi P) := by
  have hn := h.2.2.2.1
  have ht := h.1
  refine bX3_below _ (by first | exact am_rN (by omega) | exact ⟨by omega, by omega⟩ | assumption) _ (by first | exact am_rN (by omega) | exact ⟨by omega, by omega⟩ | assumption) (km_cellOf ht h.2.2.1 h.2.2.2 hk ?_)
  have e : sp_cell T k = T.2.1 k := by unfold sp_cell sp_base; rw [hb]; rfl
  rw [e]
  exact km_below_10 (i := 0) h hk hb hP (Nat.zero_le _)
theorem km_isClear {k : Nat} {P : Bool → am_M → Prop} (h : mt S t n s T) (hk : k < n) (hP : P (sp_clear T k) S) : kX3_isClear l [am_R 0, am_I t, am_I k] S (am_qz P) := by
  have hn := h.2.2.2.1
  have ht := h.1
  obtain ⟨b1, b2, b3, b4⟩ := h.2.2.2.base hk
  have hlen := h.2.2.2.len b3
  refine bX3_isClear _ (by first | exact am_rN (by omega) | exact ⟨by omega, by omega⟩ | assumption) _ (by first | exact am_rN (by omega) | exact ⟨by omega, by omega⟩ | assumption) (km_cellOf ht h.2.2.1 h.2.2.2 hk (km_boxOf ht (by omega) h.2.2.1 ⟨fun hx => ?_, fun hx => ?_⟩))
  · have e : sp_clear T k = false := by
      unfold sp_clear
      cases hb : T.2.2 k with
      | none => rw [hb] at hx; exact absurd hx (by decide)
      | some x => rfl
    rw [e] at hP
    exact am_qz_mk hP
  · have hb : T.2.2 k = none := sp_ob_lt.mp (by omega)
    have e : sp_base T k = k := by unfold sp_base; rw [hb]; rfl
    have e2 : sp_cell T k = T.2.1 k := by unfold sp_cell; rw [e]
    rw [e2] at b3 b4 hlen
    rw [e] at b4
    have hpos := List.length_pos_of_mem b4
    have e3 : (((T.1 (T.2.1 k)).length : Int) - 1) = (((T.1 (T.2.1 k)).length - 1 : Nat) : Int) := by omega
    have e4 : sp_clear T k = decide ((T.1 (T.2.1 k))[(T.1 (T.2.1 k)).length - 1]? = some k) := by
      unfold sp_clear
      rw [hb, List.getLast?_eq_getElem?]
      rfl
    rw [e4] at hP
    rw [e2]
    refine km_sizeOf ht b3 h.2.2.1 ?_
    rw [e3]
    refine km_thingAt ht b3 (by omega) h.2.2.1 ⟨fun hx => ?_, fun hx => ?_⟩
    · rw [decide_eq_false (fun z => hx (sp_ob_eq.mpr z))] at hP
      exact am_qz_mk hP
    · rw [decide_eq_true (sp_ob_eq.mp hx)] at hP
      exact am_qz_mk hP
theorem km_insideOf_5 {x j : Nat} {P : Int → am_M → Prop} (h : mt S t n s T) (hx : x < n) (hP : P (sp_ob (sp_inside n T x)) S) (hj : j ≤ n) {v : Int} (hv : v = sp_ob ((List.range j).find? (fun k => decide (T.2.2 k = some x)))) :
    VX3_insideOf l (am_qi P) 5 [(0, am_R 0), (1, am_I t), (2, am_I x), (3, am_I v), (4, am_I j)] [] S := by
  have hn := h.2.2.2.1
  have ht := h.1
  have hr : am_r v := by
    rw [hv]
    cases hf : (List.range j).find? (fun k => decide (T.2.2 k = some x)) with
    | none => exact ⟨by decide, by decide⟩
    | some y =>
      have := List.mem_range.mp (List.mem_of_find?_eq_some hf)
      exact am_rN (by omega)
  generalize hm : n - j = m
  induction m generalizing j v with
  | zero =>
    have hje : j = n := by omega
    refine bX3_insideOf_5 _ (by first | exact am_rN (by omega) | exact ⟨by omega, by omega⟩ | assumption) _ (by first | exact am_rN (by omega) | exact ⟨by omega, by omega⟩ | assumption) _ (by first | exact am_rN (by omega) | exact ⟨by omega, by omega⟩ | assumption) _ (by first | exact am_rN (by omega) | exact ⟨by omega, by omega⟩ | assumption) ⟨fun _ => ?_, fun hy => absurd h.2.1.1 (by omega)⟩
    subst hje
    rw [hv] at hr ⊢
    exact am_qi_mk hr hP
  | succ m ih =>
    have hu := h.2.2.2.2.2.2.2
    refine bX3_insideOf_5 _ (by first | exact am_rN (by omega) | exact ⟨by omega, by omega⟩ | assumption) _ (by first | exact am_rN (by omega) | exact ⟨by omega, by omega⟩ | assumption) _ (by first | exact am_rN (by omega) | exact ⟨by omega, by omega⟩ | assumption) _ (by first | exact am_rN (by omega) | exact ⟨by omega, by omega⟩ | assumption) ⟨fun hy => absurd h.2.1.1 (by omega), fun _ => km_boxOf ht (by omega) h.2.2.1 ⟨fun hy => ?_, fun hy => ?_⟩⟩
    · have e : (List.range (j + 1)).find? (fun k => decide (T.2.2 k = some x)) = (List.range j).find? (fun k => decide (T.2.2 k = some x)) := by
        rw [List.range_succ, List.find?_append]
        have : ¬ T.2.2 j = some x := fun z => hy (sp_ob_eq.mpr z)
        simp [this]
      exact ih (j := j + 1) (by omega) (by rw [e]; exact hv) hr (by omega)
    · have hb := sp_ob_eq.mp hy
      have e : (List.range (j + 1)).find? (fun k => decide (T.2.2 k = some x)) = some j := by
        refine sp_find_some (Nat.lt_succ_self j) (by simp [hb]) (fun i hi => ?_)
        refine decide_eq_false (fun z => ?_)
        have := hu _ _ _ z hb
        omega
      exact ih (j := j + 1) (v := (j : Int)) (by omega) (by rw [e]; rfl) (am_rN (by omega)) (by omega)
theorem km_insideOf {x : Nat} {P : Int → am_M → Prop} (h : mt S t n s T) (hx : x < n) (hP : P (sp_ob (sp_inside n T x)) S) : kX3_insideOf l [am_R 0, am_I t, am_I x] S (am_qi P) := by
  have hn := h.2.2.2.1
  have ht := h.1
  refine bX3_insideOf _ (by first | exact am_rN (by omega) | exact ⟨by omega, by omega⟩ | assumption) _ (by first | exact am_rN (by omega) | exact ⟨by omega, by omega⟩ | assumption) (km_insideOf_5 (j := 0) h hx hP (Nat.zero_le _) ?_)
  rfl
theorem km_isLoose {k : Nat} {P : Bool → am_M → Prop} (h : mt S t n s T) (hk : k < n) (hP : P (sp_loose T k) S) : kX3_isLoose l [am_R 0, am_I t, am_I k] S (am_qz P) := by
  have hn := h.2.2.2.1
  have ht := h.1
  have hb1 := (h.2.2.2.base hk).1
  refine bX3_isLoose _ (by first | exact am_rN (by omega) | exact ⟨by omega, by omega⟩ | assumption) _ (by first | exact am_rN (by omega) | exact ⟨by omega, by omega⟩ | assumption) (km_boxOf ht (by omega) h.2.2.1 ⟨fun hx => ?_, fun hx => km_boxOf ht (by omega) h.2.2.1 ?_⟩)
  · have e : sp_base T k = k := by unfold sp_base; rw [sp_ob_lt.mp hx]; rfl
    unfold sp_loose at hP
    rw [e] at hP
    exact km_isClear h hk (am_qz_mk hP)
  · cases hb : T.2.2 k with
    | none => rw [hb] at hx; exact absurd (show sp_ob none < 0 by decide) hx
    | some x =>
      have e : sp_base T k = x := by unfold sp_base; rw [hb]; rfl
      unfold sp_loose at hP
      rw [e] at hP hb1
      exact km_isClear h hb1 (am_qz_mk hP)
theorem km_isNeighbour {c d : Nat} {P : Bool → am_M → Prop} (hc : c < 8) (hd : d < 8) (hP : P (sp_near c d) S) : kX3_isNeighbour l [am_I c, am_I d] S (am_qz P) := by
  obtain ⟨e1, e2⟩ := sp_near_nat hc hd
  refine bX3_isNeighbour _ (by first | exact am_rN (by omega) | exact ⟨by omega, by omega⟩ | assumption) _ (by first | exact am_rN (by omega) | exact ⟨by omega, by omega⟩ | assumption) ⟨by omega, by omega, e2, fun h => ?_, fun h => ?_⟩
  · rw [Bool.eq_false_iff.mpr (fun z => h (e1.mpr z))] at hP
    exact am_qz_mk hP
  · rw [e1.mp h] at hP
    exact am_qz_mk hP
theorem mt.sort (h : mt S t n s T) {k : Nat} (hk : k < n) : (S.2 1 (Int.toNat k)).toInt = s k := (h.2.1.2.2 k hk).1
theorem km_mayInto {k x : Nat} {P : Bool → am_M → Prop} (h : mt S t n s T) (hk : k < n) (hx : x < n) (hP : P (sp_can n s T k (8 + x)) S) : kX3_mayInto l [am_R 0, am_I t, am_I k, am_I x] S (am_qz P) := by
  have hn := h.2.2.2.1
  have ht := h.1
  have e : sp_can n s T k (8 + x) = (sp_loose T k && decide (s k ≠ 2) && sp_clear T x && (sp_inside n T x).isNone) := by
    unfold sp_can
    rw [if_neg (by omega), Nat.add_sub_cancel_left]
  rw [e] at hP
  refine bX3_mayInto _ (by first | exact am_rN (by omega) | exact ⟨by omega, by omega⟩ | assumption) _ (by first | exact am_rN (by omega) | exact ⟨by omega, by omega⟩ | assumption) _ (by first | exact am_rN (by omega) | exact ⟨by omega, by omega⟩ | assumption) (km_isLoose h hk ⟨fun hl => ?_, fun hl => ⟨⟨by omega, by omega⟩, fun hs => ?_, fun hs => km_isClear h hx ⟨fun hc => ?_, fun hc => km_insideOf h hx ⟨fun hi => ?_, fun hi => ?_⟩⟩⟩⟩)
  · rw [hl] at hP
    exact am_qz_mk hP
  · rw [h.sort hk] at hs
    have hs' : s k = 2 := by omega
    rw [hs'] at hP
    simp at hP
    exact am_qz_mk hP
  · rw [hc] at hP
    simp at hP
    exact am_qz_mk hP
  · have : (sp_inside n T x).isNone = false := by
      cases hq : sp_inside n T x with
      | none => rw [hq] at hi; exact absurd hi (by decide)
      | some y => rfl
    rw [this] at hP
    simp at hP
    exact am_qz_mk hP
  · rw [h.sort hk] at hs
    have hs' : s k ≠ 2 := by omega
    rw [hl, hc, sp_ob_lt.mp (by omega : sp_ob (sp_inside n T x) < 0), decide_eq_true hs'] at hP
    exact am_qz_mk hP
theorem km_canMove {k to : Nat} {P : Bool → am_M → Prop} (h : mt S t n s T) (hk : k < n) (hto : to < 8 + n) (hP : P (sp_can n s T k to) S) : kX3_canMove l [am_R 0, am_I t, am_I k, am_I to] S (am_qz P) := by
  have hn := h.2.2.2.1
  have ht := h.1
  refine bX3_canMove _ (by first | exact am_rN (by omega) | exact ⟨by omega, by omega⟩ | assumption) _ (by first | exact am_rN (by omega) | exact ⟨by omega, by omega⟩ | assumption) _ (by first | exact am_rN (by omega) | exact ⟨by omega, by omega⟩ | assumption) ⟨fun hx => ?_, fun hx => km_isLoose h hk (am_qz_mk ?_)⟩
  · obtain ⟨x, rfl⟩ : ∃ x, to = 8 + x := ⟨to - 8, by omega⟩
    rw [show (((8 + x : Nat) : Int) - 8) = (x : Int) by omega]
    exact km_mayInto h hk (by omega) (am_qz_mk hP)
  · unfold sp_can at hP
    rw [if_pos (by omega)] at hP
    exact hP
end KM2
