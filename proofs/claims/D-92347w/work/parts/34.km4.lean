theorem bo_any_take {l : List Nat} {i x : Nat} {g : Nat → Bool} (h : l[i]? = some x) : (l.take (i + 1)).any g = ((l.take i).any g || g x) := by
  rw [List.take_add_one, h]
  simp
theorem bo_any_range {d : Nat} {f : Nat → Bool} : (List.range (d + 1)).any f = ((List.range d).any f || f d) := by
  rw [List.range_succ]
  simp
theorem bo1 {X N A g v : Bool} (hv : v = (X || (N && A))) (h : v = true) : true = (X || (N && (A || g))) := by
  subst h
  revert hv
  cases X <;> cases N <;> cases A <;> simp
theorem bo2 {X N A g v : Bool} (hv : v = (X || (N && A))) (h : v = false) (hn : N = false) : false = (X || (N && (A || g))) := by
  subst h hn
  revert hv
  cases X <;> cases A <;> simp
theorem bo3 {X N A g v : Bool} (hv : v = (X || (N && A))) (h : v = false) (hn : N = true) : g = (X || (N && (A || g))) := by
  subst h hn
  revert hv
  cases X <;> cases A <;> cases g <;> simp
section KM4
variable {l : Launch} {S : am_M} {n t : Nat} {s : Nat → Nat} {T : sp_T}
theorem km_isAsTold_110 {b c d i : Nat} {v : Bool} {P : Bool → am_M → Prop} (h : mt S t n s T) (hb4 : b < 4) (hc : c < 8) (hd : d < 8) (hi : i ≤ (T.1 d).length)
    (hv : v = ((List.range d).any (fun d => sp_near c d && (T.1 d).any (fun k => s k == b)) || (sp_near c d && ((T.1 d).take i).any (fun k => s k == b))))
    (next : ∀ v', v' = (List.range (d + 1)).any (fun d => sp_near c d && (T.1 d).any (fun k => s k == b)) → VX3_isAsTold l (am_qz P) 95 [(0, am_R 0), (1, am_I t), (4, am_I b), (5, am_I c), (6, am_I 0), (7, am_I (am_b v')), (8, am_I ((d : Int) + 1))] [] S) :
    VX3_isAsTold l (am_qz P) 110 [(0, am_R 0), (1, am_I t), (4, am_I b), (5, am_I c), (6, am_I 0), (7, am_I (am_b v)), (8, am_I d), (9, am_I i)] [] S := by
  have hn := h.2.2.2.1
  have ht := h.1
  have hlen := h.2.2.2.len hd
  generalize hm : (T.1 d).length - i = m
  induction m generalizing i v with
  | zero =>
    refine bX3_isAsTold_110 _ (by first | exact am_rN (by omega) | exact ⟨by omega, by omega⟩ | assumption) _ (by first | exact am_rN (by omega) | exact ⟨by omega, by omega⟩ | assumption) _ (by first | exact am_rN (by omega) | exact ⟨by omega, by omega⟩ | assumption) _ (by first | exact am_rN (by omega) | exact ⟨by omega, by omega⟩ | assumption) _ _ (by first | exact am_rN (by omega) | exact ⟨by omega, by omega⟩ | assumption) _ (by first | exact am_rN (by omega) | exact ⟨by omega, by omega⟩ | assumption) (km_sizeOf ht hd h.2.2.1 ⟨fun _ => next v ?_, fun z => absurd z (by omega)⟩)
    rw [bo_any_range, hv, List.take_of_length_le (by omega)]
  | succ m ih =>
    obtain ⟨x, hx, hxn, -⟩ := h.tb hd (show i < (T.1 d).length by omega)
    refine bX3_isAsTold_110 _ (by first | exact am_rN (by omega) | exact ⟨by omega, by omega⟩ | assumption) _ (by first | exact am_rN (by omega) | exact ⟨by omega, by omega⟩ | assumption) _ (by first | exact am_rN (by omega) | exact ⟨by omega, by omega⟩ | assumption) _ (by first | exact am_rN (by omega) | exact ⟨by omega, by omega⟩ | assumption) _ _ (by first | exact am_rN (by omega) | exact ⟨by omega, by omega⟩ | assumption) _ (by first | exact am_rN (by omega) | exact ⟨by omega, by omega⟩ | assumption) (km_sizeOf ht hd h.2.2.1 ⟨fun z => absurd z (by omega), fun _ => ⟨fun hvt => ih (i := i + 1) (by omega) ?_ (by omega), fun hvf => km_isNeighbour hc hd ⟨fun hnf => ih (i := i + 1) (by omega) ?_ (by omega), fun hnt => km_thingAt ht hd (by omega) h.2.2.1 ?_⟩⟩⟩)
    · rw [bo_any_take hx]
      exact bo1 hv hvt
    · rw [bo_any_take hx]
      exact bo2 hv hvf hnf
    · rw [hx]
      refine ⟨⟨by simp only [sp_ob]; omega, by simp only [sp_ob]; omega⟩, fun hs => ih (i := i + 1) (by omega) ?_ (by omega), fun hs => ih (i := i + 1) (by omega) ?_ (by omega)⟩
      · rw [bo_any_take hx]
        have e : (s x == b) = false := by
          rw [show sp_ob (some x) = (x : Int) from rfl, h.sort hxn] at hs
          simp
          omega
        have := bo3 (g := s x == b) hv hvf hnt
        rw [← this, e]
      · rw [bo_any_take hx]
        have e : (s x == b) = true := by
          rw [show sp_ob (some x) = (x : Int) from rfl, h.sort hxn] at hs
          simp
          omega
        have := bo3 (g := s x == b) hv hvf hnt
        rw [← this, e]
theorem km_isAsTold_95 {b c d : Nat} {v : Bool} {P : Bool → am_M → Prop} (h : mt S t n s T) (hb4 : b < 4) (hc : c < 8) (hd : d ≤ 8)
    (hv : v = (List.range d).any (fun d => sp_near c d && (T.1 d).any (fun k => s k == b))) (hP : P (sp_hasNear s T c b) S) :
    VX3_isAsTold l (am_qz P) 95 [(0, am_R 0), (1, am_I t), (4, am_I b), (5, am_I c), (6, am_I 0), (7, am_I (am_b v)), (8, am_I d)] [] S := by
  have hn := h.2.2.2.1
  have ht := h.1
  generalize hm : 8 - d = m
  induction m generalizing d v with
  | zero =>
    have e : d = 8 := by omega
    subst e
    refine bX3_isAsTold_95 _ (by first | exact am_rN (by omega) | exact ⟨by omega, by omega⟩ | assumption) _ (by first | exact am_rN (by omega) | exact ⟨by omega, by omega⟩ | assumption) _ (by first | exact am_rN (by omega) | exact ⟨by omega, by omega⟩ | assumption) _ (by first | exact am_rN (by omega) | exact ⟨by omega, by omega⟩ | assumption) _ _ (by first | exact am_rN (by omega) | exact ⟨by omega, by omega⟩ | assumption) ⟨fun _ => ?_, fun z => absurd z (by omega)⟩
    rw [hv]
    exact am_qz_mk hP
  | succ m ih =>
    refine bX3_isAsTold_95 _ (by first | exact am_rN (by omega) | exact ⟨by omega, by omega⟩ | assumption) _ (by first | exact am_rN (by omega) | exact ⟨by omega, by omega⟩ | assumption) _ (by first | exact am_rN (by omega) | exact ⟨by omega, by omega⟩ | assumption) _ (by first | exact am_rN (by omega) | exact ⟨by omega, by omega⟩ | assumption) _ _ (by first | exact am_rN (by omega) | exact ⟨by omega, by omega⟩ | assumption) ⟨fun z => absurd z (by omega), fun _ => ⟨fun z => absurd rfl z, fun _ => ?_⟩⟩
    refine km_isAsTold_110 (i := 0) h hb4 hc (by omega) (Nat.zero_le _) (by simpa using hv) (fun v' hv' => ?_)
    exact ih (d := d + 1) (by omega) hv' (by omega)
theorem mt.on (h : mt S t n s T) {k : Nat} (hk : k < n) (hb : T.2.2 k = none) : sp_cell T k = T.2.1 k ∧ T.2.1 k < 8 ∧ k ∈ T.1 (T.2.1 k) ∧ sp_below T k < (T.1 (T.2.1 k)).length ∧ (T.1 (T.2.1 k)).length ≤ n := by
  obtain ⟨b1, b2, b3, b4⟩ := h.2.2.2.base hk
  have eb : sp_base T k = k := by unfold sp_base; rw [hb]; rfl
  have ec : sp_cell T k = T.2.1 k := by unfold sp_cell; rw [eb]
  rw [ec] at b3 b4
  rw [eb] at b4
  exact ⟨ec, b3, b4, sp_idx_lt b4, h.2.2.2.len b3⟩
theorem km_cellOn {k : Nat} {P : Int → am_M → Prop} (h : mt S t n s T) (hk : k < n) (hb : T.2.2 k = none) (hP : P (T.2.1 k : Int) S) : kX3_cellOf l [am_R 0, am_I t, am_I k] S (am_qi P) :=
  km_cellOf h.1 h.2.2.1 h.2.2.2 hk (by rw [(h.on hk hb).1]; exact hP)
theorem km_box {k : Nat} {P : Int → am_M → Prop} (h : mt S t n s T) (hk : k < 6) (hP : P (sp_ob (T.2.2 k)) S) : kX3_boxOf l [am_R 0, am_I t, am_I k] S (am_qi P) := km_boxOf h.1 hk h.2.2.1 hP
theorem sp_ob_ge {o : Option Nat} (h : ¬ sp_ob o < 0) : ∃ x, o = some x := by
  cases o with
  | none => exact absurd (show sp_ob none < 0 by decide) h
  | some x => exact ⟨x, rfl⟩
theorem km_isAsTold {k rel b : Nat} {P : Bool → am_M → Prop} (h : mt S t n s T) (hk : k < n) (hb4 : b < 4) (hrel : rel < 3) (hP : P (sp_told s T k rel b) S) : kX3_isAsTold l [am_R 0, am_I t, am_I k, am_I rel, am_I b] S (am_qz P) := by
  have hn := h.2.2.2.1
  have ht := h.1
  unfold sp_told at hP
  refine bX3_isAsTold _ (by first | exact am_rN (by omega) | exact ⟨by omega, by omega⟩ | assumption) _ (by first | exact am_rN (by omega) | exact ⟨by omega, by omega⟩ | assumption) _ (by first | exact am_rN (by omega) | exact ⟨by omega, by omega⟩ | assumption) _ (by first | exact am_rN (by omega) | exact ⟨by omega, by omega⟩ | assumption) ⟨fun hr => km_box h (by omega) ⟨fun hx => ?_, fun hx => ?_⟩, fun hr => km_box h (by omega) ⟨fun hx => ?_, fun hx => ⟨fun hb => ?_, fun hb => ?_⟩⟩⟩
  · have hb := sp_ob_lt.mp hx
    obtain ⟨ec, b3, b4, b5, b6⟩ := h.on hk hb
    rw [if_neg (by omega), hb, if_neg (by simp)] at hP
    refine km_cellOn h hk hb (km_below h hk hb ⟨fun h0 => ?_, fun h0 => ⟨fun hz => ?_, fun hz => ?_⟩⟩)
    · rw [if_neg (by omega)] at hP
      by_cases hz : sp_below T k = 0
      · rw [hz] at hP ⊢
        refine km_isAsTold_95 (d := 0) h hb4 b3 (Nat.zero_le _) rfl ?_
        simpa using hP
      · refine bX3_isAsTold_95 _ (by first | exact am_rN (by omega) | exact ⟨by omega, by omega⟩ | assumption) _ (by first | exact am_rN (by omega) | exact ⟨by omega, by omega⟩ | assumption) _ (by first | exact am_rN (by omega) | exact ⟨by omega, by omega⟩ | assumption) _ (by first | exact am_rN (by omega) | exact ⟨by omega, by omega⟩ | assumption) _ _ (by first | exact am_rN (by omega) | exact ⟨by omega, by omega⟩ | assumption) ⟨fun z => absurd z (by omega), fun _ => ⟨fun _ => ?_, fun z => absurd z (by omega)⟩⟩
        rw [decide_eq_false hz] at hP
        exact am_qz_mk hP
    · rw [if_pos (by omega), decide_eq_false (show ¬ 0 < sp_below T k by omega)] at hP
      exact am_qz_mk hP
    · rw [if_pos (by omega), decide_eq_true (show 0 < sp_below T k by omega)] at hP
      obtain ⟨x, hx1, hx2, -⟩ := h.tb b3 (show sp_below T k - 1 < (T.1 (T.2.1 k)).length by omega)
      rw [show ((sp_below T k : Int) - 1) = ((sp_below T k - 1 : Nat) : Int) by omega]
      refine km_thingAt ht b3 (by omega) h.2.2.1 ?_
      rw [hx1] at hP ⊢
      refine ⟨⟨by simp only [sp_ob]; omega, by simp only [sp_ob]; omega⟩, fun hs => ?_, fun hs => ?_⟩
      · rw [show sp_ob (some x) = (x : Int) from rfl, h.sort hx2] at hs
        have e : (Option.map s (some x) == some b) = false := by simp; omega
        rw [e] at hP
        exact am_qz_mk hP
      · rw [show sp_ob (some x) = (x : Int) from rfl, h.sort hx2] at hs
        have e : (Option.map s (some x) == some b) = true := by simp; omega
        rw [e] at hP
        exact am_qz_mk hP
  · obtain ⟨x, hb⟩ := sp_ob_ge hx
    rw [if_neg (by omega), hb, if_pos (by rfl)] at hP
    exact am_qz_mk hP
  · rw [if_pos (by omega), sp_ob_lt.mp hx] at hP
    exact am_qz_mk hP
  · obtain ⟨x, hb'⟩ := sp_ob_ge hx
    have e : (b == 2) = false := by simp; omega
    rw [if_pos (by omega), hb', e] at hP
    exact am_qz_mk hP
  · obtain ⟨x, hb'⟩ := sp_ob_ge hx
    have e : (b == 2) = true := by simp; omega
    rw [if_pos (by omega), hb', e] at hP
    exact am_qz_mk hP
/-! where a thing is to go -/
theorem sp_goal_ok {k rel b to : Nat} (h : sp_ok n s T) (hg : sp_goal n s T k rel b = some to) : to < 8 + n ∧ (8 ≤ to → s (to - 8) = 2) := by
  unfold sp_goal at hg
  split at hg
  · cases hf : (List.range n).find? (fun o => b == 2 && (s o == 2) && sp_clear T o && (sp_inside n T o).isNone) with
    | none => rw [hf] at hg; exact absurd hg (by simp)
    | some o =>
      rw [hf] at hg
      have hg' : 8 + o = to := Option.some.inj hg
      have h1 := List.mem_range.mp (List.mem_of_find?_eq_some hf)
      have h2 := List.find?_some hf
      simp only [Bool.and_eq_true, beq_iff_eq] at h2
      refine ⟨by omega, fun _ => ?_⟩
      rw [← hg', Nat.add_sub_cancel_left]
      exact h2.1.1.2
  · split at hg
    · cases hf : (List.range n).find? (fun o => (o != k) && (s o == b) && sp_clear T o) with
      | none => rw [hf] at hg; exact absurd hg (by simp)
      | some o =>
        rw [hf] at hg
        have hg' : T.2.1 o = to := Option.some.inj hg
        have h1 := List.mem_range.mp (List.mem_of_find?_eq_some hf)
        have h2 := List.find?_some hf
        simp only [Bool.and_eq_true, sp_clear, Option.isNone_iff_eq_none] at h2
        have h3 := h.2.2.1 o h1 h2.2.1
        exact ⟨by omega, fun z => by omega⟩
    · cases hf : (List.range n).find? (fun o => (o != k) && (s o == b) && (T.2.2 o).isNone) with
      | none => rw [hf] at hg; exact absurd hg (by simp)
      | some o =>
        rw [hf] at hg
        have hg' : sp_free T (T.2.1 o) = some to := hg
        have h1 := List.mem_range.mp (List.mem_of_find?_eq_some hg')
        exact ⟨by omega, fun z => by omega⟩
theorem km_whereTo_145 {c d : Nat} {P : Int → am_M → Prop} (h : mt S t n s T) (hc : c < 8) (hd : d ≤ 8) (hno : ∀ e, e < d → (sp_near c e && (T.1 e).isEmpty) = false) (hP : P (sp_on (sp_free T c)) S) :
    VX3_whereTo l (am_qi P) 145 [(0, am_R 0), (1, am_I t), (6, am_I c), (7, am_I d)] [] S := by
  have hn := h.2.2.2.1
  have ht := h.1
  generalize hm : 8 - d = m
  induction m generalizing d with
  | zero =>
    refine bX3_whereTo_145 _ (by first | exact am_rN (by omega) | exact ⟨by omega, by omega⟩ | assumption) _ (by first | exact am_rN (by omega) | exact ⟨by omega, by omega⟩ | assumption) _ (by first | exact am_rN (by omega) | exact ⟨by omega, by omega⟩ | assumption) ⟨fun _ => ?_, fun z => absurd z (by omega)⟩
    have e : sp_free T c = none := sp_find_none (fun j hj => hno j (by omega))
    rw [e] at hP
    exact am_qi_mk ⟨by decide, by decide⟩ hP
  | succ m ih =>
    have nx : (sp_near c d && (T.1 d).isEmpty) = false → ∀ e, e < d + 1 → (sp_near c e && (T.1 e).isEmpty) = false := by
      intro hx e he
      by_cases q : e = d
      · rw [q]; exact hx
      · exact hno e (by omega)
    refine bX3_whereTo_145 _ (by first | exact am_rN (by omega) | exact ⟨by omega, by omega⟩ | assumption) _ (by first | exact am_rN (by omega) | exact ⟨by omega, by omega⟩ | assumption) _ (by first | exact am_rN (by omega) | exact ⟨by omega, by omega⟩ | assumption) ⟨fun z => absurd z (by omega), fun _ => km_isNeighbour hc (by omega) ⟨fun hf => ?_, fun hf => km_sizeOf ht (by omega) h.2.2.1 ⟨fun hz => ?_, fun hz => ?_⟩⟩⟩
    · exact ih (d := d + 1) (by omega) (nx (by rw [hf]; rfl)) (by omega)
    · refine ih (d := d + 1) (by omega) (nx ?_) (by omega)
      have : (T.1 d).isEmpty = false := by
        cases hq : T.1 d with
        | nil => rw [hq] at hz; exact absurd rfl hz
        | cons x y => rfl
      rw [this, Bool.and_false]
    · have hq : T.1 d = [] := List.eq_nil_of_length_eq_zero (by omega)
      have e : sp_free T c = some d := sp_find_some (by omega) (by rw [hf, hq]; rfl) (fun j hj => hno j hj)
      rw [e] at hP
      exact am_qi_mk (am_rN (by omega)) hP
theorem km_whereTo_8 {k b j : Nat} {P : Int → am_M → Prop} (h : mt S t n s T) (hb4 : b < 4) (hj : j ≤ n) (hno : ∀ o, o < j → (b == 2 && (s o == 2) && sp_clear T o && (sp_inside n T o).isNone) = false) (hP : P (sp_on (sp_goal n s T k 1 b)) S) :
    VX3_whereTo l (am_qi P) 8 [(0, am_R 0), (1, am_I t), (4, am_I b), (5, am_I j)] [] S := by
  have hn := h.2.2.2.1
  have ht := h.1
  generalize hm : n - j = m
  induction m generalizing j with
  | zero =>
    refine bX3_whereTo_8 _ (by first | exact am_rN (by omega) | exact ⟨by omega, by omega⟩ | assumption) _ (by first | exact am_rN (by omega) | exact ⟨by omega, by omega⟩ | assumption) _ (by first | exact am_rN (by omega) | exact ⟨by omega, by omega⟩ | assumption) ⟨fun _ => ?_, fun z => absurd h.2.1.1 (by omega)⟩
    have e : sp_goal n s T k 1 b = none := by
      unfold sp_goal
      rw [if_pos rfl, sp_find_none (fun o ho => hno o (by omega))]
      rfl
    rw [e] at hP
    exact am_qi_mk ⟨by decide, by decide⟩ hP
  | succ m ih =>
    have nx : (b == 2 && (s j == 2) && sp_clear T j && (sp_inside n T j).isNone) = false → VX3_whereTo l (am_qi P) 8 [(0, am_R 0), (1, am_I t), (4, am_I b), (5, am_I ((j : Int) + 1))] [] S := by
      intro hx
      refine ih (j := j + 1) (by omega) (fun o ho => ?_) (by omega)
      by_cases q : o = j
      · rw [q]; exact hx
      · exact hno o (by omega)
    refine bX3_whereTo_8 _ (by first | exact am_rN (by omega) | exact ⟨by omega, by omega⟩ | assumption) _ (by first | exact am_rN (by omega) | exact ⟨by omega, by omega⟩ | assumption) _ (by first | exact am_rN (by omega) | exact ⟨by omega, by omega⟩ | assumption) ⟨fun z => absurd h.2.1.1 (by omega), fun _ => ⟨fun hb => nx ?_, fun hb => ⟨⟨by omega, by omega⟩, fun hs => nx ?_, fun hs => km_isClear h (by omega) ⟨fun hc => nx ?_, fun hc => km_insideOf h (by omega) ⟨fun hi => nx ?_, fun hi => ?_⟩⟩⟩⟩⟩
    · have e : (b == 2) = false := by simp; omega
      rw [e]
      rfl
    · rw [h.sort (by omega)] at hs
      have e : (s j == 2) = false := by simp; omega
      rw [e, Bool.and_false]
      rfl
    · rw [hc, Bool.and_false]
      rfl
    · obtain ⟨x, hx⟩ := sp_ob_ge (by omega : ¬ sp_ob (sp_inside n T j) < 0)
      rw [hx]
      exact Bool.and_false _
    · rw [h.sort (by omega)] at hs
      have e1 : (b == 2) = true := by simp; omega
      have e2 : (s j == 2) = true := by simp; omega
      have e : sp_goal n s T k 1 b = some (8 + j) := by
        unfold sp_goal
        rw [if_pos rfl, sp_find_some (k := j) (by omega) ?_ (fun o ho => hno o ho)]
        · rfl
        · rw [e1, e2, hc, sp_ob_lt.mp (by omega : sp_ob (sp_inside n T j) < 0)]
          rfl
      rw [e] at hP
      rw [show (8 + (j : Int)) = ((8 + j : Nat) : Int) by omega]
      exact am_qi_mk (am_rN (by omega)) hP
theorem km_whereTo_72 {k rel b j : Nat} {P : Int → am_M → Prop} (h : mt S t n s T) (hk : k < n) (hb4 : b < 4) (hr3 : rel < 3) (hr1 : rel ≠ 1) (hj : j ≤ n) (hno : ∀ o, o < j → ((o != k) && (s o == b) && (if rel = 0 then sp_clear T o else (T.2.2 o).isNone)) = false) (hP : P (sp_on (sp_goal n s T k rel b)) S) :
    VX3_whereTo l (am_qi P) 72 [(0, am_R 0), (1, am_I t), (2, am_I k), (3, am_I rel), (4, am_I b), (5, am_I j)] [] S := by
  have hn := h.2.2.2.1
  have ht := h.1
  generalize hm : n - j = m
  induction m generalizing j with
  | zero =>
    refine bX3_whereTo_72 _ (by first | exact am_rN (by omega) | exact ⟨by omega, by omega⟩ | assumption) _ (by first | exact am_rN (by omega) | exact ⟨by omega, by omega⟩ | assumption) _ (by first | exact am_rN (by omega) | exact ⟨by omega, by omega⟩ | assumption) _ (by first | exact am_rN (by omega) | exact ⟨by omega, by omega⟩ | assumption) _ (by first | exact am_rN (by omega) | exact ⟨by omega, by omega⟩ | assumption) ⟨fun _ => ?_, fun z => absurd h.2.1.1 (by omega)⟩
    have e : sp_goal n s T k rel b = none := by
      unfold sp_goal
      rw [if_neg hr1]
      by_cases r0 : rel = 0
      · simp only [r0, if_true] at hno ⊢
        rw [sp_find_none (fun o ho => hno o (by omega))]
        rfl
      · simp only [r0, if_false] at hno ⊢
        rw [sp_find_none (fun o ho => hno o (by omega))]
        rfl
    rw [e] at hP
    exact am_qi_mk ⟨by decide, by decide⟩ hP
  | succ m ih =>
    have nx : ((j != k) && (s j == b) && (if rel = 0 then sp_clear T j else (T.2.2 j).isNone)) = false → VX3_whereTo l (am_qi P) 72 [(0, am_R 0), (1, am_I t), (2, am_I k), (3, am_I rel), (4, am_I b), (5, am_I ((j : Int) + 1))] [] S := by
      intro hx
      refine ih (j := j + 1) (by omega) (fun o ho => ?_) (by omega)
      by_cases q : o = j
      · rw [q]; exact hx
      · exact hno o (by omega)
    refine bX3_whereTo_72 _ (by first | exact am_rN (by omega) | exact ⟨by omega, by omega⟩ | assumption) _ (by first | exact am_rN (by omega) | exact ⟨by omega, by omega⟩ | assumption) _ (by first | exact am_rN (by omega) | exact ⟨by omega, by omega⟩ | assumption) _ (by first | exact am_rN (by omega) | exact ⟨by omega, by omega⟩ | assumption) _ (by first | exact am_rN (by omega) | exact ⟨by omega, by omega⟩ | assumption) ⟨fun z => absurd h.2.1.1 (by omega), fun _ => ⟨fun he => nx ?_, fun he => ⟨⟨by omega, by omega⟩, fun hs => nx ?_, fun hs => ⟨fun hr => km_box h (by omega) ⟨fun hx => nx ?_, fun hx => km_cellOn h (by omega) (sp_ob_lt.mp (by omega)) ⟨fun _ => ?_, fun z => absurd z hr⟩⟩, fun hr => km_isClear h (by omega) ⟨fun hx => nx ?_, fun hx => ?_⟩⟩⟩⟩⟩
    · have e : (j != k) = false := by simp; omega
      rw [e]
      rfl
    · rw [h.sort (by omega)] at hs
      have e : (s j == b) = false := by simp; omega
      rw [e, Bool.and_false]
      rfl
    · obtain ⟨x, hx⟩ := sp_ob_ge (by omega : ¬ sp_ob (T.2.2 j) < 0)
      rw [if_neg (by omega), hx]
      exact Bool.and_false _
    · rw [h.sort (by omega)] at hs
      have hb := sp_ob_lt.mp (by omega : sp_ob (T.2.2 j) < 0)
      have e1 : (j != k) = true := by simp; omega
      have e2 : (s j == b) = true := by simp; omega
      have e : sp_goal n s T k rel b = sp_free T (T.2.1 j) := by
        unfold sp_goal
        have r0 : ¬ rel = 0 := by omega
        simp only [r0, if_false] at hno ⊢
        rw [if_neg hr1, sp_find_some (k := j) (by omega) ?_ (fun o ho => hno o ho)]
        · rfl
        · rw [e1, e2, hb]
          rfl
      rw [e] at hP
      exact km_whereTo_145 (d := 0) h (h.on (by omega) hb).2.1 (Nat.zero_le _) (fun _ z => absurd z (Nat.not_lt_zero _)) hP
    · rw [if_pos (by omega), hx]
      exact Bool.and_false _
    · have hb : T.2.2 j = none := by
        unfold sp_clear at hx
        simp only [Bool.and_eq_true, Option.isNone_iff_eq_none] at hx
        exact hx.1
      refine km_cellOn h (by omega) hb ⟨fun z => absurd hr z, fun _ => ?_⟩
      rw [h.sort (by omega)] at hs
      have e1 : (j != k) = true := by simp; omega
      have e2 : (s j == b) = true := by simp; omega
      have e : sp_goal n s T k rel b = some (T.2.1 j) := by
        unfold sp_goal
        have r0 : rel = 0 := by omega
        simp only [r0, if_true] at hno ⊢
        rw [if_neg (by decide), sp_find_some (k := j) (by omega) ?_ (fun o ho => hno o ho)]
        · rfl
        · rw [e1, e2, hx]
          rfl
      rw [e] at hP
      have := (h.on (by omega) hb).2.1
      exact am_qi_mk (am_rN (by omega)) hP
theorem km_whereTo {k rel b : Nat} {P : Int → am_M → Prop} (h : mt S t n s T) (hk : k < n) (hb4 : b < 4) (hr3 : rel < 3) (hP : P (sp_on (sp_goal n s T k rel b)) S) : kX3_whereTo l [am_R 0, am_I t, am_I k, am_I rel, am_I b] S (am_qi P) := by
  have hn := h.2.2.2.1
  have ht := h.1
  refine bX3_whereTo _ (by first | exact am_rN (by omega) | exact ⟨by omega, by omega⟩ | assumption) _ (by first | exact am_rN (by omega) | exact ⟨by omega, by omega⟩ | assumption) _ (by first | exact am_rN (by omega) | exact ⟨by omega, by omega⟩ | assumption) _ (by first | exact am_rN (by omega) | exact ⟨by omega, by omega⟩ | assumption) ⟨fun hr => ?_, fun hr => ?_⟩
  · exact km_whereTo_72 (j := 0) h hk hb4 hr3 (by omega) (Nat.zero_le _) (fun _ z => absurd z (Nat.not_lt_zero _)) hP
  · have e : rel = 1 := by omega
    subst e
    exact km_whereTo_8 (k := k) (j := 0) h hb4 (Nat.zero_le _) (fun _ z => absurd z (Nat.not_lt_zero _)) hP
theorem km_isPut {k rel b : Nat} {P : Bool → am_M → Prop} (h : mt S t n s T) (hk : k < n) (hb4 : b < 4) (hr3 : rel < 3) (h0 : sp_put1 n s T k rel b = none → P false S) (h1 : ∀ T' S', sp_put1 n s T k rel b = some T' → mt S' t n s T' → md_fr t S S' → P true S') : kX3_isPut l [am_R 0, am_I t, am_I k, am_I rel, am_I b] S (am_qz P) := by
  have hn := h.2.2.2.1
  have ht := h.1
  unfold sp_put1 at h0 h1
  refine bX3_isPut _ (by first | exact am_rN (by omega) | exact ⟨by omega, by omega⟩ | assumption) _ (by first | exact am_rN (by omega) | exact ⟨by omega, by omega⟩ | assumption) _ (by first | exact am_rN (by omega) | exact ⟨by omega, by omega⟩ | assumption) _ (by first | exact am_rN (by omega) | exact ⟨by omega, by omega⟩ | assumption) (km_whereTo h hk hb4 hr3 ?_)
  cases hg : sp_goal n s T k rel b with
  | none =>
    rw [hg] at h0
    exact ⟨fun _ => am_qz_mk (h0 rfl), fun z => absurd rfl z⟩
  | some to =>
    rw [hg] at h0 h1
    obtain ⟨g1, g2⟩ := sp_goal_ok h.2.2.2 hg
    refine ⟨fun z => absurd z (show ¬ (to : Int) = -1000000 by omega), fun _ => km_canMove h hk g1 ⟨fun hc => km_doMove h hk g1 g2 hc (fun S' m' f' => am_qz_mk (h1 _ _ ?_ m' f')), fun hc => am_qz_mk (h0 ?_)⟩⟩
    · show (if sp_can n s T k to = true then some (sp_move T k to) else none) = _
      rw [if_pos hc]
    · show (if sp_can n s T k to = true then some (sp_move T k to) else none) = _
      rw [hc]
      rfl
end KM4
