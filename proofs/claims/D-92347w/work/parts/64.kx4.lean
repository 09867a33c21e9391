/-- the test that goal makes of a thing o; where it is to go then -/
def xg_test (n : Nat) (s : Nat → Nat) (T : sp_T) (k rel b o : Nat) : Bool := (o != k) && (s o == b) && (if rel = 1 then b == 2 && sp_clear T o && (sp_inside n T o).isNone else if rel = 0 then sp_clear T o else (T.2.2 o).isNone)
def sp_gto (T : sp_T) (rel o : Nat) : Option Nat := if rel = 1 then some (8 + o) else if rel = 0 then some (T.2.1 o) else sp_free T (T.2.1 o)
def xg (n : Nat) (s : Nat → Nat) (T : sp_T) (k rel b : Nat) : Option Nat := ((List.range n).find? (xg_test n s T k rel b)).bind (sp_gto T rel)
section SG
variable {n : Nat} {s : Nat → Nat} {T : sp_T}
theorem xg_put1 {k rel b : Nat} : (xg n s T k rel b).bind (fun to => if sp_can n s T k to = true then some (sp_move T k to) else none) = sp_put1 n s T k rel b := by
  unfold sp_put1 sp_goal xg
  by_cases h1 : rel = 1
  · subst h1
    rw [if_pos rfl]
    have hto : sp_gto T 1 = fun o => some (8 + o) := by
      funext o
      rfl
    rw [hto]
    by_cases hk : s k = 2
    · have hf : ∀ o, (if sp_can n s T k (8 + o) = true then some (sp_move T k (8 + o)) else none) = none := fun o => by
        rw [if_neg]
        unfold sp_can
        rw [if_neg (by omega), hk]
        simp
      cases (List.range n).find? (xg_test n s T k 1 b) <;> cases (List.range n).find? (fun o => b == 2 && (s o == 2) && sp_clear T o && (sp_inside n T o).isNone) <;> simp [hf]
    · have e : (List.range n).find? (xg_test n s T k 1 b) = (List.range n).find? (fun o => b == 2 && (s o == 2) && sp_clear T o && (sp_inside n T o).isNone) := by
        refine fd_congr _ (fun o _ => ?_)
        unfold xg_test
        rw [if_pos rfl]
        by_cases hb : b = 2
        · subst hb
          by_cases ho : o = k
          · subst ho
            have : (s o == 2) = false := by simpa using hk
            simp [this]
          · have : (o != k) = true := by simpa using ho
            simp [this, Bool.and_assoc]
        · have : (b == 2) = false := by simpa using hb
          simp [this]
      rw [e]
      cases (List.range n).find? (fun o => b == 2 && (s o == 2) && sp_clear T o && (sp_inside n T o).isNone) <;> rfl
  · rw [if_neg h1]
    by_cases h0 : rel = 0
    · subst h0
      rw [if_pos rfl]
      have e : (List.range n).find? (xg_test n s T k 0 b) = (List.range n).find? (fun o => (o != k) && (s o == b) && sp_clear T o) := by
        refine fd_congr _ (fun o _ => ?_)
        unfold xg_test
        rw [if_neg (by decide), if_pos rfl]
      rw [e]
      cases (List.range n).find? (fun o => (o != k) && (s o == b) && sp_clear T o) <;> rfl
    · rw [if_neg h0]
      have e : (List.range n).find? (xg_test n s T k rel b) = (List.range n).find? (fun o => (o != k) && (s o == b) && (T.2.2 o).isNone) := by
        refine fd_congr _ (fun o _ => ?_)
        unfold xg_test
        rw [if_neg h1, if_neg h0]
      have hto : sp_gto T rel = fun o => sp_free T (T.2.1 o) := by
        funext o
        unfold sp_gto
        rw [if_neg h1, if_neg h0]
      rw [e, hto]
theorem xg_ok {k rel b to : Nat} (h : sp_ok n s T) (hg : xg n s T k rel b = some to) : to < 8 + n ∧ (8 ≤ to → s (to - 8) = 2) := by
  unfold xg at hg
  cases hf : (List.range n).find? (xg_test n s T k rel b) with
  | none => rw [hf] at hg; cases hg
  | some o =>
    rw [hf] at hg
    have ho := List.mem_range.mp (List.mem_of_find?_eq_some hf)
    have ht := List.find?_some hf
    have hg : sp_gto T rel o = some to := hg
    unfold xg_test at ht
    unfold sp_gto at hg
    simp only [Bool.and_eq_true, bne_iff_ne, beq_iff_eq] at ht
    obtain ⟨⟨t1, t2⟩, t3⟩ := ht
    split at hg
    · rename_i hr
      rw [if_pos hr] at t3
      simp only [Bool.and_eq_true, beq_iff_eq] at t3
      cases hg
      exact ⟨by omega, fun _ => by rw [Nat.add_sub_cancel_left, t2]; exact t3.1.1⟩
    · rename_i hr
      rw [if_neg hr] at t3
      split at hg
      · rename_i hr0
        rw [if_pos hr0] at t3
        cases hg
        unfold sp_clear at t3
        simp only [Bool.and_eq_true, Option.isNone_iff_eq_none] at t3
        have := h.2.2.1 o ho t3.1
        exact ⟨by omega, fun z => absurd z (by omega)⟩
      · have := sp_free_lt hg
        exact ⟨by omega, fun z => absurd z (by omega)⟩
theorem xg_r {k rel b : Nat} (h : sp_ok n s T) : am_r (sp_on (xg n s T k rel b)) := by
  have := h.1
  exact sp_on_r (n := 100) (by decide) (fun x hx => by have := (xg_ok h hx).1; omega)
theorem xg_some {k rel b o : Nat} (ho : o < n) (hno : ∀ i, i < o → xg_test n s T k rel b i = false) (hy : xg_test n s T k rel b o = true) : xg n s T k rel b = sp_gto T rel o := by
  unfold xg
  rw [sp_find_some ho hy hno]
  rfl
end SG
section KX4
variable {l : Launch} {S : ah_H} {a n : Nat} {s : Nat → Nat} {T : sp_T}
theorem kx_goal_3 {k rel b o : Nat} {P : Int → ah_H → Prop} (hs : xn S.1 n s) (h : xt S.1 a n s T) (hk : k < n) (hb4 : b < 4) (hrel : rel < 3) (ho : o ≤ n) (hno : ∀ i, i < o → xg_test n s T k rel b i = false) (hP : P (sp_on (xg n s T k rel b)) S) :
    VX0_goal l (am_qi P) 3 [(0, am_R 32), (1, am_R a), (2, am_I k), (3, am_I rel), (4, am_I b), (5, am_I o)] [] S := by
  have hn := h.2.1.1
  obtain ⟨hX, hok, p, hi', ce, bo, ho', ⟨e0, e1, e2, e3, e4, e5⟩, hq⟩ := id h
  obtain ⟨fs, f, n0, n1, n2, n3, n4⟩ := id hs
  generalize hm : n - o = m
  induction m generalizing o with
  | zero =>
    refine bX0_goal_3 _ _ _ (by first | exact am_rN (by omega) | exact ⟨by omega, by omega⟩ | assumption) _ (by first | exact am_rN (by omega) | exact ⟨by omega, by omega⟩ | assumption) _ (by first | exact am_rN (by omega) | exact ⟨by omega, by omega⟩ | assumption) _ (by first | exact am_rN (by omega) | exact ⟨by omega, by omega⟩ | assumption) ⟨_, n0, _, ⟨n1, am_rN (by omega)⟩, fun _ => am_qi_mk ⟨by decide, by decide⟩ ?_, fun z => absurd z (by omega)⟩
    have e : xg n s T k rel b = none := by
      unfold xg
      rw [sp_find_none (fun i hi => hno i (by omega))]
      rfl
    rw [e] at hP
    exact hP
  | succ m ih =>
    have hon : o < n := by omega
    have next : xg_test n s T k rel b o = false → VX0_goal l (am_qi P) 3 [(0, am_R 32), (1, am_R a), (2, am_I k), (3, am_I rel), (4, am_I b), (5, am_I ((o : Int) + 1))] [] S := fun z => ih (o := o + 1) (by omega) (fun i hi => by
      by_cases q : i = o
      · rw [q]
        exact z
      · exact hno i (by omega)) (by omega)
    have hso := (n4 o hon).1
    have done : xg_test n s T k rel b o = true → P (sp_on (sp_gto T rel o)) S := fun z => by
      rw [xg_some hon hno z] at hP
      exact hP
    refine bX0_goal_3 _ _ _ (by first | exact am_rN (by omega) | exact ⟨by omega, by omega⟩ | assumption) _ (by first | exact am_rN (by omega) | exact ⟨by omega, by omega⟩ | assumption) _ (by first | exact am_rN (by omega) | exact ⟨by omega, by omega⟩ | assumption) _ (by first | exact am_rN (by omega) | exact ⟨by omega, by omega⟩ | assumption) ⟨_, n0, _, ⟨n1, am_rN (by omega)⟩, fun z => absurd z (by omega), fun _ => ⟨fun z => next ?_, fun hne => ⟨_, n2, _, _, n3, ⟨by omega, by omega⟩, fun hsb => ?_, fun hsb => next ?_⟩⟩⟩
    · unfold xg_test
      have : (o != k) = false := by simp; omega
      rw [this]
      rfl
    · have hsb : (f o).toInt = (b : Int) := hsb
      rw [hso] at hsb
      have g1 : (o != k) = true := by simp; omega
      have g2 : (s o == b) = true := by simp; omega
      have et : xg_test n s T k rel b o = (if rel = 1 then b == 2 && sp_clear T o && (sp_inside n T o).isNone else if rel = 0 then sp_clear T o else (T.2.2 o).isNone) := by
        unfold xg_test
        rw [g1, g2]
        rfl
      rw [et] at next done
      have at92 : (if rel = 1 then b == 2 && sp_clear T o && (sp_inside n T o).isNone else if rel = 0 then sp_clear T o else true) = false ∨ rel = 2 → VX0_goal l (am_qi P) 92 [(0, am_R 32), (1, am_R a), (2, am_I k), (3, am_I rel), (4, am_I b), (5, am_I o)] [] S := fun h92 => by
        refine bX0_goal_92 _ _ _ (by first | exact am_rN (by omega) | exact ⟨by omega, by omega⟩ | assumption) _ (by first | exact am_rN (by omega) | exact ⟨by omega, by omega⟩ | assumption) _ (by first | exact am_rN (by omega) | exact ⟨by omega, by omega⟩ | assumption) _ (by first | exact am_rN (by omega) | exact ⟨by omega, by omega⟩ | assumption) ⟨fun z => next ?_, fun z => ⟨_, e0, _, rfl, _, _, e4, ⟨by omega, by omega⟩, fun hx => next ?_, fun hx => ⟨_, rfl, _, _, e3, ⟨by omega, by omega⟩, ?_⟩⟩⟩
        · rcases h92 with h92 | h92
          · by_cases r1 : rel = 1
            · rw [if_pos r1] at h92 ⊢
              exact h92
            · by_cases r0 : rel = 0
              · rw [if_neg r1, if_pos r0] at h92 ⊢
                exact h92
              · omega
          · omega
        · rw [if_neg (by omega), if_neg (by omega), Bool.eq_false_iff]
          exact fun q => hx ((hq.bN hon).mpr (Option.isNone_iff_eq_none.mp q))
        · have hb := (hq.bN hon).mp hx
          have hd := done (by rw [if_neg (by omega), if_neg (by omega), hb]; rfl)
          unfold sp_gto at hd
          rw [if_neg (by omega), if_neg (by omega)] at hd
          rw [hq.cN hon hb]
          exact kx_besideOf h (hok.2.2.1 o hon hb) (am_qi_mk (sp_on_r (n := 100) (by decide) (fun x hx => by have := sp_free_lt hx; omega)) hd)
      have at54 : ¬ rel = 0 ∨ sp_clear T o = false → VX0_goal l (am_qi P) 54 [(0, am_R 32), (1, am_R a), (2, am_I k), (3, am_I rel), (4, am_I b), (5, am_I o)] [] S := fun h54 => by
        refine bX0_goal_54 _ _ _ (by first | exact am_rN (by omega) | exact ⟨by omega, by omega⟩ | assumption) _ (by first | exact am_rN (by omega) | exact ⟨by omega, by omega⟩ | assumption) _ (by first | exact am_rN (by omega) | exact ⟨by omega, by omega⟩ | assumption) _ (by first | exact am_rN (by omega) | exact ⟨by omega, by omega⟩ | assumption) ⟨fun z => at92 ?_, fun z => ⟨fun hb => at92 (Or.inl ?_), fun hb => ⟨_, e0, kx_isClear h hon ⟨fun hc => at92 (Or.inl ?_), fun hc => ⟨_, e0, _, rfl, _, _, e5, ⟨by omega, by omega⟩, fun hx => at92 (Or.inl ?_), fun hx => ?_⟩⟩⟩⟩⟩
        · by_cases r0 : rel = 0
          · rw [if_neg (by omega), if_pos r0]
            rcases h54 with h54 | h54
            · exact absurd r0 h54
            · exact Or.inl h54
          · exact Or.inr (by omega)
        · have : (b == 2) = false := by simp; omega
          rw [if_pos (by omega), this]
          rfl
        · rw [if_pos (by omega), hc]
          simp
        · have : (sp_inside n T o).isNone = false := by
            rw [Bool.eq_false_iff]
            exact fun q => hx ((hq.hN hon).mpr (Option.isNone_iff_eq_none.mp q))
          rw [if_pos (by omega), this]
          simp
        · have g3 : (b == 2) = true := by simp; omega
          have hd := done (by rw [if_pos (by omega), hc, g3, (hq.hN hon).mp hx]; rfl)
          unfold sp_gto at hd
          rw [if_pos (by omega)] at hd
          refine am_qi_mk ⟨by omega, by omega⟩ ?_
          rw [show (8 : Int) + (o : Int) = ((8 + o : Nat) : Int) by omega]
          exact hd
      refine ⟨fun z => at54 (Or.inl (by omega)), fun z => ⟨_, e0, kx_isClear h hon ⟨fun hc => at54 (Or.inr hc), fun hc => ⟨_, e0, _, rfl, _, _, e3, ⟨by omega, by omega⟩, am_qi_mk (am_rt _) ?_⟩⟩⟩⟩
      have hd := done (by rw [if_neg (by omega), if_pos (by omega)]; exact hc)
      unfold sp_gto at hd
      rw [if_neg (by omega), if_pos (by omega)] at hd
      have hb : T.2.2 o = none := by
        unfold sp_clear at hc
        simp only [Bool.and_eq_true, Option.isNone_iff_eq_none] at hc
        exact hc.1
      rw [hq.cN hon hb]
      exact hd
    · have hsb : ¬ (f o).toInt = (b : Int) := hsb
      rw [hso] at hsb
      unfold xg_test
      have : (s o == b) = false := by simp; omega
      rw [this]
      simp
theorem kx_goal {k rel b : Nat} {P : Int → ah_H → Prop} (hs : xn S.1 n s) (h : xt S.1 a n s T) (hk : k < n) (hb4 : b < 4) (hrel : rel < 3) (hP : P (sp_on (xg n s T k rel b)) S) : kX0_goal l [am_R 32, am_R a, am_I k, am_I rel, am_I b] S (am_qi P) := by
  have hn := h.2.1.1
  exact bX0_goal _ _ _ (by first | exact am_rN (by omega) | exact ⟨by omega, by omega⟩ | assumption) _ (by first | exact am_rN (by omega) | exact ⟨by omega, by omega⟩ | assumption) _ (by first | exact am_rN (by omega) | exact ⟨by omega, by omega⟩ | assumption) (kx_goal_3 (o := 0) hs h hk hb4 hrel (Nat.zero_le _) (fun i hi => absurd hi (by omega)) hP)
theorem kx_can {k to : Nat} {P : Bool → ah_H → Prop} (hs : xn S.1 n s) (h : xt S.1 a n s T) (hk : k < n) (hto : to < 8 + n) (hto2 : 8 ≤ to → s (to - 8) = 2) (hP : P (sp_can n s T k to) S) : kX0_can l [am_R 32, am_R a, am_I k, am_I to] S (am_qz P) := by
  have hn := h.2.1.1
  obtain ⟨hX, hok, p, hi', ce, bo, ho', ⟨e0, e1, e2, e3, e4, e5⟩, hq⟩ := id h
  obtain ⟨fs, f, n0, n1, n2, n3, n4⟩ := id hs
  refine bX0_can _ _ _ (by first | exact am_rN (by omega) | exact ⟨by omega, by omega⟩ | assumption) _ (by first | exact am_rN (by omega) | exact ⟨by omega, by omega⟩ | assumption) ⟨_, e0, kx_isLoose h hk ⟨fun hl => ⟨fun h8 => am_qz_mk ?_, fun h8 => ⟨_, n0, _, n2, _, _, n3, ⟨by omega, by omega⟩, fun h2 => am_qz_mk ?_, fun h2 => ⟨_, e0, ?_⟩⟩⟩, fun hl => am_qz_mk ?_⟩⟩
  · unfold sp_can at hP
    rw [if_pos (by omega), hl] at hP
    exact hP
  · have h2 : (f k).toInt = 2 := h2
    rw [(n4 k hk).1] at h2
    unfold sp_can at hP
    rw [if_neg (by omega), decide_eq_false (by omega)] at hP
    simpa using hP
  · have h2 : ¬ (f k).toInt = 2 := h2
    rw [(n4 k hk).1] at h2
    obtain ⟨x, rfl⟩ : ∃ x, to = 8 + x := ⟨to - 8, by omega⟩
    have hsx := hto2 (by omega)
    rw [Nat.add_sub_cancel_left] at hsx
    have hxk : x ≠ k := fun z => h2 (by rw [← z]; omega)
    have hik : sp_inside n T k = none := sp_in_none (fun j _ z => by have := (hok.2.2.2.1 j k z).2.2.2.1; omega)
    unfold sp_can at hP
    rw [if_neg (by omega), hl, Nat.add_sub_cancel_left, decide_eq_true (show s k ≠ 2 by omega), Bool.true_and, Bool.true_and] at hP
    rw [show (((8 + x : Nat) : Int) - 8) = (x : Int) by omega]
    refine kx_isFor h hk (by omega) ?_
    rw [decide_eq_true hxk, hik, Bool.true_and, show (none : Option Nat).isNone = true from rfl, Bool.and_true]
    refine ⟨fun z => am_qz_mk ?_, fun z => ⟨_, e0, _, rfl, _, _, e4, ⟨by omega, by omega⟩, ⟨by omega, by omega⟩, fun hx => am_qz_mk ?_, fun hx => am_qz_mk ?_⟩⟩
    · rw [z] at hP
      exact hP
    · simp only [Bool.and_eq_true, Option.isNone_iff_eq_none] at z
      have hx : (bo k).toInt = (x : Int) := hx
      rw [(hq.2 k hk).1] at hx
      have := sp_in_some hok (sp_on_eq.mp hx)
      rw [z.2] at this
      cases this
    · rw [z] at hP
      exact hP
  · unfold sp_can at hP
    rw [hl] at hP
    simpa using hP
theorem kx_isPut {k rel b : Nat} {P : Bool → ah_H → Prop} (hs : xn S.1 n s) (h : xt S.1 a n s T) (hk : k < n) (hb4 : b < 4) (hrel : rel < 3) (h0 : sp_put1 n s T k rel b = none → P false S)
    (h1 : ∀ T' S', sp_put1 n s T k rel b = some T' → xt S'.1 a n s T' → xw a S S' → P true S') : kX0_isPut l [am_R 32, am_R a, am_I k, am_I rel, am_I b] S (am_qz P) := by
  have hn := h.2.1.1
  obtain ⟨fs, f, n0, n1, n2, n3, n4⟩ := id hs
  rw [← xg_put1] at h0 h1
  refine bX0_isPut _ _ _ (by first | exact am_rN (by omega) | exact ⟨by omega, by omega⟩ | assumption) _ (by first | exact am_rN (by omega) | exact ⟨by omega, by omega⟩ | assumption) _ (by first | exact am_rN (by omega) | exact ⟨by omega, by omega⟩ | assumption) ⟨_, n0, kx_goal hs h hk hb4 hrel ⟨fun z => am_qz_mk (h0 ?_), fun z => ?_⟩⟩
  · rw [sp_on_none.mp z]
    rfl
  · cases hg : xg n s T k rel b with
    | none => rw [hg] at z; exact absurd rfl z
    | some to =>
      obtain ⟨g1, g2⟩ := xg_ok h.2.1 hg
      rw [hg] at h0 h1
      refine ⟨_, n0, kx_can hs h hk g1 g2 ⟨fun hc => kx_carry h hk (fun z => ⟨g1, g2 z⟩) g1 hc (fun S' x w => am_qz_mk (h1 _ S' ?_ x w)), fun hc => am_qz_mk (h0 ?_)⟩⟩
      · show (if sp_can n s T k to = true then some (sp_move T k to) else none) = _
        rw [if_pos hc]
      · show (if sp_can n s T k to = true then some (sp_move T k to) else none) = _
        rw [hc]
        rfl
theorem kx_done_123 {o put such : Nat} {r : Option Nat} {P : Int → ah_H → Prop} (ho : o < 96) (hp : put ≤ 6) (hq : such ≤ 6) (he : r = if decide (o % 2 = 1) = true ∧ (such = 0 ∨ put ≠ 0) ∨ o % 2 = 0 ∧ put ≠ 0 then some put else none) (hP : P (sp_on r) S) :
    VX0_done l (am_qi P) 123 [(2, am_I o), (6, am_I put), (7, am_I such)] [] S := by
  refine bX0_done_123 _ (by first | exact am_rN (by omega) | exact ⟨by omega, by omega⟩ | assumption) _ (by first | exact am_rN (by omega) | exact ⟨by omega, by omega⟩ | assumption) _ (by first | exact am_rN (by omega) | exact ⟨by omega, by omega⟩ | assumption) ⟨by omega, fun h2 => ⟨fun h3 => am_qi_mk (am_rN (by omega)) ?_, fun h3 => ⟨fun h4 => am_qi_mk (am_rN (by omega)) ?_, fun h4 => am_qi_mk ⟨by decide, by decide⟩ ?_⟩⟩, fun h2 => ⟨fun h4 => am_qi_mk (am_rN (by omega)) ?_, fun h4 => am_qi_mk ⟨by decide, by decide⟩ ?_⟩⟩
  · rw [if_pos (Or.inl ⟨decide_eq_true (by omega), Or.inl (by omega)⟩)] at he
    rw [he] at hP
    exact hP
  · rw [if_pos (Or.inl ⟨decide_eq_true (by omega), Or.inr (by omega)⟩)] at he
    rw [he] at hP
    exact hP
  · rw [if_neg] at he
    · rw [he] at hP
      exact hP
    · rintro (⟨z1, z2⟩ | ⟨z1, z2⟩) <;> omega
  · rw [if_pos (Or.inr ⟨by omega, by omega⟩)] at he
    rw [he] at hP
    exact hP
  · rw [if_neg] at he
    · rw [he] at hP
      exact hP
    · rintro (⟨z1, z2⟩ | ⟨z1, z2⟩)
      · have := of_decide_eq_true z1
        omega
      · omega
theorem kx_done_29 {o m put such : Nat} {P : Int → ah_H → Prop} (hs : xn S.1 n s) (h : xt S.1 a n s T) (ho : o < 96) (hm : m ≤ n) (hp : put ≤ such) (hq : such + m ≤ n) (hev : o % 2 = 0 → such = 0)
    (hP : ∀ r T' S', sp_do n s (o / 2 % 4) (o / 8 % 3) (o / 24) (decide (o % 2 = 1)) m T put such = (r, T') → xt S'.1 a n s T' → xw a S S' → P (sp_on r) S') :
    VX0_done l (am_qi P) 29 [(0, am_R 32), (1, am_R a), (2, am_I o), (3, am_I (o / 2 % 4 : Nat)), (4, am_I (o / 8 % 3 : Nat)), (5, am_I (o / 24 : Nat)), (6, am_I put), (7, am_I such), (8, am_I (n - m : Nat))] [] S := by
  have hn := h.2.1.1
  induction m generalizing S T put such with
  | zero =>
    obtain ⟨fs, f, n0, n1, n2, n3, n4⟩ := id hs
    refine bX0_done_29 _ _ _ (by first | exact am_rN (by omega) | exact ⟨by omega, by omega⟩ | assumption) _ (by first | exact am_rN (by omega) | exact ⟨by omega, by omega⟩ | assumption) _ (by first | exact am_rN (by omega) | exact ⟨by omega, by omega⟩ | assumption) _ (by first | exact am_rN (by omega) | exact ⟨by omega, by omega⟩ | assumption) _ (by first | exact am_rN (by omega) | exact ⟨by omega, by omega⟩ | assumption) _ (by first | exact am_rN (by omega) | exact ⟨by omega, by omega⟩ | assumption) _ (by first | exact am_rN (by omega) | exact ⟨by omega, by omega⟩ | assumption) ⟨_, n0, _, ⟨n1, am_rN (by omega)⟩, fun _ => kx_done_123 ho (by omega) (by omega) rfl (hP _ T S ?_ h (xw.refl _ _)), fun z => absurd z (by omega)⟩
    unfold sp_do
    congr 1
    by_cases h2 : o % 2 = 0
    · have := hev h2
      rw [if_neg, if_neg]
      · rintro (⟨z1, z2⟩ | ⟨z1, z2⟩)
        · have := of_decide_eq_true z1
          omega
        · omega
      · rintro ⟨z1, z2⟩
        have := of_decide_eq_true z1
        omega
    · by_cases h3 : such = 0 ∨ put ≠ 0
      · rw [if_pos ⟨decide_eq_true (by omega), h3⟩, if_pos (Or.inl ⟨decide_eq_true (by omega), h3⟩)]
      · rw [if_neg (fun z => h3 z.2), if_neg]
        rintro (⟨z1, z2⟩ | ⟨z1, z2⟩)
        · exact h3 z2
        · omega
  | succ m ih =>
    have hk : n - (m + 1) < n := by omega
    have ek : ((n - (m + 1) : Nat) : Int) + 1 = ((n - m : Nat) : Int) := by omega
    obtain ⟨fs, f, n0, n1, n2, n3, n4⟩ := id hs
    have hsk := (n4 _ hk).1
    have go117 : ∀ {S1 : ah_H} {T1 : sp_T} {put1 such1 : Nat}, xn S1.1 n s → xt S1.1 a n s T1 → xw a S S1 → put1 ≤ such1 → such1 + m ≤ n → (o % 2 = 0 → such1 = 0) → (sp_do n s (o / 2 % 4) (o / 8 % 3) (o / 24) (decide (o % 2 = 1)) (m + 1) T put such = sp_do n s (o / 2 % 4) (o / 8 % 3) (o / 24) (decide (o % 2 = 1)) m T1 put1 such1) →
        VX0_done l (am_qi P) 117 [(0, am_R 32), (1, am_R a), (2, am_I o), (3, am_I (o / 2 % 4 : Nat)), (4, am_I (o / 8 % 3 : Nat)), (5, am_I (o / 24 : Nat)), (6, am_I put1), (7, am_I such1), (8, am_I (n - (m + 1) : Nat))] [] S1 := by
      intro S1 T1 put1 such1 g1 g2 g3 g4 g5 g6 g7
      refine bX0_done_117 _ _ _ (by first | exact am_rN (by omega) | exact ⟨by omega, by omega⟩ | assumption) _ (by first | exact am_rN (by omega) | exact ⟨by omega, by omega⟩ | assumption) _ (by first | exact am_rN (by omega) | exact ⟨by omega, by omega⟩ | assumption) _ (by first | exact am_rN (by omega) | exact ⟨by omega, by omega⟩ | assumption) _ (by first | exact am_rN (by omega) | exact ⟨by omega, by omega⟩ | assumption) _ (by first | exact am_rN (by omega) | exact ⟨by omega, by omega⟩ | assumption) _ (by first | exact am_rN (by omega) | exact ⟨by omega, by omega⟩ | assumption) ?_
      rw [ek]
      exact ih g1 g2 (by omega) g4 g5 g6 (fun r T' S' he x w => hP r T' S' (g7.trans he) x (g3.trans w))
    have at81 : s (n - (m + 1)) = o / 2 % 4 → sp_told s T (n - (m + 1)) (o / 8 % 3) (o / 24) = false → (o % 2 = 0 → sp_loose T (n - (m + 1)) = true) →
        VX0_done l (am_qi P) 81 [(0, am_R 32), (1, am_R a), (2, am_I o), (3, am_I (o / 2 % 4 : Nat)), (4, am_I (o / 8 % 3 : Nat)), (5, am_I (o / 24 : Nat)), (6, am_I put), (7, am_I such), (8, am_I (n - (m + 1) : Nat))] [] S := by
      intro q1 q2 q3
      refine bX0_done_81 _ _ _ (by first | exact am_rN (by omega) | exact ⟨by omega, by omega⟩ | assumption) _ (by first | exact am_rN (by omega) | exact ⟨by omega, by omega⟩ | assumption) _ (by first | exact am_rN (by omega) | exact ⟨by omega, by omega⟩ | assumption) _ (by first | exact am_rN (by omega) | exact ⟨by omega, by omega⟩ | assumption) _ (by first | exact am_rN (by omega) | exact ⟨by omega, by omega⟩ | assumption) _ (by first | exact am_rN (by omega) | exact ⟨by omega, by omega⟩ | assumption) _ (by first | exact am_rN (by omega) | exact ⟨by omega, by omega⟩ | assumption) ⟨_, n0, kx_isPut hs h hk (by omega) (by omega) (fun e1 => ⟨fun _ => ?_, fun z => by simp at z⟩) (fun T' S' e1 x w => ⟨fun z => by simp at z, fun _ => ?_⟩)⟩
      · rw [show ((put : Int) + 0) = (put : Int) by omega, show ((such : Int) + 1) = ((such + 1 : Nat) : Int) by omega]
        refine bX0_done_108 _ _ _ (by first | exact am_rN (by omega) | exact ⟨by omega, by omega⟩ | assumption) _ (by first | exact am_rN (by omega) | exact ⟨by omega, by omega⟩ | assumption) _ (by first | exact am_rN (by omega) | exact ⟨by omega, by omega⟩ | assumption) _ (by first | exact am_rN (by omega) | exact ⟨by omega, by omega⟩ | assumption) _ (by first | exact am_rN (by omega) | exact ⟨by omega, by omega⟩ | assumption) _ (by first | exact am_rN (by omega) | exact ⟨by omega, by omega⟩ | assumption) _ (by first | exact am_rN (by omega) | exact ⟨by omega, by omega⟩ | assumption) ⟨by omega, fun z => go117 hs h (xw.refl _ _) (by omega) (by omega) (fun z2 => absurd z2 (by omega)) ?_, fun z => kx_done_123 ho (by omega) (by omega) rfl (hP _ T S ?_ h (xw.refl _ _))⟩
        · rw [sp_do, if_pos ⟨q1, q2⟩, if_pos (decide_eq_true (by omega)), e1]
        · rw [sp_do, if_pos ⟨q1, q2⟩, if_neg (fun z => absurd (of_decide_eq_true z) (by omega)), if_pos (q3 (by omega)), e1]
          rw [if_neg]
          rintro (⟨z1, z2⟩ | ⟨z1, z2⟩)
          · have := of_decide_eq_true z1
            omega
          · have := hev (by omega)
            omega
      · rw [show ((put : Int) + 1) = ((put + 1 : Nat) : Int) by omega, show ((such : Int) + 1) = ((such + 1 : Nat) : Int) by omega]
        refine bX0_done_108 _ _ _ (by first | exact am_rN (by omega) | exact ⟨by omega, by omega⟩ | assumption) _ (by first | exact am_rN (by omega) | exact ⟨by omega, by omega⟩ | assumption) _ (by first | exact am_rN (by omega) | exact ⟨by omega, by omega⟩ | assumption) _ (by first | exact am_rN (by omega) | exact ⟨by omega, by omega⟩ | assumption) _ (by first | exact am_rN (by omega) | exact ⟨by omega, by omega⟩ | assumption) _ (by first | exact am_rN (by omega) | exact ⟨by omega, by omega⟩ | assumption) _ (by first | exact am_rN (by omega) | exact ⟨by omega, by omega⟩ | assumption) ⟨by omega, fun z => go117 (hs.fr h.1 w) x w (by omega) (by omega) (fun z2 => absurd z2 (by omega)) ?_, fun z => kx_done_123 ho (by omega) (by omega) rfl (hP _ T' S' ?_ x w)⟩
        · rw [sp_do, if_pos ⟨q1, q2⟩, if_pos (decide_eq_true (by omega)), e1]
        · rw [sp_do, if_pos ⟨q1, q2⟩, if_neg (fun z => absurd (of_decide_eq_true z) (by omega)), if_pos (q3 (by omega)), e1]
          have hev0 := hev (by omega)
          rw [if_pos (Or.inr ⟨by omega, by omega⟩)]
          rw [show put = 0 by omega]
    refine bX0_done_29 _ _ _ (by first | exact am_rN (by omega) | exact ⟨by omega, by omega⟩ | assumption) _ (by first | exact am_rN (by omega) | exact ⟨by omega, by omega⟩ | assumption) _ (by first | exact am_rN (by omega) | exact ⟨by omega, by omega⟩ | assumption) _ (by first | exact am_rN (by omega) | exact ⟨by omega, by omega⟩ | assumption) _ (by first | exact am_rN (by omega) | exact ⟨by omega, by omega⟩ | assumption) _ (by first | exact am_rN (by omega) | exact ⟨by omega, by omega⟩ | assumption) _ (by first | exact am_rN (by omega) | exact ⟨by omega, by omega⟩ | assumption) ⟨_, n0, _, ⟨n1, am_rN (by omega)⟩, fun z => absurd z (by omega), fun _ => ⟨_, n2, _, _, n3, ⟨by omega, by omega⟩, fun hsb => ?_, fun hsb => kx_isAsTold hs h hk (by omega) (by omega) ⟨fun ht => ?_, fun hf => ⟨by omega, fun h2 => ?_, fun h2 => ⟨_, h.hd, kx_isLoose h hk ⟨fun hl => ?_, fun hl => ?_⟩⟩⟩⟩⟩⟩
    · have hsb : ¬ (f (n - (m + 1))).toInt = _ := hsb
      rw [hsk] at hsb
      refine go117 hs h (xw.refl _ _) hp (by omega) hev ?_
      rw [sp_do, if_neg]
      exact fun z => hsb (by rw [z.1])
    · refine go117 hs h (xw.refl _ _) hp (by omega) hev ?_
      rw [sp_do, if_neg]
      exact fun z => by rw [z.2] at ht; simp at ht
    · have hsb : (f (n - (m + 1))).toInt = _ := hsb
      rw [hsk] at hsb
      exact at81 (by omega) hf (fun z => absurd z (by omega))
    · have hsb : (f (n - (m + 1))).toInt = _ := hsb
      rw [hsk] at hsb
      exact at81 (by omega) hf (fun _ => hl)
    · have hsb : (f (n - (m + 1))).toInt = _ := hsb
      rw [hsk] at hsb
      refine go117 hs h (xw.refl _ _) hp (by omega) hev ?_
      rw [sp_do, if_pos ⟨by omega, hf⟩, if_neg (fun z => absurd (of_decide_eq_true z) (by omega)), if_neg (by rw [hl]; simp)]
theorem kx_done {o : Nat} {P : Int → ah_H → Prop} (hs : xn S.1 n s) (h : xt S.1 a n s T) (ho : o < 96) (hP : ∀ S', xt S'.1 a n s (sp_order n s T o).2 → xw a S S' → P (sp_on (sp_order n s T o).1) S') : kX0_done l [am_R 32, am_R a, am_I o] S (am_qi P) := by
  have hn := h.2.1.1
  refine bX0_done _ _ _ (by first | exact am_rN (by omega) | exact ⟨by omega, by omega⟩ | assumption) ⟨by omega, by omega, by omega, ?_⟩
  have e1 : ((o : Int) / 2) % 4 = ((o / 2 % 4 : Nat) : Int) := by omega
  have e2 : ((o : Int) / 8) % 3 = ((o / 8 % 3 : Nat) : Int) := by omega
  have e3 : (o : Int) / 24 = ((o / 24 : Nat) : Int) := by omega
  rw [e1, e2, e3]
  have := kx_done_29 (l := l) (P := P) (m := n) (put := 0) (such := 0) hs h ho (Nat.le_refl _) (Nat.le_refl _) (by omega) (fun _ => rfl) (fun r T' S' he x w => by
    have he : sp_order n s T o = (r, T') := he
    have := hP S'
    rw [he] at this
    exact this x w)
  rw [Nat.sub_self] at this
  exact this
end KX4
