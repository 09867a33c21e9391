/-- which of four words -/
def z_ofw (base : Nat) (u : List Nat) : Option Nat := (List.range 4).find? (fun i => decide (u = xwd (base + i)))
theorem z_sortOf_eq (u : List Nat) : z_sortOf u = z_ofw 4 u := by
  unfold z_sortOf z_ofw
  rw [show List.range 4 = [0, 1, 2, 3] from rfl]
  simp only [List.find?]
  rw [show xwd (4 + 0) = w_cup from rfl, show xwd (4 + 1) = w_cloth from rfl, show xwd (4 + 2) = w_box from rfl, show xwd (4 + 3) = w_lid from rfl]
  by_cases h0 : u = w_cup
  · simp [h0]
  · by_cases h1 : u = w_cloth
    · rw [if_neg h0, if_pos h1, decide_eq_false h0, decide_eq_true h1]
    · by_cases h2 : u = w_box
      · rw [if_neg h0, if_neg h1, if_pos h2, decide_eq_false h0, decide_eq_false h1, decide_eq_true h2]
      · by_cases h3 : u = w_lid
        · rw [if_neg h0, if_neg h1, if_neg h2, if_pos h3, decide_eq_false h0, decide_eq_false h1, decide_eq_false h2, decide_eq_true h3]
        · rw [if_neg h0, if_neg h1, if_neg h2, if_neg h3, decide_eq_false h0, decide_eq_false h1, decide_eq_false h2, decide_eq_false h3]
theorem z_relOf_eq (u : List Nat) : z_relOf u = z_ofw 8 u := by
  unfold z_relOf z_ofw
  rw [show List.range 4 = [0, 1, 2, 3] from rfl]
  simp only [List.find?]
  rw [show xwd (8 + 0) = w_on from rfl, show xwd (8 + 1) = w_in from rfl, show xwd (8 + 2) = w_beside from rfl, show xwd (8 + 3) = w_at from rfl]
  by_cases h0 : u = w_on
  · simp [h0]
  · by_cases h1 : u = w_in
    · rw [if_neg h0, if_pos h1, decide_eq_false h0, decide_eq_true h1]
    · by_cases h2 : u = w_beside
      · rw [if_neg h0, if_neg h1, if_pos h2, decide_eq_false h0, decide_eq_false h1, decide_eq_true h2]
      · by_cases h3 : u = w_at
        · rw [if_neg h0, if_neg h1, if_neg h2, if_pos h3, decide_eq_false h0, decide_eq_false h1, decide_eq_false h2, decide_eq_true h3]
        · rw [if_neg h0, if_neg h1, if_neg h2, if_neg h3, decide_eq_false h0, decide_eq_false h1, decide_eq_false h2, decide_eq_false h3]
/-- a never without its sign -/
def q_never (f : Nat → Nat) (L : Nat) (tk : sp_tk) : (Nat × Nat) ⊕ ((Nat × Nat × Nat) × sp_tk) := match p_sort f L tk with
  | .inl e => .inl e
  | .inr (a, t1) => match p_rel f L t1 with
    | .inl e => .inl e
    | .inr (r, t2) => match (if r = 3 then p_num f L 7 t2 else p_sort f L t2) with
      | .inl e => .inl e
      | .inr (b, t3) => .inr ((a, r, b), t3)
def q_most (f : Nat → Nat) (L : Nat) (tk : sp_tk) : (Nat × Nat) ⊕ ((Nat × Nat × Nat) × sp_tk) := match p_num f L 7 tk with
  | .inl e => .inl e
  | .inr (a, t1) => match p_num f L 200 t1 with
    | .inl e => .inl e
    | .inr (b, t2) => .inr ((a, 4, b), t2)
def q_end (f : Nat → Nat) (L : Nat) (x : (Nat × Nat) ⊕ ((Nat × Nat × Nat) × sp_tk)) : (Nat × Nat) ⊕ ((Nat × Nat × Nat) × sp_tk) := match x with
  | .inl e => .inl e
  | .inr (v, t) => p_end f L v t
theorem p_never_eq (f : Nat → Nat) (L : Nat) (tk : sp_tk) : p_never f L tk = q_end f L (q_never f L tk) := by
  unfold p_never q_never
  cases p_sort f L tk with
  | inl e => rfl
  | inr x =>
    obtain ⟨a, t1⟩ := x
    dsimp only
    cases p_rel f L t1 with
    | inl e => rfl
    | inr y =>
      obtain ⟨r, t2⟩ := y
      dsimp only
      cases (if r = 3 then p_num f L 7 t2 else p_sort f L t2) with
      | inl e => rfl
      | inr u => rfl
theorem p_most_eq (f : Nat → Nat) (L : Nat) (tk : sp_tk) : p_most f L tk = q_end f L (q_most f L tk) := by
  unfold p_most q_most
  cases p_num f L 7 tk with
  | inl e => rfl
  | inr x =>
    obtain ⟨a, t1⟩ := x
    dsimp only
    cases p_num f L 200 t1 with
    | inl e => rfl
    | inr u => rfl
section KX31
variable {l : Launch} {S S' : ah_H} {w w' : Nat → Nat} {Z : sp_Z} {tr R Y L may n : Nat} {f : Nat → Nat} {F : Nat → Nat × Nat × Nat} {tk : sp_tk}
theorem xwd_ne : ∀ i : Fin 8, xwd (4 + i.val) ≠ [] := by decide
theorem kx_word_2 {mc ms arr base k : Nat} {g : Nat → Option Nat} {P : Int → ah_H → Prop} {QX : String → Nat → ah_H → Prop} (h : xRd S w tr Z R Y L may n f F tk) (hb : base = 4 ∨ base = 8) (ha : S.1 arr = some (.inr (6, 4, .inr g))) (hg : ∀ i, i < 4 → g i = some (base + i)) (hk : k ≤ 4) (hno : ∀ i, i < k → z_wd f tk ≠ xwd (base + i))
    (hmc : 5 * ((z_tok f L tk.2.2).2.2 - tk.2.2) + 1 ≤ mc) (hms : 45 * ((z_tok f L tk.2.2).2.2 - tk.2.2) + 8 ≤ ms)
    (hX : z_ofw base (z_wd f tk) = none → ∀ S' w' j, xfl S' w' tr Z j (1, tk.2.1) → QX "TableArms$Fault" j S')
    (hP : ∀ k, k < 4 → z_ofw base (z_wd f tk) = some k → ∀ S' w', xRd S' w' tr Z R Y L may n f F (z_tok f L tk.2.2) → xRf S S' w w' → P (k : Int) S') : VX7_word l mc ms (am_qi P) QX 2 [(0, am_R R), (1, am_R arr), (2, am_I k)] [] S 0 0 := by
  have eR : ∃ fs, S.1 R = some (.inl (7, fs)) := by
    obtain ⟨num, nm, g1, -⟩ := h.2.2.2.2.2
    exact ⟨_, g1⟩
  obtain ⟨fs, eR⟩ := eR
  generalize hq : 4 - k = q
  induction q generalizing k with
  | zero =>
    have e : k = 4 := by omega
    subst e
    refine bX7_word_2 _ _ _ (by first | exact am_rN (by omega) | exact ⟨by omega, by omega⟩ | assumption) _ _ ⟨_, _, ha, fun _ => ⟨fun _ => ⟨mc, ms, by omega, _, eR, kx_mustF (k := 1) (by decide) h (fun z => Bool.noConfusion z) (fun _ => ⟨by omega, by omega, hX ?_⟩)⟩, fun z => absurd z (by omega)⟩, fun z => absurd z (by omega)⟩
    unfold z_ofw
    exact sp_find_none (fun i hi => decide_eq_false (hno i hi))
  | succ q ih =>
    have hk4 : k < 4 := by omega
    refine bX7_word_2 _ _ _ (by first | exact am_rN (by omega) | exact ⟨by omega, by omega⟩ | assumption) _ _ ⟨_, _, ha, fun z => absurd z (by omega), fun _ => ⟨⟨by omega, by omega⟩, _, hg k hk4, Nat.zero_le _, Nat.zero_le _, _, eR, kx_isWord h (by omega) ?_ ⟨fun hw => ⟨_, _, ha, fun z => absurd z (by omega), fun _ => ⟨0, 0, by omega, _, eR, kx_mustF (k := 1) (by decide) h (fun _ => ⟨mc, ms, by omega, _, eR, kx_next h (by omega) (by omega) (fun S' w' r1 r2 => am_qi_mk (am_rN (by omega)) (hP k hk4 ?_ S' w' r1 r2))⟩) (fun z => Bool.noConfusion z)⟩⟩, fun hw => ih (k := k + 1) (by omega) (fun i hi => ?_) (by omega)⟩⟩⟩
    · rcases hb with rfl | rfl
      · exact xwd_ne ⟨k, by omega⟩
      · have := xwd_ne ⟨4 + k, by omega⟩
        rw [show 8 + k = 4 + (4 + k) by omega]
        exact this
    · unfold z_ofw
      exact sp_find_some hk4 hw (fun i hi => decide_eq_false (hno i hi))
    · by_cases e : i = k
      · rw [e]
        exact of_decide_eq_false hw
      · exact hno i (by omega)
theorem kx_word {mc ms arr base : Nat} {P : Int → ah_H → Prop} {QX : String → Nat → ah_H → Prop} (h : xRd S w tr Z R Y L may n f F tk) (hb : arr = 2 ∧ base = 4 ∨ arr = 3 ∧ base = 8)
    (hmc : 5 * ((z_tok f L tk.2.2).2.2 - tk.2.2) + 1 ≤ mc) (hms : 45 * ((z_tok f L tk.2.2).2.2 - tk.2.2) + 8 ≤ ms)
    (hX : z_ofw base (z_wd f tk) = none → ∀ S' w' j, xfl S' w' tr Z j (1, tk.2.1) → QX "TableArms$Fault" j S')
    (hP : ∀ k, k < 4 → z_ofw base (z_wd f tk) = some k → ∀ S' w', xRd S' w' tr Z R Y L may n f F (z_tok f L tk.2.2) → xRf S S' w w' → P (k : Int) S') : kX7_word l mc ms [am_R R, am_R arr] S (am_qi P) QX := by
  obtain ⟨-, -, ⟨g, g1, g2⟩, ⟨u, u1, u2⟩, -⟩ := h.1.X
  rcases hb with ⟨rfl, rfl⟩ | ⟨rfl, rfl⟩
  · exact bX7_word _ _ (kx_word_2 (k := 0) h (Or.inl rfl) g1 g2 (Nat.zero_le _) (fun _ z => absurd z (Nat.not_lt_zero _)) hmc hms hX hP)
  · exact bX7_word _ _ (kx_word_2 (k := 0) h (Or.inr rfl) u1 u2 (Nat.zero_le _) (fun _ z => absurd z (Nat.not_lt_zero _)) hmc hms hX hP)
theorem kx_init9 {a v1 v2 v3 : Nat} {P : ah_H → Prop} (h1 : v1 < 1000) (h2 : v2 < 1000) (h3 : v3 < 1000) (hX : 32 ≤ a) (h : S.1 a = some (.inl (9, ah_dX9))) (hP : P (va_up S.1 a (some (.inl (9, [am_I v1, am_I v2, am_I v3]))), S.2)) : kX9_init l [am_R a, am_I v1, am_I v2, am_I v3] S (am_qv P) := by
  refine bX9_init _ _ (by first | exact am_rN (by omega) | exact ⟨by omega, by omega⟩ | assumption) _ (by first | exact am_rN (by omega) | exact ⟨by omega, by omega⟩ | assumption) _ (by first | exact am_rN (by omega) | exact ⟨by omega, by omega⟩ | assumption) ⟨_, h, hX, (show 0 < 3 by decide), ?_⟩
  rintro _ rfl
  refine ⟨_, up_at S.1 a _, (show 1 < 3 by decide), ?_⟩
  rintro _ rfl
  refine ⟨_, up_at (ah_sf S _ _ _ _ _).1 a _, (show 2 < 3 by decide), ?_⟩
  rintro _ rfl
  refine am_qv_mk ?_
  simp only [ah_sf, up_up]
  exact hP
theorem xRf.trans {S1 : ah_H} {w1 : Nat → Nat} (h : xRf S S1 w w1) (k : xRf S1 S' w1 w') : xRf S S' w w' := ⟨Nat.le_trans h.1 k.1, fun q hq hn => by
  obtain ⟨a1, a2⟩ := h.2 q hq hn
  obtain ⟨b1, b2⟩ := k.2 q (by rw [a1]; exact hq) (by rw [a2]; exact hn)
  exact ⟨b1.trans a1, b2.trans a2⟩⟩
end KX31
