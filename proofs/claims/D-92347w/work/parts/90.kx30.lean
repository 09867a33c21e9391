section KX30
variable {l : Launch} {S S' : ah_H} {w w' : Nat → Nat} {Z : sp_Z} {tr R Y L may n : Nat} {f : Nat → Nat} {F : Nat → Nat × Nat × Nat} {tk : sp_tk}
theorem xr_.oth (k : xr_ S w tr Z) (f : xch [17, 18, 19] S S' w w') (hw : ∀ q, q < 32 → w' q = 13) : xr_ S' w' tr Z :=
  ⟨k.1, (k.all f hw (by decide)).1, k.I.kept f.2 (by decide), k.A.kept f.2 (by decide), k.B.kept f.2 (by decide), k.K.kept k.K8 f.2 (by decide) (fun i hi => by simp; omega), k.C.kept f.2 (by decide), k.D.kept k.L8 k.e1 f.2 (by decide) (by decide) (fun i hi => by simp; omega), k.E.kept f.2 (by decide) (fun i hi => by simp; omega), k.N.kept k.e1 f.2 (by decide) (by decide) (by decide), k.G.kept f.2 (by decide), k.Y.kept f.2 (by decide), k.U.kept f.2 (by decide), (k.all f hw (by decide)).2⟩
/-- the list of nevers that were read -/
def xmd (h : Nat → Option ah_C) (w : Nat → Nat) (Y n : Nat) (F : Nat → Nat × Nat × Nat) : Prop := xl h w 18 Y n (fun i o => 647 ≤ o ∧ w o = 10 ∧ h o = some (.inl (9, [am_I ((F i).2.1 : Int), am_I ((F i).1 : Int), am_I ((F i).2.2 : Int)])))
def xtn (h : Nat → Option ah_C) (w : Nat → Nat) (R Y L may : Nat) (f : Nat → Nat) (tk : sp_tk) : Prop := ∃ num nm, xrd h R Y L may tk.2.2 (tc tk.1) tk.2.1 num nm ∧ am_r num ∧ (tk.1 = 3 → num = (z_num f tk : Int)) ∧ (tk.1 = 2 → 647 ≤ nm ∧ w nm = 19 ∧ ∃ x, 647 ≤ x ∧ w x = 19 ∧ xst h nm x (tk.2.2 - tk.2.1) (fun i => f (tk.2.1 + i)))
/-- the reader stands at tk -/
def xRd (S : ah_H) (w : Nat → Nat) (tr : Nat) (Z : sp_Z) (R Y L may n : Nat) (f : Nat → Nat) (F : Nat → Nat × Nat × Nat) (tk : sp_tk) : Prop :=
  xr_ S w tr Z ∧ (w R = 17 ∧ 647 ≤ R ∧ w 65 = 11) ∧ ((647 ≤ Y ∧ n ≤ 16) ∧ xmd S.1 w Y n F) ∧ (xtp S.1 L f ∧ L ≤ 300 ∧ ∀ i, i < L → f i ≤ 255) ∧ (tk.1 ≤ 4 ∧ tk.2.1 ≤ tk.2.2 ∧ tk.2.2 ≤ L ∧ (tk.1 = 3 → tk.2.2 ≤ tk.2.1 + 3 ∧ ∀ i, tk.2.1 ≤ i → i < tk.2.2 → z_fig (f i) = true)) ∧ xtn S.1 w R Y L may f tk
theorem xmd.kept {L' : List Nat} (k : xmd S.1 w Y n F) (h1 : (∃ f, S.1 1 = some (.inr (5, 0, .inr f))) ∧ w 1 = 13) (fr : ∀ q, S.1 q ≠ none → w q ∉ L' → S'.1 q = S.1 q ∧ w' q = w q) (h18 : 18 ∉ L') (h13 : 13 ∉ L') (h10 : 10 ∉ L') : xmd S'.1 w' Y n F :=
  xl.kept k h1 fr h18 h13 (fun i o _ hP => by
    obtain ⟨m1, m2, m3⟩ := hP
    obtain ⟨g1, g2⟩ := xc_at fr m2 h10 m3
    exact ⟨m1, g2, g1⟩)
theorem xtn.kept {L' : List Nat} (k : xtn S.1 w R Y L may f tk) (hR : w R = 17) (fr : ∀ q, S.1 q ≠ none → w q ∉ L' → S'.1 q = S.1 q ∧ w' q = w q) (h17 : 17 ∉ L') (h19 : 19 ∉ L') : xtn S'.1 w' R Y L may f tk := by
  obtain ⟨num, nm, k1, k2, k3, k4⟩ := k
  refine ⟨num, nm, (xc_at fr hR h17 k1).1, k2, k3, fun e => ?_⟩
  obtain ⟨m1, m2, x, m3, m4, ⟨hs, hz, m5, m6⟩, g, m7, m8⟩ := k4 e
  obtain ⟨a1, a2⟩ := xc_at fr m2 h19 m5
  obtain ⟨b1, b2⟩ := xc_at fr m4 h19 m7
  exact ⟨m1, a2, x, m3, b2, ⟨hs, hz, a1, m6⟩, g, b1, m8⟩
theorem xtp.kept {L' : List Nat} (k : xtp S.1 L f) (h65 : w 65 = 11) (fr : ∀ q, S.1 q ≠ none → w q ∉ L' → S'.1 q = S.1 q ∧ w' q = w q) (h11 : 11 ∉ L') : xtp S'.1 L f := by
  obtain ⟨g, k1, k2⟩ := k
  exact ⟨g, (xc_at fr h65 h11 k1).1, k2⟩
/-- new cells do no harm -/
theorem xRd.new (h : xRd S w tr Z R Y L may n f F tk) (fr : xch [] S S' w w') (hw : ∀ q, q < 32 → w' q = 13) : xRd S' w' tr Z R Y L may n f F tk := by
  obtain ⟨h1, h2, h3, h4, h5, h6⟩ := h
  have e65 : S.1 65 ≠ none := by
    obtain ⟨g, g1, -⟩ := h4.1
    rw [g1]
    exact fun z => by cases z
  have eR : S.1 R ≠ none := by
    obtain ⟨num, nm, g1, -⟩ := h6
    rw [g1]
    exact fun z => by cases z
  exact ⟨h1.new fr hw, ⟨(fr.2 R eR (by simp)).2.trans h2.1, h2.2.1, (fr.2 65 e65 (by simp)).2.trans h2.2.2⟩, ⟨h3.1, h3.2.kept h1.e1 fr.2 (by decide) (by decide) (by decide)⟩, ⟨h4.1.kept h2.2.2 fr.2 (by decide), h4.2⟩, h5, h6.kept h2.1 fr.2 (by decide) (by decide)⟩
/-- what a step of the reader leaves alone -/
def xRf (S S' : ah_H) (w w' : Nat → Nat) : Prop := S.2 ≤ S'.2 ∧ ∀ q, S.1 q ≠ none → w q ≠ 17 → S'.1 q = S.1 q ∧ w' q = w q
theorem xRf.refl (S : ah_H) (w : Nat → Nat) : xRf S S w w := ⟨Nat.le_refl _, fun _ _ _ => ⟨rfl, rfl⟩⟩
theorem kx_next {mc ms : Nat} {P : ah_H → Prop} (h : xRd S w tr Z R Y L may n f F tk) (hmc : 5 * ((z_tok f L tk.2.2).2.2 - tk.2.2) ≤ mc) (hms : 45 * ((z_tok f L tk.2.2).2.2 - tk.2.2) ≤ ms)
    (hP : ∀ S' w', xRd S' w' tr Z R Y L may n f F (z_tok f L tk.2.2) → xRf S S' w w' → P S') : kX7_next l mc ms [am_R R] S (am_qv P) := by
  obtain ⟨h1, h2, h3, h4, h5, num, nm, g1, g2, g3, g4⟩ := h
  obtain ⟨t1, t2, t3, t4, t5, t6⟩ := z_tok_ok (f := f) (L := L) (p := tk.2.2) h5.2.2.1
  have b0 := h1.2.1.1
  have hRS : R < S.2 := h1.some (by rw [g1]; exact fun z => by cases z)
  have hR32 := h2.2.1
  refine bX7_next _ (kx_next_0 (S0 := S) ⟨Nat.le_refl _, h1.2.1.2, fun _ _ _ => rfl⟩ h4.1 (by omega) (by omega) ⟨by omega, hRS⟩ h4.2.1 h4.2.2 g2 g1 h5.2.2.1 (Nat.le_trans (Nat.mul_le_mul_left 5 (Nat.sub_le_sub_left t2 _)) hmc) (Nat.le_trans (Nat.mul_le_mul_left 45 (Nat.sub_le_sub_left t2 _)) hms) (fun S' hx ht => ?_))
  obtain ⟨x1, x2, x3⟩ := hx
  have lt : ∀ q, S.1 q ≠ none → q < S.2 := fun q hq => h1.some hq
  have fr : ∀ q, S.1 q ≠ none → w q ∉ [17] → S'.1 q = S.1 q ∧ xtg w S.2 S'.2 19 q = w q := fun q hq hn => by
    refine ⟨x3 q (lt q hq) (fun e => hn ?_), xtg_out (Or.inl (lt q hq))⟩
    rw [e, h2.1]
    exact List.mem_cons_self
  have hw13 : ∀ q, q < 32 → xtg w S.2 S'.2 19 q = 13 := fun q hq => (xtg_out (Or.inl (by omega))).trans (h1.X.1 q hq)
  refine hP S' (xtg w S.2 S'.2 19) ⟨h1.oth ⟨⟨x1, x2⟩, fun q hq hn => fr q hq (fun z => hn (by simp at z; simp [z]))⟩ hw13, ⟨(xtg_out (Or.inl hRS)).trans h2.1, h2.2.1, (xtg_out (Or.inl (by omega))).trans h2.2.2⟩, ⟨h3.1, h3.2.kept h1.e1 fr (by decide) (by decide) (by decide)⟩, ⟨h4.1.kept h2.2.2 fr (by decide), h4.2⟩, ⟨t1, t3, t4, t6⟩, ?_⟩ ⟨x1, fun q hq hn => fr q hq (by simpa using hn)⟩
  obtain ⟨num', nm', k1, k2, k3, k4⟩ := ht
  refine ⟨num', nm', k1, k2, k3, fun e => ?_⟩
  obtain ⟨m1, m2, x, m3, m4, m5⟩ := k4 e
  exact ⟨by omega, xtg_in m1 m2, x, by omega, xtg_in m3 m4, m5⟩
theorem kx_isWord {i : Nat} {P : Bool → ah_H → Prop} (h : xRd S w tr Z R Y L may n f F tk) (hi : 4 ≤ i ∧ i < 15) (hne : xwd i ≠ []) (hP : P (decide (z_wd f tk = xwd i)) S) : kX7_isWord l [am_R R, am_R i] S (am_qz P) := by
  obtain ⟨h1, h2, h3, h4, h5, num, nm, g1, g2, g3, g4⟩ := h
  have ht : tc tk.1 < 5 := by
    unfold tc
    split <;> decide
  unfold z_wd at hP
  refine bX7_isWord _ _ ⟨_, g1, _, ⟨rfl, am_rN (by omega)⟩, fun e => ?_, fun e => ?_⟩
  · have e2 : tk.1 ≠ 2 := fun z => e (by rw [z]; rfl)
    rw [if_neg e2, decide_eq_false (fun z => hne z.symm)] at hP
    exact am_qz_mk (b := false) hP
  · have e2 : tk.1 = 2 := by
      have hk : tk.1 = 0 ∨ tk.1 = 1 ∨ tk.1 = 2 ∨ tk.1 = 3 ∨ tk.1 = 4 := by
        have := h5.1
        omega
      rcases hk with z | z | z | z | z
      · rw [z] at e; exact absurd e (by decide)
      · rw [z] at e; exact absurd e (by decide)
      · exact z
      · rw [z] at e; exact absurd e (by decide)
      · rw [z] at e; exact absurd e (by decide)
    rw [if_pos e2] at hP
    obtain ⟨m1, m2, x, m3, m4, m5⟩ := g4 e2
    obtain ⟨⟨hs, hz, m6, m7⟩, m8⟩ := id m5
    have hlen := h5.2.2.1
    have hL := h4.2.1
    refine ⟨_, rfl, _, m6, kx_equals m5 (by omega) (by omega) h1.X hi ⟨fun z => ?_, fun z => ?_⟩⟩
    · rw [z] at hP
      exact am_qz_mk (b := false) hP
    · rw [z] at hP
      exact am_qz_mk (b := true) hP
theorem kx_thr8 {v0 : Nat} {P : ah_H → Prop} (hX : 32 ≤ v0) (h : S.1 v0 = some (.inl (8, ah_dX8))) (hP : P (va_up S.1 v0 (some (.inl (8, ah_dX8))), S.2)) : kJ4_init l [am_R v0, am_O none, am_O none, am_I (am_b false), am_I (am_b false)] S (am_qv P) := by
  refine bJ4_init_X8 _ _ _ (bJ3_init_2_X8 _ _ _ ⟨_, h, hX, (show 0 < 8 by decide), ?_⟩)
  rintro _ rfl x7
  refine ⟨_, up_at S.1 v0 _, (show 1 < 8 by decide), ?_⟩
  rintro _ rfl x13
  refine ⟨_, up_at (ah_sf S _ _ _ _ _).1 v0 _, (show 2 < 8 by decide), ?_⟩
  rintro _ rfl
  refine ⟨fun _ => ⟨_, up_at (ah_sf (ah_sf S _ _ _ _ _) _ _ _ _ _).1 v0 _, (show 1 < 8 by decide), ?_⟩, fun z => Bool.noConfusion z⟩
  rintro _ rfl
  refine ⟨_, up_at (ah_sf (ah_sf (ah_sf S _ _ _ _ _) _ _ _ _ _) _ _ _ _ _).1 v0 _, (show 3 < 8 by decide), ?_⟩
  rintro _ rfl
  refine ⟨_, up_at (ah_sf (ah_sf (ah_sf (ah_sf S _ _ _ _ _) _ _ _ _ _) _ _ _ _ _) _ _ _ _ _).1 v0 _, (show 0 < 8 by decide), ?_⟩
  rintro _ rfl
  refine ⟨fun z => Bool.noConfusion z, fun _ => ⟨_, up_at (ah_sf (ah_sf (ah_sf (ah_sf (ah_sf S _ _ _ _ _) _ _ _ _ _) _ _ _ _ _) _ _ _ _ _) _ _ _ _ _).1 v0 _, (show 2 < 8 by decide), ?_⟩⟩
  rintro _ rfl
  refine am_qv_mk (am_qv_mk ?_)
  simp only [ah_sf, up_up]
  exact hP
/-- a fault: of a kind, at a place -/
def xfl (S : ah_H) (w : Nat → Nat) (tr : Nat) (Z : sp_Z) (j : Nat) (e : Nat × Nat) : Prop := xr_ S w tr Z ∧ 647 ≤ j ∧ (e.1 ≤ 3 ∧ e.2 ≤ 300) ∧ S.1 j = some (.inl (8, (ah_dX8.set 6 (am_I (e.1 : Int))).set 7 (am_I (e.2 : Int))))
theorem kx_mustF {mc ms k : Nat} {b : Bool} {P : ah_H → Prop} {QX : String → Nat → ah_H → Prop} (hk : k ≤ 3) (h : xRd S w tr Z R Y L may n f F tk) (h1 : b = true → P S) (h2 : b = false → 1 ≤ mc ∧ 8 ≤ ms ∧ ∀ S' w' j, xfl S' w' tr Z j (k, tk.2.1) → QX "TableArms$Fault" j S') : kX7_must l mc ms [am_R R, am_I (am_b b), am_I k] S (am_qv P) QX := by
  obtain ⟨r1, r2, r3, r4, r5, num, nm, g1, g2, g3, g4⟩ := h
  have b0 := r1.2.1.1
  have hX : ah_X ≤ S.2 := Nat.le_trans (show 32 ≤ 647 by decide) b0
  have hRS : R < S.2 := r1.some (by rw [g1]; exact fun z => by cases z)
  have hL := r4.2.1
  refine bX7_must _ _ _ (by first | exact am_rN (by omega) | exact ⟨by omega, by omega⟩ | assumption) ⟨fun e => am_qv_mk (h1 e), fun e => ⟨(h2 e).1, (h2 e).2.1, ?_⟩⟩
  obtain ⟨-, -, h2⟩ := h2 e
  rintro _ rfl
  refine ⟨_, (up_ne _ _ (by omega)).trans g1, _, ⟨rfl, am_rN (by omega)⟩, ?_⟩
  refine bX8_init _ _ (by first | exact am_rN (by omega) | exact ⟨by omega, by omega⟩ | assumption) _ (by first | exact am_rN (by omega) | exact ⟨by omega, by omega⟩ | assumption) (kx_thr8 hX (up_at S.1 S.2 _) ⟨_, up_at (ah_mk S _).1 S.2 _, hX, (show 6 < 8 by decide), ?_⟩)
  rintro _ rfl
  refine ⟨_, up_at (va_up (ah_mk S _).1 S.2 _) S.2 _, (show 7 < 8 by decide), ?_⟩
  rintro _ rfl
  refine am_qv_mk ⟨_, up_at (ah_sf (va_up (ah_mk S _).1 S.2 _, S.2 + 1) _ _ _ _ _).1 S.2 _, hX, ?_⟩
  simp only [ah_sf, ah_mk, up_up]
  obtain ⟨q1, q2⟩ := r1.obj (.inl (8, (ah_dX8.set 6 (am_I (k : Int))).set 7 (am_I (tk.2.1 : Int)))) 15
  exact h2 _ _ S.2 ⟨q1, b0, ⟨hk, by have := r5.2.1; have := r5.2.2.1; show tk.2.1 ≤ 300; omega⟩, up_at S.1 S.2 _⟩
theorem kx_figure {mc ms hi : Nat} {P : Int → ah_H → Prop} {QX : String → Nat → ah_H → Prop} (hhi : hi ≤ 1000) (h : xRd S w tr Z R Y L may n f F tk) (hmc : 5 * ((z_tok f L tk.2.2).2.2 - tk.2.2) + 1 ≤ mc) (hms : 45 * ((z_tok f L tk.2.2).2.2 - tk.2.2) + 8 ≤ ms)
    (hX : ∀ e, p_num f L hi tk = .inl e → ∀ S' w' j, xfl S' w' tr Z j e → QX "TableArms$Fault" j S')
    (hP : p_num f L hi tk = .inr (z_num f tk, z_tok f L tk.2.2) → z_num f tk ≤ hi → ∀ S' w', xRd S' w' tr Z R Y L may n f F (z_tok f L tk.2.2) → xRf S S' w w' → P (z_num f tk : Int) S') : kX7_figure l mc ms [am_R R, am_I hi] S (am_qi P) QX := by
  obtain ⟨r1, r2, r3, r4, r5, num, nm, g1, g2, g3, g4⟩ := id h
  have ht : tc tk.1 < 5 := by
    unfold tc
    split <;> decide
  have hL := r4.2.1
  unfold p_num at hX hP
  refine bX7_figure _ _ (by first | exact am_rN (by omega) | exact ⟨by omega, by omega⟩ | assumption) ⟨_, g1, _, ⟨rfl, am_rN (by omega)⟩, fun e => ⟨mc, ms, by omega, kx_mustF (k := 1) (by decide) h (fun z => Bool.noConfusion z) (fun _ => ⟨by omega, by omega, fun S' w' j hj => ?_⟩)⟩, fun e => ⟨0, 0, by omega, kx_mustF (k := 1) (by decide) h (fun _ => ⟨_, g1, _, ⟨rfl, g2⟩, fun h1 => ⟨mc, ms, by omega, kx_mustF (k := 2) (by decide) h (fun z => Bool.noConfusion z) (fun _ => ⟨by omega, by omega, fun S' w' j hj => ?_⟩)⟩, fun h1 => ⟨0, 0, by omega, kx_mustF (k := 2) (by decide) h (fun _ => ⟨_, g1, _, ⟨rfl, g2⟩, mc, ms, by omega, kx_next h (by omega) (by omega) (fun S' w' q1 q2 => ?_)⟩) (fun z => Bool.noConfusion z)⟩⟩) (fun z => Bool.noConfusion z)⟩⟩
  · have e2 : tk.1 ≠ 3 := fun z => e (by rw [z]; rfl)
    rw [if_neg e2] at hX
    exact hX _ rfl S' w' j hj
  all_goals
    have e2 : tk.1 = 3 := by
      have hk : tk.1 = 0 ∨ tk.1 = 1 ∨ tk.1 = 2 ∨ tk.1 = 3 ∨ tk.1 = 4 := by
        have := r5.1
        omega
      rcases hk with z | z | z | z | z
      · rw [z] at e; exact absurd e (by decide)
      · rw [z] at e; exact absurd e (by decide)
      · rw [z] at e; exact absurd e (by decide)
      · exact z
      · rw [z] at e; exact absurd e (by decide)
    have en := g3 e2
    rw [if_pos e2] at hX hP
  · rw [if_neg (by omega)] at hX
    exact hX _ rfl S' w' j hj
  · rw [if_pos (by omega)] at hP
    rw [en]
    exact am_qi_mk (am_rN (by omega)) (hP rfl (by omega) S' w' q1 q2)
end KX30
