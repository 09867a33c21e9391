section KX32
variable {l : Launch} {S S' : ah_H} {w w' : Nat → Nat} {Z : sp_Z} {tr R Y L may n : Nat} {f : Nat → Nat} {F : Nat → Nat × Nat × Nat} {tk : sp_tk}
theorem xRd.o22 (h : xRd S w tr Z R Y L may n f F tk) (fr : xch [22] S S' w w') (hw : ∀ q, q < 32 → w' q = 13) : xRd S' w' tr Z R Y L may n f F tk := by
  obtain ⟨k, h2, h3, h4, h5, h6⟩ := h
  have e65 : S.1 65 ≠ none := by
    obtain ⟨g, g1, -⟩ := h4.1
    rw [g1]
    exact fun z => by cases z
  have eR : S.1 R ≠ none := by
    obtain ⟨num, nm, g1, -⟩ := h6
    rw [g1]
    exact fun z => by cases z
  have k2 : xr_ S' w' tr Z := ⟨k.1, (k.all fr hw (by decide)).1, k.I.kept fr.2 (by decide), k.A.kept fr.2 (by decide), k.B.kept fr.2 (by decide), k.K.kept k.K8 fr.2 (by decide) (fun i hi => by simp; omega), k.C.kept fr.2 (by decide), k.D.kept k.L8 k.e1 fr.2 (by decide) (by decide) (fun i hi => by simp; omega), k.E.kept fr.2 (by decide) (fun i hi => by simp; omega), k.N.kept k.e1 fr.2 (by decide) (by decide) (by decide), k.G.kept fr.2 (by decide), k.Y.kept fr.2 (by decide), k.U.kept fr.2 (by decide), (k.all fr hw (by decide)).2⟩
  exact ⟨k2, ⟨(fr.2 R eR (by rw [h2.1]; decide)).2.trans h2.1, h2.2.1, (fr.2 65 e65 (by rw [h2.2.2]; decide)).2.trans h2.2.2⟩, ⟨h3.1, h3.2.kept k.e1 fr.2 (by decide) (by decide) (by decide)⟩, ⟨h4.1.kept h2.2.2 fr.2 (by decide), h4.2⟩, h5, h6.kept h2.1 fr.2 (by decide) (by decide)⟩
/-- a never object, not yet filled -/
theorem xRd.mk9 (h : xRd S w tr Z R Y L may n f F tk) : xRd (ah_mk S (.inl (9, ah_dX9))) (xtg w S.2 (S.2 + 1) 22) tr Z R Y L may n f F tk ∧ xRf S (ah_mk S (.inl (9, ah_dX9))) w (xtg w S.2 (S.2 + 1) 22) ∧ xtg w S.2 (S.2 + 1) 22 S.2 = 22 := by
  have k := h.1
  have b0 := k.2.1.1
  have fr : ∀ q, S.1 q ≠ none → (ah_mk S (.inl (9, ah_dX9))).1 q = S.1 q ∧ xtg w S.2 (S.2 + 1) 22 q = w q := fun q hq => by
    have := k.some hq
    exact ⟨up_ne _ _ (by omega), xtg_out (Or.inl this)⟩
  refine ⟨h.new ⟨⟨Nat.le_succ _, fun q hq => ?_⟩, fun q hq _ => fr q hq⟩ (fun q hq => (xtg_out (Or.inl (by omega))).trans (k.X.1 q hq)), ⟨Nat.le_succ _, fun q hq _ => fr q hq⟩, xtg_in (Nat.le_refl _) (Nat.lt_succ_self _)⟩
  have hq : S.2 + 1 ≤ q := hq
  exact (up_ne _ _ (by omega)).trans (k.2.1.2 q (by omega))
/-- it is filled -/
theorem xRd.fill {o : Nat} {c : ah_C} (h : xRd S w tr Z R Y L may n f F tk) (hw : w o = 22) (ho : 647 ≤ o) (hlt : S.1 o ≠ none) : xRd (va_up S.1 o (some c), S.2) (va_up w o 10) tr Z R Y L may n f F tk := by
  have k := h.1
  have := k.some hlt
  refine h.o22 ⟨⟨Nat.le_refl _, fun q hq => ?_⟩, fun q hq hn => ?_⟩ (fun q hq => (up_ne _ _ (by omega)).trans (k.X.1 q hq))
  · have hq : S.2 ≤ q := hq
    exact (up_ne _ _ (by omega)).trans (k.2.1.2 q hq)
  · have : q ≠ o := fun z => hn (by rw [z, hw]; exact List.mem_cons_self)
    exact ⟨up_ne _ _ this, up_ne _ _ this⟩
/-- what stands behind a never that was read: from S to S' -/
def xnv (S S' : ah_H) (w w' : Nat → Nat) (o : Nat) (v : Nat × Nat × Nat) : Prop := (647 ≤ o ∧ w' o = 10 ∧ S'.1 o = some (.inl (9, [am_I (v.2.1 : Int), am_I (v.1 : Int), am_I (v.2.2 : Int)]))) ∧ xRf S S' w w'
theorem xnv_mk {S1 S2 : ah_H} {w1 w2 : Nat → Nat} {o : Nat} {v : Nat × Nat × Nat} (b0 : 647 ≤ S.2) (hn : S.1 S.2 = none) (ho : o = S1.2) (h1 : xRf S S1 w w1) (h2 : xRf S1 (ah_mk S1 (.inl (9, ah_dX9))) w1 (xtg w1 S1.2 (S1.2 + 1) 22)) (h3 : xRf (ah_mk S1 (.inl (9, ah_dX9))) S2 (xtg w1 S1.2 (S1.2 + 1) 22) w2) (hlt : ∀ q, S.1 q ≠ none → q < S.2) :
    xnv S (va_up S2.1 o (some (.inl (9, [am_I (v.2.1 : Int), am_I (v.1 : Int), am_I (v.2.2 : Int)]))), S2.2) w (va_up w2 o 10) o v := by
  have h12 := (h1.trans h2).trans h3
  have l1 := h1.1
  subst ho
  refine ⟨⟨by omega, up_at w2 _ _, up_at S2.1 _ _⟩, h12.1, fun q hq hn => ?_⟩
  have := hlt q hq
  obtain ⟨a, b⟩ := h12.2 q hq hn
  exact ⟨(up_ne _ _ (by omega)).trans a, (up_ne _ _ (by omega)).trans b⟩
theorem kx_never {mc ms : Nat} {P : Option Nat → ah_H → Prop} {QX : String → Nat → ah_H → Prop} (h : xRd S w tr Z R Y L may n f F tk) {t1 t2 t3 : sp_tk} (e1 : t1 = z_tok f L tk.2.2) (e2 : t2 = z_tok f L t1.2.2) (e3 : t3 = z_tok f L t2.2.2)
    (hmc : 5 * (t3.2.2 - tk.2.2) + 4 ≤ mc) (hms : 45 * (t3.2.2 - tk.2.2) + 27 ≤ ms)
    (hX : ∀ e, q_never f L tk = .inl e → ∀ S' w' j, xfl S' w' tr Z j e → QX "TableArms$Fault" j S')
    (hP : ∀ v, q_never f L tk = .inr (v, t3) → ∀ S' w' o, xRd S' w' tr Z R Y L may n f F t3 → xnv S S' w w' o v → P (some o) S') : kX7_never l mc ms [am_R R] S (am_qo P) QX := by
  have k := h.1
  have b0 := k.2.1.1
  have hR32 := h.2.1.2.1
  obtain ⟨u1, u2, u3, u4, -⟩ := z_tok_ok (f := f) (L := L) (p := tk.2.2) h.2.2.2.2.1.2.2.1
  rw [← e1] at u1 u2 u3 u4
  obtain ⟨v1, v2, v3, v4, -⟩ := z_tok_ok (f := f) (L := L) (p := t1.2.2) u4
  rw [← e2] at v1 v2 v3 v4
  obtain ⟨w1', w2', w3', w4', -⟩ := z_tok_ok (f := f) (L := L) (p := t2.2.2) v4
  rw [← e3] at w1' w2' w3' w4'
  have eR : ∀ {S : ah_H} {w : Nat → Nat} {tk : sp_tk}, xRd S w tr Z R Y L may n f F tk → ∃ fs, S.1 R = some (.inl (7, fs)) := fun h => by
    obtain ⟨num, nm, g1, -⟩ := h.2.2.2.2.2
    exact ⟨_, g1⟩
  have hlt : ∀ q, S.1 q ≠ none → q < S.2 := fun q hq => k.some hq
  unfold q_never p_sort p_rel p_opt at hX hP
  rw [z_sortOf_eq] at hX hP
  obtain ⟨fs0, eR0⟩ := eR h
  refine bX7_never _ ⟨5 * (t1.2.2 - tk.2.2) + 1, 45 * (t1.2.2 - tk.2.2) + 8, by omega, fs0, eR0, kx_word h (Or.inl ⟨rfl, rfl⟩) (by rw [← e1]; exact Nat.le_refl _) (by rw [← e1]; exact Nat.le_refl _) (fun hz S' w' j hj => ?_) (fun a ha hz S1 w1 r1 f1 => ?_)⟩
  · rw [hz] at hX
    exact hX _ rfl S' w' j hj
  rw [hz, ← e1] at hX hP
  rw [← e1] at r1
  dsimp only at hX hP
  rw [z_relOf_eq] at hX hP
  obtain ⟨fs1, eR1⟩ := eR r1
  refine ⟨5 * (t2.2.2 - t1.2.2) + 1, 45 * (t2.2.2 - t1.2.2) + 8, by omega, fs1, eR1, kx_word r1 (Or.inr ⟨rfl, rfl⟩) (by rw [← e2]; exact Nat.le_refl _) (by rw [← e2]; exact Nat.le_refl _) (fun hz S' w' j hj => ?_) (fun r hr hz S2 w2 r2 f2 => ?_)⟩
  · rw [hz] at hX
    exact hX _ rfl S' w' j hj
  rw [hz, ← e2] at hX hP
  rw [← e2] at r2
  dsimp only at hX hP
  obtain ⟨m1, m2, m3⟩ := r2.mk9
  have f12 := f1.trans f2
  have b2 : 647 ≤ S2.2 := Nat.le_trans b0 f12.1
  refine ⟨by omega, by omega, ?_⟩
  rintro _ rfl
  obtain ⟨fs2, eR2⟩ := eR m1
  refine ⟨fun h3 => ?_, fun h3 => ?_⟩
  · have h3n : ¬ r = 3 := by omega
    rw [if_neg h3n, z_sortOf_eq] at hX hP
    refine ⟨5 * (t3.2.2 - t2.2.2) + 1, 45 * (t3.2.2 - t2.2.2) + 8, by omega, fs2, eR2, kx_word m1 (Or.inl ⟨rfl, rfl⟩) (by rw [← e3]; exact Nat.le_refl _) (by rw [← e3]; exact Nat.le_refl _) (fun hz S' w' j hj => ?_) (fun b hb hz S3 w3 r3 f3 => ?_)⟩
    · rw [hz] at hX
      exact hX _ rfl S' w' j hj
    · rw [hz, ← e3] at hP
      rw [← e3] at r3
      dsimp only at hP
      obtain ⟨q1, q2⟩ := f3.2 S2.2 (by rw [show (ah_mk S2 (.inl (9, ah_dX9))).1 S2.2 = _ from up_at S2.1 S2.2 _]; exact fun z => by cases z) (by rw [m3]; decide)
      have q1 : S3.1 S2.2 = some (.inl (9, ah_dX9)) := q1.trans (up_at S2.1 S2.2 _)
      refine kx_init9 (by omega) (by omega) (by omega) (by omega) q1 (am_qo_mk (hP _ rfl _ (va_up w3 S2.2 10) S2.2 (r3.fill (q2.trans m3) b2 (by rw [q1]; exact fun z => by cases z)) (xnv_mk (v := (a, r, b)) b0 (k.2.1.2 _ (Nat.le_refl _)) rfl f12 m2 f3 hlt)))
  · have h3n : r = 3 := by omega
    rw [if_pos h3n] at hX hP
    refine ⟨5 * (t3.2.2 - t2.2.2) + 1, 45 * (t3.2.2 - t2.2.2) + 8, by omega, fs2, eR2, kx_figure (hi := 7) (by decide) m1 (by rw [← e3]; exact Nat.le_refl _) (by rw [← e3]; exact Nat.le_refl _) (fun e he S' w' j hj => ?_) (fun he hle S3 w3 r3 f3 => ?_)⟩
    · rw [he] at hX
      exact hX _ rfl S' w' j hj
    · rw [he, ← e3] at hP
      rw [← e3] at r3
      dsimp only at hP
      obtain ⟨q1, q2⟩ := f3.2 S2.2 (by rw [show (ah_mk S2 (.inl (9, ah_dX9))).1 S2.2 = _ from up_at S2.1 S2.2 _]; exact fun z => by cases z) (by rw [m3]; decide)
      have q1 : S3.1 S2.2 = some (.inl (9, ah_dX9)) := q1.trans (up_at S2.1 S2.2 _)
      refine kx_init9 (by omega) (by omega) (by omega) (by omega) q1 (am_qo_mk (hP _ rfl _ (va_up w3 S2.2 10) S2.2 (r3.fill (q2.trans m3) b2 (by rw [q1]; exact fun z => by cases z)) (xnv_mk (v := (a, r, z_num f t2)) b0 (k.2.1.2 _ (Nat.le_refl _)) rfl f12 m2 f3 hlt)))
theorem kx_most {mc ms : Nat} {P : Option Nat → ah_H → Prop} {QX : String → Nat → ah_H → Prop} (h : xRd S w tr Z R Y L may n f F tk) {t1 t2 : sp_tk} (e1 : t1 = z_tok f L tk.2.2) (e2 : t2 = z_tok f L t1.2.2)
    (hmc : 5 * (t2.2.2 - tk.2.2) + 4 ≤ mc) (hms : 45 * (t2.2.2 - tk.2.2) + 27 ≤ ms)
    (hX : ∀ e, q_most f L tk = .inl e → ∀ S' w' j, xfl S' w' tr Z j e → QX "TableArms$Fault" j S')
    (hP : ∀ v, q_most f L tk = .inr (v, t2) → ∀ S' w' o, xRd S' w' tr Z R Y L may n f F t2 → xnv S S' w w' o v → P (some o) S') : kX7_most l mc ms [am_R R] S (am_qo P) QX := by
  have k := h.1
  have b0 := k.2.1.1
  have hR32 := h.2.1.2.1
  obtain ⟨u1, u2, u3, u4, -⟩ := z_tok_ok (f := f) (L := L) (p := tk.2.2) h.2.2.2.2.1.2.2.1
  rw [← e1] at u1 u2 u3 u4
  obtain ⟨v1, v2, v3, v4, -⟩ := z_tok_ok (f := f) (L := L) (p := t1.2.2) u4
  rw [← e2] at v1 v2 v3 v4
  have eR : ∀ {S : ah_H} {w : Nat → Nat} {tk : sp_tk}, xRd S w tr Z R Y L may n f F tk → ∃ fs, S.1 R = some (.inl (7, fs)) := fun h => by
    obtain ⟨num, nm, g1, -⟩ := h.2.2.2.2.2
    exact ⟨_, g1⟩
  have hlt : ∀ q, S.1 q ≠ none → q < S.2 := fun q hq => k.some hq
  unfold q_most at hX hP
  obtain ⟨fs0, eR0⟩ := eR h
  refine bX7_most _ ⟨5 * (t1.2.2 - tk.2.2) + 1, 45 * (t1.2.2 - tk.2.2) + 8, by omega, fs0, eR0, kx_figure (hi := 7) (by decide) h (by rw [← e1]; exact Nat.le_refl _) (by rw [← e1]; exact Nat.le_refl _) (fun e he S' w' j hj => ?_) (fun he ha S2 w2 r2 f2 => ?_)⟩
  · rw [he] at hX
    exact hX _ rfl S' w' j hj
  rw [he, ← e1] at hX hP
  rw [← e1] at r2
  dsimp only at hX hP
  obtain ⟨m1, m2, m3⟩ := r2.mk9
  have b2 : 647 ≤ S2.2 := Nat.le_trans b0 f2.1
  refine ⟨by omega, by omega, ?_⟩
  rintro _ rfl
  obtain ⟨fs2, eR2⟩ := eR m1
  refine ⟨5 * (t2.2.2 - t1.2.2) + 1, 45 * (t2.2.2 - t1.2.2) + 8, by omega, fs2, eR2, kx_figure (hi := 200) (by decide) m1 (by rw [← e2]; exact Nat.le_refl _) (by rw [← e2]; exact Nat.le_refl _) (fun e he S' w' j hj => ?_) (fun he hle S3 w3 r3 f3 => ?_)⟩
  · rw [he] at hX
    exact hX _ rfl S' w' j hj
  · rw [he, ← e2] at hP
    rw [← e2] at r3
    dsimp only at hP
    obtain ⟨q1, q2⟩ := f3.2 S2.2 (by rw [show (ah_mk S2 (.inl (9, ah_dX9))).1 S2.2 = _ from up_at S2.1 S2.2 _]; exact fun z => by cases z) (by rw [m3]; decide)
    have q1 : S3.1 S2.2 = some (.inl (9, ah_dX9)) := q1.trans (up_at S2.1 S2.2 _)
    exact kx_init9 (v1 := 4) (by omega) (by omega) (by omega) (by omega) q1 (am_qo_mk (hP _ rfl _ (va_up w3 S2.2 10) S2.2 (r3.fill (q2.trans m3) b2 (by rw [q1]; exact fun z => by cases z)) (xnv_mk (v := (z_num f tk, 4, z_num f t1)) b0 (k.2.1.2 _ (Nat.le_refl _)) rfl f2 m2 f3 hlt)))
end KX32
