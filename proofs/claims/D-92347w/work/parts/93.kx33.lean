theorem z_par_ok {f : Nat → Nat} {L : Nat} : ∀ (m n : Nat) (F : Nat → Nat × Nat × Nat) (tk : sp_tk) (n' : Nat) (F' : Nat → Nat × Nat × Nat), (∀ i, i < n → nv_ok (F i)) → z_par f L m n F tk = .inr (n', F') → (n ≤ n' ∧ n' ≤ n + m) ∧ (∀ i, i < n → F' i = F i) ∧ ∀ i, i < n' → nv_ok (F' i) := by
  intro m
  induction m with
  | zero =>
    intro n F tk n' F' hF h
    rw [z_par] at h
    split at h
    · cases h
      exact ⟨⟨Nat.le_refl _, Nat.le_refl _⟩, fun _ _ => rfl, hF⟩
    · split at h <;> cases h
  | succ m ih =>
    intro n F tk n' F' hF h
    rw [z_par] at h
    split at h
    · cases h
      exact ⟨⟨Nat.le_refl _, by omega⟩, fun _ _ => rfl, hF⟩
    · split at h
      · cases hs : (if z_wd f tk = w_never then p_never f L (z_tok f L tk.2.2) else p_most f L (z_tok f L tk.2.2)) with
        | inl e => rw [hs] at h; cases h
        | inr x =>
          obtain ⟨v, t⟩ := x
          rw [hs] at h
          dsimp only at h
          have hv : nv_ok v := by
            by_cases e : z_wd f tk = w_never
            · rw [if_pos e] at hs
              exact p_never_ok hs
            · rw [if_neg e] at hs
              exact p_most_ok hs
          obtain ⟨a, b, c⟩ := ih (n + 1) (va_up F n v) t n' F' (fun i hi => by
            rw [up_if]
            split
            · exact hv
            · exact hF i (by omega)) h
          refine ⟨by omega, fun i hi => ?_, c⟩
          rw [b i (by omega), up_ne _ _ (by omega)]
      · cases h
theorem tc_eq3 {k : Nat} (h : k ≤ 4) : tc k = 3 ↔ k = 4 := by
  have hk : k = 0 ∨ k = 1 ∨ k = 2 ∨ k = 3 ∨ k = 4 := by omega
  rcases hk with rfl | rfl | rfl | rfl | rfl <;> decide
theorem tc_eq0 {k : Nat} (h : k ≤ 4) : tc k = 0 ↔ k = 1 := by
  have hk : k = 0 ∨ k = 1 ∨ k = 2 ∨ k = 3 ∨ k = 4 := by omega
  rcases hk with rfl | rfl | rfl | rfl | rfl <;> decide
section KX33
variable {l : Launch} {S S' : ah_H} {w w' : Nat → Nat} {Z : sp_Z} {tr R Y L may n : Nat} {f : Nat → Nat} {F : Nat → Nat × Nat × Nat} {tk : sp_tk}
theorem xRd.eR (h : xRd S w tr Z R Y L may n f F tk) : ∃ num nm, xrd S.1 R Y L may tk.2.2 (tc tk.1) tk.2.1 num nm := by
  obtain ⟨num, nm, g1, -⟩ := h.2.2.2.2.2
  exact ⟨num, nm, g1⟩
/-- the never goes into the list -/
theorem kx_addN {mc ms o : Nat} {v : Nat × Nat × Nat} {P : Bool → ah_H → Prop} (h : xRd S w tr Z R Y L may n f F tk) (hn : n < 16) (ho : 647 ≤ o ∧ w o = 10 ∧ S.1 o = some (.inl (9, [am_I (v.2.1 : Int), am_I (v.1 : Int), am_I (v.2.2 : Int)]))) (hmc : 1 ≤ mc) (hms : 30 ≤ ms)
    (hP : ∀ S' w', xRd S' w' tr Z R Y L may (n + 1) f (va_up F n v) tk → P true S') : kJ2_add l mc ms [am_R Y, am_R o] S (am_qz P) := by
  obtain ⟨k, h2, h3, h4, h5, h6⟩ := h
  have b0 := k.2.1.1
  have hY := h3.1.1
  refine kx_add h3.2 (by decide) k.X.1 k.2.1.2 b0 (by omega) h3.1.2 hmc hms (fun i o _ ho => ah_isN ho.2.2) (ah_isN ho.2.2) (by rw [ho.2.1]; decide) (fun S' mk e cap g g1 g2 g3 g4 g5 g6 g7 g8 g9 g10 g11 g12 g13 => hP S' (xtg w S.2 S'.2 18) ?_)
  have hYS : Y < S.2 := k.some (by
    obtain ⟨-, _, _, _, _, q, -⟩ := h3.2
    rw [q]
    exact fun z => by cases z)
  have fr : ∀ q, S.1 q ≠ none → w q ∉ [18] → S'.1 q = S.1 q ∧ xtg w S.2 S'.2 18 q = w q := fun q hq hn => by
    have := k.some hq
    exact ⟨g3 q hq (by simpa using hn), xtg_out (Or.inl this)⟩
  have e65 : S.1 65 ≠ none := by
    obtain ⟨g, g1, -⟩ := h4.1
    rw [g1]
    exact fun z => by cases z
  have eR : S.1 R ≠ none := by
    obtain ⟨num, nm, g1, -⟩ := h6
    rw [g1]
    exact fun z => by cases z
  have hw13 : ∀ q, q < 32 → xtg w S.2 S'.2 18 q = 13 := fun q hq => (xtg_out (Or.inl (by omega))).trans (k.X.1 q hq)
  refine ⟨k.oth ⟨⟨g1, g2⟩, fun q hq hn => fr q hq (fun z => hn (by simp at z; simp [z]))⟩ hw13, ⟨(fr R eR (by rw [h2.1]; decide)).2.trans h2.1, h2.2.1, (fr 65 e65 (by rw [h2.2.2]; decide)).2.trans h2.2.2⟩, ⟨⟨hY, by omega⟩, (xtg_out (Or.inl hYS)).trans h3.2.1, mk, e, cap, g, g4, g5, g6, g7, g8, Or.inr ⟨g9, g10, g11⟩, fun i hi => ?_⟩, ⟨h4.1.kept h2.2.2 fr (by decide), h4.2⟩, h5, h6.kept h2.1 fr (by decide) (by decide)⟩
  show ∃ o, g i = some o ∧ 647 ≤ o ∧ _ ∧ S'.1 o = some (.inl (9, [am_I ((va_up F n v i).2.1 : Int), am_I ((va_up F n v i).1 : Int), am_I ((va_up F n v i).2.2 : Int)]))
  by_cases ei : i = n
  · rw [ei, up_at]
    obtain ⟨z1, z2⟩ := xc_at fr ho.2.1 (by decide) ho.2.2
    exact ⟨o, g13, ho.1, z2, z1⟩
  · rw [up_ne _ _ ei]
    obtain ⟨x, y1, y2, y3, y4⟩ := g12 i (by omega)
    obtain ⟨z1, z2⟩ := xc_at fr y3 (by decide) y4
    exact ⟨x, y1, y2, z2, z1⟩
theorem xRd.cg {F' : Nat → Nat × Nat × Nat} (h : xRd S w tr Z R Y L may n f F tk) (e : ∀ i, i < n → F i = F' i) : xRd S w tr Z R Y L may n f F' tk := by
  obtain ⟨k, h2, ⟨h3, h31, mc, ee, cap, g, g1, g2, g3, g4, g5, g6, g7⟩, h4, h5, h6⟩ := h
  refine ⟨k, h2, ⟨h3, h31, mc, ee, cap, g, g1, g2, g3, g4, g5, g6, fun i hi => ?_⟩, h4, h5, h6⟩
  obtain ⟨o, q1, q2⟩ := g7 i hi
  rw [e i hi] at q2
  exact ⟨o, q1, q2⟩
theorem kx_all_84 {mc ms cs ss : Nat} {v : Nat × Nat × Nat} {P : ah_H → Prop} {QX : String → Nat → ah_H → Prop} (h : xRd S w tr Z R Y L may n f F tk) (hmc : cs + 5 * ((z_tok f L tk.2.2).2.2 - tk.2.2) + 1 ≤ mc) (hms : ss + 45 * ((z_tok f L tk.2.2).2.2 - tk.2.2) + 8 ≤ ms)
    (hX : ∀ e, p_end f L v tk = .inl e → ∀ S' w' j, xfl S' w' tr Z j e → QX "TableArms$Fault" j S')
    (next : p_end f L v tk = .inr (v, z_tok f L tk.2.2) → ∀ S' w', xRd S' w' tr Z R Y L may n f F (z_tok f L tk.2.2) → VX7_all l mc ms (am_qv P) QX 4 [(0, am_R R)] [] S' (cs + 5 * ((z_tok f L tk.2.2).2.2 - tk.2.2)) (ss + 45 * ((z_tok f L tk.2.2).2.2 - tk.2.2))) :
    VX7_all l mc ms (am_qv P) QX 84 [(0, am_R R)] [] S cs ss := by
  obtain ⟨num, nm, g1⟩ := h.eR
  have ht := tc_eq3 h.2.2.2.2.1.1
  have htr : tc tk.1 < 5 := by
    unfold tc
    split <;> decide
  unfold p_end p_must at hX next
  refine bX7_all_84 _ _ _ ⟨_, g1, _, ⟨rfl, am_rN (by omega)⟩, fun e => ⟨1, 8, by omega, kx_mustF (k := 1) (by decide) h (fun z => Bool.noConfusion z) (fun _ => ⟨by omega, by omega, fun S' w' j hj => ?_⟩)⟩, fun e => ⟨0, 0, by omega, kx_mustF (k := 1) (by decide) h (fun _ => ?_) (fun z => Bool.noConfusion z)⟩⟩
  · have e2 : ¬ tk.1 = 4 := fun z => e (by rw [ht.mpr z]; rfl)
    rw [decide_eq_false e2, if_neg (by decide)] at hX
    exact hX _ rfl S' w' j hj
  · have e2 : tk.1 = 4 := ht.mp (by omega)
    rw [decide_eq_true e2, if_pos rfl] at next
    refine bX7_all_102 _ _ _ ⟨5 * ((z_tok f L tk.2.2).2.2 - tk.2.2), 45 * ((z_tok f L tk.2.2).2.2 - tk.2.2), by omega, _, g1, kx_next h (Nat.le_refl _) (Nat.le_refl _) (fun S' w' r1 _ => ?_)⟩
    rw [Nat.add_zero, Nat.add_zero]
    exact next rfl S' w' r1
theorem kx_all_4 {mc ms m N0 : Nat} {Fs : Nat → Nat × Nat × Nat} {cs ss : Nat} {P : ah_H → Prop} {QX : String → Nat → ah_H → Prop} (h : xRd S w tr Z R Y L may n f (fun i => Fs (N0 + i)) tk) (hm : m + n = may) (h16 : may ≤ 16)
    (hmc : cs + 5 * (L - tk.2.2) + 12 * m + 4 ≤ mc) (hms : ss + 45 * (L - tk.2.2) + 120 * m + 30 ≤ ms)
    (hX : ∀ e, z_par f L m (N0 + n) Fs tk = .inl e → ∀ S' w' j, xfl S' w' tr Z j e → QX "TableArms$Fault" j S')
    (hP : ∀ n' Fs', z_par f L m (N0 + n) Fs tk = .inr (N0 + n', Fs') → n' ≤ may → ∀ S' w' tk', xRd S' w' tr Z R Y L may n' f (fun i => Fs' (N0 + i)) tk' → P S') :
    VX7_all l mc ms (am_qv P) QX 4 [(0, am_R R)] [] S cs ss := by
  induction m generalizing S w n Fs tk cs ss with
  | zero =>
    obtain ⟨num, nm, g1⟩ := h.eR
    have ht := tc_eq0 h.2.2.2.2.1.1
    have htr : tc tk.1 < 5 := by
      unfold tc
      split <;> decide
    have hx := h.2.2.1.2
    obtain ⟨-, mc', e', cap', g', q1, -⟩ := id hx
    rw [z_par] at hX hP
    have over : (z_wd f tk = w_never ∨ z_wd f tk = w_most) → VX7_all l mc ms (am_qv P) QX 22 [(0, am_R R)] [] S cs ss := fun hw => by
      have h1 : tk.1 ≠ 1 := fun z => by
        have hz : z_wd f tk = [] := by
          unfold z_wd
          rw [if_neg (by omega)]
        rw [hz] at hw
        rcases hw with q | q <;> cases q
      rw [if_neg h1, if_pos hw] at hX
      exact bX7_all_22 _ _ _ ⟨_, g1, _, rfl, by omega, by omega, _, q1, kx_size hx ⟨_, g1, _, ⟨rfl, am_rN (by omega)⟩, fun z => ⟨1, 8, by omega, kx_mustF (k := 3) (by decide) h (fun z => Bool.noConfusion z) (fun _ => ⟨by omega, by omega, fun S' w' j hj => hX _ rfl S' w' j hj⟩)⟩, fun z => absurd z (by omega)⟩⟩
    refine bX7_all_4 _ _ _ ⟨by omega, by omega, _, g1, kx_isWord h (by decide) (by decide) ⟨fun hw => over (Or.inl (of_decide_eq_true hw)), fun hw => ⟨_, g1, kx_isWord h (by decide) (by decide) ⟨fun hw2 => ?_, fun hw2 => over (Or.inr (of_decide_eq_true hw2))⟩⟩⟩⟩
    have hw := of_decide_eq_false hw
    have hw2 := of_decide_eq_false hw2
    refine bX7_all_109 _ _ _ ⟨_, g1, _, ⟨rfl, am_rN (by omega)⟩, fun e => ⟨1, 8, by omega, kx_mustF (k := 1) (by decide) h (fun z => Bool.noConfusion z) (fun _ => ⟨by omega, by omega, fun S' w' j hj => ?_⟩)⟩, fun e => ⟨0, 0, by omega, kx_mustF (k := 1) (by decide) h (fun _ => am_qv_mk ?_) (fun z => Bool.noConfusion z)⟩⟩
    · have e2 : ¬ tk.1 = 1 := fun z => e (by rw [ht.mpr z]; rfl)
      rw [if_neg e2, if_neg (fun z => z.elim hw hw2)] at hX
      exact hX _ rfl S' w' j hj
    · have e2 : tk.1 = 1 := ht.mp (by omega)
      rw [if_pos e2] at hP
      exact hP n Fs rfl (by omega) S w tk h
  | succ m ih =>
    obtain ⟨num, nm, g1⟩ := h.eR
    have ht := tc_eq0 h.2.2.2.2.1.1
    have htr : tc tk.1 < 5 := by
      unfold tc
      split <;> decide
    have hx := h.2.2.1.2
    have hR32 := h.2.1.2.1
    obtain ⟨-, mc', e', cap', g', q1, -⟩ := id hx
    rw [z_par] at hX hP
    have over : (z_wd f tk = w_never ∨ z_wd f tk = w_most) → VX7_all l mc ms (am_qv P) QX 22 [(0, am_R R)] [] S cs ss := fun hw => by
      have h1 : tk.1 ≠ 1 := fun z => by
        have hz : z_wd f tk = [] := by
          unfold z_wd
          rw [if_neg (by omega)]
        rw [hz] at hw
        rcases hw with q | q <;> cases q
      rw [if_neg h1, if_pos hw] at hX hP
      obtain ⟨u1, u2, u3, u4, -⟩ := z_tok_ok (f := f) (L := L) (p := tk.2.2) h.2.2.2.2.1.2.2.1
      generalize et : z_tok f L tk.2.2 = t at *
      obtain ⟨v1, v2, v3, v4, -⟩ := z_tok_ok (f := f) (L := L) (p := t.2.2) u4
      generalize et1 : z_tok f L t.2.2 = t1 at *
      obtain ⟨w1', w2', w3', w4', -⟩ := z_tok_ok (f := f) (L := L) (p := t1.2.2) v4
      generalize et2 : z_tok f L t1.2.2 = t2 at *
      obtain ⟨x1', x2', x3', x4', -⟩ := z_tok_ok (f := f) (L := L) (p := t2.2.2) w4'
      generalize et3 : z_tok f L t2.2.2 = t3 at *
      refine bX7_all_22 _ _ _ ⟨_, g1, _, rfl, by omega, by omega, _, q1, kx_size hx ⟨_, g1, _, ⟨rfl, am_rN (by omega)⟩, fun z => absurd z (by omega), fun _ => ⟨0, 0, by omega, kx_mustF (k := 3) (by decide) h (fun _ => ?_) (fun z => Bool.noConfusion z)⟩⟩⟩
      rw [Nat.add_zero, Nat.add_zero]
      refine bX7_all_48 _ _ _ ⟨by omega, by omega, _, g1, kx_isWord h (by decide) (by decide) ⟨5 * (t.2.2 - tk.2.2), 45 * (t.2.2 - tk.2.2), by omega, _, g1, kx_next h (by rw [et]; exact Nat.le_refl _) (by rw [et]; exact Nat.le_refl _) (fun S1 w1 r1 f1 => ?_)⟩⟩
      rw [et] at r1
      obtain ⟨num1, nm1, g2⟩ := r1.eR
      -- what follows a never that was read, up to tz
      have cont : ∀ (tz : sp_tk) (v : Nat × Nat × Nat) (S2 : ah_H) (w2 : Nat → Nat) (o : Nat) (cs' ss' : Nat), (if z_wd f tk = w_never then p_never f L t else p_most f L t) = p_end f L v tz → t.2.2 ≤ tz.2.2 → tz.2.2 ≤ L → xRd S2 w2 tr Z R Y L may n f (fun i => Fs (N0 + i)) tz → xnv S1 S2 w1 w2 o v → cs' ≤ cs + 5 * (tz.2.2 - tk.2.2) + 4 → ss' ≤ ss + 45 * (tz.2.2 - tk.2.2) + 27 →
          ∃ mc30 ms31 : Nat, (cs' + mc30 ≤ mc ∧ ss' + ms31 ≤ ms) ∧ ∃ fs34, S2.1 Y = some (.inl (15, fs34)) ∧ kJ2_add l mc30 ms31 [am_R Y, am_R o] S2 (am_qz fun b37 G36 => VX7_all l mc ms (am_qv P) QX 84 [(0, am_R R)] [] G36 (cs' + mc30) (ss' + ms31)) := by
        intro tz v S2 w2 o cs' ss' hp hz1 hz2 r2 hv hc1 hs1
        obtain ⟨-, mc2, e2, cap2, g2', q2, -⟩ := id r2.2.2.1.2
        rw [hp] at hX hP
        obtain ⟨y1', y2', y3', y4', -⟩ := z_tok_ok (f := f) (L := L) (p := tz.2.2) hz2
        refine ⟨1, 30, by omega, _, q2, kx_addN r2 (by omega) hv.1 (Nat.le_refl _) (Nat.le_refl _) (fun S3 w3 r3 => ?_)⟩
        have r3 : xRd S3 w3 tr Z R Y L may (n + 1) f (fun i => va_up Fs (N0 + n) v (N0 + i)) tz := r3.cg (fun i hi => by
          rw [up_if, up_if]
          by_cases e : i = n
          · rw [if_pos e, if_pos (by omega)]
          · rw [if_neg e, if_neg (by omega)])
        generalize et4 : z_tok f L tz.2.2 = t4 at *
        refine kx_all_84 (v := v) r3 (by rw [et4]; omega) (by rw [et4]; omega) (fun e he S' w' j hj => ?_) (fun he S4 w4 r4 => ?_)
        · rw [he] at hX
          exact hX _ rfl S' w' j hj
        · rw [et4] at he r4 ⊢
          rw [he] at hX hP
          dsimp only at hX hP
          exact ih (n := n + 1) (Fs := va_up Fs (N0 + n) v) r4 (by omega) (by omega) (by omega) hX hP
      refine ⟨_, g2, _, rfl, fun hb => ?_, fun hb => ?_⟩
      · have hb := of_decide_eq_false hb
        have hbn : ¬ z_wd f tk = w_never := hb
        refine ⟨5 * (t2.2.2 - t.2.2) + 4, 45 * (t2.2.2 - t.2.2) + 27, by omega, kx_most r1 et1.symm et2.symm (Nat.le_refl _) (Nat.le_refl _) (fun e he S' w' j hj => ?_) (fun v he S2 w2 o r2 hv => ⟨o, rfl, ?_⟩)⟩
        · have hp : (if z_wd f tk = w_never then p_never f L t else p_most f L t) = .inl e := by
            rw [if_neg hbn, p_most_eq, he]
            rfl
          rw [hp] at hX
          exact hX _ rfl S' w' j hj
        · exact cont t2 v S2 w2 o _ _ (by rw [if_neg hbn, p_most_eq, he]; rfl) (by omega) (by omega) r2 hv (by omega) (by omega)
      · have hbn : z_wd f tk = w_never := of_decide_eq_true hb
        refine ⟨5 * (t3.2.2 - t.2.2) + 4, 45 * (t3.2.2 - t.2.2) + 27, by omega, kx_never r1 et1.symm et2.symm et3.symm (Nat.le_refl _) (Nat.le_refl _) (fun e he S' w' j hj => ?_) (fun v he S2 w2 o r2 hv => ⟨o, rfl, ?_⟩)⟩
        · have hp : (if z_wd f tk = w_never then p_never f L t else p_most f L t) = .inl e := by
            rw [if_pos hbn, p_never_eq, he]
            rfl
          rw [hp] at hX
          exact hX _ rfl S' w' j hj
        · exact cont t3 v S2 w2 o _ _ (by rw [if_pos hbn, p_never_eq, he]; rfl) (by omega) (by omega) r2 hv (by omega) (by omega)
    refine bX7_all_4 _ _ _ ⟨by omega, by omega, _, g1, kx_isWord h (by decide) (by decide) ⟨fun hw => over (Or.inl (of_decide_eq_true hw)), fun hw => ⟨_, g1, kx_isWord h (by decide) (by decide) ⟨fun hw2 => ?_, fun hw2 => over (Or.inr (of_decide_eq_true hw2))⟩⟩⟩⟩
    have hw := of_decide_eq_false hw
    have hw2 := of_decide_eq_false hw2
    refine bX7_all_109 _ _ _ ⟨_, g1, _, ⟨rfl, am_rN (by omega)⟩, fun e => ⟨1, 8, by omega, kx_mustF (k := 1) (by decide) h (fun z => Bool.noConfusion z) (fun _ => ⟨by omega, by omega, fun S' w' j hj => ?_⟩)⟩, fun e => ⟨0, 0, by omega, kx_mustF (k := 1) (by decide) h (fun _ => am_qv_mk ?_) (fun z => Bool.noConfusion z)⟩⟩
    · have e2 : ¬ tk.1 = 1 := fun z => e (by rw [ht.mpr z]; rfl)
      rw [if_neg e2, if_neg (fun z => z.elim hw hw2)] at hX
      exact hX _ rfl S' w' j hj
    · have e2 : tk.1 = 1 := ht.mp (by omega)
      rw [if_pos e2] at hP
      exact hP n Fs rfl (by omega) S w tk h
end KX33
