section KX34
variable {l : Launch} {S S' : ah_H} {w w' : Nat → Nat} {Z : sp_Z} {tr R Y L may n : Nat} {f : Nat → Nat} {F : Nat → Nat × Nat × Nat} {tk : sp_tk}
theorem kx_linit {a : Nat} {P : ah_H → Prop} (ha : 32 ≤ a) (h : S.1 a = some (.inl (15, ah_dJ2))) (hP : P (va_up S.1 a (some (.inl (15, [am_I 0, am_R 1, am_I 0]))), S.2)) : kJ2_init l [am_R a] S (am_qv P) := by
  refine bJ2_init _ (bJ1_init _ (bJ0_init _ (am_qv_mk ⟨_, h, ha, (show 0 < 3 by decide), ?_⟩)))
  rintro _ rfl
  refine am_qv_mk ⟨_, up_at S.1 a _, ha, (show 1 < 3 by decide), ?_⟩
  rintro _ rfl
  refine am_qv_mk ?_
  simp only [ah_sf, up_up]
  exact hP
theorem kx_init7 {mc ms a Lz mz : Nat} {P : ah_H → Prop} (ha : 66 < a) (hL : Lz ≤ 1000) (hm : mz ≤ 1000) (h : S.1 a = some (.inl (7, ah_dX7))) (hS : S.2 = a + 1) (hmc : 1 ≤ mc) (hms : 3 ≤ ms)
    (hP : ∀ S', S'.2 = a + 2 → xrd S'.1 a (a + 1) Lz mz 0 0 0 0 12 → S'.1 (a + 1) = some (.inl (15, [am_I 0, am_R 1, am_I 0])) → (∀ q, q ≠ a → q ≠ a + 1 → S'.1 q = S.1 q) → P S') : kX7_init l mc ms [am_R a, am_R 65, am_I Lz, am_I mz] S (am_qv P) := by
  obtain ⟨h0, b⟩ := S
  have hS : b = a + 1 := hS
  subst hS
  have hX : ah_X ≤ a := by
    unfold ah_X
    omega
  refine bX7_init _ _ _ (by first | exact am_rN (by omega) | exact ⟨by omega, by omega⟩ | assumption) _ (by first | exact am_rN (by omega) | exact ⟨by omega, by omega⟩ | assumption) ⟨_, h, hX, (show 7 < 9 by decide), ?_⟩
  rintro _ rfl
  refine ⟨hmc, hms, ?_⟩
  rintro _ rfl
  refine kx_linit (by show 32 ≤ a + 1; omega) (up_at _ (a + 1) _) ⟨_, (up_ne _ _ (by show a ≠ a + 1; omega)).trans ((up_ne _ _ (by show a ≠ a + 1; omega)).trans (up_at h0 a _)), (show 8 < 9 by decide), ?_⟩
  rintro _ rfl
  refine ⟨_, up_at _ a _, (show 0 < 9 by decide), ?_⟩
  rintro _ rfl
  refine ⟨_, up_at _ a _, (show 1 < 9 by decide), ?_⟩
  rintro _ rfl
  refine ⟨_, up_at _ a _, (show 2 < 9 by decide), ?_⟩
  rintro _ rfl
  refine am_qv_mk (hP _ rfl (up_at _ a _) ?_ (fun q h1 h2 => ?_))
  · simp only [ah_sf, up_up]
    exact (up_ne _ _ (by omega)).trans (up_at _ (a + 1) _)
  · simp only [ah_sf, ah_mk, up_up]
    exact (up_ne _ _ h1).trans ((up_ne _ _ h2).trans (up_ne _ _ h1))
theorem xr_.tp0 (h : xr_ S w tr Z) : xr_ (ah_sf S 32 1 (xF_Z Z tr) 13 (am_I 0)) w tr (z_G Z (0, zPf Z)) := by
  have b0 := h.2.1.1
  obtain ⟨fr, fn⟩ := h.w1 h.I.2 h.I.1 (.inl (1, (xF_Z Z tr).set 13 (am_I 0)))
  obtain ⟨gw, g, g1, g2⟩ := h.G
  exact ⟨⟨h.1.1, h.1.2.1, h.1.2.2.1, h.1.2.2.2.1, h.1.2.2.2.2.1, h.1.2.2.2.2.2.1, ⟨Nat.zero_le _, fun i hi => absurd hi (Nat.not_lt_zero _)⟩, h.1.2.2.2.2.2.2.2⟩, ⟨h.2.1.1, fn⟩, ⟨h.I.1, up_at S.1 32 _⟩, h.A.kept fr (by decide), h.B.kept fr (by decide), h.K.kept h.K8 fr (by decide) (by decide), h.C.kept fr (by decide), h.D.kept h.L8 h.e1 fr (by decide) (by decide) (by decide), h.E.kept fr (by decide) (by decide), h.N.kept h.e1 fr (by decide) (by decide) (by decide), ⟨gw, g, (xc_at fr gw (by decide) g1).1, fun i hi => absurd hi (Nat.not_lt_zero _)⟩, h.Y.kept fr (by decide), h.U.kept fr (by decide), h.X.kept fr (by decide) h.X.1⟩
theorem xr_.ft (h : xr_ S w tr Z) {k : Nat} (hk : k ≤ 3) : xr_ (ah_sf S 32 1 (xF_Z Z tr) 14 (am_I (k : Int))) w tr (z_H Z (k, zSt Z)) := by
  have b0 := h.2.1.1
  obtain ⟨fr, fn⟩ := h.w1 h.I.2 h.I.1 (.inl (1, (xF_Z Z tr).set 14 (am_I (k : Int))))
  exact ⟨⟨h.1.1, h.1.2.1, h.1.2.2.1, h.1.2.2.2.1, h.1.2.2.2.2.1, h.1.2.2.2.2.2.1, h.1.2.2.2.2.2.2.1, ⟨hk, h.1.2.2.2.2.2.2.2.1.2⟩, h.1.2.2.2.2.2.2.2.2⟩, ⟨h.2.1.1, fn⟩, ⟨h.I.1, up_at S.1 32 _⟩, h.A.kept fr (by decide), h.B.kept fr (by decide), h.K.kept h.K8 fr (by decide) (by decide), h.C.kept fr (by decide), h.D.kept h.L8 h.e1 fr (by decide) (by decide) (by decide), h.E.kept fr (by decide) (by decide), h.N.kept h.e1 fr (by decide) (by decide) (by decide), h.G.kept fr (by decide), h.Y.kept fr (by decide), h.U.kept fr (by decide), h.X.kept fr (by decide) h.X.1⟩
/-- the nevers go over into the table's own list -/
theorem kx_nevers_60 {mc ms cs ss k N0 : Nat} {Fs : Nat → Nat × Nat × Nat} {fs : List am_W} {P : Int → ah_H → Prop} (h : xr_ S w tr (z_F Z (N0 + k, Fs))) (hR : w R = 17 ∧ S.1 R = some (.inl (7, fs)) ∧ fs[8]? = some (am_R Y)) (hY : xmd S.1 w Y n (fun i => Fs (N0 + i))) (hk : k ≤ n) (hn : N0 + n ≤ 16) (hok : ∀ i, i < N0 + n → nv_ok (Fs i))
    (hmc : cs + (n - k) ≤ mc) (hms : ss + 30 * (n - k) ≤ ms) (hP : ∀ S', xr S' (z_F Z (N0 + n, Fs)) → P ((N0 + n : Nat) : Int) S') : VX0_nevers l mc ms (am_qi P) 60 [(0, am_R 32), (1, am_R R), (2, am_I k)] [] S cs ss := by
  obtain ⟨-, mc1, e1, cap1, g1, q1, -⟩ := id hY
  obtain ⟨-, mc2, e2, cap2, g2, q2, -⟩ := id h.N
  generalize hq : n - k = q
  induction q generalizing S w k cs ss mc1 e1 cap1 g1 mc2 e2 cap2 g2 with
  | zero =>
    have e : k = n := by omega
    subst e
    refine bX0_nevers_60 _ _ _ (by first | exact am_rN (by omega) | exact ⟨by omega, by omega⟩ | assumption) _ _ ⟨_, hR.2.1, _, hR.2.2, by omega, by omega, _, q1, kx_size hY ⟨fun _ => ⟨_, h.I.2, _, rfl, _, q2, kx_size h.N (am_qi_mk (am_rN ?_) (hP S ⟨w, tr, h⟩))⟩, fun z => absurd z (by omega)⟩⟩
    show N0 + k < 2147483648
    omega
  | succ q ih =>
    have b0 := h.2.1.1
    refine bX0_nevers_60 _ _ _ (by first | exact am_rN (by omega) | exact ⟨by omega, by omega⟩ | assumption) _ _ ⟨_, hR.2.1, _, hR.2.2, by omega, by omega, _, q1, kx_size hY ⟨fun z => absurd z (by omega), fun _ => ⟨_, h.I.2, _, rfl, _, hR.2.1, _, hR.2.2, _, q1, kx_get hY (by omega) (fun o ho => ⟨o, rfl, ah_is9 ho.2.2, 1, 30, by omega, _, q2, kx_add h.N (by decide) h.X.1 h.2.1.2 b0 (by decide) (show N0 + k ≤ 16 by omega) (Nat.le_refl _) (Nat.le_refl _) (fun i o _ ho => ah_isN ho.2.2) (ah_isN ho.2.2) (by rw [ho.2.1]; decide) (fun S' mk e cap g a1 a2 a3 a4 a5 a6 a7 a8 a9 a10 a11 a12 a13 => ?_)⟩)⟩⟩⟩
    have ltS : ∀ q, S.1 q ≠ none → q < S.2 := fun q hq => h.some hq
    have fr : ∀ q, S.1 q ≠ none → w q ∉ [9] → S'.1 q = S.1 q ∧ xtg w S.2 S'.2 9 q = w q := fun q hq hn => by
      have := ltS q hq
      exact ⟨a3 q hq (by simpa using hn), xtg_out (Or.inl this)⟩
    have hx := h.all (S' := S') (w' := xtg w S.2 S'.2 9) ⟨⟨a1, a2⟩, fr⟩ (fun q hq => (xtg_out (Or.inl (by omega))).trans (h.X.1 q hq)) (by decide)
    obtain ⟨r1, r2⟩ := xc_at fr hR.1 (by decide) hR.2.1
    have r3 : xr_ S' (xtg w S.2 S'.2 9) tr (z_F Z (N0 + (k + 1), Fs)) := by
      refine ⟨⟨h.1.1, h.1.2.1, h.1.2.2.1, h.1.2.2.2.1, h.1.2.2.2.2.1, ⟨by show N0 + (k + 1) ≤ 16; omega, fun i hi => hok i (by have hi : i < N0 + (k + 1) := hi; omega)⟩, h.1.2.2.2.2.2.2⟩, hx.1, h.I.kept fr (by decide), h.A.kept fr (by decide), h.B.kept fr (by decide), h.K.kept h.K8 fr (by decide) (by decide), h.C.kept fr (by decide), h.D.kept h.L8 h.e1 fr (by decide) (by decide) (by decide), h.E.kept fr (by decide) (by decide), ⟨(xtg_out (Or.inl (by omega))).trans h.N.1, mk, e, cap, g, a4, a5, a6, a7, a8, Or.inr ⟨a9, a10, a11⟩, fun i hi => ?_⟩, h.G.kept fr (by decide), h.Y.kept fr (by decide), h.U.kept fr (by decide), hx.2⟩
      have hi : i < N0 + (k + 1) := hi
      by_cases ei : i = N0 + k
      · rw [ei]
        obtain ⟨z1, z2⟩ := xc_at fr ho.2.1 (by decide) ho.2.2
        exact ⟨o, a13, ho.1, z2, z1⟩
      · obtain ⟨x, y1, y2, y3, y4⟩ := a12 i (show i < N0 + k by omega)
        obtain ⟨z1, z2⟩ := xc_at fr y3 (by decide) y4
        exact ⟨x, y1, y2, z2, z1⟩
    have hY2 : xmd S'.1 (xtg w S.2 S'.2 9) Y n (fun i => Fs (N0 + i)) := hY.kept h.e1 fr (by decide) (by decide) (by decide)
    obtain ⟨-, mc1', e1', cap1', g1', q1', -⟩ := id hY2
    obtain ⟨-, mc2', e2', cap2', g2', q2', -⟩ := id r3.N
    exact ih (k := k + 1) r3 ⟨r2, r1, hR.2.2⟩ hY2 (by omega) (by omega) (by omega) mc1' e1' cap1' g1' q1' mc2' e2' cap2' g2' q2' (by omega)
theorem kx_nevers {mc ms : Nat} {P : Int → ah_H → Prop} (h0 : xr S Z) (hmc : 1800 ≤ mc) (hms : 16500 ≤ ms) (hP : ∀ S', xr S' (zo_nevers Z).2 → P (zo_nevers Z).1 S') : kX0_nevers l mc ms [am_R 32] S (am_qi P) := by
  obtain ⟨w, tr, h⟩ := h0
  have b0 := h.2.1.1
  have N16 := h.N16
  have P3 := h.P300
  obtain ⟨-, mc2, e2, cap2, g2, q2, -⟩ := id h.N
  unfold zo_nevers at hP
  have hX : ah_X ≤ S.2 := Nat.le_trans (show 32 ≤ 647 by decide) b0
  refine bX0_nevers _ ⟨by omega, by omega, ?_⟩
  rintro _ rfl
  have k1 : xr_ (ah_mk S (.inl (7, ah_dX7))) (xtg w S.2 (S.2 + 1) 17) tr Z := (h.obj (.inl (7, ah_dX7)) 17).1
  refine ⟨_, k1.I.2, _, rfl, _, ⟨rfl, am_rN (by omega)⟩, _, rfl, _, (up_ne _ _ (by omega)).trans q2, kx_size k1.N ⟨1, 3, by omega, ?_⟩⟩
  rw [show (16 : Int) - ((zN Z : Nat) : Int) = ((16 - zN Z : Nat) : Int) by omega]
  refine kx_init7 (a := S.2) (by omega) (by omega) (by omega) (up_at S.1 S.2 _) rfl (Nat.le_refl _) (Nat.le_refl _) (fun S1 g1 g2' g3 g4 => ?_)
  have f1 : ∀ q, q < S.2 → S1.1 q = S.1 q := fun q hq => (g4 q (by omega) (by omega)).trans (up_ne _ _ (by omega))
  have w1d : ∀ q, q < S.2 → va_up (va_up w S.2 17) (S.2 + 1) 18 q = w q := fun q hq => (up_ne _ _ (by omega)).trans (up_ne _ _ (by omega))
  have r1 : xr_ S1 (va_up (va_up w S.2 17) (S.2 + 1) 18) tr Z := h.new ⟨⟨by omega, fun q hq => (g4 q (by omega) (by omega)).trans ((up_ne _ _ (by omega)).trans (h.2.1.2 q (by omega)))⟩, fun q hq _ => by
    have := h.some hq
    exact ⟨f1 q this, w1d q this⟩⟩ (fun q hq => (w1d q (by omega)).trans (h.X.1 q hq))
  refine ⟨_, r1.I.2, by decide, (show 13 < 20 by decide), ?_⟩
  rintro _ rfl
  have r2 := r1.tp0
  obtain ⟨gw, gG, gG1, gG2⟩ := r1.G
  have ne : ∀ q, q ≠ 32 → (ah_sf S1 32 1 (xF_Z Z tr) 13 (am_I 0)).1 q = S1.1 q := fun q hq => up_ne _ _ hq
  generalize hS2 : ah_sf S1 32 1 (xF_Z Z tr) 13 (am_I 0) = S2 at *
  obtain ⟨fe, hfe⟩ := r2.X.2.1
  have hrd : xrd S2.1 S.2 (S.2 + 1) (zP Z) (16 - zN Z) 0 0 0 0 12 := (ne S.2 (by omega)).trans g2'
  have rd : xRd S2 (va_up (va_up w S.2 17) (S.2 + 1) 18) tr (z_G Z (0, zPf Z)) S.2 (S.2 + 1) (zP Z) (16 - zN Z) 0 (zPf Z) (fun i => zNf Z (zN Z + i)) (1, 0, 0) := by
    refine ⟨r2, ⟨(up_ne _ _ (by omega)).trans (up_at _ _ _), b0, gw⟩, ⟨⟨by omega, by omega⟩, up_at _ _ _, 0, 1, 0, fe, (ne _ (by omega)).trans g3, hfe, Nat.le_refl _, Nat.le_refl _, by decide, Or.inl ⟨rfl, rfl⟩, fun i hi => absurd hi (Nat.not_lt_zero _)⟩, ⟨⟨gG, (ne 65 (by decide)).trans gG1, gG2⟩, P3, h.1.2.2.2.2.2.2.1.2⟩, ⟨by show (1 : Nat) ≤ 4; decide, Nat.le_refl _, Nat.zero_le _, fun z => absurd z (show ¬ (1 : Nat) = 3 by decide)⟩, 0, 12, hrd, am_r0, fun z => absurd z (show ¬ (1 : Nat) = 3 by decide), fun z => absurd z (show ¬ (1 : Nat) = 2 by decide)⟩
  refine ⟨1 + 1700, 16000, by omega, _, hrd, bX7_all _ ⟨5 * ((z_tok (zPf Z) (zP Z) 0).2.2 - 0), 45 * ((z_tok (zPf Z) (zP Z) 0).2.2 - 0), ?_, _, hrd, kx_next rd (Nat.le_refl _) (Nat.le_refl _) (fun S3 w3 r3 _ => ?_)⟩⟩
  · have := z_tok_ok (f := zPf Z) (L := zP Z) (p := 0) (Nat.zero_le _)
    omega
  have ht4 := (z_tok_ok (f := zPf Z) (L := zP Z) (p := 0) (Nat.zero_le _)).2.2.2.1
  have r3 : xRd S3 w3 tr (z_G Z (0, zPf Z)) S.2 (S.2 + 1) (zP Z) (16 - zN Z) 0 (zPf Z) (fun i => zNf Z (zN Z + i)) (z_tok (zPf Z) (zP Z) 0) := r3
  have hok0 : ∀ i, i < zN Z → nv_ok (zNf Z i) := h.1.2.2.2.2.2.1.2
  refine kx_all_4 (m := 16 - zN Z) (N0 := zN Z) (Fs := zNf Z) r3 rfl (by omega) (by omega) (by omega) (fun e he S' w' j hj => ?_) (fun n' Fs' he hn' S4 w4 tk' r4 => ?_)
  · rw [Nat.add_zero] at he
    rw [he] at hP
    obtain ⟨j1, j2, j3, j4⟩ := hj
    refine ⟨rfl, _, j4, _, ⟨rfl, am_rN (by omega)⟩, _, j1.I.2, (show 14 < 20 by decide), ?_⟩
    rintro _ rfl
    exact ⟨_, (up_ne _ _ (by omega)).trans j4, _, ⟨rfl, am_rN (by omega)⟩, am_qi_mk ⟨by omega, by omega⟩ (hP _ ⟨w', tr, j1.ft j3.1⟩)⟩
  · rw [Nat.add_zero] at he
    rw [he] at hP
    obtain ⟨o1, o2, o3⟩ := z_par_ok _ _ _ _ _ _ hok0 he
    obtain ⟨num, nm, q1⟩ := r4.eR
    have r5 : xr_ S4 w4 tr (z_F (z_G Z (0, zPf Z)) (zN Z + 0, Fs')) := by
      have k := r4.1
      obtain ⟨nw, mc', e', cap', g', n1, n2, n3, n4, n5, n6, n7⟩ := k.N
      exact ⟨⟨k.1.1, k.1.2.1, k.1.2.2.1, k.1.2.2.2.1, k.1.2.2.2.2.1, ⟨N16, fun i hi => o3 i (by have hi : i < zN Z := hi; omega)⟩, k.1.2.2.2.2.2.2⟩, k.2.1, k.I, k.A, k.B, k.K, k.C, k.D, k.E, ⟨nw, mc', e', cap', g', n1, n2, n3, n4, n5, n6, fun i hi => by
        have hi : i < zN Z := hi
        obtain ⟨o, y1, y2, y3, y4⟩ := n7 i hi
        refine ⟨o, y1, y2, y3, ?_⟩
        show S4.1 o = some (.inl (9, [am_I ((Fs' i).2.1 : Int), am_I ((Fs' i).1 : Int), am_I ((Fs' i).2.2 : Int)]))
        rw [o2 i hi]
        exact y4⟩, k.G, k.Y, k.U, k.X⟩
    exact kx_nevers_60 (Z := z_G Z (0, zPf Z)) (k := 0) (N0 := zN Z) (n := n') (Fs := Fs') (Y := S.2 + 1) r5 ⟨r4.2.1.1, q1, rfl⟩ r4.2.2.1.2 (Nat.zero_le _) (by omega) o3 (by omega) (by omega) hP
end KX34
