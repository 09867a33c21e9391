section KX21
variable {l : Launch} {S : ah_H} {w : Nat → Nat} {Z : sp_Z} {tr : Nat}
theorem kx_thr4 {v0 : Nat} {P : ah_H → Prop} (hX : 32 ≤ v0) (h : S.1 v0 = some (.inl (4, ah_dX4))) (hP : P (va_up S.1 v0 (some (.inl (4, ah_dX4))), S.2)) : kJ4_init l [am_R v0, am_O none, am_O none, am_I (am_b false), am_I (am_b false)] S (am_qv P) := by
  refine bJ4_init_X4 _ _ _ (bJ3_init_2_X4 _ _ _ ⟨_, h, hX, (show 0 < 7 by decide), ?_⟩)
  rintro _ rfl x7
  refine ⟨_, up_at S.1 v0 _, (show 1 < 7 by decide), ?_⟩
  rintro _ rfl x13
  refine ⟨_, up_at (ah_sf S _ _ _ _ _).1 v0 _, (show 2 < 7 by decide), ?_⟩
  rintro _ rfl
  refine ⟨fun _ => ⟨_, up_at (ah_sf (ah_sf S _ _ _ _ _) _ _ _ _ _).1 v0 _, (show 1 < 7 by decide), ?_⟩, fun z => Bool.noConfusion z⟩
  rintro _ rfl
  refine ⟨_, up_at (ah_sf (ah_sf (ah_sf S _ _ _ _ _) _ _ _ _ _) _ _ _ _ _).1 v0 _, (show 3 < 7 by decide), ?_⟩
  rintro _ rfl
  refine ⟨_, up_at (ah_sf (ah_sf (ah_sf (ah_sf S _ _ _ _ _) _ _ _ _ _) _ _ _ _ _) _ _ _ _ _).1 v0 _, (show 0 < 7 by decide), ?_⟩
  rintro _ rfl
  refine ⟨fun z => Bool.noConfusion z, fun _ => ⟨_, up_at (ah_sf (ah_sf (ah_sf (ah_sf (ah_sf S _ _ _ _ _) _ _ _ _ _) _ _ _ _ _) _ _ _ _ _) _ _ _ _ _).1 v0 _, (show 2 < 7 by decide), ?_⟩⟩
  rintro _ rfl
  refine am_qv_mk (am_qv_mk ?_)
  simp only [ah_sf, up_up]
  exact hP
theorem kx_must {mc ms k : Nat} {b : Bool} {P : ah_H → Prop} {QX : String → Nat → ah_H → Prop} (hk : k < 100) (h : xr_ S w tr Z) (h1 : b = true → P S) (h2 : b = false → 1 ≤ mc ∧ 7 ≤ ms ∧ ∀ S' w' j, xr_ S' w' tr Z → 647 ≤ j → w' j = 15 → S'.1 j = some (.inl (4, ah_dX4.set 6 (am_I (k : Int)))) → QX "TableArms$Finding" j S') : kX0_must l mc ms [am_I (am_b b), am_I k] S (am_qv P) QX := by
  have b0 := h.2.1.1
  have hX : ah_X ≤ S.2 := Nat.le_trans (show 32 ≤ 647 by decide) b0
  refine bX0_must _ _ (by first | exact am_rN (by omega) | exact ⟨by omega, by omega⟩ | assumption) ⟨fun e => am_qv_mk (h1 e), fun e => ⟨(h2 e).1, (h2 e).2.1, ?_⟩⟩
  obtain ⟨-, -, h2⟩ := h2 e
  rintro _ rfl
  refine bX4_init _ _ (by first | exact am_rN (by omega) | exact ⟨by omega, by omega⟩ | assumption) (kx_thr4 hX (up_at S.1 S.2 _) ⟨_, up_at (ah_mk S _).1 S.2 _, hX, (show 6 < 7 by decide), ?_⟩)
  rintro _ rfl
  refine am_qv_mk ⟨_, up_at (va_up (ah_mk S _).1 S.2 _) S.2 _, hX, ?_⟩
  simp only [ah_sf, ah_mk, up_up]
  obtain ⟨r1, r2⟩ := h.obj (.inl (4, ah_dX4.set 6 (am_I (k : Int)))) 15
  exact h2 _ _ S.2 r1 b0 r2 (up_at S.1 S.2 _)
theorem xr_.st (h : xr_ S w tr Z) {k : Nat} (hk : k ≤ 5) : xr_ (ah_sf S 32 1 (xF_Z Z tr) 17 (am_I (k : Int))) w tr (z_St Z k) := by
  have b0 := h.2.1.1
  obtain ⟨fr, fn⟩ := h.w1 h.I.2 h.I.1 (.inl (1, (xF_Z Z tr).set 17 (am_I (k : Int))))
  exact ⟨⟨h.1.1, h.1.2.1, h.1.2.2.1, h.1.2.2.2.1, h.1.2.2.2.2.1, h.1.2.2.2.2.2.1, h.1.2.2.2.2.2.2.1, ⟨h.1.2.2.2.2.2.2.2.1.1, hk⟩, h.1.2.2.2.2.2.2.2.2⟩, ⟨h.2.1.1, fn⟩, ⟨h.I.1, up_at S.1 32 _⟩, h.A.kept fr (by decide), h.B.kept fr (by decide), h.K.kept h.K8 fr (by decide) (by decide), h.C.kept fr (by decide), h.D.kept h.L8 h.e1 fr (by decide) (by decide) (by decide), h.E.kept fr (by decide) (by decide), h.N.kept h.e1 fr (by decide) (by decide) (by decide), h.G.kept fr (by decide), h.Y.kept fr (by decide), h.U.kept fr (by decide), h.X.kept fr (by decide) h.X.1⟩
theorem kx_found {j k : Nat} {P : Int → ah_H → Prop} (h : xr_ S w tr Z) (hk : k ≤ 5) (hj : 647 ≤ j) (hc : S.1 j = some (.inl (4, ah_dX4.set 6 (am_I (k : Int))))) (hP : ∀ S', xr S' (z_bad Z k).2 → P (z_bad Z k).1 S') : kX0_found l [am_R 32, am_R j] S (am_qi P) := by
  refine bX0_found _ _ ⟨_, hc, _, ⟨rfl, am_rN (by omega)⟩, _, h.I.2, by decide, (show 17 < 20 by decide), ?_⟩
  rintro _ rfl
  exact ⟨_, (up_ne _ _ (by omega)).trans hc, _, ⟨rfl, am_rN (by omega)⟩, am_qi_mk (z_bad_r (Z := Z) hk) (hP _ ⟨w, tr, h.st hk⟩)⟩
theorem kx_well {v : Int} {P : Int → ah_H → Prop} (h : xr_ S w tr Z) (hv : am_r v) (hP : P v (ah_sf S 32 1 (xF_Z Z tr) 17 (am_I 0))) : kX0_well l [am_R 32, am_I v] S (am_qi P) := by
  refine bX0_well _ _ (by first | exact am_rN (by omega) | exact ⟨by omega, by omega⟩ | assumption) ⟨_, h.I.2, by decide, (show 17 < 20 by decide), ?_⟩
  rintro _ rfl
  exact am_qi_mk hv hP
/-- the handler that every operation on sheets has -/
theorem kx_hand {j k : Nat} {ex : String} {P : Int → ah_H → Prop} (h : xr_ S w tr Z) (hk : k ≤ 5) (hj : 647 ≤ j) (hc : S.1 j = some (.inl (4, ah_dX4.set 6 (am_I (k : Int))))) (hP : ∀ S', xr S' (z_bad Z k).2 → P (z_bad Z k).1 S') (he : ex = "TableArms$Finding") : ex = "TableArms$Finding" ∧ ∃ fs, S.1 32 = some (.inl (1, fs)) ∧ kX0_found l [am_R 32, am_R j] S (am_qi fun r G => am_qi P (some (am_I r)) G) :=
  ⟨he, _, h.I.2, kx_found h hk hj hc (fun S' r => am_qi_mk (z_bad_r hk) (hP S' r))⟩
theorem kx_sheetAt {mc ms a : Nat} {P : Option Nat → ah_H → Prop} {QX : String → Nat → ah_H → Prop} (h : xr_ S w tr Z) (ha : a < 8)
    (h1 : ∀ x sh it, zSh Z a = some x → (∃ f, S.1 33 = some (.inr (4, 8, .inr f)) ∧ f a = some sh) → 647 ≤ sh → w sh = 200 + a → w (sh + 1) = 200 + a → S.1 sh = some (.inl (5, [am_I (x.1 : Int), am_R (sh + 1)])) → S.1 (sh + 1) = some (.inr (0, x.2.1, .inl it)) → (∀ j, j < x.2.1 → (it j).toInt = x.2.2 j) → P (some sh) S)
    (h2 : zSh Z a = none → 1 ≤ mc ∧ 7 ≤ ms ∧ ∀ S' w' j, xr_ S' w' tr Z → 647 ≤ j → w' j = 15 → S'.1 j = some (.inl (4, ah_dX4.set 6 (am_I (1 : Int)))) → QX "TableArms$Finding" j S') : kX0_sheetAt l mc ms [am_R 32, am_I a] S (am_qo P) QX := by
  obtain ⟨-, f, sh, g0, g⟩ := h.E
  obtain ⟨g1, g2⟩ := g a ha
  refine bX0_sheetAt _ _ (by first | exact am_rN (by omega) | exact ⟨by omega, by omega⟩ | assumption) ⟨_, h.I.2, _, rfl, _, _, g0, ⟨by omega, by omega⟩, ?_⟩
  rw [Int.toNat_natCast]
  rintro _ rfl
  refine ⟨fun e => ⟨mc, ms, by omega, kx_must (k := 1) (by decide) h (fun z => Bool.noConfusion z) (fun _ => h2 ?_)⟩, fun e => ⟨mc, ms, by omega, kx_must (k := 1) (by decide) h (fun _ => ?_) (fun z => Bool.noConfusion z)⟩⟩
  · cases q : zSh Z a with
    | none => rfl
    | some x => rw [(g2 x q).1] at e; cases e
  · cases q : zSh Z a with
    | none => exact absurd (g1 q) e
    | some x =>
      obtain ⟨k1, k2, k3, k4, k5, it, k6, k7⟩ := g2 x q
      exact ⟨_, h.I.2, _, rfl, _, _, g0, ⟨by omega, by omega⟩, sh a, k1, am_qo_mk (h1 x (sh a) it q ⟨f, g0, k1⟩ k2 k3 k4 k5 k6 k7)⟩
end KX21
