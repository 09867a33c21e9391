def xw0 (q : Nat) : Nat := if q < 32 then 13 else if q = 32 then 0 else if q = 33 then 8 else if q ≤ 35 then 1 else if q ≤ 41 then 2 else if q = 42 then 3 else if q ≤ 62 then 4 else if q = 63 then 5 else if q = 64 then 6 else if q = 65 then 11 else if q = 66 then 9 else if q ≤ 68 then 12 else 4
theorem xX.of {h h' : Nat → Option ah_C} {w w' : Nat → Nat} (k : xX h w) (e : ∀ q, q < 32 → h' q = h q) (hw : ∀ q, q < 32 → w' q = 13) : xX h' w' := by
  obtain ⟨k1, ⟨f, k2⟩, ⟨g, k3, k4⟩, ⟨u, k5, k6⟩, k7⟩ := k
  refine ⟨hw, ⟨f, (e 1 (by decide)).trans k2⟩, ⟨g, (e 2 (by decide)).trans k3, k4⟩, ⟨u, (e 3 (by decide)).trans k5, k6⟩, fun i h1 h2 => ?_⟩
  obtain ⟨⟨hs, hz, m1, m2⟩, v, m3, m4⟩ := k7 i h1 h2
  exact ⟨⟨hs, hz, (e i (by omega)).trans m1, m2⟩, v, (e (i + 12) (by omega)).trans m3, m4⟩
section KX36
variable {l : Launch} {h0 : Nat → Option ah_C} {S G : ah_H} {T : List am_W} {t : Nat} {K : List (Nat × ah_C)}
theorem xk_ne {K : List (Nat × ah_C)} {a : Nat} (h : (K.map Prod.fst).all (fun x => decide (x ≠ a)) = true) : ∀ p, p ∈ K → p.1 ≠ a := fun p hp => by
  have := List.all_eq_true.mp h p.1 (List.mem_map_of_mem hp)
  exact of_decide_eq_true this
theorem xk_lt {K : List (Nat × ah_C)} {a : Nat} (h : (K.map Prod.fst).all (fun x => decide (x < a)) = true) : ∀ p, p ∈ K → p.1 < a := fun p hp => by
  have := List.all_eq_true.mp h p.1 (List.mem_map_of_mem hp)
  exact of_decide_eq_true this
theorem xk_get (h : xin0 h0 S T t K) {a : Nat} {c : ah_C} (i : Nat) (e : K[i]? = some (a, c)) : S.1 a = some c := (h.2.2.2.1 (a, c) (List.mem_of_getElem? e)).2.2
theorem xk_sub {K' : List (Nat × ah_C)} (h : xin0 h0 S T t K) (hs : ∀ p, p ∈ K' → p ∈ K) : xin0 h0 S T t K' := ⟨h.1, h.2.1, h.2.2.1, fun p hp => h.2.2.2.1 p (hs p hp), h.2.2.2.2⟩
theorem xk_tr {mc ms a : Nat} {P : ah_H → Prop} (h : xin0 h0 S T (a + 1) ((a, .inl (3, ah_dX2)) :: K)) (hlt : ∀ p, p ∈ K → p.1 ≠ a) (ha : 36 ≤ a) (hmc : 1 ≤ mc) (hms : 16 ≤ ms) (hP : ∀ S', xin0 h0 S' T (a + 2) ((a + 1, .inr (0, 16, .inl (fun _ => 0))) :: (a, .inl (3, [am_R (a + 1), am_I 0])) :: K) → P S') : kX2_init l mc ms [am_R a] S (am_qv P) := by
  refine bX2_init _ ⟨hmc, hms, fun G1 e1 => ?_⟩
  have h1 := xk_mk h e1
  refine ⟨_, xk_get h1 1 rfl, by show 32 ≤ a; omega, (show 0 < 2 by decide), fun G2 e2 => ?_⟩
  rw [h.1] at e2
  refine am_qv_mk (hP G2 (xk_up (M := [(a + 1, .inr (0, 16, .inl (fun _ => 0)))]) h1 (fun p hp => ?_) e2))
  rcases List.mem_append.mp hp with hp | hp
  · rw [List.mem_singleton] at hp
    rw [hp]
    show a + 1 ≠ a
    omega
  · exact hlt p hp
abbrev xT1 : List am_W := [am_R 33, am_I 0, am_R 34, am_R 35, am_R 36, am_R 42, am_I 0, am_R 43, am_R 49, am_R 62, am_R 63, am_R 64, am_R 65, am_I 0, am_I 0, am_R 66, am_R 67, am_I 0, am_R 69, am_R 70]
abbrev xKa : List (Nat × ah_C) := [(70, .inr (0, 144, .inl (fun _ => 0))), (69, .inr (1, 96, .inl (fun _ => 0))), (68, .inr (0, 16, .inl (fun _ => 0))), (67, .inl (3, [am_R 68, am_I 0])), (66, .inl (15, [am_I 0, am_R 1, am_I 0])), (65, .inr (2, 300, .inl (fun _ => 0))), (64, .inl (15, [am_I 0, am_R 1, am_I 0])), (63, .inr (0, 2, .inl (va_up (va_up (fun _ => 0) (0 : Int).toNat (Int32.ofInt 255)) (1 : Int).toNat (Int32.ofInt 255))))]
abbrev xKb : List (Nat × ah_C) := [(56, .inl (2, [am_R 57, am_R 58, am_R 59, am_R 60, am_R 61])), (57, .inr (0, 48, .inl (fun _ => 0))), (58, .inr (0, 8, .inl (fun _ => 0))), (59, .inr (0, 6, .inl (fun _ => 0))), (60, .inr (0, 6, .inl (fun _ => 0))), (61, .inr (0, 6, .inl (fun _ => 0))), (50, .inl (2, [am_R 51, am_R 52, am_R 53, am_R 54, am_R 55])), (51, .inr (0, 48, .inl (fun _ => 0))), (52, .inr (0, 8, .inl (fun _ => 0))), (53, .inr (0, 6, .inl (fun _ => 0))), (54, .inr (0, 6, .inl (fun _ => 0))), (55, .inr (0, 6, .inl (fun _ => 0))), (49, .inr (3, 2, .inr (va_up (va_up (fun _ => none) (0 : Int).toNat (some 50)) (1 : Int).toNat (some 56)))), (43, .inl (2, [am_R 44, am_R 45, am_R 46, am_R 47, am_R 48])), (44, .inr (0, 48, .inl (fun _ => 0))), (45, .inr (0, 8, .inl (fun _ => 0))), (46, .inr (0, 6, .inl (fun _ => 0))), (47, .inr (0, 6, .inl (fun _ => 0))), (48, .inr (0, 6, .inl (fun _ => 0))), (42, .inr (3, 8, .inr (fun _ => none))), (36, .inl (2, [am_R 37, am_R 38, am_R 39, am_R 40, am_R 41])), (37, .inr (0, 48, .inl (fun _ => 0))), (38, .inr (0, 8, .inl (fun _ => 0))), (39, .inr (0, 6, .inl (fun _ => 0))), (40, .inr (0, 6, .inl (fun _ => 0))), (41, .inr (0, 6, .inl (fun _ => 0))), (35, .inr (0, 6, .inl (fun _ => 0))), (34, .inr (0, 6, .inl (fun _ => 0))), (33, .inr (4, 8, .inr (fun _ => none)))]
abbrev xK1 : List (Nat × ah_C) := [(70, .inr (0, 144, .inl (fun _ => 0))), (69, .inr (1, 96, .inl (fun _ => 0))), (68, .inr (0, 16, .inl (fun _ => 0))), (67, .inl (3, [am_R 68, am_I 0])), (66, .inl (15, [am_I 0, am_R 1, am_I 0])), (65, .inr (2, 300, .inl (fun _ => 0))), (64, .inl (15, [am_I 0, am_R 1, am_I 0])), (63, .inr (0, 2, .inl (va_up (va_up (fun _ => 0) (0 : Int).toNat (Int32.ofInt 255)) (1 : Int).toNat (Int32.ofInt 255)))), (62, .inr (3, 96, .inr (fun _ => none))), (56, .inl (2, [am_R 57, am_R 58, am_R 59, am_R 60, am_R 61])), (57, .inr (0, 48, .inl (fun _ => 0))), (58, .inr (0, 8, .inl (fun _ => 0))), (59, .inr (0, 6, .inl (fun _ => 0))), (60, .inr (0, 6, .inl (fun _ => 0))), (61, .inr (0, 6, .inl (fun _ => 0))), (50, .inl (2, [am_R 51, am_R 52, am_R 53, am_R 54, am_R 55])), (51, .inr (0, 48, .inl (fun _ => 0))), (52, .inr (0, 8, .inl (fun _ => 0))), (53, .inr (0, 6, .inl (fun _ => 0))), (54, .inr (0, 6, .inl (fun _ => 0))), (55, .inr (0, 6, .inl (fun _ => 0))), (49, .inr (3, 2, .inr (va_up (va_up (fun _ => none) (0 : Int).toNat (some 50)) (1 : Int).toNat (some 56)))), (43, .inl (2, [am_R 44, am_R 45, am_R 46, am_R 47, am_R 48])), (44, .inr (0, 48, .inl (fun _ => 0))), (45, .inr (0, 8, .inl (fun _ => 0))), (46, .inr (0, 6, .inl (fun _ => 0))), (47, .inr (0, 6, .inl (fun _ => 0))), (48, .inr (0, 6, .inl (fun _ => 0))), (42, .inr (3, 8, .inr (fun _ => none))), (36, .inl (2, [am_R 37, am_R 38, am_R 39, am_R 40, am_R 41])), (37, .inr (0, 48, .inl (fun _ => 0))), (38, .inr (0, 8, .inl (fun _ => 0))), (39, .inr (0, 6, .inl (fun _ => 0))), (40, .inr (0, 6, .inl (fun _ => 0))), (41, .inr (0, 6, .inl (fun _ => 0))), (35, .inr (0, 6, .inl (fun _ => 0))), (34, .inr (0, 6, .inl (fun _ => 0))), (33, .inr (4, 8, .inr (fun _ => none)))]
abbrev xK0 : List (Nat × ah_C) := [(70, .inr (0, 144, .inl (fun _ => 0))), (69, .inr (1, 96, .inl (fun _ => 0))), (68, .inr (0, 16, .inl (fun _ => 0))), (67, .inl (3, [am_R 68, am_I 0])), (66, .inl (15, [am_I 0, am_R 1, am_I 0])), (65, .inr (2, 300, .inl (fun _ => 0))), (64, .inl (15, [am_I 0, am_R 1, am_I 0])), (63, .inr (0, 2, .inl (va_up (va_up (fun _ => 0) (0 : Int).toNat (Int32.ofInt 255)) (1 : Int).toNat (Int32.ofInt 255)))), (56, .inl (2, [am_R 57, am_R 58, am_R 59, am_R 60, am_R 61])), (57, .inr (0, 48, .inl (fun _ => 0))), (58, .inr (0, 8, .inl (fun _ => 0))), (59, .inr (0, 6, .inl (fun _ => 0))), (60, .inr (0, 6, .inl (fun _ => 0))), (61, .inr (0, 6, .inl (fun _ => 0))), (50, .inl (2, [am_R 51, am_R 52, am_R 53, am_R 54, am_R 55])), (51, .inr (0, 48, .inl (fun _ => 0))), (52, .inr (0, 8, .inl (fun _ => 0))), (53, .inr (0, 6, .inl (fun _ => 0))), (54, .inr (0, 6, .inl (fun _ => 0))), (55, .inr (0, 6, .inl (fun _ => 0))), (49, .inr (3, 2, .inr (va_up (va_up (fun _ => none) (0 : Int).toNat (some 50)) (1 : Int).toNat (some 56)))), (43, .inl (2, [am_R 44, am_R 45, am_R 46, am_R 47, am_R 48])), (44, .inr (0, 48, .inl (fun _ => 0))), (45, .inr (0, 8, .inl (fun _ => 0))), (46, .inr (0, 6, .inl (fun _ => 0))), (47, .inr (0, 6, .inl (fun _ => 0))), (48, .inr (0, 6, .inl (fun _ => 0))), (42, .inr (3, 8, .inr (fun _ => none))), (36, .inl (2, [am_R 37, am_R 38, am_R 39, am_R 40, am_R 41])), (37, .inr (0, 48, .inl (fun _ => 0))), (38, .inr (0, 8, .inl (fun _ => 0))), (39, .inr (0, 6, .inl (fun _ => 0))), (40, .inr (0, 6, .inl (fun _ => 0))), (41, .inr (0, 6, .inl (fun _ => 0))), (35, .inr (0, 6, .inl (fun _ => 0))), (34, .inr (0, 6, .inl (fun _ => 0))), (33, .inr (4, 8, .inr (fun _ => none)))]
theorem kx_new_t {h0 : Nat → Option ah_C} {S' : ah_H} (j : xin0 h0 S' xT1 647 xK0) : xo S'.1 36 (fun _ => 0) (fun _ => 0) (fun _ => 0) (fun _ => 0) (fun _ => 0) ∧ xs S'.1 43 ∧ xs S'.1 50 ∧ xs S'.1 56 :=
  ⟨⟨xk_get j 28 rfl, xk_get j 29 rfl, xk_get j 30 rfl, xk_get j 31 rfl, xk_get j 32 rfl, xk_get j 33 rfl⟩, ⟨_, _, _, _, _, xk_get j 21 rfl, xk_get j 22 rfl, xk_get j 23 rfl, xk_get j 24 rfl, xk_get j 25 rfl, xk_get j 26 rfl⟩, ⟨_, _, _, _, _, xk_get j 14 rfl, xk_get j 15 rfl, xk_get j 16 rfl, xk_get j 17 rfl, xk_get j 18 rfl, xk_get j 19 rfl⟩, ⟨_, _, _, _, _, xk_get j 8 rfl, xk_get j 9 rfl, xk_get j 10 rfl, xk_get j 11 rfl, xk_get j 12 rfl, xk_get j 13 rfl⟩⟩
theorem xw0_4 {q : Nat} (hq : (43 ≤ q ∧ q ≤ 62) ∨ 69 ≤ q) : xw0 q = 4 := by
  unfold xw0
  rw [if_neg (by omega), if_neg (by omega), if_neg (by omega), if_neg (by omega), if_neg (by omega), if_neg (by omega)]
  by_cases h : q ≤ 62
  · rw [if_pos h]
  · rw [if_neg h, if_neg (by omega), if_neg (by omega), if_neg (by omega), if_neg (by omega), if_neg (by omega)]
theorem xw0_2 {q : Nat} (h1 : 36 ≤ q) (h2 : q ≤ 41) : xw0 q = 2 := by
  unfold xw0
  rw [if_neg (by omega), if_neg (by omega), if_neg (by omega), if_neg (by omega), if_pos h2]
theorem kx_new_r {h0 : Nat → Option ah_C} {S' : ah_H} {g' : Nat → Option Nat} (hX : xX h0 (fun _ => 13)) (j : xin0 h0 S' xT1 647 xK0) (j62 : S'.1 62 = some (.inr (3, 96, .inr g'))) (jg : ∀ i, i < 96 → g' i = some (71 + 6 * i)) (jx : ∀ i, i < 96 → xs S'.1 (71 + 6 * i)) : xr_ S' xw0 67 sp_Z0 := by
  have hXX : xX S'.1 xw0 := hX.of j.2.2.2.2.2 (fun q hq => if_pos hq)
  obtain ⟨fe, hfe⟩ := hXX.2.1
  obtain ⟨o36, o43, o50, o56⟩ := kx_new_t j
  have pI : xI S'.1 xw0 67 sp_Z0 := ⟨by decide, j.2.1⟩
  have pA : xA S'.1 xw0 sp_Z0 := ⟨⟨by decide, by decide⟩, fun _ => 0, fun _ => 0, xk_get j 35 rfl, xk_get j 34 rfl, fun k hk => absurd hk (Nat.not_lt_zero _)⟩
  have pB : xB S'.1 xw0 sp_Z0 := by
    refine ⟨fun q h1 h2 => xw0_2 h1 h2, Nat.le_refl _, sp_Z0_ok.2.1.1, _, _, _, _, _, o36, fun c hc => ⟨rfl, fun i k hk => ?_⟩, fun k hk => absurd hk (Nat.not_lt_zero _)⟩
    have hk : ([] : List Nat)[i]? = some k := hk
    simp at hk
  have pK : xK S'.1 xw0 sp_Z0 := ⟨by decide, fun _ => none, fun _ => 0, xk_get j 27 rfl, fun i hi => absurd hi (Nat.not_lt_zero _)⟩
  have pC : xC S'.1 xw0 sp_Z0 := by
    refine ⟨by decide, _, xk_get j 7 rfl, fun i hi => ?_⟩
    have : i = 0 ∨ i = 1 := by omega
    rcases this with rfl | rfl
    · rfl
    · rfl
  have pD : xD S'.1 xw0 sp_Z0 := ⟨by decide, 0, 1, 0, fe, xk_get j 6 rfl, hfe, Nat.le_refl _, Nat.le_refl _, by decide, Or.inl ⟨rfl, rfl⟩, fun i hi => absurd hi (Nat.not_lt_zero _)⟩
  have pE : xE S'.1 xw0 sp_Z0 := ⟨by decide, fun _ => none, fun _ => 0, xk_get j 36 rfl, fun i hi => ⟨fun _ => rfl, fun x hx => by cases hx⟩⟩
  have pN : xN S'.1 xw0 sp_Z0 := ⟨by decide, 0, 1, 0, fe, xk_get j 4 rfl, hfe, Nat.le_refl _, Nat.le_refl _, by decide, Or.inl ⟨rfl, rfl⟩, fun i hi => absurd hi (Nat.not_lt_zero _)⟩
  have pG : xG S'.1 xw0 sp_Z0 := ⟨by decide, fun _ => 0, xk_get j 5 rfl, fun i hi => absurd hi (Nat.not_lt_zero _)⟩
  have pY : xY S'.1 xw0 67 sp_Z0 := ⟨⟨by decide, by decide, by decide⟩, fun _ => 0, xk_get j 3 rfl, xk_get j 2 rfl, fun i hi => absurd hi (Nat.not_lt_zero _)⟩
  have pU : xU S'.1 xw0 := ⟨⟨fun q h1 h2 => xw0_4 (Or.inl ⟨h1, h2⟩), fun q h1 h2 => xw0_4 (Or.inr h1)⟩, ⟨o43, o50, o56, jx⟩, ⟨_, xk_get j 20 rfl, rfl, rfl⟩, ⟨g', j62, jg⟩, ⟨_, xk_get j 1 rfl⟩, _, xk_get j 0 rfl⟩
  exact ⟨sp_Z0_ok, ⟨by rw [j.1]; exact Nat.le_refl _, fun q hq => j.2.2.1 q (by rw [j.1] at hq; exact hq)⟩, pI, pA, pB, pK, pC, pD, pE, pN, pG, pY, pU, hXX⟩
theorem kx_new_m {l : Launch} {mc ms cs ss : Nat} {h0 : Nat → Option ah_C} {G : ah_H} {P : ah_H → Prop} (hX : xX h0 (fun _ => 13)) (i : xin0 h0 G xT1 71 xK1) (hmc : cs + 576 ≤ mc) (hms : ss + 7584 ≤ ms) (hP : ∀ S', xr S' sp_Z0 → P S') : VX0_init l mc ms (am_qv P) 177 [(0, am_R 32), (1, am_I 0)] [] G cs ss := by
  have g62 : G.1 62 = some (.inr (3, 96, .inr (fun _ => none))) := xk_get i 8 rfl
  have i2 : xin0 h0 G xT1 71 xK0 := xk_sub i (fun p hp => by
    have hp : p ∈ xKa ++ xKb := hp
    have e : xK1 = xKa ++ (62, .inr (3, 96, .inr (fun _ => none))) :: xKb := rfl
    rw [e]
    rcases List.mem_append.mp hp with hp | hp
    · exact List.mem_append.mpr (Or.inl hp)
    · exact List.mem_append.mpr (Or.inr (List.mem_cons_of_mem _ hp)))
  exact kx_init_177 (k := 0) i2 rfl (fun p hp => ⟨xk_lt (a := 71) (by decide) p hp, xk_ne (a := 62) (by decide) p hp⟩) g62 (fun i hi => absurd hi (Nat.not_lt_zero _)) (fun i hi => absurd hi (Nat.not_lt_zero _)) (Nat.zero_le _) (by omega) (by omega) (fun S' g' j j62 jg jx => hP S' ⟨xw0, 67, kx_new_r hX j j62 jg jx⟩)
theorem kx_new {mc ms : Nat} {P : ah_H → Prop} (hC : S.1 32 = some (.inl (1, ah_dX0))) (hS : S.2 = 33) (hN : ∀ q, 33 ≤ q → S.1 q = none) (hX : xX S.1 (fun _ => 13)) (hmc : 700 ≤ mc) (hms : 9000 ≤ ms) (hP : ∀ S', xr S' sp_Z0 → P S') : kX0_init l mc ms [am_R 32] S (am_qv P) := by
  have i0 : xin0 S.1 S ah_dX0 33 [] := ⟨hS, hC, hN, fun p hp => absurd hp (by simp), by decide, fun _ _ => rfl⟩
  refine bX0_init _ ⟨by omega, by omega, fun G1 e1 => ?_⟩
  have i1 := xk_mk i0 e1
  refine ⟨_, i1.2.1, by decide, (show 0 < 20 by decide), fun G2 e2 => ?_⟩
  rw [i0.1] at e2
  have i2 := xk_sf i1 e2
  refine ⟨by omega, by omega, fun G3 e3 => ?_⟩
  have i3 := xk_mk i2 e3
  refine ⟨_, i3.2.1, (show 2 < 20 by decide), fun G4 e4 => ?_⟩
  rw [i2.1] at e4
  have i4 := xk_sf i3 e4
  refine ⟨by omega, by omega, fun G5 e5 => ?_⟩
  have i5 := xk_mk i4 e5
  refine ⟨_, i5.2.1, (show 3 < 20 by decide), fun G6 e6 => ?_⟩
  rw [i4.1] at e6
  have i6 := xk_sf i5 e6
  refine ⟨by omega, by omega, fun G7 e7 => ?_⟩
  have i7 := xk_mk i6 e7
  rw [i6.1]
  refine ⟨5, 74, by omega, xk_tab (a := 36) i7 (xk_lt (by decide)) (by decide) (Nat.le_refl _) (Nat.le_refl _) (fun G8 i8 => ⟨_, i8.2.1, (show 4 < 20 by decide), fun G9 e9 => ?_⟩)⟩
  have i9 := xk_sf i8 e9
  refine ⟨by omega, by omega, fun G10 e10 => ?_⟩
  have i10 := xk_mk i9 e10
  refine ⟨_, i10.2.1, (show 5 < 20 by decide), fun G11 e11 => ?_⟩
  rw [i9.1] at e11
  have i11 := xk_sf i10 e11
  refine ⟨by omega, by omega, fun G12 e12 => ?_⟩
  have i12 := xk_mk i11 e12
  rw [i11.1]
  refine ⟨5, 74, by omega, xk_tab (a := 43) i12 (xk_lt (by decide)) (by decide) (Nat.le_refl _) (Nat.le_refl _) (fun G13 i13 => ⟨_, i13.2.1, (show 7 < 20 by decide), fun G14 e14 => ?_⟩)⟩
  have i14 := xk_sf i13 e14
  refine ⟨by omega, by omega, fun G15 e15 => ?_⟩
  have i15 := xk_mk i14 e15
  rw [i14.1]
  refine ⟨by omega, by omega, fun G16 e16 => ?_⟩
  have i16 := xk_mk i15 e16
  rw [i15.1]
  refine ⟨5, 74, by omega, xk_tab (a := 50) i16 (xk_lt (by decide)) (by decide) (Nat.le_refl _) (Nat.le_refl _) (fun G17 i17 => ⟨_, _, xk_get i17 6 rfl, by decide, by decide, fun y hy => ?_, fun G18 e18 => ?_⟩)⟩
  · cases hy
    exact ⟨2, _, _, xk_get i17 0 rfl, rfl, Or.inl rfl⟩
  have i18 := xk_up (M := xoK 50) i17 (xk_ne (by decide)) e18
  refine ⟨by omega, by omega, fun G19 e19 => ?_⟩
  have i19 := xk_mk i18 e19
  rw [i18.1]
  refine ⟨5, 74, by omega, xk_tab (a := 56) i19 (xk_lt (by decide)) (by decide) (Nat.le_refl _) (Nat.le_refl _) (fun G20 i20 => ⟨_, _, xk_get i20 12 rfl, by decide, fun y hy => ?_, fun G21 e21 => ?_⟩)⟩
  · cases hy
    exact ⟨2, _, _, xk_get i20 0 rfl, rfl, Or.inl rfl⟩
  have i21 := xk_up (M := xoK 56 ++ xoK 50) i20 (xk_ne (by decide)) e21
  refine ⟨_, i21.2.1, (show 8 < 20 by decide), fun G22 e22 => ?_⟩
  have i22 := xk_sf i21 e22
  refine ⟨by omega, by omega, fun G23 e23 => ?_⟩
  have i23 := xk_mk i22 e23
  refine ⟨_, i23.2.1, (show 9 < 20 by decide), fun G24 e24 => ?_⟩
  rw [i22.1] at e24
  have i24 := xk_sf i23 e24
  refine ⟨by omega, by omega, fun G25 e25 => ?_⟩
  have i25 := xk_mk i24 e25
  rw [i24.1]
  refine ⟨_, _, xk_get i25 0 rfl, by decide, by decide, fun G26 e26 => ?_⟩
  have i26 := xk_up (M := []) i25 (xk_ne (by decide)) e26
  refine ⟨_, _, xk_get i26 0 rfl, by decide, fun G27 e27 => ?_⟩
  have i27 := xk_up (M := []) i26 (xk_ne (by decide)) e27
  refine ⟨_, i27.2.1, (show 10 < 20 by decide), fun G28 e28 => ?_⟩
  have i28 := xk_sf i27 e28
  refine ⟨by omega, by omega, fun G29 e29 => ?_⟩
  have i29 := xk_mk i28 e29
  rw [i28.1]
  refine xk_ls i29 (xk_ne (by decide)) (by decide) (fun G30 i30 => ⟨_, i30.2.1, (show 11 < 20 by decide), fun G31 e31 => ?_⟩)
  have i31 := xk_sf i30 e31
  refine ⟨by omega, by omega, fun G32 e32 => ?_⟩
  have i32 := xk_mk i31 e32
  refine ⟨_, i32.2.1, (show 12 < 20 by decide), fun G33 e33 => ?_⟩
  rw [i31.1] at e33
  have i33 := xk_sf i32 e33
  refine ⟨by omega, by omega, fun G34 e34 => ?_⟩
  have i34 := xk_mk i33 e34
  rw [i33.1]
  refine xk_ls i34 (xk_ne (by decide)) (by decide) (fun G35 i35 => ⟨_, i35.2.1, (show 15 < 20 by decide), fun G36 e36 => ?_⟩)
  have i36 := xk_sf i35 e36
  refine ⟨by omega, by omega, fun G37 e37 => ?_⟩
  have i37 := xk_mk i36 e37
  rw [i36.1]
  refine ⟨1, 16, by omega, xk_tr (a := 67) i37 (xk_ne (by decide)) (by decide) (Nat.le_refl _) (Nat.le_refl _) (fun G38 i38 => ⟨_, i38.2.1, (show 16 < 20 by decide), fun G39 e39 => ?_⟩)⟩
  have i39 := xk_sf i38 e39
  refine ⟨by omega, by omega, fun G40 e40 => ?_⟩
  have i40 := xk_mk i39 e40
  refine ⟨_, i40.2.1, (show 18 < 20 by decide), fun G41 e41 => ?_⟩
  rw [i39.1] at e41
  have i41 := xk_sf i40 e41
  refine ⟨by omega, by omega, fun G42 e42 => ?_⟩
  have i42 := xk_mk i41 e42
  refine ⟨_, i42.2.1, (show 19 < 20 by decide), fun G43 e43 => ?_⟩
  rw [i41.1] at e43
  have i43 := xk_sf i42 e43
  exact kx_new_m hX i43 (by omega) (by omega) hP
end KX36
