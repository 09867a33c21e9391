abbrev xdX3 : List am_W := [am_I 0, am_I 0, am_O none, am_I 0, am_O none, am_O none, am_I 0, am_O none, am_I 0, am_O none, am_O none, am_O none, am_O none, am_O none, am_O none, am_O none, am_O none, am_I 0, am_O none, am_I 0, am_O none, am_I 0, am_I 0, am_I 0, am_I 0, am_I 0, am_I 0, am_I 0, am_I 0, am_I 0, am_O none, am_O none, am_O none, am_I 0]
abbrev xT3 (a : Nat) : List am_W := [am_I 0, am_I 0, am_R (a + 1), am_I 0, am_R (a + 2), am_R (a + 3), am_I 0, am_R (a + 4), am_I 0, am_R (a + 5), am_R (a + 6), am_R (a + 7), am_R (a + 8), am_R (a + 9), am_R (a + 10), am_R (a + 11), am_R (a + 12), am_I 0, am_R (a + 13), am_I 0, am_R (a + 14), am_I 0, am_I 0, am_I 0, am_I 0, am_I 0, am_I 0, am_I 0, am_I 0, am_I 0, am_R (a + 15), am_R (a + 16), am_R (a + 17), am_I 0]
abbrev xK4 : List (Nat × ah_C) := [(17, .inr (0, 16, .inl (fun _ => 0))), (16, .inr (1, 144, .inl (fun _ => 0))), (15, .inr (1, 144, .inl (fun _ => 0))), (14, .inr (0, 300, .inl (fun _ => 0))), (13, .inr (0, 48, .inl (fun _ => 0))), (12, .inr (0, 320, .inl (fun _ => 0))), (11, .inr (0, 8, .inl (fun _ => 0))), (10, .inr (0, 8, .inl (va_up (va_up (va_up (va_up (va_up (va_up (va_up (va_up (fun _ => 0) (0 : Int).toNat (Int32.ofInt (-1))) (1 : Int).toNat (Int32.ofInt (-1))) (2 : Int).toNat (Int32.ofInt (-1))) (3 : Int).toNat (Int32.ofInt (-1))) (4 : Int).toNat (Int32.ofInt (-1))) (5 : Int).toNat (Int32.ofInt (-1))) (6 : Int).toNat (Int32.ofInt (-1))) (7 : Int).toNat (Int32.ofInt (-1))))), (9, .inr (1, 8, .inl (fun _ => 0))), (8, .inr (0, 8, .inl (fun _ => 0))), (7, .inr (1, 8, .inl (fun _ => 0))), (6, .inr (0, 8, .inl (fun _ => 0))), (5, .inr (0, 8, .inl (fun _ => 0))), (4, .inr (0, 2, .inl (va_up (va_up (fun _ => 0) (0 : Int).toNat (Int32.ofInt (255))) (1 : Int).toNat (Int32.ofInt (255))))), (3, .inr (0, 6, .inl (fun _ => 0))), (2, .inr (0, 6, .inl (fun _ => 0))), (1, .inr (0, 6696, .inl (fun _ => 0)))]
abbrev xK3 : List (Nat × ah_C) := [(17, .inr (0, 16, .inl (fun _ => 0))), (16, .inr (1, 144, .inl (fun _ => 0))), (15, .inr (1, 144, .inl (fun _ => 0))), (14, .inr (0, 300, .inl (fun _ => 0))), (13, .inr (0, 48, .inl (fun _ => 0))), (12, .inr (0, 320, .inl (fun _ => 0))), (11, .inr (0, 8, .inl (fun _ => 0))), (10, .inr (0, 8, .inl (va_up (va_up (va_up (va_up (va_up (va_up (va_up (va_up (fun _ => 0) (0 : Int).toNat (Int32.ofInt (-1))) (1 : Int).toNat (Int32.ofInt (-1))) (2 : Int).toNat (Int32.ofInt (-1))) (3 : Int).toNat (Int32.ofInt (-1))) (4 : Int).toNat (Int32.ofInt (-1))) (5 : Int).toNat (Int32.ofInt (-1))) (6 : Int).toNat (Int32.ofInt (-1))) (7 : Int).toNat (Int32.ofInt (-1))))), (9, .inr (1, 8, .inl (fun _ => 0))), (8, .inr (0, 8, .inl (fun _ => 0))), (7, .inr (1, 8, .inl (fun _ => 0))), (6, .inr (0, 8, .inl (fun _ => 0))), (5, .inr (0, 8, .inl (fun _ => 0))), (4, .inr (0, 2, .inl (va_up (va_up (fun _ => 0) (0 : Int).toNat (Int32.ofInt (255))) (1 : Int).toNat (Int32.ofInt (255))))), (3, .inr (0, 6, .inl (fun _ => 0))), (2, .inr (0, 6, .inl (fun _ => 0)))]
theorem kx_newM_ {l : Launch} {h0 : Nat → Option ah_C} {G : ah_H} {a mc ms cs ss : Nat} {P : ah_H → Prop} (i : yin0 h0 G a (xT3 a) 18 xK4) (hX : 32 ≤ a) (hmc : cs ≤ mc) (hms : ss ≤ ms) (hP : ∀ S', yin0 h0 S' a (xT3 a) 18 xK3 → S'.1 (a + 1) = some (.inr (0, 6696, .inl (ytab 6696 (fun _ => 0)))) → P S') : VX3_init l mc ms (am_qv P) 192 [(0, am_R a), (1, am_I 0)] [] G cs ss := by
  have g1 : G.1 (a + 1) = some (.inr (0, 6696, .inl (fun _ => 0))) := yk_get i 16 rfl
  have i2 : yin0 h0 G a (xT3 a) 18 xK3 := ⟨i.1, i.2.1, i.2.2.1, fun p hp => i.2.2.2.1 p (by
    have e : xK4 = xK3 ++ [(1, .inr (0, 6696, .inl (fun _ => 0)))] := rfl
    rw [e]
    exact List.mem_append.mpr (Or.inl hp)), i.2.2.2.2⟩
  exact kx_minit_192 (k := 0) (f := fun _ => 0) i2 hX rfl g1 (by decide) (xk_ne (by decide)) (Nat.zero_le _) hmc hms hP
section KX39
variable {l : Launch} {h0 : Nat → Option ah_C} {S G : ah_H} {T : List am_W} {a t : Nat} {K : List (Nat × ah_C)}
set_option maxHeartbeats 8000000 in
set_option maxRecDepth 100000 in
theorem kx_newM {mc ms : Nat} {T0 : List am_W} {P : ah_H → Prop} (hT0 : T0 = xdX3) (hX : 32 ≤ a) (hC : S.1 a = some (.inl (0, T0))) (hS : S.2 = a + 1) (hN : ∀ q, a + 1 ≤ q → S.1 q = none) (hmc : 17 ≤ mc) (hms : 7738 ≤ ms) (hP : ∀ S', yin0 S.1 S' a (xT3 a) 18 xK3 → S'.1 (a + 1) = some (.inr (0, 6696, .inl (ytab 6696 (fun _ => 0)))) → P S') : kX3_init l mc ms [am_R a] S (am_qv P) := by
  subst hT0
  have i0 : yin0 S.1 S a xdX3 1 [] := ⟨hS, hC, hN, fun p hp => absurd hp (by simp), by decide, fun _ _ => rfl⟩
  refine bX3_init _ ⟨by omega, by omega, fun G1 e1 => ?_⟩
  have i1 := yk_mk i0 e1
  refine ⟨_, i1.2.1, hX, (show 2 < 34 by decide), fun G2 e2 => ?_⟩
  rw [i0.1] at e2
  have i2 := yk_sf i1 e2
  refine ⟨by omega, by omega, fun G3 e3 => ?_⟩
  have i3 := yk_mk i2 e3
  refine ⟨_, i3.2.1, (show 4 < 34 by decide), fun G4 e4 => ?_⟩
  rw [i2.1] at e4
  have i4 := yk_sf i3 e4
  refine ⟨by omega, by omega, fun G5 e5 => ?_⟩
  have i5 := yk_mk i4 e5
  refine ⟨_, i5.2.1, (show 5 < 34 by decide), fun G6 e6 => ?_⟩
  rw [i4.1] at e6
  have i6 := yk_sf i5 e6
  refine ⟨by omega, by omega, fun G7 e7 => ?_⟩
  have i7 := yk_mk i6 e7
  rw [i6.1]
  refine ⟨_, _, yk_get i7 0 rfl, by show 32 ≤ a + _; omega, by decide, fun G8 e8 => ?_⟩
  have i8 := yk_up (M := []) i7 (xk_ne (by decide)) e8
  refine ⟨_, _, yk_get i8 0 rfl, by decide, fun G9 e9 => ?_⟩
  have i9 := yk_up (M := []) i8 (xk_ne (by decide)) e9
  refine ⟨_, i9.2.1, (show 7 < 34 by decide), fun G10 e10 => ?_⟩
  have i10 := yk_sf i9 e10
  refine ⟨by omega, by omega, fun G11 e11 => ?_⟩
  have i11 := yk_mk i10 e11
  refine ⟨_, i11.2.1, (show 9 < 34 by decide), fun G12 e12 => ?_⟩
  rw [i10.1] at e12
  have i12 := yk_sf i11 e12
  refine ⟨by omega, by omega, fun G13 e13 => ?_⟩
  have i13 := yk_mk i12 e13
  refine ⟨_, i13.2.1, (show 10 < 34 by decide), fun G14 e14 => ?_⟩
  rw [i12.1] at e14
  have i14 := yk_sf i13 e14
  refine ⟨by omega, by omega, fun G15 e15 => ?_⟩
  have i15 := yk_mk i14 e15
  refine ⟨_, i15.2.1, (show 11 < 34 by decide), fun G16 e16 => ?_⟩
  rw [i14.1] at e16
  have i16 := yk_sf i15 e16
  refine ⟨by omega, by omega, fun G17 e17 => ?_⟩
  have i17 := yk_mk i16 e17
  refine ⟨_, i17.2.1, (show 12 < 34 by decide), fun G18 e18 => ?_⟩
  rw [i16.1] at e18
  have i18 := yk_sf i17 e18
  refine ⟨by omega, by omega, fun G19 e19 => ?_⟩
  have i19 := yk_mk i18 e19
  refine ⟨_, i19.2.1, (show 13 < 34 by decide), fun G20 e20 => ?_⟩
  rw [i18.1] at e20
  have i20 := yk_sf i19 e20
  refine ⟨by omega, by omega, fun G21 e21 => ?_⟩
  have i21 := yk_mk i20 e21
  rw [i20.1]
  refine ⟨_, _, yk_get i21 0 rfl, by show 32 ≤ a + _; omega, by decide, fun G22 e22 => ?_⟩
  have i22 := yk_up (M := []) i21 (xk_ne (by decide)) e22
  refine ⟨_, _, yk_get i22 0 rfl, by decide, fun G23 e23 => ?_⟩
  have i23 := yk_up (M := []) i22 (xk_ne (by decide)) e23
  refine ⟨_, _, yk_get i23 0 rfl, by decide, fun G24 e24 => ?_⟩
  have i24 := yk_up (M := []) i23 (xk_ne (by decide)) e24
  refine ⟨_, _, yk_get i24 0 rfl, by decide, fun G25 e25 => ?_⟩
  have i25 := yk_up (M := []) i24 (xk_ne (by decide)) e25
  refine ⟨_, _, yk_get i25 0 rfl, by decide, fun G26 e26 => ?_⟩
  have i26 := yk_up (M := []) i25 (xk_ne (by decide)) e26
  refine ⟨_, _, yk_get i26 0 rfl, by decide, fun G27 e27 => ?_⟩
  have i27 := yk_up (M := []) i26 (xk_ne (by decide)) e27
  refine ⟨_, _, yk_get i27 0 rfl, by decide, fun G28 e28 => ?_⟩
  have i28 := yk_up (M := []) i27 (xk_ne (by decide)) e28
  refine ⟨_, _, yk_get i28 0 rfl, by decide, fun G29 e29 => ?_⟩
  have i29 := yk_up (M := []) i28 (xk_ne (by decide)) e29
  refine ⟨_, i29.2.1, (show 14 < 34 by decide), fun G30 e30 => ?_⟩
  have i30 := yk_sf i29 e30
  refine ⟨by omega, by omega, fun G31 e31 => ?_⟩
  have i31 := yk_mk i30 e31
  refine ⟨_, i31.2.1, (show 15 < 34 by decide), fun G32 e32 => ?_⟩
  rw [i30.1] at e32
  have i32 := yk_sf i31 e32
  refine ⟨by omega, by omega, fun G33 e33 => ?_⟩
  have i33 := yk_mk i32 e33
  refine ⟨_, i33.2.1, (show 16 < 34 by decide), fun G34 e34 => ?_⟩
  rw [i32.1] at e34
  have i34 := yk_sf i33 e34
  refine ⟨by omega, by omega, fun G35 e35 => ?_⟩
  have i35 := yk_mk i34 e35
  refine ⟨_, i35.2.1, (show 18 < 34 by decide), fun G36 e36 => ?_⟩
  rw [i34.1] at e36
  have i36 := yk_sf i35 e36
  refine ⟨by omega, by omega, fun G37 e37 => ?_⟩
  have i37 := yk_mk i36 e37
  refine ⟨_, i37.2.1, (show 20 < 34 by decide), fun G38 e38 => ?_⟩
  rw [i36.1] at e38
  have i38 := yk_sf i37 e38
  refine ⟨by omega, by omega, fun G39 e39 => ?_⟩
  have i39 := yk_mk i38 e39
  refine ⟨_, i39.2.1, (show 30 < 34 by decide), fun G40 e40 => ?_⟩
  rw [i38.1] at e40
  have i40 := yk_sf i39 e40
  refine ⟨by omega, by omega, fun G41 e41 => ?_⟩
  have i41 := yk_mk i40 e41
  refine ⟨_, i41.2.1, (show 31 < 34 by decide), fun G42 e42 => ?_⟩
  rw [i40.1] at e42
  have i42 := yk_sf i41 e42
  refine ⟨by omega, by omega, fun G43 e43 => ?_⟩
  have i43 := yk_mk i42 e43
  refine ⟨_, i43.2.1, (show 32 < 34 by decide), fun G44 e44 => ?_⟩
  rw [i42.1] at e44
  have i44 := yk_sf i43 e44
  exact kx_newM_ i44 hX (by omega) (by omega) hP
end KX39
