/-! TableArms.isPut(LTableArms$Table;III)Z -/
abbrev VX0_isPut (l : Launch) (Q : Option am_W → ah_H → Prop) (pc : Nat) (lv : List (Nat × am_W)) (st : List am_W) (S : ah_H) : Prop := am_V ah_r l RX0 cX0_isPut 6 (some .boolean) "isPut" (am_rm 5 0 0) (am_E1 ah_r 0 0 Q) pc lv st S 0 0
abbrev kX0_isPut (l : Launch) (as : List am_W) (S : ah_H) (Q : Option am_W → ah_H → Prop) : Prop := am_C ah_r l yX0_isPut (ws_ yX0_isPut cX0_isPut 6 (some .boolean)) (am_rm 5 0 0) 0 0 as S Q
set_option maxHeartbeats 4000000 in
set_option maxRecDepth 100000 in
theorem bX0_isPut {l : Launch} {Q : Option am_W → ah_H → Prop} {S : ah_H} (v0 : Nat) (v1 : Nat) (v2 : Int) (h2 : am_r v2) (v3 : Int) (h3 : am_r v3) (v4 : Int) (h4 : am_r v4)
    (hh : (∃ fs1, (S.1 v0 = some (.inl (1, fs1))) ∧
      kX0_goal l [am_R v0, am_R v1, am_I v2, am_I v3, am_I v4] S (am_qi fun r4 G3 =>
        ((r4 = (-1000000)) →
          Q (some (am_I (am_b false))) G3) ∧
        ((¬ r4 = (-1000000)) →
          (∃ fs9, (G3.1 v0 = some (.inl (1, fs9))) ∧
          kX0_can l [am_R v0, am_R v1, am_I v2, am_I r4] G3 (am_qz fun b12 G11 =>
            ((b12 = true) →
              kX0_carry l [am_R v1, am_I v2, am_I r4] G11 (am_qv fun G16 =>
                Q (some (am_I (am_b true))) G16)) ∧
            ((b12 = false) →
              Q (some (am_I (am_b false))) G11))))))) : kX0_isPut l [am_R v0, am_R v1, am_I v2, am_I v3, am_I v4] S Q := by
  refine am_entry (lv := [(0, am_R v0), (1, am_R v1), (2, am_I v2), (3, am_I v3), (4, am_I v4)]) rfl rfl rfl (fun _ => rfl) (fun _ => Nat.le_of_ble_eq_true rfl) ?_
  refine am_aload_n dX0_isPut_0 rfl 0 rfl ?_
  refine am_aload_n dX0_isPut_1 rfl 1 rfl ?_
  refine am_iload_n dX0_isPut_2 rfl 2 rfl ?_
  refine am_iload_n dX0_isPut_3 rfl 3 rfl ?_
  refine am_iload dX0_isPut_4 4 rfl ?_
  obtain ⟨fs1, ho2, hh⟩ := hh
  refine am_rVi (n := 4) hh dX0_isPut_6 (lw_V q598 q600 qs15 q90 q601) rfl ⟨⟨by decide, by decide, by decide +kernel⟩, ⟨Nat.le_of_ble_eq_true rfl, Nat.le_of_ble_eq_true rfl⟩⟩ ⟨rfl, rfl⟩ rfl rfl (Nat.le_of_ble_eq_true rfl) ⟨(Nat.le_of_ble_eq_true rfl), (Nat.le_of_ble_eq_true rfl)⟩ (ah_recv ho2 rfl) (fun r4 G3 hr5 hh => ?_)
  refine am_istore dX0_isPut_9 (by decide) rfl ?_
  refine am_iload dX0_isPut_11 0 rfl ?_
  refine am_ldc (z := -1000000) q472 (by decide) dX0_isPut_13 ?_
  obtain ⟨ha6, hb7⟩ := hh
  refine am_icmp_eq (tgt := 29) dX0_isPut_15 (by decide) hr5 (⟨by decide, by decide⟩) (fun hc8 => ?_) (fun hc8 => ?_)
  · have hh := ha6 hc8
    refine am_iconst dX0_isPut_29 ?_
    exact am_zret (b := false) rfl dX0_isPut_30 (Nat.le_refl 0) (Nat.le_refl 0) hh
  · have hh := hb7 hc8
    refine am_aload_n dX0_isPut_18 rfl 1 rfl ?_
    refine am_aload_n dX0_isPut_19 rfl 2 rfl ?_
    refine am_iload_n dX0_isPut_20 rfl 3 rfl ?_
    refine am_iload dX0_isPut_21 0 rfl ?_
    obtain ⟨fs9, ho10, hh⟩ := hh
    refine am_rVz (n := 3) hh dX0_isPut_23 (lw_V q510 q512 qs7 q90 q513) rfl ⟨⟨by decide, by decide, by decide +kernel⟩, ⟨Nat.le_of_ble_eq_true rfl, Nat.le_of_ble_eq_true rfl⟩⟩ ⟨rfl, rfl⟩ rfl rfl (Nat.le_of_ble_eq_true rfl) ⟨(Nat.le_of_ble_eq_true rfl), (Nat.le_of_ble_eq_true rfl)⟩ (ah_recv ho10 rfl) (fun b12 G11 hh => ?_)
    obtain ⟨ha13, hb14⟩ := hh
    refine am_ifB_ne (tgt := 31) dX0_isPut_26 (by decide) (fun hc15 => ?_) (fun hc15 => ?_)
    · have hh := ha13 hc15
      refine am_aload_n dX0_isPut_31 rfl 2 rfl ?_
      refine am_iload_n dX0_isPut_32 rfl 3 rfl ?_
      refine am_iload dX0_isPut_33 0 rfl ?_
      refine am_rSv (n := 3) hh dX0_isPut_35 (lw_S q528 q529 q90 q530) ⟨⟨by decide, by decide, by decide +kernel⟩, ⟨Nat.le_of_ble_eq_true rfl, Nat.le_of_ble_eq_true rfl⟩⟩ ⟨rfl, rfl⟩ rfl rfl (Nat.le_of_ble_eq_true rfl) ⟨(Nat.le_of_ble_eq_true rfl), (Nat.le_of_ble_eq_true rfl)⟩ (fun G16 hh => ?_)
      refine am_iconst dX0_isPut_38 ?_
      exact am_zret (b := true) rfl dX0_isPut_39 (Nat.le_refl 0) (Nat.le_refl 0) hh
    · have hh := hb14 hc15
      refine am_iconst dX0_isPut_29 ?_
      exact am_zret (b := false) rfl dX0_isPut_30 (Nat.le_refl 0) (Nat.le_refl 0) hh
/-! TableArms.done(LTableArms$Table;I)I -/
abbrev VX0_done (l : Launch) (Q : Option am_W → ah_H → Prop) (pc : Nat) (lv : List (Nat × am_W)) (st : List am_W) (S : ah_H) : Prop := am_V ah_r l RX0 cX0_done 9 (some .int) "done" (am_rm 6 0 0) (am_E1 ah_r 0 0 Q) pc lv st S 0 0
abbrev kX0_done (l : Launch) (as : List am_W) (S : ah_H) (Q : Option am_W → ah_H → Prop) : Prop := am_C ah_r l yX0_done (ws_ yX0_done cX0_done 9 (some .int)) (am_rm 6 0 0) 0 0 as S Q
set_option maxHeartbeats 4000000 in
set_option maxRecDepth 100000 in
theorem bX0_done {l : Launch} {Q : Option am_W → ah_H → Prop} {S : ah_H} (v0 : Nat) (v1 : Nat) (v2 : Int) (h2 : am_r v2)
    (hh : (0 ≤ v2) ∧
      (0 ≤ (v2 / 2)) ∧
      (0 ≤ (v2 / 8)) ∧
      VX0_done l Q 29 [(0, am_R v0), (1, am_R v1), (2, am_I v2), (3, am_I ((v2 / 2) % 4)), (4, am_I ((v2 / 8) % 3)), (5, am_I (v2 / 24)), (6, am_I 0), (7, am_I 0), (8, am_I 0)] [] S) : kX0_done l [am_R v0, am_R v1, am_I v2] S Q := by
  refine am_entry (lv := [(0, am_R v0), (1, am_R v1), (2, am_I v2)]) rfl rfl rfl (fun _ => rfl) (fun _ => Nat.le_of_ble_eq_true rfl) ?_
  refine am_iload_n dX0_done_0 rfl 2 rfl ?_
  refine am_iconst dX0_done_1 ?_
  obtain ⟨o1, hh⟩ := hh
  refine am_idiv dX0_done_2 o1 (h2).2 (by decide) (by decide) ?_
  refine am_iconst dX0_done_3 ?_
  obtain ⟨o2, hh⟩ := hh
  refine am_irem dX0_done_4 o2 ((am_r_div o1 (h2).2 (by decide) : am_r (v2 / 2))).2 (by decide) (by decide) ?_
  refine am_istore_n dX0_done_5 rfl (by decide) rfl ?_
  refine am_iload_n dX0_done_6 rfl 3 rfl ?_
  refine am_bipush dX0_done_7 (by decide) ?_
  refine am_idiv dX0_done_9 o1 (h2).2 (by decide) (by decide) ?_
  refine am_iconst dX0_done_10 ?_
  obtain ⟨o3, hh⟩ := hh
  refine am_irem dX0_done_11 o3 ((am_r_div o1 (h2).2 (by decide) : am_r (v2 / 8))).2 (by decide) (by decide) ?_
  refine am_istore dX0_done_12 (by decide) rfl ?_
  refine am_iload_n dX0_done_14 rfl 4 rfl ?_
  refine am_bipush dX0_done_15 (by decide) ?_
  refine am_idiv dX0_done_17 o1 (h2).2 (by decide) (by decide) ?_
  refine am_istore dX0_done_18 (by decide) rfl ?_
  refine am_iconst dX0_done_20 ?_
  refine am_istore dX0_done_21 (by decide) rfl ?_
  refine am_iconst dX0_done_23 ?_
  refine am_istore dX0_done_24 (by decide) rfl ?_
  refine am_iconst dX0_done_26 ?_
  refine am_istore dX0_done_27 (by decide) rfl ?_
  refine am_keep [6, 7, 8, 5, 4, 3, 2, 1, 0] rfl ?_
  exact hh
set_option maxHeartbeats 4000000 in
set_option maxRecDepth 100000 in
theorem bX0_done_29 {l : Launch} {Q : Option am_W → ah_H → Prop} {S : ah_H} (v0 : Nat) (v1 : Nat) (v2 : Int) (h2 : am_r v2) (v3 : Int) (h3 : am_r v3) (v4 : Int) (h4 : am_r v4) (v5 : Int) (h5 : am_r v5) (v6 : Int) (h6 : am_r v6) (v7 : Int) (h7 : am_r v7) (v8 : Int) (h8 : am_r v8)
    (hh : (∃ fs1, (S.1 v0 = some (.inl (1, fs1))) ∧
      (∃ z4, (fs1[1]? = some (am_I z4) ∧ am_r z4) ∧
      ((z4 ≤ v8) →
        VX0_done l Q 123 [(2, am_I v2), (6, am_I v6), (7, am_I v7)] [] S) ∧
      ((¬ z4 ≤ v8) →
        (∃ x10, (fs1[2]? = some (am_R x10)) ∧
        (∃ n11 f12, (S.1 x10 = some (.inr (0, n11, .inl f12))) ∧
        (0 ≤ v8 ∧ v8 < (n11 : Int)) ∧
        ((¬ ((f12 v8.toNat).toInt) = v3) →
          VX0_done l Q 117 [(0, am_R v0), (1, am_R v1), (2, am_I v2), (3, am_I v3), (4, am_I v4), (5, am_I v5), (6, am_I v6), (7, am_I v7), (8, am_I v8)] [] S) ∧
        ((((f12 v8.toNat).toInt) = v3) →
          kX0_isAsTold l [am_R v0, am_R v1, am_I v8, am_I v4, am_I v5] S (am_qz fun b19 G18 =>
            ((b19 = true) →
              VX0_done l Q 117 [(0, am_R v0), (1, am_R v1), (2, am_I v2), (3, am_I v3), (4, am_I v4), (5, am_I v5), (6, am_I v6), (7, am_I v7), (8, am_I v8)] [] G18) ∧
            ((b19 = false) →
              (0 ≤ v2) ∧
              ((¬ (v2 % 2) = 0) →
                VX0_done l Q 81 [(0, am_R v0), (1, am_R v1), (2, am_I v2), (3, am_I v3), (4, am_I v4), (5, am_I v5), (6, am_I v6), (7, am_I v7), (8, am_I v8)] [] G18) ∧
              (((v2 % 2) = 0) →
                (∃ fs27, (G18.1 v1 = some (.inl (2, fs27))) ∧
                kX1_isLoose l [am_R v1, am_I v8] G18 (am_qz fun b30 G29 =>
                  ((b30 = true) →
                    VX0_done l Q 81 [(0, am_R v0), (1, am_R v1), (2, am_I v2), (3, am_I v3), (4, am_I v4), (5, am_I v5), (6, am_I v6), (7, am_I v7), (8, am_I v8)] [] G29) ∧
                  ((b30 = false) →
                    VX0_done l Q 117 [(0, am_R v0), (1, am_R v1), (2, am_I v2), (3, am_I v3), (4, am_I v4), (5, am_I v5), (6, am_I v6), (7, am_I v7), (8, am_I v8)] [] G29))))))))))))) : VX0_done l Q 29 [(0, am_R v0), (1, am_R v1), (2, am_I v2), (3, am_I v3), (4, am_I v4), (5, am_I v5), (6, am_I v6), (7, am_I v7), (8, am_I v8)] [] S := by
  refine am_iload dX0_done_29 8 rfl ?_
  refine am_aload_n dX0_done_31 rfl 0 rfl ?_
  obtain ⟨fs1, ho2, hh⟩ := hh
  obtain ⟨z4, ⟨hv3, hr5⟩, hh⟩ := hh
  refine ah_get ho2 hv3 rfl in_X0 (by decide) q210 (Or.inl rfl) dX0_done_32 ?_
  obtain ⟨ha6, hb7⟩ := hh
  refine am_icmp_ge (tgt := 123) dX0_done_35 (by decide) h8 hr5 (fun hc8 => ?_) (fun hc8 => ?_)
  · have hh := ha6 hc8
    refine am_keep [2, 6, 7] rfl ?_
    exact hh
  · have hh := hb7 hc8
    refine am_aload_n dX0_done_38 rfl 0 rfl ?_
    obtain ⟨x10, hv9, hh⟩ := hh
    refine ah_get ho2 hv9 rfl in_X0 (by decide) q211 (Or.inl rfl) dX0_done_39 ?_
    refine am_iload dX0_done_42 8 rfl ?_
    obtain ⟨n11, f12, ha13, hh⟩ := hh
    obtain ⟨o14, hh⟩ := hh
    refine ah_iald ha13 o14.1 o14.2 (v := (f12 v8.toNat).toInt) rfl dX0_done_44 ?_
    refine am_iload_n dX0_done_45 rfl 3 rfl ?_
    obtain ⟨ha15, hb16⟩ := hh
    refine am_icmp_ne (tgt := 117) dX0_done_46 (by decide) (am_rt _) h3 (fun hc17 => ?_) (fun hc17 => ?_)
    · have hh := ha15 hc17
      exact hh
    · have hh := hb16 hc17
      refine am_aload_n dX0_done_49 rfl 0 rfl ?_
      refine am_aload_n dX0_done_50 rfl 1 rfl ?_
      refine am_iload dX0_done_51 8 rfl ?_
      refine am_iload dX0_done_53 4 rfl ?_
      refine am_iload dX0_done_55 5 rfl ?_
      refine am_rVz (n := 4) hh dX0_done_57 (lw_V q580 q582 qs12 q90 q583) rfl ⟨⟨by decide, by decide, by decide +kernel⟩, ⟨Nat.le_of_ble_eq_true rfl, Nat.le_of_ble_eq_true rfl⟩⟩ ⟨rfl, rfl⟩ rfl rfl (Nat.le_of_ble_eq_true rfl) ⟨(Nat.le_of_ble_eq_true rfl), (Nat.le_of_ble_eq_true rfl)⟩ (ah_recv ho2 rfl) (fun b19 G18 hh => ?_)
      obtain ⟨ha20, hb21⟩ := hh
      refine am_ifB_ne (tgt := 117) dX0_done_60 (by decide) (fun hc22 => ?_) (fun hc22 => ?_)
      · have hh := ha20 hc22
        exact hh
      · have hh := hb21 hc22
        refine am_iload_n dX0_done_63 rfl 2 rfl ?_
        refine am_iconst dX0_done_64 ?_
        obtain ⟨o23, hh⟩ := hh
        refine am_irem dX0_done_65 o23 (h2).2 (by decide) (by decide) ?_
        obtain ⟨ha24, hb25⟩ := hh
        refine am_if_ne (tgt := 81) dX0_done_66 (by decide) (am_r_rem o23 (h2).2 (by decide) : am_r (v2 % 2)) (fun hc26 => ?_) (fun hc26 => ?_)
        · have hh := ha24 hc26
          exact hh
        · have hh := hb25 hc26
          refine am_aload_n dX0_done_69 rfl 1 rfl ?_
          refine am_iload dX0_done_70 8 rfl ?_
          obtain ⟨fs27, ho28, hh⟩ := hh
          refine am_rVz (n := 1) hh dX0_done_72 (lw_V q514 q515 q516 q91 q517) rfl ⟨⟨by decide, by decide, by decide +kernel⟩, ⟨Nat.le_of_ble_eq_true rfl, Nat.le_of_ble_eq_true rfl⟩⟩ ⟨rfl, rfl⟩ rfl rfl (Nat.le_of_ble_eq_true rfl) ⟨(Nat.le_of_ble_eq_true rfl), (Nat.le_of_ble_eq_true rfl)⟩ (ah_recv ho28 rfl) (fun b30 G29 hh => ?_)
          obtain ⟨ha31, hb32⟩ := hh
          refine am_ifB_ne (tgt := 81) dX0_done_75 (by decide) (fun hc33 => ?_) (fun hc33 => ?_)
          · have hh := ha31 hc33
            exact hh
          · have hh := hb32 hc33
            refine am_goto (tgt := 117) dX0_done_78 (by decide) ?_
            exact hh
set_option maxHeartbeats 4000000 in
set_option maxRecDepth 100000 in
theorem bX0_done_81 {l : Launch} {Q : Option am_W → ah_H → Prop} {S : ah_H} (v0 : Nat) (v1 : Nat) (v2 : Int) (h2 : am_r v2) (v3 : Int) (h3 : am_r v3) (v4 : Int) (h4 : am_r v4) (v5 : Int) (h5 : am_r v5) (v6 : Int) (h6 : am_r v6) (v7 : Int) (h7 : am_r v7) (v8 : Int) (h8 : am_r v8)
    (hh : (∃ fs1, (S.1 v0 = some (.inl (1, fs1))) ∧
      kX0_isPut l [am_R v0, am_R v1, am_I v8, am_I v4, am_I v5] S (am_qz fun b4 G3 =>
        ((b4 = false) →
          VX0_done l Q 108 [(0, am_R v0), (1, am_R v1), (2, am_I v2), (3, am_I v3), (4, am_I v4), (5, am_I v5), (6, am_I (v6 + 0)), (7, am_I (v7 + 1)), (8, am_I v8)] [] G3) ∧
        ((b4 = true) →
          VX0_done l Q 108 [(0, am_R v0), (1, am_R v1), (2, am_I v2), (3, am_I v3), (4, am_I v4), (5, am_I v5), (6, am_I (v6 + 1)), (7, am_I (v7 + 1)), (8, am_I v8)] [] G3)))) : VX0_done l Q 81 [(0, am_R v0), (1, am_R v1), (2, am_I v2), (3, am_I v3), (4, am_I v4), (5, am_I v5), (6, am_I v6), (7, am_I v7), (8, am_I v8)] [] S := by
  refine am_iinc (n := 7) dX0_done_81 rfl (by decide) rfl ?_
  refine am_iload dX0_done_84 7 rfl ?_
  refine am_aload_n dX0_done_86 rfl 1 rfl ?_
  refine am_aload_n dX0_done_87 rfl 2 rfl ?_
  refine am_iload dX0_done_88 8 rfl ?_
  refine am_iload dX0_done_90 5 rfl ?_
  refine am_iload dX0_done_92 6 rfl ?_
  obtain ⟨fs1, ho2, hh⟩ := hh
  refine am_rVz (n := 4) hh dX0_done_94 (lw_V q594 q596 qs14 q90 q597) rfl ⟨⟨by decide, by decide, by decide +kernel⟩, ⟨Nat.le_of_ble_eq_true rfl, Nat.le_of_ble_eq_true rfl⟩⟩ ⟨rfl, rfl⟩ rfl rfl (Nat.le_of_ble_eq_true rfl) ⟨(Nat.le_of_ble_eq_true rfl), (Nat.le_of_ble_eq_true rfl)⟩ (ah_recv ho2 rfl) (fun b4 G3 hh => ?_)
  obtain ⟨ha5, hb6⟩ := hh
  refine am_ifB_eq (tgt := 104) dX0_done_97 (by decide) (fun hc7 => ?_) (fun hc7 => ?_)
  · have hh := ha5 hc7
    refine am_iconst dX0_done_104 ?_
    refine am_iadd dX0_done_105 ?_
    refine am_istore dX0_done_106 (by decide) rfl ?_
    refine am_keep [2, 3, 4, 5, 6, 7, 0, 1, 8] rfl ?_
    exact hh
  · have hh := hb6 hc7
    refine am_iconst dX0_done_100 ?_
    refine am_goto (tgt := 105) dX0_done_101 (by decide) ?_
    refine am_iadd dX0_done_105 ?_
    refine am_istore dX0_done_106 (by decide) rfl ?_
    refine am_keep [2, 3, 4, 5, 6, 7, 0, 1, 8] rfl ?_
    exact hh
set_option maxHeartbeats 4000000 in
set_option maxRecDepth 100000 in
theorem bX0_done_117 {l : Launch} {Q : Option am_W → ah_H → Prop} {S : ah_H} (v0 : Nat) (v1 : Nat) (v2 : Int) (h2 : am_r v2) (v3 : Int) (h3 : am_r v3) (v4 : Int) (h4 : am_r v4) (v5 : Int) (h5 : am_r v5) (v6 : Int) (h6 : am_r v6) (v7 : Int) (h7 : am_r v7) (v8 : Int) (h8 : am_r v8)
    (hh : VX0_done l Q 29 [(0, am_R v0), (1, am_R v1), (2, am_I v2), (3, am_I v3), (4, am_I v4), (5, am_I v5), (6, am_I v6), (7, am_I v7), (8, am_I (v8 + 1))] [] S) : VX0_done l Q 117 [(0, am_R v0), (1, am_R v1), (2, am_I v2), (3, am_I v3), (4, am_I v4), (5, am_I v5), (6, am_I v6), (7, am_I v7), (8, am_I v8)] [] S := by
  refine am_iinc (n := 8) dX0_done_117 rfl (by decide) rfl ?_
  refine am_goto (tgt := 29) dX0_done_120 (by decide) ?_
  refine am_keep [1, 2, 3, 4, 5, 6, 7, 8, 0] rfl ?_
  exact hh
set_option maxHeartbeats 4000000 in
set_option maxRecDepth 100000 in
theorem bX0_done_123 {l : Launch} {Q : Option am_W → ah_H → Prop} {S : ah_H} (v2 : Int) (h2 : am_r v2) (v6 : Int) (h6 : am_r v6) (v7 : Int) (h7 : am_r v7)
    (hh : (0 ≤ v2) ∧
      ((¬ (v2 % 2) = 0) →
        ((v7 ≤ 0) →
          Q (some (am_I v6)) S) ∧
        ((¬ v7 ≤ 0) →
          ((¬ v6 = 0) →
            Q (some (am_I v6)) S) ∧
          ((v6 = 0) →
            Q (some (am_I (-1000000))) S))) ∧
      (((v2 % 2) = 0) →
        ((¬ v6 = 0) →
          Q (some (am_I v6)) S) ∧
        ((v6 = 0) →
          Q (some (am_I (-1000000))) S))) : VX0_done l Q 123 [(2, am_I v2), (6, am_I v6), (7, am_I v7)] [] S := by
  refine am_iload_n dX0_done_123 rfl 0 rfl ?_
  refine am_iconst dX0_done_124 ?_
  obtain ⟨o1, hh⟩ := hh
  refine am_irem dX0_done_125 o1 (h2).2 (by decide) (by decide) ?_
  obtain ⟨ha2, hb3⟩ := hh
  refine am_if_ne (tgt := 142) dX0_done_126 (by decide) (am_r_rem o1 (h2).2 (by decide) : am_r (v2 % 2)) (fun hc4 => ?_) (fun hc4 => ?_)
  · have hh := ha2 hc4
    refine am_iload dX0_done_142 2 rfl ?_
    obtain ⟨ha5, hb6⟩ := hh
    refine am_if_le (tgt := 156) dX0_done_144 (by decide) h7 (fun hc7 => ?_) (fun hc7 => ?_)
    · have hh := ha5 hc7
      refine am_iconst dX0_done_156 ?_
      refine am_istore dX0_done_157 (by decide) rfl ?_
      refine am_iload dX0_done_159 0 rfl ?_
      refine am_if_eq (tgt := 169) dX0_done_161 (by decide) (⟨by decide, by decide⟩) (fun hc10 => ?_) (fun hc10 => ?_)
      rotate_left
      · exact absurd hc10 (by decide)
      refine am_iload dX0_done_169 2 rfl ?_
      exact am_iret rfl dX0_done_171 (Nat.le_refl 0) (Nat.le_refl 0) hh
    · have hh := hb6 hc7
      refine am_iload dX0_done_147 1 rfl ?_
      obtain ⟨ha11, hb12⟩ := hh
      refine am_if_ne (tgt := 156) dX0_done_149 (by decide) h6 (fun hc13 => ?_) (fun hc13 => ?_)
      · have hh := ha11 hc13
        refine am_iconst dX0_done_156 ?_
        refine am_istore dX0_done_157 (by decide) rfl ?_
        refine am_iload dX0_done_159 0 rfl ?_
        refine am_if_eq (tgt := 169) dX0_done_161 (by decide) (⟨by decide, by decide⟩) (fun hc16 => ?_) (fun hc16 => ?_)
        rotate_left
        · exact absurd hc16 (by decide)
        refine am_iload dX0_done_169 2 rfl ?_
        exact am_iret rfl dX0_done_171 (Nat.le_refl 0) (Nat.le_refl 0) hh
      · have hh := hb12 hc13
        refine am_iconst dX0_done_152 ?_
        refine am_goto (tgt := 157) dX0_done_153 (by decide) ?_
        refine am_istore dX0_done_157 (by decide) rfl ?_
        refine am_iload dX0_done_159 0 rfl ?_
        refine am_if_eq (tgt := 169) dX0_done_161 (by decide) (⟨by decide, by decide⟩) (fun hc19 => ?_) (fun hc19 => ?_)
        · exact absurd hc19 (by decide)
        refine am_ldc (z := -1000000) q472 (by decide) dX0_done_164 ?_
        refine am_goto (tgt := 171) dX0_done_166 (by decide) ?_
        exact am_iret rfl dX0_done_171 (Nat.le_refl 0) (Nat.le_refl 0) hh
  · have hh := hb3 hc4
    refine am_iload dX0_done_129 1 rfl ?_
    obtain ⟨ha20, hb21⟩ := hh
    refine am_if_ne (tgt := 138) dX0_done_131 (by decide) h6 (fun hc22 => ?_) (fun hc22 => ?_)
    · have hh := ha20 hc22
      refine am_iconst dX0_done_138 ?_
      refine am_goto (tgt := 157) dX0_done_139 (by decide) ?_
      refine am_istore dX0_done_157 (by decide) rfl ?_
      refine am_iload dX0_done_159 0 rfl ?_
      refine am_if_eq (tgt := 169) dX0_done_161 (by decide) (⟨by decide, by decide⟩) (fun hc25 => ?_) (fun hc25 => ?_)
      rotate_left
      · exact absurd hc25 (by decide)
      refine am_iload dX0_done_169 2 rfl ?_
      exact am_iret rfl dX0_done_171 (Nat.le_refl 0) (Nat.le_refl 0) hh
    · have hh := hb21 hc22
      refine am_iconst dX0_done_134 ?_
      refine am_goto (tgt := 157) dX0_done_135 (by decide) ?_
      refine am_istore dX0_done_157 (by decide) rfl ?_
      refine am_iload dX0_done_159 0 rfl ?_
      refine am_if_eq (tgt := 169) dX0_done_161 (by decide) (⟨by decide, by decide⟩) (fun hc28 => ?_) (fun hc28 => ?_)
      · exact absurd hc28 (by decide)
      refine am_ldc (z := -1000000) q472 (by decide) dX0_done_164 ?_
      refine am_goto (tgt := 171) dX0_done_166 (by decide) ?_
      exact am_iret rfl dX0_done_171 (Nat.le_refl 0) (Nat.le_refl 0) hh
set_option maxHeartbeats 4000000 in
set_option maxRecDepth 100000 in
theorem bX0_done_108 {l : Launch} {Q : Option am_W → ah_H → Prop} {S : ah_H} (v0 : Nat) (v1 : Nat) (v2 : Int) (h2 : am_r v2) (v3 : Int) (h3 : am_r v3) (v4 : Int) (h4 : am_r v4) (v5 : Int) (h5 : am_r v5) (v6 : Int) (h6 : am_r v6) (v7 : Int) (h7 : am_r v7) (v8 : Int) (h8 : am_r v8)
    (hh : (0 ≤ v2) ∧
      ((¬ (v2 % 2) = 0) →
        VX0_done l Q 117 [(0, am_R v0), (1, am_R v1), (2, am_I v2), (3, am_I v3), (4, am_I v4), (5, am_I v5), (6, am_I v6), (7, am_I v7), (8, am_I v8)] [] S) ∧
      (((v2 % 2) = 0) →
        VX0_done l Q 123 [(2, am_I v2), (6, am_I v6), (7, am_I v7)] [] S)) : VX0_done l Q 108 [(0, am_R v0), (1, am_R v1), (2, am_I v2), (3, am_I v3), (4, am_I v4), (5, am_I v5), (6, am_I v6), (7, am_I v7), (8, am_I v8)] [] S := by
  refine am_iload_n dX0_done_108 rfl 2 rfl ?_
  refine am_iconst dX0_done_109 ?_
  obtain ⟨o1, hh⟩ := hh
  refine am_irem dX0_done_110 o1 (h2).2 (by decide) (by decide) ?_
  obtain ⟨ha2, hb3⟩ := hh
  refine am_if_ne (tgt := 117) dX0_done_111 (by decide) (am_r_rem o1 (h2).2 (by decide) : am_r (v2 % 2)) (fun hc4 => ?_) (fun hc4 => ?_)
  · have hh := ha2 hc4
    exact hh
  · have hh := hb3 hc4
    refine am_goto (tgt := 123) dX0_done_114 (by decide) ?_
    refine am_keep [2, 6, 7] rfl ?_
    exact hh
/-! TableArms.order(I)I -/
abbrev VX0_order (l : Launch) (Q : Option am_W → ah_H → Prop) (pc : Nat) (lv : List (Nat × am_W)) (st : List am_W) (S : ah_H) : Prop := am_V ah_r l RX0 cX0_order 3 (some .int) "order" (am_rm 7 0 0) (am_E1 ah_r 0 0 Q) pc lv st S 0 0
abbrev kX0_order (l : Launch) (as : List am_W) (S : ah_H) (Q : Option am_W → ah_H → Prop) : Prop := am_C ah_r l yX0_order (ws_ yX0_order cX0_order 3 (some .int)) (am_rm 7 0 0) 0 0 as S Q
set_option maxHeartbeats 4000000 in
set_option maxRecDepth 100000 in
theorem bX0_order {l : Launch} {Q : Option am_W → ah_H → Prop} {S : ah_H} (v0 : Nat) (v1 : Int) (h1 : am_r v1)
    (hh : kX0_isOrder l [am_I v1] S (am_qz fun b2 G1 =>
        ((b2 = true) →
          (∃ fs6, (G1.1 v0 = some (.inl (1, fs6))) ∧
          (∃ x9, (fs6[4]? = some (am_R x9)) ∧
          kX0_done l [am_R v0, am_R x9, am_I v1] G1 (am_qi fun r11 G10 =>
            ((¬ r11 = (-1000000)) →
              Q (some (am_I r11)) G10) ∧
            ((r11 = (-1000000)) →
              Q (some (am_I (-1000002))) G10))))) ∧
        ((b2 = false) →
          Q (some (am_I (-1000001))) G1))) : kX0_order l [am_R v0, am_I v1] S Q := by
  refine am_entry (lv := [(0, am_R v0), (1, am_I v1)]) rfl rfl rfl (fun _ => rfl) (fun _ => Nat.le_of_ble_eq_true rfl) ?_
  refine am_iload_n dX0_order_0 rfl 1 rfl ?_
  refine am_rSz (n := 1) hh dX0_order_1 (lw_S q572 q573 q90 q574) ⟨⟨by decide, by decide, by decide +kernel⟩, ⟨Nat.le_of_ble_eq_true rfl, Nat.le_of_ble_eq_true rfl⟩⟩ ⟨rfl, rfl⟩ rfl rfl (Nat.le_of_ble_eq_true rfl) ⟨(Nat.le_of_ble_eq_true rfl), (Nat.le_of_ble_eq_true rfl)⟩ (fun b2 G1 hh => ?_)
  obtain ⟨ha3, hb4⟩ := hh
  refine am_ifB_ne (tgt := 10) dX0_order_4 (by decide) (fun hc5 => ?_) (fun hc5 => ?_)
  · have hh := ha3 hc5
    refine am_aload_n dX0_order_10 rfl 0 rfl ?_
    refine am_aload_n dX0_order_11 rfl 0 rfl ?_
    obtain ⟨fs6, ho7, hh⟩ := hh
    obtain ⟨x9, hv8, hh⟩ := hh
    refine ah_get ho7 hv8 rfl in_X0 (by decide) q215 (Or.inl rfl) dX0_order_12 ?_
    refine am_iload_n dX0_order_15 rfl 1 rfl ?_
    refine am_rVi (n := 2) hh dX0_order_16 (lw_V q576 q578 qs11 q90 q579) rfl ⟨⟨by decide, by decide, by decide +kernel⟩, ⟨Nat.le_of_ble_eq_true rfl, Nat.le_of_ble_eq_true rfl⟩⟩ ⟨rfl, rfl⟩ rfl rfl (Nat.le_of_ble_eq_true rfl) ⟨(Nat.le_of_ble_eq_true rfl), (Nat.le_of_ble_eq_true rfl)⟩ (ah_recv ho7 rfl) (fun r11 G10 hr12 hh => ?_)
    refine am_istore_n dX0_order_19 rfl (by decide) rfl ?_
    refine am_iload_n dX0_order_20 rfl 0 rfl ?_
    refine am_ldc (z := -1000000) q472 (by decide) dX0_order_21 ?_
    obtain ⟨ha13, hb14⟩ := hh
    refine am_icmp_ne (tgt := 31) dX0_order_23 (by decide) hr12 (⟨by decide, by decide⟩) (fun hc15 => ?_) (fun hc15 => ?_)
    · have hh := ha13 hc15
      refine am_iload_n dX0_order_31 rfl 0 rfl ?_
      exact am_iret rfl dX0_order_32 (Nat.le_refl 0) (Nat.le_refl 0) hh
    · have hh := hb14 hc15
      refine am_ldc (z := -1000002) q527 (by decide) dX0_order_26 ?_
      refine am_goto (tgt := 32) dX0_order_28 (by decide) ?_
      exact am_iret rfl dX0_order_32 (Nat.le_refl 0) (Nat.le_refl 0) hh
  · have hh := hb4 hc5
    refine am_ldc (z := -1000001) q289 (by decide) dX0_order_7 ?_
    exact am_iret rfl dX0_order_9 (Nat.le_refl 0) (Nat.le_refl 0) hh
/-! TableArms$Lesson.<init>(IIZI)V -/
abbrev VX6_init (l : Launch) (Q : Option am_W → ah_H → Prop) (pc : Nat) (lv : List (Nat × am_W)) (st : List am_W) (S : ah_H) : Prop := am_V ah_r l RX6 cX6_init 5 none "<init>" (am_rm 2 0 0) (am_E1 ah_r 0 0 Q) pc lv st S 0 0
abbrev kX6_init (l : Launch) (as : List am_W) (S : ah_H) (Q : Option am_W → ah_H → Prop) : Prop := am_C ah_r l yX6_init (ws_ yX6_init cX6_init 5 none) (am_rm 2 0 0) 0 0 as S Q
set_option maxHeartbeats 4000000 in
set_option maxRecDepth 100000 in
theorem bX6_init {l : Launch} {Q : Option am_W → ah_H → Prop} {S : ah_H} (v0 : Nat) (v1 : Int) (h1 : am_r v1) (v2 : Int) (h2 : am_r v2) (v3 : Bool) (v4 : Int) (h4 : am_r v4)
    (hh : (∃ fs1, (S.1 v0 = some (.inl (6, fs1))) ∧
      (ah_X ≤ v0) ∧
      (4 < fs1.length) ∧
      (∀ G5, G5 = ah_sf S v0 6 fs1 4 (am_I (am_b true)) →
      (∃ fs7, (G5.1 v0 = some (.inl (6, fs7))) ∧
      (0 < fs7.length) ∧
      (∀ G10, G10 = ah_sf G5 v0 6 fs7 0 (am_I v1) →
      (∃ fs12, (G10.1 v0 = some (.inl (6, fs12))) ∧
      (1 < fs12.length) ∧
      (∀ G15, G15 = ah_sf G10 v0 6 fs12 1 (am_I v2) →
      (∃ fs17, (G15.1 v0 = some (.inl (6, fs17))) ∧
      (2 < fs17.length) ∧
      (∀ G20, G20 = ah_sf G15 v0 6 fs17 2 (am_I (am_b v3)) →
      (∃ fs22, (G20.1 v0 = some (.inl (6, fs22))) ∧
      (3 < fs22.length) ∧
      (∀ G25, G25 = ah_sf G20 v0 6 fs22 3 (am_I v4) →
      Q none G25))))))))))) : kX6_init l [am_R v0, am_I v1, am_I v2, am_I (am_b v3), am_I v4] S Q := by
  refine am_entry (lv := [(0, am_R v0), (1, am_I v1), (2, am_I v2), (3, am_I (am_b v3)), (4, am_I v4)]) rfl rfl rfl (fun _ => rfl) (fun _ => Nat.le_of_ble_eq_true rfl) ?_
  refine am_aload_n dX6_init_0 rfl 0 rfl ?_
  refine am_objInit q625 q133 q134 dX6_init_1 (Nat.le_of_ble_eq_true rfl) (Nat.le_of_ble_eq_true rfl) ?_
  refine am_aload_n dX6_init_4 rfl 0 rfl ?_
  refine am_iconst dX6_init_5 ?_
  obtain ⟨fs1, ho2, hh⟩ := hh
  obtain ⟨o3, hh⟩ := hh
  obtain ⟨o4, hh⟩ := hh
  refine ah_put (ty := tyX6 4) ho2 o3 o4 rfl in_X6 tyX6 tyX6_ok nmX6 (by decide) q634 (Or.inl rfl) rfl (tyX6_ok 4 (by decide)) (ah_fit_bool true) dX6_init_6 ?_
  have hh := hh _ rfl
  refine am_aload_n dX6_init_9 rfl 0 rfl ?_
  refine am_iload_n dX6_init_10 rfl 1 rfl ?_
  obtain ⟨fs7, ho8, hh⟩ := hh
  obtain ⟨o9, hh⟩ := hh
  refine ah_putF (ty := tyX6 0) ho8 o3 o9 rfl in_X6 tyX6 tyX6_ok nmX6 (by decide) q626 rfl rfl rfl (tyX6_ok 0 (by decide)) ah_fit_int dX6_init_11 ?_
  have hh := hh _ rfl
  refine am_aload_n dX6_init_14 rfl 0 rfl ?_
  refine am_iload_n dX6_init_15 rfl 2 rfl ?_
  obtain ⟨fs12, ho13, hh⟩ := hh
  obtain ⟨o14, hh⟩ := hh
  refine ah_putF (ty := tyX6 1) ho13 o3 o14 rfl in_X6 tyX6 tyX6_ok nmX6 (by decide) q628 rfl rfl rfl (tyX6_ok 1 (by decide)) ah_fit_int dX6_init_16 ?_
  have hh := hh _ rfl
  refine am_aload_n dX6_init_19 rfl 0 rfl ?_
  refine am_iload_n dX6_init_20 rfl 3 rfl ?_
  obtain ⟨fs17, ho18, hh⟩ := hh
  obtain ⟨o19, hh⟩ := hh
  refine ah_putF (ty := tyX6 2) ho18 o3 o19 rfl in_X6 tyX6 tyX6_ok nmX6 (by decide) q630 rfl rfl rfl (tyX6_ok 2 (by decide)) (ah_fit_bool v3) dX6_init_21 ?_
  have hh := hh _ rfl
  refine am_aload_n dX6_init_24 rfl 0 rfl ?_
  refine am_iload dX6_init_25 4 rfl ?_
  obtain ⟨fs22, ho23, hh⟩ := hh
  obtain ⟨o24, hh⟩ := hh
  refine ah_putF (ty := tyX6 3) ho23 o3 o24 rfl in_X6 tyX6 tyX6_ok nmX6 (by decide) q632 rfl rfl rfl (tyX6_ok 3 (by decide)) ah_fit_int dX6_init_27 ?_
  have hh := hh _ rfl
  exact am_vret rfl dX6_init_30 (Nat.le_refl 0) (Nat.le_refl 0) hh
/-! TableArms.lesson(IIII)I -/
abbrev VX0_lesson (l : Launch) (mc ms : Nat) (Q : Option am_W → ah_H → Prop) (pc : Nat) (lv : List (Nat × am_W)) (st : List am_W) (S : ah_H) (cells slots : Nat) : Prop := am_V ah_r l RX0 cX0_lesson 5 (some .int) "lesson" (am_rm 8 mc ms) (am_E1 ah_r mc ms Q) pc lv st S cells slots
abbrev kX0_lesson (l : Launch) (mc ms : Nat) (as : List am_W) (S : ah_H) (Q : Option am_W → ah_H → Prop) : Prop := am_C ah_r l yX0_lesson (ws_ yX0_lesson cX0_lesson 5 (some .int)) (am_rm 8 mc ms) mc ms as S Q
set_option maxHeartbeats 4000000 in
set_option maxRecDepth 100000 in
theorem bX0_lesson {l : Launch} {mc ms : Nat} {Q : Option am_W → ah_H → Prop} {S : ah_H} (v0 : Nat) (v1 : Int) (h1 : am_r v1) (v2 : Int) (h2 : am_r v2) (v3 : Int) (h3 : am_r v3) (v4 : Int) (h4 : am_r v4)
    (hh : (∃ fs1, (S.1 v0 = some (.inl (1, fs1))) ∧
      kX0_isKept l [am_R v0, am_I v1] S (am_qz fun b4 G3 =>
        ((b4 = false) →
          Q (some (am_I (-1000001))) G3) ∧
        ((b4 = true) →
          (∃ fs8, (G3.1 v0 = some (.inl (1, fs8))) ∧
          kX0_isKept l [am_R v0, am_I v2] G3 (am_qz fun b11 G10 =>
            ((b11 = false) →
              Q (some (am_I (-1000001))) G10) ∧
            ((b11 = true) →
              kX0_isIn l [am_J v3, am_J 0, am_J 1] G10 (am_qz fun b16 G15 =>
                ((b16 = false) →
                  Q (some (am_I (-1000001))) G15) ∧
                ((b16 = true) →
                  kX0_isIn l [am_J v4, am_J 0, am_J 9] G15 (am_qz fun b21 G20 =>
                    ((b21 = true) →
                      (∃ fs25, (G20.1 v0 = some (.inl (1, fs25))) ∧
                      (∃ x28, (fs25[11]? = some (am_R x28)) ∧
                      (∃ fs29, (G20.1 x28 = some (.inl (15, fs29))) ∧
                      kJ2_size l [am_R x28] G20 (am_qi fun r32 G31 =>
                        ((¬ r32 = 8) →
                          (∃ fs37, (G31.1 v0 = some (.inl (1, fs37))) ∧
                          (∃ x40, (fs37[11]? = some (am_R x40)) ∧
                          (1 ≤ mc) ∧
                          (5 ≤ ms) ∧
                          (∀ G43, G43 = ah_mk G31 (.inl (6, ah_dX6)) →
                          ((¬ v3 = 1) →
                            kX6_init l [am_R G31.2, am_I v1, am_I v2, am_I (am_b false), am_I v4] G43 (am_qv fun G48 =>
                              (∃ mc49 ms50 : Nat, ((1 + mc49) ≤ mc ∧ (5 + ms50) ≤ ms) ∧
                              (∃ fs53, (G48.1 x40 = some (.inl (15, fs53))) ∧
                              kJ2_add l mc49 ms50 [am_R x40, am_R G31.2] G48 (am_qz fun b56 G55 =>
                                (∃ fs57, (G55.1 v0 = some (.inl (1, fs57))) ∧
                                (∃ x60, (fs57[11]? = some (am_R x60)) ∧
                                (∃ fs61, (G55.1 x60 = some (.inl (15, fs61))) ∧
                                kJ2_size l [am_R x60] G55 (am_qi fun r64 G63 =>
                                  Q (some (am_I (r64 - 1))) G63))))))))) ∧
                          ((v3 = 1) →
                            kX6_init l [am_R G31.2, am_I v1, am_I v2, am_I (am_b true), am_I v4] G43 (am_qv fun G66 =>
                              (∃ mc67 ms68 : Nat, ((1 + mc67) ≤ mc ∧ (5 + ms68) ≤ ms) ∧
                              (∃ fs71, (G66.1 x40 = some (.inl (15, fs71))) ∧
                              kJ2_add l mc67 ms68 [am_R x40, am_R G31.2] G66 (am_qz fun b74 G73 =>
                                (∃ fs75, (G73.1 v0 = some (.inl (1, fs75))) ∧
                                (∃ x78, (fs75[11]? = some (am_R x78)) ∧
                                (∃ fs79, (G73.1 x78 = some (.inl (15, fs79))) ∧
                                kJ2_size l [am_R x78] G73 (am_qi fun r82 G81 =>
                                  Q (some (am_I (r82 - 1))) G81))))))))))))) ∧
                        ((r32 = 8) →
                          Q (some (am_I (-1000003))) G31)))))) ∧
                    ((b21 = false) →
                      Q (some (am_I (-1000001))) G20))))))))))) : kX0_lesson l mc ms [am_R v0, am_I v1, am_I v2, am_I v3, am_I v4] S Q := by
  refine am_entry (lv := [(0, am_R v0), (1, am_I v1), (2, am_I v2), (3, am_I v3), (4, am_I v4)]) rfl rfl rfl (fun _ => rfl) (fun _ => Nat.le_of_ble_eq_true rfl) ?_
  refine am_aload_n dX0_lesson_0 rfl 0 rfl ?_
  refine am_iload_n dX0_lesson_1 rfl 1 rfl ?_
  obtain ⟨fs1, ho2, hh⟩ := hh
  refine am_rVz (n := 1) hh dX0_lesson_2 (lw_V q556 q558 qs10 q90 q559) rfl ⟨⟨by decide, by decide, by decide +kernel⟩, ⟨Nat.le_of_ble_eq_true rfl, Nat.le_of_ble_eq_true rfl⟩⟩ ⟨rfl, rfl⟩ rfl rfl (Nat.le_of_ble_eq_true rfl) ⟨(Nat.zero_le _), (Nat.zero_le _)⟩ (ah_recv ho2 rfl) (fun b4 G3 hh => ?_)
  obtain ⟨ha5, hb6⟩ := hh
  refine am_ifB_eq (tgt := 39) dX0_lesson_5 (by decide) (fun hc7 => ?_) (fun hc7 => ?_)
  · have hh := ha5 hc7
    refine am_ldc (z := -1000001) q289 (by decide) dX0_lesson_39 ?_
    exact am_iret rfl dX0_lesson_41 (Nat.zero_le _) (Nat.zero_le _) hh
  · have hh := hb6 hc7
    refine am_aload_n dX0_lesson_8 rfl 0 rfl ?_
    refine am_iload_n dX0_lesson_9 rfl 2 rfl ?_
    obtain ⟨fs8, ho9, hh⟩ := hh
    refine am_rVz (n := 1) hh dX0_lesson_10 (lw_V q556 q558 qs10 q90 q559) rfl ⟨⟨by decide, by decide, by decide +kernel⟩, ⟨Nat.le_of_ble_eq_true rfl, Nat.le_of_ble_eq_true rfl⟩⟩ ⟨rfl, rfl⟩ rfl rfl (Nat.le_of_ble_eq_true rfl) ⟨(Nat.zero_le _), (Nat.zero_le _)⟩ (ah_recv ho9 rfl) (fun b11 G10 hh => ?_)
    obtain ⟨ha12, hb13⟩ := hh
    refine am_ifB_eq (tgt := 39) dX0_lesson_13 (by decide) (fun hc14 => ?_) (fun hc14 => ?_)
    · have hh := ha12 hc14
      refine am_ldc (z := -1000001) q289 (by decide) dX0_lesson_39 ?_
      exact am_iret rfl dX0_lesson_41 (Nat.zero_le _) (Nat.zero_le _) hh
    · have hh := hb13 hc14
      refine am_iload_n dX0_lesson_16 rfl 3 rfl ?_
      refine am_i2l_ h3 dX0_lesson_17 ?_
      refine am_lconst (z := 0) dX0_lesson_18 (by decide) ?_
      refine am_lconst (z := 1) dX0_lesson_19 (by decide) ?_
      refine am_rSz (n := 3) hh dX0_lesson_20 (lw_S q285 q286 q90 q287) ⟨⟨by decide, by decide, by decide +kernel⟩, ⟨Nat.le_of_ble_eq_true rfl, Nat.le_of_ble_eq_true rfl⟩⟩ ⟨rfl, rfl⟩ rfl rfl (Nat.le_of_ble_eq_true rfl) ⟨(Nat.zero_le _), (Nat.zero_le _)⟩ (fun b16 G15 hh => ?_)
      obtain ⟨ha17, hb18⟩ := hh
      refine am_ifB_eq (tgt := 39) dX0_lesson_23 (by decide) (fun hc19 => ?_) (fun hc19 => ?_)
      · have hh := ha17 hc19
        refine am_ldc (z := -1000001) q289 (by decide) dX0_lesson_39 ?_
        exact am_iret rfl dX0_lesson_41 (Nat.zero_le _) (Nat.zero_le _) hh
      · have hh := hb18 hc19
        refine am_iload dX0_lesson_26 4 rfl ?_
        refine am_i2l_ h4 dX0_lesson_28 ?_
        refine am_lconst (z := 0) dX0_lesson_29 (by decide) ?_
        refine am_ldc2 (z := 9) q609 (by decide) dX0_lesson_30 ?_
        refine am_rSz (n := 3) hh dX0_lesson_33 (lw_S q285 q286 q90 q287) ⟨⟨by decide, by decide, by decide +kernel⟩, ⟨Nat.le_of_ble_eq_true rfl, Nat.le_of_ble_eq_true rfl⟩⟩ ⟨rfl, rfl⟩ rfl rfl (Nat.le_of_ble_eq_true rfl) ⟨(Nat.zero_le _), (Nat.zero_le _)⟩ (fun b21 G20 hh => ?_)
        obtain ⟨ha22, hb23⟩ := hh
        refine am_ifB_ne (tgt := 42) dX0_lesson_36 (by decide) (fun hc24 => ?_) (fun hc24 => ?_)
        · have hh := ha22 hc24
          refine am_aload_n dX0_lesson_42 rfl 0 rfl ?_
          obtain ⟨fs25, ho26, hh⟩ := hh
          obtain ⟨x28, hv27, hh⟩ := hh
          refine ah_get ho26 hv27 rfl in_X0 (by decide) q225 (Or.inl rfl) dX0_lesson_43 ?_
          obtain ⟨fs29, ho30, hh⟩ := hh
          refine am_rFi (n := 0) hh dX0_lesson_46 (ci := 15) rfl ⟨q613, q612, q618, q616, q614⟩ q611 q615 q617 q94 q619 ⟨by decide, by decide, by decide +kernel⟩ ⟨Nat.le_of_ble_eq_true rfl, Nat.le_of_ble_eq_true rfl⟩ ⟨rfl, rfl⟩ rfl rfl (Nat.le_of_ble_eq_true rfl) ⟨(Nat.zero_le _), (Nat.zero_le _)⟩ (ah_recv ho30 rfl) (fun r32 G31 hr33 hh => ?_)
          refine am_bipush dX0_lesson_51 (by decide) ?_
          obtain ⟨ha34, hb35⟩ := hh
          refine am_icmp_ne (tgt := 59) dX0_lesson_53 (by decide) hr33 (⟨by decide, by decide⟩) (fun hc36 => ?_) (fun hc36 => ?_)
          · have hh := ha34 hc36
            refine am_aload_n dX0_lesson_59 rfl 0 rfl ?_
            obtain ⟨fs37, ho38, hh⟩ := hh
            obtain ⟨x40, hv39, hh⟩ := hh
            refine ah_get ho38 hv39 rfl in_X0 (by decide) q225 (Or.inl rfl) dX0_lesson_60 ?_
            obtain ⟨o41, hh⟩ := hh
            obtain ⟨o42, hh⟩ := hh
            refine ah_new (ci := 6) (fs := ah_dX6) tyX6 rfl in_X6 tyX6_ok q620 q621 q107 ah_dX6_ok o41 o42 dX0_lesson_63 ?_
            have hh := hh _ rfl
            refine am_dup dX0_lesson_66 rfl ?_
            refine am_iload_n dX0_lesson_67 rfl 1 rfl ?_
            refine am_iload_n dX0_lesson_68 rfl 2 rfl ?_
            refine am_iload_n dX0_lesson_69 rfl 3 rfl ?_
            refine am_iconst dX0_lesson_70 ?_
            obtain ⟨ha45, hb46⟩ := hh
            refine am_icmp_ne (tgt := 78) dX0_lesson_71 (by decide) h3 (⟨by decide, by decide⟩) (fun hc47 => ?_) (fun hc47 => ?_)
            · have hh := ha45 hc47
              refine am_iconst dX0_lesson_78 ?_
              refine am_iload dX0_lesson_79 4 rfl ?_
              refine am_rIv (n := 4) hh dX0_lesson_81 q622 q623 q107 q624 rfl ⟨⟨by decide, by decide, by decide +kernel⟩, ⟨Nat.le_of_ble_eq_true rfl, Nat.le_of_ble_eq_true rfl⟩⟩ ⟨rfl, rfl⟩ rfl rfl (Nat.le_of_ble_eq_true rfl) ⟨o41, o42⟩ (fun G48 hh => ?_)
              obtain ⟨mc49, ms50, ⟨o51, o52⟩, hh⟩ := hh
              obtain ⟨fs53, ho54, hh⟩ := hh
              refine am_rFz (n := 1) hh dX0_lesson_84 (ci := 15) rfl ⟨q650, q649, q654, q652, q614⟩ q648 q651 q653 q94 q655 ⟨by decide, by decide, by decide +kernel⟩ ⟨Nat.le_of_ble_eq_true rfl, Nat.le_of_ble_eq_true rfl⟩ ⟨rfl, rfl⟩ rfl rfl (Nat.le_of_ble_eq_true rfl) ⟨o51, o52⟩ (ah_recv ho54 rfl) (fun b56 G55 hh => ?_)
              refine am_pop dX0_lesson_89 rfl ?_
              refine am_aload_n dX0_lesson_90 rfl 0 rfl ?_
              obtain ⟨fs57, ho58, hh⟩ := hh
              obtain ⟨x60, hv59, hh⟩ := hh
              refine ah_get ho58 hv59 rfl in_X0 (by decide) q225 (Or.inl rfl) dX0_lesson_91 ?_
              obtain ⟨fs61, ho62, hh⟩ := hh
              refine am_rFi (n := 0) hh dX0_lesson_94 (ci := 15) rfl ⟨q613, q612, q618, q616, q614⟩ q611 q615 q617 q94 q619 ⟨by decide, by decide, by decide +kernel⟩ ⟨Nat.le_of_ble_eq_true rfl, Nat.le_of_ble_eq_true rfl⟩ ⟨rfl, rfl⟩ rfl rfl (Nat.le_of_ble_eq_true rfl) ⟨o51, o52⟩ (ah_recv ho62 rfl) (fun r64 G63 hr65 hh => ?_)
              refine am_iconst dX0_lesson_99 ?_
              refine am_isub dX0_lesson_100 ?_
              exact am_iret rfl dX0_lesson_101 o51 o52 hh
            · have hh := hb46 hc47
              refine am_iconst dX0_lesson_74 ?_
              refine am_goto (tgt := 79) dX0_lesson_75 (by decide) ?_
              refine am_iload dX0_lesson_79 4 rfl ?_
              refine am_rIv (n := 4) hh dX0_lesson_81 q622 q623 q107 q624 rfl ⟨⟨by decide, by decide, by decide +kernel⟩, ⟨Nat.le_of_ble_eq_true rfl, Nat.le_of_ble_eq_true rfl⟩⟩ ⟨rfl, rfl⟩ rfl rfl (Nat.le_of_ble_eq_true rfl) ⟨o41, o42⟩ (fun G66 hh => ?_)
              obtain ⟨mc67, ms68, ⟨o69, o70⟩, hh⟩ := hh
              obtain ⟨fs71, ho72, hh⟩ := hh
              refine am_rFz (n := 1) hh dX0_lesson_84 (ci := 15) rfl ⟨q650, q649, q654, q652, q614⟩ q648 q651 q653 q94 q655 ⟨by decide, by decide, by decide +kernel⟩ ⟨Nat.le_of_ble_eq_true rfl, Nat.le_of_ble_eq_true rfl⟩ ⟨rfl, rfl⟩ rfl rfl (Nat.le_of_ble_eq_true rfl) ⟨o69, o70⟩ (ah_recv ho72 rfl) (fun b74 G73 hh => ?_)
              refine am_pop dX0_lesson_89 rfl ?_
              refine am_aload_n dX0_lesson_90 rfl 0 rfl ?_
              obtain ⟨fs75, ho76, hh⟩ := hh
              obtain ⟨x78, hv77, hh⟩ := hh
              refine ah_get ho76 hv77 rfl in_X0 (by decide) q225 (Or.inl rfl) dX0_lesson_91 ?_
              obtain ⟨fs79, ho80, hh⟩ := hh
              refine am_rFi (n := 0) hh dX0_lesson_94 (ci := 15) rfl ⟨q613, q612, q618, q616, q614⟩ q611 q615 q617 q94 q619 ⟨by decide, by decide, by decide +kernel⟩ ⟨Nat.le_of_ble_eq_true rfl, Nat.le_of_ble_eq_true rfl⟩ ⟨rfl, rfl⟩ rfl rfl (Nat.le_of_ble_eq_true rfl) ⟨o69, o70⟩ (ah_recv ho80 rfl) (fun r82 G81 hr83 hh => ?_)
              refine am_iconst dX0_lesson_99 ?_
              refine am_isub dX0_lesson_100 ?_
              exact am_iret rfl dX0_lesson_101 o69 o70 hh
          · have hh := hb35 hc36
            refine am_ldc (z := -1000003) q450 (by decide) dX0_lesson_56 ?_
            exact am_iret rfl dX0_lesson_58 (Nat.zero_le _) (Nat.zero_le _) hh
        · have hh := hb23 hc24
          refine am_ldc (z := -1000001) q289 (by decide) dX0_lesson_39 ?_
          exact am_iret rfl dX0_lesson_41 (Nat.zero_le _) (Nat.zero_le _) hh
/-! TableArms.unteach(I)I -/
abbrev VX0_unteach (l : Launch) (Q : Option am_W → ah_H → Prop) (pc : Nat) (lv : List (Nat × am_W)) (st : List am_W) (S : ah_H) : Prop := am_V ah_r l RX0 cX0_unteach 2 (some .int) "unteach" (am_rm 5 0 0) (am_E1 ah_r 0 0 Q) pc lv st S 0 0
abbrev kX0_unteach (l : Launch) (as : List am_W) (S : ah_H) (Q : Option am_W → ah_H → Prop) : Prop := am_C ah_r l yX0_unteach (ws_ yX0_unteach cX0_unteach 2 (some .int)) (am_rm 5 0 0) 0 0 as S Q
set_option maxHeartbeats 4000000 in
set_option maxRecDepth 100000 in
theorem bX0_unteach {l : Launch} {Q : Option am_W → ah_H → Prop} {S : ah_H} (v0 : Nat) (v1 : Int) (h1 : am_r v1)
    (hh : (∃ fs1, (S.1 v0 = some (.inl (1, fs1))) ∧
      (∃ x4, (fs1[11]? = some (am_R x4)) ∧
      (∃ fs5, (S.1 x4 = some (.inl (15, fs5))) ∧
      kJ2_size l [am_R x4] S (am_qi fun r8 G7 =>
        (am_r (r8 - 1)) ∧
        kX0_isIn l [am_J v1, am_J 0, am_J (r8 - 1)] G7 (am_qz fun b12 G11 =>
          ((b12 = true) →
            (∃ fs16, (G11.1 v0 = some (.inl (1, fs16))) ∧
            (∃ x19, (fs16[11]? = some (am_R x19)) ∧
            (∃ fs20, (G11.1 x19 = some (.inl (15, fs20))) ∧
            kJ2_get l [am_R x19, am_I v1] G11 (am_qo fun a23 G22 => ∃ y24, a23 = some y24 ∧
              (ah_is G22 (some y24) "TableArms$Lesson") ∧
              (∃ fs26, (G22.1 y24 = some (.inl (6, fs26))) ∧
              (∃ b29, (fs26[4]? = some (am_I (am_b b29))) ∧
              ((b29 = true) →
                (∃ fs33, (G22.1 v0 = some (.inl (1, fs33))) ∧
                (∃ x36, (fs33[11]? = some (am_R x36)) ∧
                (∃ fs37, (G22.1 x36 = some (.inl (15, fs37))) ∧
                kJ2_get l [am_R x36, am_I v1] G22 (am_qo fun a40 G39 => ∃ y41, a40 = some y41 ∧
                  (ah_is G39 (some y41) "TableArms$Lesson") ∧
                  (∃ fs43, (G39.1 y41 = some (.inl (6, fs43))) ∧
                  (ah_X ≤ y41) ∧
                  (4 < fs43.length) ∧
                  (∀ G47, G47 = ah_sf G39 y41 6 fs43 4 (am_I (am_b false)) →
                  Q (some (am_I 1)) G47))))))) ∧
              ((b29 = false) →
                Q (some (am_I (-1000002))) G22)))))))) ∧
          ((b12 = false) →
            Q (some (am_I (-1000001))) G11))))))) : kX0_unteach l [am_R v0, am_I v1] S Q := by
  refine am_entry (lv := [(0, am_R v0), (1, am_I v1)]) rfl rfl rfl (fun _ => rfl) (fun _ => Nat.le_of_ble_eq_true rfl) ?_
  refine am_iload_n dX0_unteach_0 rfl 1 rfl ?_
  refine am_i2l_ h1 dX0_unteach_1 ?_
  refine am_lconst (z := 0) dX0_unteach_2 (by decide) ?_
  refine am_aload_n dX0_unteach_3 rfl 0 rfl ?_
  obtain ⟨fs1, ho2, hh⟩ := hh
  obtain ⟨x4, hv3, hh⟩ := hh
  refine ah_get ho2 hv3 rfl in_X0 (by decide) q225 (Or.inl rfl) dX0_unteach_4 ?_
  obtain ⟨fs5, ho6, hh⟩ := hh
  refine am_rFi (n := 0) hh dX0_unteach_7 (ci := 15) rfl ⟨q613, q612, q618, q616, q614⟩ q611 q615 q617 q94 q619 ⟨by decide, by decide, by decide +kernel⟩ ⟨Nat.le_of_ble_eq_true rfl, Nat.le_of_ble_eq_true rfl⟩ ⟨rfl, rfl⟩ rfl rfl (Nat.le_of_ble_eq_true rfl) ⟨(Nat.le_of_ble_eq_true rfl), (Nat.le_of_ble_eq_true rfl)⟩ (ah_recv ho6 rfl) (fun r8 G7 hr9 hh => ?_)
  refine am_iconst dX0_unteach_12 ?_
  refine am_isub dX0_unteach_13 ?_
  obtain ⟨o10, hh⟩ := hh
  refine am_i2l_ o10 dX0_unteach_14 ?_
  refine am_rSz (n := 3) hh dX0_unteach_15 (lw_S q285 q286 q90 q287) ⟨⟨by decide, by decide, by decide +kernel⟩, ⟨Nat.le_of_ble_eq_true rfl, Nat.le_of_ble_eq_true rfl⟩⟩ ⟨rfl, rfl⟩ rfl rfl (Nat.le_of_ble_eq_true rfl) ⟨(Nat.le_of_ble_eq_true rfl), (Nat.le_of_ble_eq_true rfl)⟩ (fun b12 G11 hh => ?_)
  obtain ⟨ha13, hb14⟩ := hh
  refine am_ifB_ne (tgt := 24) dX0_unteach_18 (by decide) (fun hc15 => ?_) (fun hc15 => ?_)
  · have hh := ha13 hc15
    refine am_aload_n dX0_unteach_24 rfl 0 rfl ?_
    obtain ⟨fs16, ho17, hh⟩ := hh
    obtain ⟨x19, hv18, hh⟩ := hh
    refine ah_get ho17 hv18 rfl in_X0 (by decide) q225 (Or.inl rfl) dX0_unteach_25 ?_
    refine am_iload_n dX0_unteach_28 rfl 1 rfl ?_
    obtain ⟨fs20, ho21, hh⟩ := hh
    refine am_rFo (n := 1) hh dX0_unteach_29 (ci := 15) rfl ⟨q736, q735, q740, q738, q614⟩ q734 q737 q739 q94 q741 ⟨by decide, by decide, by decide +kernel⟩ ⟨Nat.le_of_ble_eq_true rfl, Nat.le_of_ble_eq_true rfl⟩ ⟨rfl, rfl⟩ rfl rfl (Nat.le_of_ble_eq_true rfl) ⟨(Nat.le_of_ble_eq_true rfl), (Nat.le_of_ble_eq_true rfl)⟩ (ah_recv ho21 rfl) (fun a23 G22 hh => ?_)
    obtain ⟨y24, rfl, hh⟩ := hh
    obtain ⟨o25, hh⟩ := hh
    refine ah_cast q620 o25 dX0_unteach_34 ?_
    obtain ⟨fs26, ho27, hh⟩ := hh
    obtain ⟨b29, hv28, hh⟩ := hh
    refine ah_getN ho27 hv28 rfl in_X6 (by decide) (am_nwin q635 rfl) dX0_unteach_37 ?_
    obtain ⟨ha30, hb31⟩ := hh
    refine am_ifB_ne (tgt := 46) dX0_unteach_40 (by decide) (fun hc32 => ?_) (fun hc32 => ?_)
    · have hh := ha30 hc32
      refine am_aload_n dX0_unteach_46 rfl 0 rfl ?_
      obtain ⟨fs33, ho34, hh⟩ := hh
      obtain ⟨x36, hv35, hh⟩ := hh
      refine ah_get ho34 hv35 rfl in_X0 (by decide) q225 (Or.inl rfl) dX0_unteach_47 ?_
      refine am_iload_n dX0_unteach_50 rfl 1 rfl ?_
      obtain ⟨fs37, ho38, hh⟩ := hh
      refine am_rFo (n := 1) hh dX0_unteach_51 (ci := 15) rfl ⟨q736, q735, q740, q738, q614⟩ q734 q737 q739 q94 q741 ⟨by decide, by decide, by decide +kernel⟩ ⟨Nat.le_of_ble_eq_true rfl, Nat.le_of_ble_eq_true rfl⟩ ⟨rfl, rfl⟩ rfl rfl (Nat.le_of_ble_eq_true rfl) ⟨(Nat.le_of_ble_eq_true rfl), (Nat.le_of_ble_eq_true rfl)⟩ (ah_recv ho38 rfl) (fun a40 G39 hh => ?_)
      obtain ⟨y41, rfl, hh⟩ := hh
      obtain ⟨o42, hh⟩ := hh
      refine ah_cast q620 o42 dX0_unteach_56 ?_
      refine am_iconst dX0_unteach_59 ?_
      obtain ⟨fs43, ho44, hh⟩ := hh
      obtain ⟨o45, hh⟩ := hh
      obtain ⟨o46, hh⟩ := hh
      refine ah_putN (ty := tyX6 4) ho44 o45 o46 rfl in_X6 tyX6 tyX6_ok nmX6 (by decide) (am_nwin q635 rfl) rfl (tyX6_ok 4 (by decide)) (ah_fit_bool false) dX0_unteach_60 ?_
      have hh := hh _ rfl
      refine am_iconst dX0_unteach_63 ?_
      exact am_iret rfl dX0_unteach_64 (Nat.le_refl 0) (Nat.le_refl 0) hh
    · have hh := hb31 hc32
      refine am_ldc (z := -1000002) q527 (by decide) dX0_unteach_43 ?_
      exact am_iret rfl dX0_unteach_45 (Nat.le_refl 0) (Nat.le_refl 0) hh
  · have hh := hb14 hc15
    refine am_ldc (z := -1000001) q289 (by decide) dX0_unteach_21 ?_
    exact am_iret rfl dX0_unteach_23 (Nat.le_refl 0) (Nat.le_refl 0) hh
/-! TableArms.isBarring(LTableArms$Lesson;I)Z -/
abbrev VX0_isBarring (l : Launch) (Q : Option am_W → ah_H → Prop) (pc : Nat) (lv : List (Nat × am_W)) (st : List am_W) (S : ah_H) : Prop := am_V ah_r l RX0 cX0_isBarring 4 (some .boolean) "isBarring" (am_rm 7 0 0) (am_E1 ah_r 0 0 Q) pc lv st S 0 0
abbrev kX0_isBarring (l : Launch) (as : List am_W) (S : ah_H) (Q : Option am_W → ah_H → Prop) : Prop := am_C ah_r l yX0_isBarring (ws_ yX0_isBarring cX0_isBarring 4 (some .boolean)) (am_rm 7 0 0) 0 0 as S Q
set_option maxHeartbeats 4000000 in
set_option maxRecDepth 100000 in
theorem bX0_isBarring {l : Launch} {Q : Option am_W → ah_H → Prop} {S : ah_H} (v0 : Nat) (v1 : Nat) (v2 : Int) (h2 : am_r v2)
    (hh : (∃ fs1, (S.1 v0 = some (.inl (1, fs1))) ∧
      (∃ x4, (fs1[7]? = some (am_R x4)) ∧
      (∃ x6, (fs1[5]? = some (am_R x6)) ∧
      (∃ fs7, (S.1 v1 = some (.inl (6, fs7))) ∧
      (∃ z10, (fs7[0]? = some (am_I z10) ∧ am_r z10) ∧
      (∃ n12 f13, (S.1 x6 = some (.inr (3, n12, .inr f13))) ∧
      (0 ≤ z10 ∧ z10 < (n12 : Int)) ∧
      (∃ y16, (f13 z10.toNat = some y16) ∧
      (∃ fs18, (S.1 x4 = some (.inl (2, fs18))) ∧
      kX1_lay l [am_R x4, am_R y16] S (am_qv fun G20 =>
        (∃ fs21, (G20.1 v0 = some (.inl (1, fs21))) ∧
        (∃ x24, (fs21[7]? = some (am_R x24)) ∧
        kX0_done l [am_R v0, am_R x24, am_I v2] G20 (am_qi fun r26 G25 =>
          ((r26 = (-1000000)) →
            (∃ fs31, (G25.1 v1 = some (.inl (6, fs31))) ∧
            (∃ b34, (fs31[2]? = some (am_I (am_b b34))) ∧
            ((¬ 0 = (am_b b34)) →
              Q (some (am_I (am_b false))) G25) ∧
            ((0 = (am_b b34)) →
              Q (some (am_I (am_b true))) G25)))) ∧
          ((¬ r26 = (-1000000)) →
            (∃ fs38, (G25.1 v0 = some (.inl (1, fs38))) ∧
            (∃ x41, (fs38[7]? = some (am_R x41)) ∧
            (∃ x43, (fs38[5]? = some (am_R x43)) ∧
            (∃ fs44, (G25.1 v1 = some (.inl (6, fs44))) ∧
            (∃ z47, (fs44[1]? = some (am_I z47) ∧ am_r z47) ∧
            (∃ n49 f50, (G25.1 x43 = some (.inr (3, n49, .inr f50))) ∧
            (0 ≤ z47 ∧ z47 < (n49 : Int)) ∧
            (∃ y53, (f50 z47.toNat = some y53) ∧
            (∃ z56, (fs38[1]? = some (am_I z56) ∧ am_r z56) ∧
            (∃ fs58, (G25.1 x41 = some (.inl (2, fs58))) ∧
            kX1_isSame l [am_R x41, am_R y53, am_I z56] G25 (am_qz fun b61 G60 =>
              ((b61 = false) →
                (∃ fs65, (G60.1 v1 = some (.inl (6, fs65))) ∧
                (∃ b68, (fs65[2]? = some (am_I (am_b b68))) ∧
                ((¬ 0 = (am_b b68)) →
                  Q (some (am_I (am_b false))) G60) ∧
                ((0 = (am_b b68)) →
                  Q (some (am_I (am_b true))) G60)))) ∧
              ((b61 = true) →
                (∃ fs72, (G60.1 v1 = some (.inl (6, fs72))) ∧
                (∃ b75, (fs72[2]? = some (am_I (am_b b75))) ∧
                ((¬ 1 = (am_b b75)) →
                  Q (some (am_I (am_b false))) G60) ∧
                ((1 = (am_b b75)) →
                  Q (some (am_I (am_b true))) G60)))))))))))))))))))))))))))) : kX0_isBarring l [am_R v0, am_R v1, am_I v2] S Q := by
  refine am_entry (lv := [(0, am_R v0), (1, am_R v1), (2, am_I v2)]) rfl rfl rfl (fun _ => rfl) (fun _ => Nat.le_of_ble_eq_true rfl) ?_
  refine am_aload_n dX0_isBarring_0 rfl 0 rfl ?_
  obtain ⟨fs1, ho2, hh⟩ := hh
  obtain ⟨x4, hv3, hh⟩ := hh
  refine ah_get ho2 hv3 rfl in_X0 (by decide) q221 (Or.inl rfl) dX0_isBarring_1 ?_
  refine am_aload_n dX0_isBarring_4 rfl 0 rfl ?_
  obtain ⟨x6, hv5, hh⟩ := hh
  refine ah_get ho2 hv5 rfl in_X0 (by decide) q219 (Or.inl rfl) dX0_isBarring_5 ?_
  refine am_aload_n dX0_isBarring_8 rfl 1 rfl ?_
  obtain ⟨fs7, ho8, hh⟩ := hh
  obtain ⟨z10, ⟨hv9, hr11⟩, hh⟩ := hh
  refine ah_get ho8 hv9 rfl in_X6 (by decide) q627 (Or.inl rfl) dX0_isBarring_9 ?_
  obtain ⟨n12, f13, ha14, hh⟩ := hh
  obtain ⟨o15, hh⟩ := hh
  obtain ⟨y16, hy17, hh⟩ := hh
  refine ah_aald ha14 (by decide) o15.1 o15.2 hy17 dX0_isBarring_12 ?_
  obtain ⟨fs18, ho19, hh⟩ := hh
  refine am_rVv (n := 1) hh dX0_isBarring_13 (lw_V q547 q548 q549 q91 q550) rfl ⟨⟨by decide, by decide, by decide +kernel⟩, ⟨Nat.le_of_ble_eq_true rfl, Nat.le_of_ble_eq_true rfl⟩⟩ ⟨rfl, rfl⟩ rfl rfl (Nat.le_of_ble_eq_true rfl) ⟨(Nat.le_of_ble_eq_true rfl), (Nat.le_of_ble_eq_true rfl)⟩ (ah_recv ho19 rfl) (fun G20 hh => ?_)
  refine am_aload_n dX0_isBarring_16 rfl 0 rfl ?_
  refine am_aload_n dX0_isBarring_17 rfl 0 rfl ?_
  obtain ⟨fs21, ho22, hh⟩ := hh
  obtain ⟨x24, hv23, hh⟩ := hh
  refine ah_get ho22 hv23 rfl in_X0 (by decide) q221 (Or.inl rfl) dX0_isBarring_18 ?_
  refine am_iload_n dX0_isBarring_21 rfl 2 rfl ?_
  refine am_rVi (n := 2) hh dX0_isBarring_22 (lw_V q576 q578 qs11 q90 q579) rfl ⟨⟨by decide, by decide, by decide +kernel⟩, ⟨Nat.le_of_ble_eq_true rfl, Nat.le_of_ble_eq_true rfl⟩⟩ ⟨rfl, rfl⟩ rfl rfl (Nat.le_of_ble_eq_true rfl) ⟨(Nat.le_of_ble_eq_true rfl), (Nat.le_of_ble_eq_true rfl)⟩ (ah_recv ho22 rfl) (fun r26 G25 hr27 hh => ?_)
  refine am_ldc (z := -1000000) q472 (by decide) dX0_isBarring_25 ?_
  obtain ⟨ha28, hb29⟩ := hh
  refine am_icmp_eq (tgt := 57) dX0_isBarring_27 (by decide) hr27 (⟨by decide, by decide⟩) (fun hc30 => ?_) (fun hc30 => ?_)
  · have hh := ha28 hc30
    refine am_iconst dX0_isBarring_57 ?_
    refine am_istore_n dX0_isBarring_58 rfl (by decide) rfl ?_
    refine am_iload_n dX0_isBarring_59 rfl 0 rfl ?_
    refine am_aload_n dX0_isBarring_60 rfl 2 rfl ?_
    obtain ⟨fs31, ho32, hh⟩ := hh
    obtain ⟨b34, hv33, hh⟩ := hh
    refine ah_get ho32 hv33 rfl in_X6 (by decide) q631 (Or.inl rfl) dX0_isBarring_61 ?_
    obtain ⟨ha35, hb36⟩ := hh
    refine am_icmp_ne (tgt := 71) dX0_isBarring_64 (by decide) (⟨by decide, by decide⟩) (am_rb _) (fun hc37 => ?_) (fun hc37 => ?_)
    · have hh := ha35 hc37
      refine am_iconst dX0_isBarring_71 ?_
      exact am_zret (b := false) rfl dX0_isBarring_72 (Nat.le_refl 0) (Nat.le_refl 0) hh
    · have hh := hb36 hc37
      refine am_iconst dX0_isBarring_67 ?_
      refine am_goto (tgt := 72) dX0_isBarring_68 (by decide) ?_
      exact am_zret (b := true) rfl dX0_isBarring_72 (Nat.le_refl 0) (Nat.le_refl 0) hh
  · have hh := hb29 hc30
    refine am_aload_n dX0_isBarring_30 rfl 0 rfl ?_
    obtain ⟨fs38, ho39, hh⟩ := hh
    obtain ⟨x41, hv40, hh⟩ := hh
    refine ah_get ho39 hv40 rfl in_X0 (by decide) q221 (Or.inl rfl) dX0_isBarring_31 ?_
    refine am_aload_n dX0_isBarring_34 rfl 0 rfl ?_
    obtain ⟨x43, hv42, hh⟩ := hh
    refine ah_get ho39 hv42 rfl in_X0 (by decide) q219 (Or.inl rfl) dX0_isBarring_35 ?_
    refine am_aload_n dX0_isBarring_38 rfl 1 rfl ?_
    obtain ⟨fs44, ho45, hh⟩ := hh
    obtain ⟨z47, ⟨hv46, hr48⟩, hh⟩ := hh
    refine ah_get ho45 hv46 rfl in_X6 (by decide) q629 (Or.inl rfl) dX0_isBarring_39 ?_
    obtain ⟨n49, f50, ha51, hh⟩ := hh
    obtain ⟨o52, hh⟩ := hh
    obtain ⟨y53, hy54, hh⟩ := hh
    refine ah_aald ha51 (by decide) o52.1 o52.2 hy54 dX0_isBarring_42 ?_
    refine am_aload_n dX0_isBarring_43 rfl 0 rfl ?_
    obtain ⟨z56, ⟨hv55, hr57⟩, hh⟩ := hh
    refine ah_get ho39 hv55 rfl in_X0 (by decide) q210 (Or.inl rfl) dX0_isBarring_44 ?_
    obtain ⟨fs58, ho59, hh⟩ := hh
    refine am_rVz (n := 2) hh dX0_isBarring_47 (lw_V q564 q565 q566 q91 q567) rfl ⟨⟨by decide, by decide, by decide +kernel⟩, ⟨Nat.le_of_ble_eq_true rfl, Nat.le_of_ble_eq_true rfl⟩⟩ ⟨rfl, rfl⟩ rfl rfl (Nat.le_of_ble_eq_true rfl) ⟨(Nat.le_of_ble_eq_true rfl), (Nat.le_of_ble_eq_true rfl)⟩ (ah_recv ho59 rfl) (fun b61 G60 hh => ?_)
    obtain ⟨ha62, hb63⟩ := hh
    refine am_ifB_eq (tgt := 57) dX0_isBarring_50 (by decide) (fun hc64 => ?_) (fun hc64 => ?_)
    · have hh := ha62 hc64
      refine am_iconst dX0_isBarring_57 ?_
      refine am_istore_n dX0_isBarring_58 rfl (by decide) rfl ?_
      refine am_iload_n dX0_isBarring_59 rfl 0 rfl ?_
      refine am_aload_n dX0_isBarring_60 rfl 2 rfl ?_
      obtain ⟨fs65, ho66, hh⟩ := hh
      obtain ⟨b68, hv67, hh⟩ := hh
      refine ah_get ho66 hv67 rfl in_X6 (by decide) q631 (Or.inl rfl) dX0_isBarring_61 ?_
      obtain ⟨ha69, hb70⟩ := hh
      refine am_icmp_ne (tgt := 71) dX0_isBarring_64 (by decide) (⟨by decide, by decide⟩) (am_rb _) (fun hc71 => ?_) (fun hc71 => ?_)
      · have hh := ha69 hc71
        refine am_iconst dX0_isBarring_71 ?_
        exact am_zret (b := false) rfl dX0_isBarring_72 (Nat.le_refl 0) (Nat.le_refl 0) hh
      · have hh := hb70 hc71
        refine am_iconst dX0_isBarring_67 ?_
        refine am_goto (tgt := 72) dX0_isBarring_68 (by decide) ?_
        exact am_zret (b := true) rfl dX0_isBarring_72 (Nat.le_refl 0) (Nat.le_refl 0) hh
    · have hh := hb63 hc64
      refine am_iconst dX0_isBarring_53 ?_
      refine am_goto (tgt := 58) dX0_isBarring_54 (by decide) ?_
      refine am_istore_n dX0_isBarring_58 rfl (by decide) rfl ?_
      refine am_iload_n dX0_isBarring_59 rfl 0 rfl ?_
      refine am_aload_n dX0_isBarring_60 rfl 2 rfl ?_
      obtain ⟨fs72, ho73, hh⟩ := hh
      obtain ⟨b75, hv74, hh⟩ := hh
      refine ah_get ho73 hv74 rfl in_X6 (by decide) q631 (Or.inl rfl) dX0_isBarring_61 ?_
      obtain ⟨ha76, hb77⟩ := hh
      refine am_icmp_ne (tgt := 71) dX0_isBarring_64 (by decide) (⟨by decide, by decide⟩) (am_rb _) (fun hc78 => ?_) (fun hc78 => ?_)
      · have hh := ha76 hc78
        refine am_iconst dX0_isBarring_71 ?_
        exact am_zret (b := false) rfl dX0_isBarring_72 (Nat.le_refl 0) (Nat.le_refl 0) hh
      · have hh := hb77 hc78
        refine am_iconst dX0_isBarring_67 ?_
        refine am_goto (tgt := 72) dX0_isBarring_68 (by decide) ?_
        exact am_zret (b := true) rfl dX0_isBarring_72 (Nat.le_refl 0) (Nat.le_refl 0) hh
/-! TableArms.barring(I)I -/
abbrev VX0_barring (l : Launch) (Q : Option am_W → ah_H → Prop) (pc : Nat) (lv : List (Nat × am_W)) (st : List am_W) (S : ah_H) : Prop := am_V ah_r l RX0 cX0_barring 4 (some .int) "barring" (am_rm 8 0 0) (am_E1 ah_r 0 0 Q) pc lv st S 0 0
abbrev kX0_barring (l : Launch) (as : List am_W) (S : ah_H) (Q : Option am_W → ah_H → Prop) : Prop := am_C ah_r l yX0_barring (ws_ yX0_barring cX0_barring 4 (some .int)) (am_rm 8 0 0) 0 0 as S Q
set_option maxHeartbeats 4000000 in
set_option maxRecDepth 100000 in
theorem bX0_barring {l : Launch} {Q : Option am_W → ah_H → Prop} {S : ah_H} (v0 : Nat) (v1 : Int) (h1 : am_r v1)
    (hh : VX0_barring l Q 4 [(0, am_R v0), (1, am_I v1), (2, am_I 0), (3, am_I 0)] [] S) : kX0_barring l [am_R v0, am_I v1] S Q := by
  refine am_entry (lv := [(0, am_R v0), (1, am_I v1)]) rfl rfl rfl (fun _ => rfl) (fun _ => Nat.le_of_ble_eq_true rfl) ?_
  refine am_iconst dX0_barring_0 ?_
  refine am_istore_n dX0_barring_1 rfl (by decide) rfl ?_
  refine am_iconst dX0_barring_2 ?_
  refine am_istore_n dX0_barring_3 rfl (by decide) rfl ?_
  refine am_keep [2, 3, 1, 0] rfl ?_
  exact hh
set_option maxHeartbeats 4000000 in
set_option maxRecDepth 100000 in
theorem bX0_barring_4 {l : Launch} {Q : Option am_W → ah_H → Prop} {S : ah_H} (v0 : Nat) (v1 : Int) (h1 : am_r v1) (v2 : Int) (h2 : am_r v2) (v3 : Int) (h3 : am_r v3)
    (hh : (∃ fs1, (S.1 v0 = some (.inl (1, fs1))) ∧
      (∃ x4, (fs1[11]? = some (am_R x4)) ∧
      (∃ fs5, (S.1 x4 = some (.inl (15, fs5))) ∧
      kJ2_size l [am_R x4] S (am_qi fun r8 G7 =>
        ((r8 ≤ v3) →
          Q (some (am_I v2)) G7) ∧
        ((¬ r8 ≤ v3) →
          (∃ fs13, (G7.1 v0 = some (.inl (1, fs13))) ∧
          (∃ x16, (fs13[11]? = some (am_R x16)) ∧
          (∃ fs17, (G7.1 x16 = some (.inl (15, fs17))) ∧
          kJ2_get l [am_R x16, am_I v3] G7 (am_qo fun a20 G19 => ∃ y21, a20 = some y21 ∧
            (ah_is G19 (some y21) "TableArms$Lesson") ∧
            (∃ fs23, (G19.1 y21 = some (.inl (6, fs23))) ∧
            (∃ b26, (fs23[4]? = some (am_I (am_b b26))) ∧
            ((b26 = false) →
              VX0_barring l Q 4 [(0, am_R v0), (1, am_I v1), (2, am_I (am_or v2 0)), (3, am_I (v3 + 1))] [] G19) ∧
            ((b26 = true) →
              (∃ fs30, (G19.1 v0 = some (.inl (1, fs30))) ∧
              (∃ x33, (fs30[11]? = some (am_R x33)) ∧
              (∃ fs34, (G19.1 x33 = some (.inl (15, fs34))) ∧
              kJ2_get l [am_R x33, am_I v3] G19 (am_qo fun a37 G36 => ∃ y38, a37 = some y38 ∧
                (ah_is G36 (some y38) "TableArms$Lesson") ∧
                (∃ fs40, (G36.1 v0 = some (.inl (1, fs40))) ∧
                kX0_isBarring l [am_R v0, am_R y38, am_I v1] G36 (am_qz fun b43 G42 =>
                  ((b43 = false) →
                    VX0_barring l Q 4 [(0, am_R v0), (1, am_I v1), (2, am_I (am_or v2 0)), (3, am_I (v3 + 1))] [] G42) ∧
                  ((b43 = true) →
                    VX0_barring l Q 4 [(0, am_R v0), (1, am_I v1), (2, am_I (am_or v2 (am_shl 1 v3))), (3, am_I (v3 + 1))] [] G42)))))))))))))))))))) : VX0_barring l Q 4 [(0, am_R v0), (1, am_I v1), (2, am_I v2), (3, am_I v3)] [] S := by
  refine am_iload_n dX0_barring_4 rfl 3 rfl ?_
  refine am_aload_n dX0_barring_5 rfl 0 rfl ?_
  obtain ⟨fs1, ho2, hh⟩ := hh
  obtain ⟨x4, hv3, hh⟩ := hh
  refine ah_get ho2 hv3 rfl in_X0 (by decide) q225 (Or.inl rfl) dX0_barring_6 ?_
  obtain ⟨fs5, ho6, hh⟩ := hh
  refine am_rFi (n := 0) hh dX0_barring_9 (ci := 15) rfl ⟨q613, q612, q618, q616, q614⟩ q611 q615 q617 q94 q619 ⟨by decide, by decide, by decide +kernel⟩ ⟨Nat.le_of_ble_eq_true rfl, Nat.le_of_ble_eq_true rfl⟩ ⟨rfl, rfl⟩ rfl rfl (Nat.le_of_ble_eq_true rfl) ⟨(Nat.le_of_ble_eq_true rfl), (Nat.le_of_ble_eq_true rfl)⟩ (ah_recv ho6 rfl) (fun r8 G7 hr9 hh => ?_)
  obtain ⟨ha10, hb11⟩ := hh
  refine am_icmp_ge (tgt := 73) dX0_barring_14 (by decide) h3 hr9 (fun hc12 => ?_) (fun hc12 => ?_)
  · have hh := ha10 hc12
    refine am_iload_n dX0_barring_73 rfl 2 rfl ?_
    exact am_iret rfl dX0_barring_74 (Nat.le_refl 0) (Nat.le_refl 0) hh
  · have hh := hb11 hc12
    refine am_iload_n dX0_barring_17 rfl 2 rfl ?_
    refine am_aload_n dX0_barring_18 rfl 0 rfl ?_
    obtain ⟨fs13, ho14, hh⟩ := hh
    obtain ⟨x16, hv15, hh⟩ := hh
    refine ah_get ho14 hv15 rfl in_X0 (by decide) q225 (Or.inl rfl) dX0_barring_19 ?_
    refine am_iload_n dX0_barring_22 rfl 3 rfl ?_
    obtain ⟨fs17, ho18, hh⟩ := hh
    refine am_rFo (n := 1) hh dX0_barring_23 (ci := 15) rfl ⟨q736, q735, q740, q738, q614⟩ q734 q737 q739 q94 q741 ⟨by decide, by decide, by decide +kernel⟩ ⟨Nat.le_of_ble_eq_true rfl, Nat.le_of_ble_eq_true rfl⟩ ⟨rfl, rfl⟩ rfl rfl (Nat.le_of_ble_eq_true rfl) ⟨(Nat.le_of_ble_eq_true rfl), (Nat.le_of_ble_eq_true rfl)⟩ (ah_recv ho18 rfl) (fun a20 G19 hh => ?_)
    obtain ⟨y21, rfl, hh⟩ := hh
    obtain ⟨o22, hh⟩ := hh
    refine ah_cast q620 o22 dX0_barring_28 ?_
    obtain ⟨fs23, ho24, hh⟩ := hh
    obtain ⟨b26, hv25, hh⟩ := hh
    refine ah_getN ho24 hv25 rfl in_X6 (by decide) (am_nwin q635 rfl) dX0_barring_31 ?_
    obtain ⟨ha27, hb28⟩ := hh
    refine am_ifB_eq (tgt := 64) dX0_barring_34 (by decide) (fun hc29 => ?_) (fun hc29 => ?_)
    · have hh := ha27 hc29
      refine am_iconst dX0_barring_64 ?_
      refine am_ior dX0_barring_65 ?_
      refine am_istore_n dX0_barring_66 rfl (by decide) rfl ?_
      refine am_iinc (n := 3) dX0_barring_67 rfl (by decide) rfl ?_
      refine am_goto (tgt := 4) dX0_barring_70 (by decide) ?_
      refine am_keep [2, 3, 1, 0] rfl ?_
      exact hh
    · have hh := hb28 hc29
      refine am_aload_n dX0_barring_37 rfl 0 rfl ?_
      refine am_aload_n dX0_barring_38 rfl 0 rfl ?_
      obtain ⟨fs30, ho31, hh⟩ := hh
      obtain ⟨x33, hv32, hh⟩ := hh
      refine ah_get ho31 hv32 rfl in_X0 (by decide) q225 (Or.inl rfl) dX0_barring_39 ?_
      refine am_iload_n dX0_barring_42 rfl 3 rfl ?_
      obtain ⟨fs34, ho35, hh⟩ := hh
      refine am_rFo (n := 1) hh dX0_barring_43 (ci := 15) rfl ⟨q736, q735, q740, q738, q614⟩ q734 q737 q739 q94 q741 ⟨by decide, by decide, by decide +kernel⟩ ⟨Nat.le_of_ble_eq_true rfl, Nat.le_of_ble_eq_true rfl⟩ ⟨rfl, rfl⟩ rfl rfl (Nat.le_of_ble_eq_true rfl) ⟨(Nat.le_of_ble_eq_true rfl), (Nat.le_of_ble_eq_true rfl)⟩ (ah_recv ho35 rfl) (fun a37 G36 hh => ?_)
      obtain ⟨y38, rfl, hh⟩ := hh
      obtain ⟨o39, hh⟩ := hh
      refine ah_cast q620 o39 dX0_barring_48 ?_
      refine am_iload_n dX0_barring_51 rfl 1 rfl ?_
      obtain ⟨fs40, ho41, hh⟩ := hh
      refine am_rVz (n := 2) hh dX0_barring_52 (lw_V q760 q762 qs20 q90 q763) rfl ⟨⟨by decide, by decide, by decide +kernel⟩, ⟨Nat.le_of_ble_eq_true rfl, Nat.le_of_ble_eq_true rfl⟩⟩ ⟨rfl, rfl⟩ rfl rfl (Nat.le_of_ble_eq_true rfl) ⟨(Nat.le_of_ble_eq_true rfl), (Nat.le_of_ble_eq_true rfl)⟩ (ah_recv ho41 rfl) (fun b43 G42 hh => ?_)
      obtain ⟨ha44, hb45⟩ := hh
      refine am_ifB_eq (tgt := 64) dX0_barring_55 (by decide) (fun hc46 => ?_) (fun hc46 => ?_)
      · have hh := ha44 hc46
        refine am_iconst dX0_barring_64 ?_
        refine am_ior dX0_barring_65 ?_
        refine am_istore_n dX0_barring_66 rfl (by decide) rfl ?_
        refine am_iinc (n := 3) dX0_barring_67 rfl (by decide) rfl ?_
        refine am_goto (tgt := 4) dX0_barring_70 (by decide) ?_
        refine am_keep [2, 3, 1, 0] rfl ?_
        exact hh
      · have hh := hb45 hc46
        refine am_iconst dX0_barring_58 ?_
        refine am_iload_n dX0_barring_59 rfl 3 rfl ?_
        refine am_ishl dX0_barring_60 ?_
        refine am_goto (tgt := 65) dX0_barring_61 (by decide) ?_
        refine am_ior dX0_barring_65 ?_
        refine am_istore_n dX0_barring_66 rfl (by decide) rfl ?_
        refine am_iinc (n := 3) dX0_barring_67 rfl (by decide) rfl ?_
        refine am_goto (tgt := 4) dX0_barring_70 (by decide) ?_
        refine am_keep [2, 3, 1, 0] rfl ?_
        exact hh
/-! TableArms.fits(I)I -/
abbrev VX0_fits (l : Launch) (Q : Option am_W → ah_H → Prop) (pc : Nat) (lv : List (Nat × am_W)) (st : List am_W) (S : ah_H) : Prop := am_V ah_r l RX0 cX0_fits 4 (some .int) "fits" (am_rm 9 0 0) (am_E1 ah_r 0 0 Q) pc lv st S 0 0
abbrev kX0_fits (l : Launch) (as : List am_W) (S : ah_H) (Q : Option am_W → ah_H → Prop) : Prop := am_C ah_r l yX0_fits (ws_ yX0_fits cX0_fits 4 (some .int)) (am_rm 9 0 0) 0 0 as S Q
set_option maxHeartbeats 4000000 in
set_option maxRecDepth 100000 in
theorem bX0_fits {l : Launch} {Q : Option am_W → ah_H → Prop} {S : ah_H} (v0 : Nat) (v1 : Int) (h1 : am_r v1)
    (hh : (((-1) ≤ v1) →
        VX0_fits l Q 12 [(0, am_R v0), (1, am_I v1), (2, am_I 0), (3, am_I 0)] [] S) ∧
      ((¬ (-1) ≤ v1) →
        Q (some (am_I (-1000001))) S)) : kX0_fits l [am_R v0, am_I v1] S Q := by
  refine am_entry (lv := [(0, am_R v0), (1, am_I v1)]) rfl rfl rfl (fun _ => rfl) (fun _ => Nat.le_of_ble_eq_true rfl) ?_
  refine am_iload_n dX0_fits_0 rfl 1 rfl ?_
  refine am_iconst dX0_fits_1 ?_
  obtain ⟨ha1, hb2⟩ := hh
  refine am_icmp_ge (tgt := 8) dX0_fits_2 (by decide) h1 (⟨by decide, by decide⟩) (fun hc3 => ?_) (fun hc3 => ?_)
  · have hh := ha1 hc3
    refine am_iconst dX0_fits_8 ?_
    refine am_istore_n dX0_fits_9 rfl (by decide) rfl ?_
    refine am_iconst dX0_fits_10 ?_
    refine am_istore_n dX0_fits_11 rfl (by decide) rfl ?_
    refine am_keep [2, 3, 1, 0] rfl ?_
    exact hh
  · have hh := hb2 hc3
    refine am_ldc (z := -1000001) q289 (by decide) dX0_fits_5 ?_
    exact am_iret rfl dX0_fits_7 (Nat.le_refl 0) (Nat.le_refl 0) hh
set_option maxHeartbeats 4000000 in
set_option maxRecDepth 100000 in
theorem bX0_fits_12 {l : Launch} {Q : Option am_W → ah_H → Prop} {S : ah_H} (v0 : Nat) (v1 : Int) (h1 : am_r v1) (v2 : Int) (h2 : am_r v2) (v3 : Int) (h3 : am_r v3)
    (hh : ((96 ≤ v3) →
        ((¬ v1 = (-1)) →
          Q (some (am_I (-1000000))) S) ∧
        ((v1 = (-1)) →
          Q (some (am_I v2)) S)) ∧
      ((¬ 96 ≤ v3) →
        (∃ fs7, (S.1 v0 = some (.inl (1, fs7))) ∧
        kX0_barring l [am_R v0, am_I v3] S (am_qi fun r10 G9 =>
          ((r10 = 0) →
            ((¬ v2 = v1) →
              VX0_fits l Q 12 [(0, am_R v0), (1, am_I v1), (2, am_I (v2 + 1)), (3, am_I (v3 + 1))] [] G9) ∧
            ((v2 = v1) →
              Q (some (am_I v3)) G9)) ∧
          ((¬ r10 = 0) →
            VX0_fits l Q 12 [(0, am_R v0), (1, am_I v1), (2, am_I v2), (3, am_I (v3 + 1))] [] G9))))) : VX0_fits l Q 12 [(0, am_R v0), (1, am_I v1), (2, am_I v2), (3, am_I v3)] [] S := by
  refine am_iload_n dX0_fits_12 rfl 3 rfl ?_
  refine am_bipush dX0_fits_13 (by decide) ?_
  obtain ⟨ha1, hb2⟩ := hh
  refine am_icmp_ge (tgt := 45) dX0_fits_15 (by decide) h3 (⟨by decide, by decide⟩) (fun hc3 => ?_) (fun hc3 => ?_)
  · have hh := ha1 hc3
    refine am_iload_n dX0_fits_45 rfl 1 rfl ?_
    refine am_iconst dX0_fits_46 ?_
    obtain ⟨ha4, hb5⟩ := hh
    refine am_icmp_ne (tgt := 54) dX0_fits_47 (by decide) h1 (⟨by decide, by decide⟩) (fun hc6 => ?_) (fun hc6 => ?_)
    · have hh := ha4 hc6
      refine am_ldc (z := -1000000) q472 (by decide) dX0_fits_54 ?_
      exact am_iret rfl dX0_fits_56 (Nat.le_refl 0) (Nat.le_refl 0) hh
    · have hh := hb5 hc6
      refine am_iload_n dX0_fits_50 rfl 2 rfl ?_
      refine am_goto (tgt := 56) dX0_fits_51 (by decide) ?_
      exact am_iret rfl dX0_fits_56 (Nat.le_refl 0) (Nat.le_refl 0) hh
  · have hh := hb2 hc3
    refine am_aload_n dX0_fits_18 rfl 0 rfl ?_
    refine am_iload_n dX0_fits_19 rfl 3 rfl ?_
    obtain ⟨fs7, ho8, hh⟩ := hh
    refine am_rVi (n := 1) hh dX0_fits_20 (lw_V q756 q758 qs19 q90 q759) rfl ⟨⟨by decide, by decide, by decide +kernel⟩, ⟨Nat.le_of_ble_eq_true rfl, Nat.le_of_ble_eq_true rfl⟩⟩ ⟨rfl, rfl⟩ rfl rfl (Nat.le_of_ble_eq_true rfl) ⟨(Nat.le_of_ble_eq_true rfl), (Nat.le_of_ble_eq_true rfl)⟩ (ah_recv ho8 rfl) (fun r10 G9 hr11 hh => ?_)
    obtain ⟨ha12, hb13⟩ := hh
    refine am_if_eq (tgt := 29) dX0_fits_23 (by decide) hr11 (fun hc14 => ?_) (fun hc14 => ?_)
    · have hh := ha12 hc14
      refine am_iload_n dX0_fits_29 rfl 2 rfl ?_
      refine am_iload_n dX0_fits_30 rfl 1 rfl ?_
      obtain ⟨ha15, hb16⟩ := hh
      refine am_icmp_ne (tgt := 36) dX0_fits_31 (by decide) h2 h1 (fun hc17 => ?_) (fun hc17 => ?_)
      · have hh := ha15 hc17
        refine am_iinc (n := 2) dX0_fits_36 rfl (by decide) rfl ?_
        refine am_iinc (n := 3) dX0_fits_39 rfl (by decide) rfl ?_
        refine am_goto (tgt := 12) dX0_fits_42 (by decide) ?_
        refine am_keep [2, 3, 1, 0] rfl ?_
        exact hh
      · have hh := hb16 hc17
        refine am_iload_n dX0_fits_34 rfl 3 rfl ?_
        exact am_iret rfl dX0_fits_35 (Nat.le_refl 0) (Nat.le_refl 0) hh
    · have hh := hb13 hc14
      refine am_goto (tgt := 39) dX0_fits_26 (by decide) ?_
      refine am_iinc (n := 3) dX0_fits_39 rfl (by decide) rfl ?_
      refine am_goto (tgt := 12) dX0_fits_42 (by decide) ?_
      refine am_keep [1, 2, 3, 0] rfl ?_
      exact hh
/-! TableArms.barred(II)I -/
abbrev VX0_barred (l : Launch) (Q : Option am_W → ah_H → Prop) (pc : Nat) (lv : List (Nat × am_W)) (st : List am_W) (S : ah_H) : Prop := am_V ah_r l RX0 cX0_barred 5 (some .int) "barred" (am_rm 9 0 0) (am_E1 ah_r 0 0 Q) pc lv st S 0 0
abbrev kX0_barred (l : Launch) (as : List am_W) (S : ah_H) (Q : Option am_W → ah_H → Prop) : Prop := am_C ah_r l yX0_barred (ws_ yX0_barred cX0_barred 5 (some .int)) (am_rm 9 0 0) 0 0 as S Q
set_option maxHeartbeats 4000000 in
set_option maxRecDepth 100000 in
theorem bX0_barred {l : Launch} {Q : Option am_W → ah_H → Prop} {S : ah_H} (v0 : Nat) (v1 : Int) (h1 : am_r v1) (v2 : Int) (h2 : am_r v2)
    (hh : kX0_isOrder l [am_I v1] S (am_qz fun b2 G1 =>
        ((b2 = false) →
          Q (some (am_I (-1000001))) G1) ∧
        ((b2 = true) →
          kX0_isIn l [am_J v2, am_J 0, am_J 1] G1 (am_qz fun b7 G6 =>
            ((b7 = true) →
              (∃ fs11, (G6.1 v0 = some (.inl (1, fs11))) ∧
              kX0_barring l [am_R v0, am_I v1] G6 (am_qi fun r14 G13 =>
                ((¬ r14 = 0) →
                  kJ14_numberOfTrailingZeros l [am_I r14] G13 (am_qi fun r20 G19 =>
                    ((¬ v2 = 0) →
                      (∃ fs25, (G19.1 v0 = some (.inl (1, fs25))) ∧
                      (∃ x28, (fs25[11]? = some (am_R x28)) ∧
                      (∃ fs29, (G19.1 x28 = some (.inl (15, fs29))) ∧
                      kJ2_get l [am_R x28, am_I r20] G19 (am_qo fun a32 G31 => ∃ y33, a32 = some y33 ∧
                        (ah_is G31 (some y33) "TableArms$Lesson") ∧
                        (∃ fs35, (G31.1 y33 = some (.inl (6, fs35))) ∧
                        (∃ z38, (fs35[3]? = some (am_I z38) ∧ am_r z38) ∧
                        Q (some (am_I z38)) G31))))))) ∧
                    ((v2 = 0) →
                      Q (some (am_I r20)) G19))) ∧
                ((r14 = 0) →
                  Q (some (am_I (-1000000))) G13)))) ∧
            ((b7 = false) →
              Q (some (am_I (-1000001))) G6))))) : kX0_barred l [am_R v0, am_I v1, am_I v2] S Q := by
  refine am_entry (lv := [(0, am_R v0), (1, am_I v1), (2, am_I v2)]) rfl rfl rfl (fun _ => rfl) (fun _ => Nat.le_of_ble_eq_true rfl) ?_
  refine am_iload_n dX0_barred_0 rfl 1 rfl ?_
  refine am_rSz (n := 1) hh dX0_barred_1 (lw_S q572 q573 q90 q574) ⟨⟨by decide, by decide, by decide +kernel⟩, ⟨Nat.le_of_ble_eq_true rfl, Nat.le_of_ble_eq_true rfl⟩⟩ ⟨rfl, rfl⟩ rfl rfl (Nat.le_of_ble_eq_true rfl) ⟨(Nat.le_of_ble_eq_true rfl), (Nat.le_of_ble_eq_true rfl)⟩ (fun b2 G1 hh => ?_)
  obtain ⟨ha3, hb4⟩ := hh
  refine am_ifB_eq (tgt := 17) dX0_barred_4 (by decide) (fun hc5 => ?_) (fun hc5 => ?_)
  · have hh := ha3 hc5
    refine am_ldc (z := -1000001) q289 (by decide) dX0_barred_17 ?_
    exact am_iret rfl dX0_barred_19 (Nat.le_refl 0) (Nat.le_refl 0) hh
  · have hh := hb4 hc5
    refine am_iload_n dX0_barred_7 rfl 2 rfl ?_
    refine am_i2l_ h2 dX0_barred_8 ?_
    refine am_lconst (z := 0) dX0_barred_9 (by decide) ?_
    refine am_lconst (z := 1) dX0_barred_10 (by decide) ?_
    refine am_rSz (n := 3) hh dX0_barred_11 (lw_S q285 q286 q90 q287) ⟨⟨by decide, by decide, by decide +kernel⟩, ⟨Nat.le_of_ble_eq_true rfl, Nat.le_of_ble_eq_true rfl⟩⟩ ⟨rfl, rfl⟩ rfl rfl (Nat.le_of_ble_eq_true rfl) ⟨(Nat.le_of_ble_eq_true rfl), (Nat.le_of_ble_eq_true rfl)⟩ (fun b7 G6 hh => ?_)
    obtain ⟨ha8, hb9⟩ := hh
    refine am_ifB_ne (tgt := 20) dX0_barred_14 (by decide) (fun hc10 => ?_) (fun hc10 => ?_)
    · have hh := ha8 hc10
      refine am_aload_n dX0_barred_20 rfl 0 rfl ?_
      refine am_iload_n dX0_barred_21 rfl 1 rfl ?_
      obtain ⟨fs11, ho12, hh⟩ := hh
      refine am_rVi (n := 1) hh dX0_barred_22 (lw_V q756 q758 qs19 q90 q759) rfl ⟨⟨by decide, by decide, by decide +kernel⟩, ⟨Nat.le_of_ble_eq_true rfl, Nat.le_of_ble_eq_true rfl⟩⟩ ⟨rfl, rfl⟩ rfl rfl (Nat.le_of_ble_eq_true rfl) ⟨(Nat.le_of_ble_eq_true rfl), (Nat.le_of_ble_eq_true rfl)⟩ (ah_recv ho12 rfl) (fun r14 G13 hr15 hh => ?_)
      refine am_istore_n dX0_barred_25 rfl (by decide) rfl ?_
      refine am_iload_n dX0_barred_26 rfl 0 rfl ?_
      obtain ⟨ha16, hb17⟩ := hh
      refine am_if_ne (tgt := 33) dX0_barred_27 (by decide) hr15 (fun hc18 => ?_) (fun hc18 => ?_)
      · have hh := ha16 hc18
        refine am_iload_n dX0_barred_33 rfl 0 rfl ?_
        refine am_rSi (n := 1) hh dX0_barred_34 (lw_S q768 q769 q112 q770) ⟨⟨by decide, by decide, by decide +kernel⟩, ⟨Nat.le_of_ble_eq_true rfl, Nat.le_of_ble_eq_true rfl⟩⟩ ⟨rfl, rfl⟩ rfl rfl (Nat.le_of_ble_eq_true rfl) ⟨(Nat.le_of_ble_eq_true rfl), (Nat.le_of_ble_eq_true rfl)⟩ (fun r20 G19 hr21 hh => ?_)
        refine am_istore dX0_barred_37 (by decide) rfl ?_
        refine am_iload_n dX0_barred_39 rfl 4 rfl ?_
        obtain ⟨ha22, hb23⟩ := hh
        refine am_if_ne (tgt := 48) dX0_barred_40 (by decide) h2 (fun hc24 => ?_) (fun hc24 => ?_)
        · have hh := ha22 hc24
          refine am_aload_n dX0_barred_48 rfl 2 rfl ?_
          obtain ⟨fs25, ho26, hh⟩ := hh
          obtain ⟨x28, hv27, hh⟩ := hh
          refine ah_get ho26 hv27 rfl in_X0 (by decide) q225 (Or.inl rfl) dX0_barred_49 ?_
          refine am_iload dX0_barred_52 0 rfl ?_
          obtain ⟨fs29, ho30, hh⟩ := hh
          refine am_rFo (n := 1) hh dX0_barred_54 (ci := 15) rfl ⟨q736, q735, q740, q738, q614⟩ q734 q737 q739 q94 q741 ⟨by decide, by decide, by decide +kernel⟩ ⟨Nat.le_of_ble_eq_true rfl, Nat.le_of_ble_eq_true rfl⟩ ⟨rfl, rfl⟩ rfl rfl (Nat.le_of_ble_eq_true rfl) ⟨(Nat.le_of_ble_eq_true rfl), (Nat.le_of_ble_eq_true rfl)⟩ (ah_recv ho30 rfl) (fun a32 G31 hh => ?_)
          obtain ⟨y33, rfl, hh⟩ := hh
          obtain ⟨o34, hh⟩ := hh
          refine ah_cast q620 o34 dX0_barred_59 ?_
          obtain ⟨fs35, ho36, hh⟩ := hh
          obtain ⟨z38, ⟨hv37, hr39⟩, hh⟩ := hh
          refine ah_get ho36 hv37 rfl in_X6 (by decide) q633 (Or.inl rfl) dX0_barred_62 ?_
          exact am_iret rfl dX0_barred_65 (Nat.le_refl 0) (Nat.le_refl 0) hh
        · have hh := hb23 hc24
          refine am_iload dX0_barred_43 0 rfl ?_
          refine am_goto (tgt := 65) dX0_barred_45 (by decide) ?_
          exact am_iret rfl dX0_barred_65 (Nat.le_refl 0) (Nat.le_refl 0) hh
      · have hh := hb17 hc18
        refine am_ldc (z := -1000000) q472 (by decide) dX0_barred_30 ?_
        exact am_iret rfl dX0_barred_32 (Nat.le_refl 0) (Nat.le_refl 0) hh
    · have hh := hb9 hc10
      refine am_ldc (z := -1000001) q289 (by decide) dX0_barred_17 ?_
      exact am_iret rfl dX0_barred_19 (Nat.le_refl 0) (Nat.le_refl 0) hh
/-! TableArms.unlike(LTableArms$Table;)I -/
abbrev VX0_unlike (l : Launch) (Q : Option am_W → ah_H → Prop) (pc : Nat) (lv : List (Nat × am_W)) (st : List am_W) (S : ah_H) : Prop := am_V ah_r l RX0 cX0_unlike 7 (some .int) "unlike" (am_rm 7 0 0) (am_E1 ah_r 0 0 Q) pc lv st S 0 0
abbrev kX0_unlike (l : Launch) (as : List am_W) (S : ah_H) (Q : Option am_W → ah_H → Prop) : Prop := am_C ah_r l yX0_unlike (ws_ yX0_unlike cX0_unlike 7 (some .int)) (am_rm 7 0 0) 0 0 as S Q
set_option maxHeartbeats 4000000 in
set_option maxRecDepth 100000 in
theorem bX0_unlike {l : Launch} {Q : Option am_W → ah_H → Prop} {S : ah_H} (v0 : Nat) (v1 : Nat)
    (hh : VX0_unlike l Q 7 [(0, am_R v0), (1, am_R v1), (2, am_I 0), (3, am_I 0), (4, am_I 0)] [] S) : kX0_unlike l [am_R v0, am_R v1] S Q := by
  refine am_entry (lv := [(0, am_R v0), (1, am_R v1)]) rfl rfl rfl (fun _ => rfl) (fun _ => Nat.le_of_ble_eq_true rfl) ?_
  refine am_iconst dX0_unlike_0 ?_
  refine am_istore_n dX0_unlike_1 rfl (by decide) rfl ?_
  refine am_iconst dX0_unlike_2 ?_
  refine am_istore_n dX0_unlike_3 rfl (by decide) rfl ?_
  refine am_iconst dX0_unlike_4 ?_
  refine am_istore dX0_unlike_5 (by decide) rfl ?_
  refine am_keep [3, 4, 2, 1, 0] rfl ?_
  exact hh
set_option maxHeartbeats 4000000 in
set_option maxRecDepth 100000 in
theorem bX0_unlike_7 {l : Launch} {Q : Option am_W → ah_H → Prop} {S : ah_H} (v0 : Nat) (v1 : Nat) (v2 : Int) (h2 : am_r v2) (v3 : Int) (h3 : am_r v3) (v4 : Int) (h4 : am_r v4)
    (hh : ((96 ≤ v4) →
        ((v2 = 0) →
          Q (some (am_I (v3 + 0))) S) ∧
        ((¬ v2 = 0) →
          Q (some (am_I (v3 + 1))) S)) ∧
      ((¬ 96 ≤ v4) →
        (∃ fs7, (S.1 v0 = some (.inl (1, fs7))) ∧
        (∃ x10, (fs7[18]? = some (am_R x10)) ∧
        (∃ n11 f12, (S.1 x10 = some (.inr (1, n11, .inl f12))) ∧
        (0 ≤ v4 ∧ v4 < (n11 : Int)) ∧
        ((¬ ((f12 v4.toNat).toInt) = 0) →
          (∃ x19, (fs7[9]? = some (am_R x19)) ∧
          (∃ n20 f21, (S.1 x19 = some (.inr (3, n20, .inr f21))) ∧
          (0 ≤ v3 ∧ v3 < (n20 : Int)) ∧
          (∃ y24, (f21 v3.toNat = some y24) ∧
          (∃ fs26, (S.1 y24 = some (.inl (2, fs26))) ∧
          kX1_lay l [am_R y24, am_R v1] S (am_qv fun G28 =>
            (∃ fs29, (G28.1 v0 = some (.inl (1, fs29))) ∧
            (∃ x32, (fs29[9]? = some (am_R x32)) ∧
            (∃ n33 f34, (G28.1 x32 = some (.inr (3, n33, .inr f34))) ∧
            (0 ≤ v3 ∧ v3 < (n33 : Int)) ∧
            (∃ y37, (f34 v3.toNat = some y37) ∧
            kX0_done l [am_R v0, am_R y37, am_I v4] G28 (am_qi fun r40 G39 =>
              ((¬ r40 = (-1000000)) →
                VX0_unlike l Q 65 [(0, am_R v0), (1, am_R v1), (2, am_I v2), (3, am_I v3), (4, am_I v4), (5, am_I 1), (6, am_I 0)] [] G39) ∧
              ((r40 = (-1000000)) →
                VX0_unlike l Q 7 [(0, am_R v0), (1, am_R v1), (2, am_I 1), (3, am_I v3), (4, am_I (v4 + 1))] [] G39)))))))))))) ∧
        ((((f12 v4.toNat).toInt) = 0) →
          VX0_unlike l Q 7 [(0, am_R v0), (1, am_R v1), (2, am_I v2), (3, am_I v3), (4, am_I (v4 + 1))] [] S)))))) : VX0_unlike l Q 7 [(0, am_R v0), (1, am_R v1), (2, am_I v2), (3, am_I v3), (4, am_I v4)] [] S := by
  refine am_iload dX0_unlike_7 4 rfl ?_
  refine am_bipush dX0_unlike_9 (by decide) ?_
  obtain ⟨ha1, hb2⟩ := hh
  refine am_icmp_ge (tgt := 129) dX0_unlike_11 (by decide) h4 (⟨by decide, by decide⟩) (fun hc3 => ?_) (fun hc3 => ?_)
  · have hh := ha1 hc3
    refine am_iload_n dX0_unlike_129 rfl 3 rfl ?_
    refine am_iload_n dX0_unlike_130 rfl 2 rfl ?_
    obtain ⟨ha4, hb5⟩ := hh
    refine am_if_eq (tgt := 138) dX0_unlike_131 (by decide) h2 (fun hc6 => ?_) (fun hc6 => ?_)
    · have hh := ha4 hc6
      refine am_iconst dX0_unlike_138 ?_
      refine am_iadd dX0_unlike_139 ?_
      exact am_iret rfl dX0_unlike_140 (Nat.le_refl 0) (Nat.le_refl 0) hh
    · have hh := hb5 hc6
      refine am_iconst dX0_unlike_134 ?_
      refine am_goto (tgt := 139) dX0_unlike_135 (by decide) ?_
      refine am_iadd dX0_unlike_139 ?_
      exact am_iret rfl dX0_unlike_140 (Nat.le_refl 0) (Nat.le_refl 0) hh
  · have hh := hb2 hc3
    refine am_aload_n dX0_unlike_14 rfl 0 rfl ?_
    obtain ⟨fs7, ho8, hh⟩ := hh
    obtain ⟨x10, hv9, hh⟩ := hh
    refine ah_get ho8 hv9 rfl in_X0 (by decide) q232 (Or.inl rfl) dX0_unlike_15 ?_
    refine am_iload dX0_unlike_18 4 rfl ?_
    obtain ⟨n11, f12, ha13, hh⟩ := hh
    obtain ⟨o14, hh⟩ := hh
    refine ah_zald ha13 o14.1 o14.2 (v := (f12 v4.toNat).toInt) rfl dX0_unlike_20 ?_
    obtain ⟨ha15, hb16⟩ := hh
    refine am_if_ne (tgt := 27) dX0_unlike_21 (by decide) (am_rt _) (fun hc17 => ?_) (fun hc17 => ?_)
    · have hh := ha15 hc17
      refine am_aload_n dX0_unlike_27 rfl 0 rfl ?_
      obtain ⟨x19, hv18, hh⟩ := hh
      refine ah_get ho8 hv18 rfl in_X0 (by decide) q223 (Or.inl rfl) dX0_unlike_28 ?_
      refine am_iload_n dX0_unlike_31 rfl 3 rfl ?_
      obtain ⟨n20, f21, ha22, hh⟩ := hh
      obtain ⟨o23, hh⟩ := hh
      obtain ⟨y24, hy25, hh⟩ := hh
      refine ah_aald ha22 (by decide) o23.1 o23.2 hy25 dX0_unlike_32 ?_
      refine am_aload_n dX0_unlike_33 rfl 1 rfl ?_
      obtain ⟨fs26, ho27, hh⟩ := hh
      refine am_rVv (n := 1) hh dX0_unlike_34 (lw_V q547 q548 q549 q91 q550) rfl ⟨⟨by decide, by decide, by decide +kernel⟩, ⟨Nat.le_of_ble_eq_true rfl, Nat.le_of_ble_eq_true rfl⟩⟩ ⟨rfl, rfl⟩ rfl rfl (Nat.le_of_ble_eq_true rfl) ⟨(Nat.le_of_ble_eq_true rfl), (Nat.le_of_ble_eq_true rfl)⟩ (ah_recv ho27 rfl) (fun G28 hh => ?_)
      refine am_aload_n dX0_unlike_37 rfl 0 rfl ?_
      refine am_aload_n dX0_unlike_38 rfl 0 rfl ?_
      obtain ⟨fs29, ho30, hh⟩ := hh
      obtain ⟨x32, hv31, hh⟩ := hh
      refine ah_get ho30 hv31 rfl in_X0 (by decide) q223 (Or.inl rfl) dX0_unlike_39 ?_
      refine am_iload_n dX0_unlike_42 rfl 3 rfl ?_
      obtain ⟨n33, f34, ha35, hh⟩ := hh
      obtain ⟨o36, hh⟩ := hh
      obtain ⟨y37, hy38, hh⟩ := hh
      refine ah_aald ha35 (by decide) o36.1 o36.2 hy38 dX0_unlike_43 ?_
      refine am_iload dX0_unlike_44 4 rfl ?_
      refine am_rVi (n := 2) hh dX0_unlike_46 (lw_V q576 q578 qs11 q90 q579) rfl ⟨⟨by decide, by decide, by decide +kernel⟩, ⟨Nat.le_of_ble_eq_true rfl, Nat.le_of_ble_eq_true rfl⟩⟩ ⟨rfl, rfl⟩ rfl rfl (Nat.le_of_ble_eq_true rfl) ⟨(Nat.le_of_ble_eq_true rfl), (Nat.le_of_ble_eq_true rfl)⟩ (ah_recv ho30 rfl) (fun r40 G39 hr41 hh => ?_)
      refine am_ldc (z := -1000000) q472 (by decide) dX0_unlike_49 ?_
      obtain ⟨ha42, hb43⟩ := hh
      refine am_icmp_ne (tgt := 59) dX0_unlike_51 (by decide) hr41 (⟨by decide, by decide⟩) (fun hc44 => ?_) (fun hc44 => ?_)
      · have hh := ha42 hc44
        refine am_iconst dX0_unlike_59 ?_
        refine am_istore dX0_unlike_60 (by decide) rfl ?_
        refine am_iconst dX0_unlike_62 ?_
        refine am_istore dX0_unlike_63 (by decide) rfl ?_
        refine am_keep [2, 3, 4, 5, 6, 1, 0] rfl ?_
        exact hh
      · have hh := hb43 hc44
        refine am_iconst dX0_unlike_54 ?_
        refine am_istore_n dX0_unlike_55 rfl (by decide) rfl ?_
        refine am_goto (tgt := 123) dX0_unlike_56 (by decide) ?_
        refine am_iinc (n := 4) dX0_unlike_123 rfl (by decide) rfl ?_
        refine am_goto (tgt := 7) dX0_unlike_126 (by decide) ?_
        refine am_keep [2, 3, 1, 4, 0] rfl ?_
        exact hh
    · have hh := hb16 hc17
      refine am_goto (tgt := 123) dX0_unlike_24 (by decide) ?_
      refine am_iinc (n := 4) dX0_unlike_123 rfl (by decide) rfl ?_
      refine am_goto (tgt := 7) dX0_unlike_126 (by decide) ?_
      refine am_keep [1, 2, 3, 4, 0] rfl ?_
      exact hh
set_option maxHeartbeats 4000000 in
set_option maxRecDepth 100000 in
theorem bX0_unlike_65 {l : Launch} {Q : Option am_W → ah_H → Prop} {S : ah_H} (v0 : Nat) (v1 : Nat) (v2 : Int) (h2 : am_r v2) (v3 : Int) (h3 : am_r v3) (v4 : Int) (h4 : am_r v4) (v5 : Int) (h5 : am_r v5) (v6 : Int) (h6 : am_r v6)
    (hh : ((v3 ≤ v6) →
        ((v5 = 0) →
          VX0_unlike l Q 7 [(0, am_R v0), (1, am_R v1), (2, am_I v2), (3, am_I (v3 + 0)), (4, am_I (v4 + 1))] [] S) ∧
        ((¬ v5 = 0) →
          VX0_unlike l Q 7 [(0, am_R v0), (1, am_R v1), (2, am_I v2), (3, am_I (v3 + 1)), (4, am_I (v4 + 1))] [] S)) ∧
      ((¬ v3 ≤ v6) →
        (∃ fs7, (S.1 v0 = some (.inl (1, fs7))) ∧
        (∃ x10, (fs7[9]? = some (am_R x10)) ∧
        (∃ n11 f12, (S.1 x10 = some (.inr (3, n11, .inr f12))) ∧
        (0 ≤ v6 ∧ v6 < (n11 : Int)) ∧
        (∃ y15, (f12 v6.toNat = some y15) ∧
        (0 ≤ v3 ∧ v3 < (n11 : Int)) ∧
        (∃ y18, (f12 v3.toNat = some y18) ∧
        (∃ z21, (fs7[1]? = some (am_I z21) ∧ am_r z21) ∧
        (∃ fs23, (S.1 y15 = some (.inl (2, fs23))) ∧
        kX1_isSame l [am_R y15, am_R y18, am_I z21] S (am_qz fun b26 G25 =>
          ((b26 = true) →
            VX0_unlike l Q 65 [(0, am_R v0), (1, am_R v1), (2, am_I v2), (3, am_I v3), (4, am_I v4), (5, am_I (am_and v5 0)), (6, am_I (v6 + 1))] [] G25) ∧
          ((b26 = false) →
            VX0_unlike l Q 65 [(0, am_R v0), (1, am_R v1), (2, am_I v2), (3, am_I v3), (4, am_I v4), (5, am_I (am_and v5 1)), (6, am_I (v6 + 1))] [] G25))))))))))) : VX0_unlike l Q 65 [(0, am_R v0), (1, am_R v1), (2, am_I v2), (3, am_I v3), (4, am_I v4), (5, am_I v5), (6, am_I v6)] [] S := by
  refine am_iload dX0_unlike_65 6 rfl ?_
  refine am_iload_n dX0_unlike_67 rfl 3 rfl ?_
  obtain ⟨ha1, hb2⟩ := hh
  refine am_icmp_ge (tgt := 110) dX0_unlike_68 (by decide) h6 h3 (fun hc3 => ?_) (fun hc3 => ?_)
  · have hh := ha1 hc3
    refine am_iload_n dX0_unlike_110 rfl 3 rfl ?_
    refine am_iload dX0_unlike_111 5 rfl ?_
    obtain ⟨ha4, hb5⟩ := hh
    refine am_if_eq (tgt := 120) dX0_unlike_113 (by decide) h5 (fun hc6 => ?_) (fun hc6 => ?_)
    · have hh := ha4 hc6
      refine am_iconst dX0_unlike_120 ?_
      refine am_iadd dX0_unlike_121 ?_
      refine am_istore_n dX0_unlike_122 rfl (by decide) rfl ?_
      refine am_iinc (n := 4) dX0_unlike_123 rfl (by decide) rfl ?_
      refine am_goto (tgt := 7) dX0_unlike_126 (by decide) ?_
      refine am_keep [2, 3, 4, 1, 0] rfl ?_
      exact hh
    · have hh := hb5 hc6
      refine am_iconst dX0_unlike_116 ?_
      refine am_goto (tgt := 121) dX0_unlike_117 (by decide) ?_
      refine am_iadd dX0_unlike_121 ?_
      refine am_istore_n dX0_unlike_122 rfl (by decide) rfl ?_
      refine am_iinc (n := 4) dX0_unlike_123 rfl (by decide) rfl ?_
      refine am_goto (tgt := 7) dX0_unlike_126 (by decide) ?_
      refine am_keep [2, 3, 4, 1, 0] rfl ?_
      exact hh
  · have hh := hb2 hc3
    refine am_iload dX0_unlike_71 5 rfl ?_
    refine am_aload_n dX0_unlike_73 rfl 0 rfl ?_
    obtain ⟨fs7, ho8, hh⟩ := hh
    obtain ⟨x10, hv9, hh⟩ := hh
    refine ah_get ho8 hv9 rfl in_X0 (by decide) q223 (Or.inl rfl) dX0_unlike_74 ?_
    refine am_iload dX0_unlike_77 6 rfl ?_
    obtain ⟨n11, f12, ha13, hh⟩ := hh
    obtain ⟨o14, hh⟩ := hh
    obtain ⟨y15, hy16, hh⟩ := hh
    refine ah_aald ha13 (by decide) o14.1 o14.2 hy16 dX0_unlike_79 ?_
    refine am_aload_n dX0_unlike_80 rfl 0 rfl ?_
    refine ah_get ho8 hv9 rfl in_X0 (by decide) q223 (Or.inl rfl) dX0_unlike_81 ?_
    refine am_iload_n dX0_unlike_84 rfl 3 rfl ?_
    obtain ⟨o17, hh⟩ := hh
    obtain ⟨y18, hy19, hh⟩ := hh
    refine ah_aald ha13 (by decide) o17.1 o17.2 hy19 dX0_unlike_85 ?_
    refine am_aload_n dX0_unlike_86 rfl 0 rfl ?_
    obtain ⟨z21, ⟨hv20, hr22⟩, hh⟩ := hh
    refine ah_get ho8 hv20 rfl in_X0 (by decide) q210 (Or.inl rfl) dX0_unlike_87 ?_
    obtain ⟨fs23, ho24, hh⟩ := hh
    refine am_rVz (n := 2) hh dX0_unlike_90 (lw_V q564 q565 q566 q91 q567) rfl ⟨⟨by decide, by decide, by decide +kernel⟩, ⟨Nat.le_of_ble_eq_true rfl, Nat.le_of_ble_eq_true rfl⟩⟩ ⟨rfl, rfl⟩ rfl rfl (Nat.le_of_ble_eq_true rfl) ⟨(Nat.le_of_ble_eq_true rfl), (Nat.le_of_ble_eq_true rfl)⟩ (ah_recv ho24 rfl) (fun b26 G25 hh => ?_)
    obtain ⟨ha27, hb28⟩ := hh
    refine am_ifB_ne (tgt := 100) dX0_unlike_93 (by decide) (fun hc29 => ?_) (fun hc29 => ?_)
    · have hh := ha27 hc29
      refine am_iconst dX0_unlike_100 ?_
      refine am_iand dX0_unlike_101 ?_
      refine am_istore dX0_unlike_102 (by decide) rfl ?_
      refine am_iinc (n := 6) dX0_unlike_104 rfl (by decide) rfl ?_
      refine am_goto (tgt := 65) dX0_unlike_107 (by decide) ?_
      refine am_keep [2, 3, 4, 5, 6, 1, 0] rfl ?_
      exact hh
    · have hh := hb28 hc29
      refine am_iconst dX0_unlike_96 ?_
      refine am_goto (tgt := 101) dX0_unlike_97 (by decide) ?_
      refine am_iand dX0_unlike_101 ?_
      refine am_istore dX0_unlike_102 (by decide) rfl ?_
      refine am_iinc (n := 6) dX0_unlike_104 rfl (by decide) rfl ?_
      refine am_goto (tgt := 65) dX0_unlike_107 (by decide) ?_
      refine am_keep [2, 3, 4, 5, 6, 1, 0] rfl ?_
      exact hh
/-! TableArms.question(I)I -/
abbrev VX0_question (l : Launch) (Q : Option am_W → ah_H → Prop) (pc : Nat) (lv : List (Nat × am_W)) (st : List am_W) (S : ah_H) : Prop := am_V ah_r l RX0 cX0_question 6 (some .int) "question" (am_rm 9 0 0) (am_E1 ah_r 0 0 Q) pc lv st S 0 0
abbrev kX0_question (l : Launch) (as : List am_W) (S : ah_H) (Q : Option am_W → ah_H → Prop) : Prop := am_C ah_r l yX0_question (ws_ yX0_question cX0_question 6 (some .int)) (am_rm 9 0 0) 0 0 as S Q
set_option maxHeartbeats 4000000 in
set_option maxRecDepth 100000 in
theorem bX0_question {l : Launch} {Q : Option am_W → ah_H → Prop} {S : ah_H} (v0 : Nat) (v1 : Int) (h1 : am_r v1)
    (hh : kX0_isIn l [am_J v1, am_J 0, am_J 1] S (am_qz fun b2 G1 =>
        ((b2 = true) →
          VX0_question l Q 15 [(0, am_R v0), (1, am_I v1), (2, am_I 0)] [] G1) ∧
        ((b2 = false) →
          Q (some (am_I (-1000001))) G1))) : kX0_question l [am_R v0, am_I v1] S Q := by
  refine am_entry (lv := [(0, am_R v0), (1, am_I v1)]) rfl rfl rfl (fun _ => rfl) (fun _ => Nat.le_of_ble_eq_true rfl) ?_
  refine am_iload_n dX0_question_0 rfl 1 rfl ?_
  refine am_i2l_ h1 dX0_question_1 ?_
  refine am_lconst (z := 0) dX0_question_2 (by decide) ?_
  refine am_lconst (z := 1) dX0_question_3 (by decide) ?_
  refine am_rSz (n := 3) hh dX0_question_4 (lw_S q285 q286 q90 q287) ⟨⟨by decide, by decide, by decide +kernel⟩, ⟨Nat.le_of_ble_eq_true rfl, Nat.le_of_ble_eq_true rfl⟩⟩ ⟨rfl, rfl⟩ rfl rfl (Nat.le_of_ble_eq_true rfl) ⟨(Nat.le_of_ble_eq_true rfl), (Nat.le_of_ble_eq_true rfl)⟩ (fun b2 G1 hh => ?_)
  obtain ⟨ha3, hb4⟩ := hh
  refine am_ifB_ne (tgt := 13) dX0_question_7 (by decide) (fun hc5 => ?_) (fun hc5 => ?_)
  · have hh := ha3 hc5
    refine am_iconst dX0_question_13 ?_
    refine am_istore_n dX0_question_14 rfl (by decide) rfl ?_
    refine am_keep [1, 2, 0] rfl ?_
    exact hh
  · have hh := hb4 hc5
    refine am_ldc (z := -1000001) q289 (by decide) dX0_question_10 ?_
    exact am_iret rfl dX0_question_12 (Nat.le_refl 0) (Nat.le_refl 0) hh
set_option maxHeartbeats 4000000 in
set_option maxRecDepth 100000 in
theorem bX0_question_15 {l : Launch} {Q : Option am_W → ah_H → Prop} {S : ah_H} (v0 : Nat) (v1 : Int) (h1 : am_r v1) (v2 : Int) (h2 : am_r v2)
    (hh : ((96 ≤ v2) →
        VX0_question l Q 54 [(0, am_R v0), (1, am_I v1), (2, am_I (-1000000)), (3, am_I 0), (4, am_I 0)] [] S) ∧
      ((¬ 96 ≤ v2) →
        (∃ fs4, (S.1 v0 = some (.inl (1, fs4))) ∧
        (∃ x7, (fs4[18]? = some (am_R x7)) ∧
        kX0_barring l [am_R v0, am_I v2] S (am_qi fun r9 G8 =>
          ((¬ r9 = 0) →
            (∃ n14 f15, (G8.1 x7 = some (.inr (1, n14, .inl f15))) ∧
            (ah_X ≤ x7) ∧
            (0 ≤ v2 ∧ v2 < (n14 : Int)) ∧
            (∀ G19, G19 = ah_si G8 x7 1 n14 f15 v2 (Int32.ofInt (am_b false)) →
            VX0_question l Q 15 [(0, am_R v0), (1, am_I v1), (2, am_I (v2 + 1))] [] G19))) ∧
          ((r9 = 0) →
            (∃ n21 f22, (G8.1 x7 = some (.inr (1, n21, .inl f22))) ∧
            (ah_X ≤ x7) ∧
            (0 ≤ v2 ∧ v2 < (n21 : Int)) ∧
            (∀ G26, G26 = ah_si G8 x7 1 n21 f22 v2 (Int32.ofInt (am_b true)) →
            VX0_question l Q 15 [(0, am_R v0), (1, am_I v1), (2, am_I (v2 + 1))] [] G26)))))))) : VX0_question l Q 15 [(0, am_R v0), (1, am_I v1), (2, am_I v2)] [] S := by
  refine am_iload_n dX0_question_15 rfl 2 rfl ?_
  refine am_bipush dX0_question_16 (by decide) ?_
  obtain ⟨ha1, hb2⟩ := hh
  refine am_icmp_ge (tgt := 46) dX0_question_18 (by decide) h2 (⟨by decide, by decide⟩) (fun hc3 => ?_) (fun hc3 => ?_)
  · have hh := ha1 hc3
    refine am_ldc (z := -1000000) q472 (by decide) dX0_question_46 ?_
    refine am_istore_n dX0_question_48 rfl (by decide) rfl ?_
    refine am_iconst dX0_question_49 ?_
    refine am_istore_n dX0_question_50 rfl (by decide) rfl ?_
    refine am_iconst dX0_question_51 ?_
    refine am_istore dX0_question_52 (by decide) rfl ?_
    refine am_keep [3, 4, 2, 1, 0] rfl ?_
    exact hh
  · have hh := hb2 hc3
    refine am_aload_n dX0_question_21 rfl 0 rfl ?_
    obtain ⟨fs4, ho5, hh⟩ := hh
    obtain ⟨x7, hv6, hh⟩ := hh
    refine ah_get ho5 hv6 rfl in_X0 (by decide) q232 (Or.inl rfl) dX0_question_22 ?_
    refine am_iload_n dX0_question_25 rfl 2 rfl ?_
    refine am_aload_n dX0_question_26 rfl 0 rfl ?_
    refine am_iload_n dX0_question_27 rfl 2 rfl ?_
    refine am_rVi (n := 1) hh dX0_question_28 (lw_V q756 q758 qs19 q90 q759) rfl ⟨⟨by decide, by decide, by decide +kernel⟩, ⟨Nat.le_of_ble_eq_true rfl, Nat.le_of_ble_eq_true rfl⟩⟩ ⟨rfl, rfl⟩ rfl rfl (Nat.le_of_ble_eq_true rfl) ⟨(Nat.le_of_ble_eq_true rfl), (Nat.le_of_ble_eq_true rfl)⟩ (ah_recv ho5 rfl) (fun r9 G8 hr10 hh => ?_)
    obtain ⟨ha11, hb12⟩ := hh
    refine am_if_ne (tgt := 38) dX0_question_31 (by decide) hr10 (fun hc13 => ?_) (fun hc13 => ?_)
    · have hh := ha11 hc13
      refine am_iconst dX0_question_38 ?_
      obtain ⟨n14, f15, ha16, hh⟩ := hh
      obtain ⟨o17, hh⟩ := hh
      obtain ⟨o18, hh⟩ := hh
      refine ah_zast (b := false) ha16 o17 o18.1 o18.2 dX0_question_39 ?_
      have hh := hh _ rfl
      refine am_iinc (n := 2) dX0_question_40 rfl (by decide) rfl ?_
      refine am_goto (tgt := 15) dX0_question_43 (by decide) ?_
      refine am_keep [1, 2, 0] rfl ?_
      exact hh
    · have hh := hb12 hc13
      refine am_iconst dX0_question_34 ?_
      refine am_goto (tgt := 39) dX0_question_35 (by decide) ?_
      obtain ⟨n21, f22, ha23, hh⟩ := hh
      obtain ⟨o24, hh⟩ := hh
      obtain ⟨o25, hh⟩ := hh
      refine ah_zast (b := true) ha23 o24 o25.1 o25.2 dX0_question_39 ?_
      have hh := hh _ rfl
      refine am_iinc (n := 2) dX0_question_40 rfl (by decide) rfl ?_
      refine am_goto (tgt := 15) dX0_question_43 (by decide) ?_
      refine am_keep [1, 2, 0] rfl ?_
      exact hh
set_option maxHeartbeats 4000000 in
set_option maxRecDepth 100000 in
theorem bX0_question_54 {l : Launch} {Q : Option am_W → ah_H → Prop} {S : ah_H} (v0 : Nat) (v1 : Int) (h1 : am_r v1) (v2 : Int) (h2 : am_r v2) (v3 : Int) (h3 : am_r v3) (v4 : Int) (h4 : am_r v4)
    (hh : (∃ fs1, (S.1 v0 = some (.inl (1, fs1))) ∧
      (∃ z4, (fs1[6]? = some (am_I z4) ∧ am_r z4) ∧
      ((z4 ≤ v4) →
        ((¬ v1 = 0) →
          Q (some (am_I v3)) S) ∧
        ((v1 = 0) →
          Q (some (am_I v2)) S)) ∧
      ((¬ z4 ≤ v4) →
        (∃ x13, (fs1[5]? = some (am_R x13)) ∧
        (∃ n14 f15, (S.1 x13 = some (.inr (3, n14, .inr f15))) ∧
        (0 ≤ v4 ∧ v4 < (n14 : Int)) ∧
        (∃ y18, (f15 v4.toNat = some y18) ∧
        kX0_unlike l [am_R v0, am_R y18] S (am_qi fun r21 G20 =>
          ((v2 = (-1000000)) →
            VX0_question l Q 54 [(0, am_R v0), (1, am_I v1), (2, am_I v4), (3, am_I r21), (4, am_I (v4 + 1))] [] G20) ∧
          ((¬ v2 = (-1000000)) →
            ((v3 < r21) →
              VX0_question l Q 54 [(0, am_R v0), (1, am_I v1), (2, am_I v4), (3, am_I r21), (4, am_I (v4 + 1))] [] G20) ∧
            ((¬ v3 < r21) →
              VX0_question l Q 54 [(0, am_R v0), (1, am_I v1), (2, am_I v2), (3, am_I v3), (4, am_I (v4 + 1))] [] G20)))))))))) : VX0_question l Q 54 [(0, am_R v0), (1, am_I v1), (2, am_I v2), (3, am_I v3), (4, am_I v4)] [] S := by
  refine am_iload dX0_question_54 4 rfl ?_
  refine am_aload_n dX0_question_56 rfl 0 rfl ?_
  obtain ⟨fs1, ho2, hh⟩ := hh
  obtain ⟨z4, ⟨hv3, hr5⟩, hh⟩ := hh
  refine ah_get ho2 hv3 rfl in_X0 (by decide) q220 (Or.inl rfl) dX0_question_57 ?_
  obtain ⟨ha6, hb7⟩ := hh
  refine am_icmp_ge (tgt := 103) dX0_question_60 (by decide) h4 hr5 (fun hc8 => ?_) (fun hc8 => ?_)
  · have hh := ha6 hc8
    refine am_iload_n dX0_question_103 rfl 1 rfl ?_
    obtain ⟨ha9, hb10⟩ := hh
    refine am_if_ne (tgt := 111) dX0_question_104 (by decide) h1 (fun hc11 => ?_) (fun hc11 => ?_)
    · have hh := ha9 hc11
      refine am_iload_n dX0_question_111 rfl 3 rfl ?_
      exact am_iret rfl dX0_question_112 (Nat.le_refl 0) (Nat.le_refl 0) hh
    · have hh := hb10 hc11
      refine am_iload_n dX0_question_107 rfl 2 rfl ?_
      refine am_goto (tgt := 112) dX0_question_108 (by decide) ?_
      exact am_iret rfl dX0_question_112 (Nat.le_refl 0) (Nat.le_refl 0) hh
  · have hh := hb7 hc8
    refine am_aload_n dX0_question_63 rfl 0 rfl ?_
    refine am_aload_n dX0_question_64 rfl 0 rfl ?_
    obtain ⟨x13, hv12, hh⟩ := hh
    refine ah_get ho2 hv12 rfl in_X0 (by decide) q219 (Or.inl rfl) dX0_question_65 ?_
    refine am_iload dX0_question_68 4 rfl ?_
    obtain ⟨n14, f15, ha16, hh⟩ := hh
    obtain ⟨o17, hh⟩ := hh
    obtain ⟨y18, hy19, hh⟩ := hh
    refine ah_aald ha16 (by decide) o17.1 o17.2 hy19 dX0_question_70 ?_
    refine am_rVi (n := 1) hh dX0_question_71 (lw_V q776 q778 qs21 q90 q779) rfl ⟨⟨by decide, by decide, by decide +kernel⟩, ⟨Nat.le_of_ble_eq_true rfl, Nat.le_of_ble_eq_true rfl⟩⟩ ⟨rfl, rfl⟩ rfl rfl (Nat.le_of_ble_eq_true rfl) ⟨(Nat.le_of_ble_eq_true rfl), (Nat.le_of_ble_eq_true rfl)⟩ (ah_recv ho2 rfl) (fun r21 G20 hr22 hh => ?_)
    refine am_istore dX0_question_74 (by decide) rfl ?_
    refine am_iload_n dX0_question_76 rfl 3 rfl ?_
    refine am_ldc (z := -1000000) q472 (by decide) dX0_question_77 ?_
    obtain ⟨ha23, hb24⟩ := hh
    refine am_icmp_eq (tgt := 91) dX0_question_79 (by decide) h2 (⟨by decide, by decide⟩) (fun hc25 => ?_) (fun hc25 => ?_)
    · have hh := ha23 hc25
      refine am_iload dX0_question_91 5 rfl ?_
      refine am_istore_n dX0_question_93 rfl (by decide) rfl ?_
      refine am_iload dX0_question_94 1 rfl ?_
      refine am_istore_n dX0_question_96 rfl (by decide) rfl ?_
      refine am_iinc (n := 5) dX0_question_97 rfl (by decide) rfl ?_
      refine am_goto (tgt := 54) dX0_question_100 (by decide) ?_
      refine am_keep [4, 5, 2, 1, 0] rfl ?_
      exact hh
    · have hh := hb24 hc25
      refine am_iload dX0_question_82 0 rfl ?_
      refine am_iload_n dX0_question_84 rfl 4 rfl ?_
      obtain ⟨ha26, hb27⟩ := hh
      refine am_icmp_gt (tgt := 91) dX0_question_85 (by decide) hr22 h3 (fun hc28 => ?_) (fun hc28 => ?_)
      · have hh := ha26 hc28
        refine am_iload dX0_question_91 5 rfl ?_
        refine am_istore_n dX0_question_93 rfl (by decide) rfl ?_
        refine am_iload dX0_question_94 1 rfl ?_
        refine am_istore_n dX0_question_96 rfl (by decide) rfl ?_
        refine am_iinc (n := 5) dX0_question_97 rfl (by decide) rfl ?_
        refine am_goto (tgt := 54) dX0_question_100 (by decide) ?_
        refine am_keep [4, 5, 2, 1, 0] rfl ?_
        exact hh
      · have hh := hb27 hc28
        refine am_goto (tgt := 97) dX0_question_88 (by decide) ?_
        refine am_iinc (n := 5) dX0_question_97 rfl (by decide) rfl ?_
        refine am_goto (tgt := 54) dX0_question_100 (by decide) ?_
        refine am_keep [2, 3, 4, 5, 0] rfl ?_
        exact hh
/-! TableArms.quarrel()I -/
abbrev VX0_quarrel (l : Launch) (Q : Option am_W → ah_H → Prop) (pc : Nat) (lv : List (Nat × am_W)) (st : List am_W) (S : ah_H) : Prop := am_V ah_r l RX0 cX0_quarrel 5 (some .int) "quarrel" (am_rm 9 0 0) (am_E1 ah_r 0 0 Q) pc lv st S 0 0
abbrev kX0_quarrel (l : Launch) (as : List am_W) (S : ah_H) (Q : Option am_W → ah_H → Prop) : Prop := am_C ah_r l yX0_quarrel (ws_ yX0_quarrel cX0_quarrel 5 (some .int)) (am_rm 9 0 0) 0 0 as S Q
set_option maxHeartbeats 4000000 in
set_option maxRecDepth 100000 in
theorem bX0_quarrel {l : Launch} {Q : Option am_W → ah_H → Prop} {S : ah_H} (v0 : Nat)
    (hh : VX0_quarrel l Q 5 [(0, am_R v0), (1, am_I (-1000000)), (2, am_I 0)] [] S) : kX0_quarrel l [am_R v0] S Q := by
  refine am_entry (lv := [(0, am_R v0)]) rfl rfl rfl (fun _ => rfl) (fun _ => Nat.le_of_ble_eq_true rfl) ?_
  refine am_ldc (z := -1000000) q472 (by decide) dX0_quarrel_0 ?_
  refine am_istore_n dX0_quarrel_2 rfl (by decide) rfl ?_
  refine am_iconst dX0_quarrel_3 ?_
  refine am_istore_n dX0_quarrel_4 rfl (by decide) rfl ?_
  refine am_keep [2, 1, 0] rfl ?_
  exact hh
set_option maxHeartbeats 4000000 in
set_option maxRecDepth 100000 in
theorem bX0_quarrel_5 {l : Launch} {Q : Option am_W → ah_H → Prop} {S : ah_H} (v0 : Nat) (v1 : Int) (h1 : am_r v1) (v2 : Int) (h2 : am_r v2)
    (hh : ((96 ≤ v2) →
        Q (some (am_I v1)) S) ∧
      ((¬ 96 ≤ v2) →
        (∃ fs4, (S.1 v0 = some (.inl (1, fs4))) ∧
        kX0_barring l [am_R v0, am_I v2] S (am_qi fun r7 G6 =>
          ((v1 = (-1000000)) →
            VX0_quarrel l Q 5 [(0, am_R v0), (1, am_I r7), (2, am_I (v2 + 1))] [] G6) ∧
          ((¬ v1 = (-1000000)) →
            kJ14_bitCount l [am_I r7] G6 (am_qi fun r16 G15 =>
              kJ14_bitCount l [am_I v1] G15 (am_qi fun r19 G18 =>
                ((r16 < r19) →
                  VX0_quarrel l Q 5 [(0, am_R v0), (1, am_I r7), (2, am_I (v2 + 1))] [] G18) ∧
                ((¬ r16 < r19) →
                  kJ14_bitCount l [am_I r7] G18 (am_qi fun r28 G27 =>
                    kJ14_bitCount l [am_I v1] G27 (am_qi fun r31 G30 =>
                      ((¬ r28 = r31) →
                        VX0_quarrel l Q 5 [(0, am_R v0), (1, am_I v1), (2, am_I (v2 + 1))] [] G30) ∧
                      ((r28 = r31) →
                        ((v1 ≤ r7) →
                          VX0_quarrel l Q 5 [(0, am_R v0), (1, am_I v1), (2, am_I (v2 + 1))] [] G30) ∧
                        ((¬ v1 ≤ r7) →
                          VX0_quarrel l Q 5 [(0, am_R v0), (1, am_I r7), (2, am_I (v2 + 1))] [] G30)))))))))))) : VX0_quarrel l Q 5 [(0, am_R v0), (1, am_I v1), (2, am_I v2)] [] S := by
  refine am_iload_n dX0_quarrel_5 rfl 2 rfl ?_
  refine am_bipush dX0_quarrel_6 (by decide) ?_
  obtain ⟨ha1, hb2⟩ := hh
  refine am_icmp_ge (tgt := 74) dX0_quarrel_8 (by decide) h2 (⟨by decide, by decide⟩) (fun hc3 => ?_) (fun hc3 => ?_)
  · have hh := ha1 hc3
    refine am_iload_n dX0_quarrel_74 rfl 1 rfl ?_
    exact am_iret rfl dX0_quarrel_75 (Nat.le_refl 0) (Nat.le_refl 0) hh
  · have hh := hb2 hc3
    refine am_aload_n dX0_quarrel_11 rfl 0 rfl ?_
    refine am_iload_n dX0_quarrel_12 rfl 2 rfl ?_
    obtain ⟨fs4, ho5, hh⟩ := hh
    refine am_rVi (n := 1) hh dX0_quarrel_13 (lw_V q756 q758 qs19 q90 q759) rfl ⟨⟨by decide, by decide, by decide +kernel⟩, ⟨Nat.le_of_ble_eq_true rfl, Nat.le_of_ble_eq_true rfl⟩⟩ ⟨rfl, rfl⟩ rfl rfl (Nat.le_of_ble_eq_true rfl) ⟨(Nat.le_of_ble_eq_true rfl), (Nat.le_of_ble_eq_true rfl)⟩ (ah_recv ho5 rfl) (fun r7 G6 hr8 hh => ?_)
    refine am_istore_n dX0_quarrel_16 rfl (by decide) rfl ?_
    refine am_iload_n dX0_quarrel_17 rfl 2 rfl ?_
    refine am_ldc (z := -1000000) q472 (by decide) dX0_quarrel_18 ?_
    obtain ⟨ha9, hb10⟩ := hh
    refine am_icmp_eq (tgt := 50) dX0_quarrel_20 (by decide) h1 (⟨by decide, by decide⟩) (fun hc11 => ?_) (fun hc11 => ?_)
    · have hh := ha9 hc11
      refine am_iconst dX0_quarrel_50 ?_
      refine am_goto (tgt := 55) dX0_quarrel_51 (by decide) ?_
      refine am_istore dX0_quarrel_55 (by decide) rfl ?_
      refine am_iload dX0_quarrel_57 0 rfl ?_
      refine am_if_eq (tgt := 66) dX0_quarrel_59 (by decide) (⟨by decide, by decide⟩) (fun hc14 => ?_) (fun hc14 => ?_)
      · exact absurd hc14 (by decide)
      refine am_iload_n dX0_quarrel_62 rfl 1 rfl ?_
      refine am_goto (tgt := 67) dX0_quarrel_63 (by decide) ?_
      refine am_istore_n dX0_quarrel_67 rfl (by decide) rfl ?_
      refine am_iinc (n := 4) dX0_quarrel_68 rfl (by decide) rfl ?_
      refine am_goto (tgt := 5) dX0_quarrel_71 (by decide) ?_
      refine am_keep [4, 1, 0] rfl ?_
      exact hh
    · have hh := hb10 hc11
      refine am_iload_n dX0_quarrel_23 rfl 0 rfl ?_
      refine am_rSi (n := 1) hh dX0_quarrel_24 (lw_S q784 q785 q112 q786) ⟨⟨by decide, by decide, by decide +kernel⟩, ⟨Nat.le_of_ble_eq_true rfl, Nat.le_of_ble_eq_true rfl⟩⟩ ⟨rfl, rfl⟩ rfl rfl (Nat.le_of_ble_eq_true rfl) ⟨(Nat.le_of_ble_eq_true rfl), (Nat.le_of_ble_eq_true rfl)⟩ (fun r16 G15 hr17 hh => ?_)
      refine am_iload_n dX0_quarrel_27 rfl 2 rfl ?_
      refine am_rSi (n := 1) hh dX0_quarrel_28 (lw_S q784 q785 q112 q786) ⟨⟨by decide, by decide, by decide +kernel⟩, ⟨Nat.le_of_ble_eq_true rfl, Nat.le_of_ble_eq_true rfl⟩⟩ ⟨rfl, rfl⟩ rfl rfl (Nat.le_of_ble_eq_true rfl) ⟨(Nat.le_of_ble_eq_true rfl), (Nat.le_of_ble_eq_true rfl)⟩ (fun r19 G18 hr20 hh => ?_)
      obtain ⟨ha21, hb22⟩ := hh
      refine am_icmp_lt (tgt := 50) dX0_quarrel_31 (by decide) hr17 hr20 (fun hc23 => ?_) (fun hc23 => ?_)
      · have hh := ha21 hc23
        refine am_iconst dX0_quarrel_50 ?_
        refine am_goto (tgt := 55) dX0_quarrel_51 (by decide) ?_
        refine am_istore dX0_quarrel_55 (by decide) rfl ?_
        refine am_iload dX0_quarrel_57 0 rfl ?_
        refine am_if_eq (tgt := 66) dX0_quarrel_59 (by decide) (⟨by decide, by decide⟩) (fun hc26 => ?_) (fun hc26 => ?_)
        · exact absurd hc26 (by decide)
        refine am_iload_n dX0_quarrel_62 rfl 1 rfl ?_
        refine am_goto (tgt := 67) dX0_quarrel_63 (by decide) ?_
        refine am_istore_n dX0_quarrel_67 rfl (by decide) rfl ?_
        refine am_iinc (n := 4) dX0_quarrel_68 rfl (by decide) rfl ?_
        refine am_goto (tgt := 5) dX0_quarrel_71 (by decide) ?_
        refine am_keep [4, 1, 0] rfl ?_
        exact hh
      · have hh := hb22 hc23
        refine am_iload_n dX0_quarrel_34 rfl 0 rfl ?_
        refine am_rSi (n := 1) hh dX0_quarrel_35 (lw_S q784 q785 q112 q786) ⟨⟨by decide, by decide, by decide +kernel⟩, ⟨Nat.le_of_ble_eq_true rfl, Nat.le_of_ble_eq_true rfl⟩⟩ ⟨rfl, rfl⟩ rfl rfl (Nat.le_of_ble_eq_true rfl) ⟨(Nat.le_of_ble_eq_true rfl), (Nat.le_of_ble_eq_true rfl)⟩ (fun r28 G27 hr29 hh => ?_)
        refine am_iload_n dX0_quarrel_38 rfl 2 rfl ?_
        refine am_rSi (n := 1) hh dX0_quarrel_39 (lw_S q784 q785 q112 q786) ⟨⟨by decide, by decide, by decide +kernel⟩, ⟨Nat.le_of_ble_eq_true rfl, Nat.le_of_ble_eq_true rfl⟩⟩ ⟨rfl, rfl⟩ rfl rfl (Nat.le_of_ble_eq_true rfl) ⟨(Nat.le_of_ble_eq_true rfl), (Nat.le_of_ble_eq_true rfl)⟩ (fun r31 G30 hr32 hh => ?_)
        obtain ⟨ha33, hb34⟩ := hh
        refine am_icmp_ne (tgt := 54) dX0_quarrel_42 (by decide) hr29 hr32 (fun hc35 => ?_) (fun hc35 => ?_)
        · have hh := ha33 hc35
          refine am_iconst dX0_quarrel_54 ?_
          refine am_istore dX0_quarrel_55 (by decide) rfl ?_
          refine am_iload dX0_quarrel_57 0 rfl ?_
          refine am_if_eq (tgt := 66) dX0_quarrel_59 (by decide) (⟨by decide, by decide⟩) (fun hc38 => ?_) (fun hc38 => ?_)
          rotate_left
          · exact absurd hc38 (by decide)
          refine am_iload_n dX0_quarrel_66 rfl 3 rfl ?_
          refine am_istore_n dX0_quarrel_67 rfl (by decide) rfl ?_
          refine am_iinc (n := 4) dX0_quarrel_68 rfl (by decide) rfl ?_
          refine am_goto (tgt := 5) dX0_quarrel_71 (by decide) ?_
          refine am_keep [4, 1, 0] rfl ?_
          exact hh
        · have hh := hb34 hc35
          refine am_iload_n dX0_quarrel_45 rfl 0 rfl ?_
          refine am_iload_n dX0_quarrel_46 rfl 2 rfl ?_
          obtain ⟨ha39, hb40⟩ := hh
          refine am_icmp_ge (tgt := 54) dX0_quarrel_47 (by decide) hr8 h1 (fun hc41 => ?_) (fun hc41 => ?_)
          · have hh := ha39 hc41
            refine am_iconst dX0_quarrel_54 ?_
            refine am_istore dX0_quarrel_55 (by decide) rfl ?_
            refine am_iload dX0_quarrel_57 0 rfl ?_
            refine am_if_eq (tgt := 66) dX0_quarrel_59 (by decide) (⟨by decide, by decide⟩) (fun hc44 => ?_) (fun hc44 => ?_)
            rotate_left
            · exact absurd hc44 (by decide)
            refine am_iload_n dX0_quarrel_66 rfl 3 rfl ?_
            refine am_istore_n dX0_quarrel_67 rfl (by decide) rfl ?_
            refine am_iinc (n := 4) dX0_quarrel_68 rfl (by decide) rfl ?_
            refine am_goto (tgt := 5) dX0_quarrel_71 (by decide) ?_
            refine am_keep [4, 1, 0] rfl ?_
            exact hh
          · have hh := hb40 hc41
            refine am_iconst dX0_quarrel_50 ?_
            refine am_goto (tgt := 55) dX0_quarrel_51 (by decide) ?_
            refine am_istore dX0_quarrel_55 (by decide) rfl ?_
            refine am_iload dX0_quarrel_57 0 rfl ?_
            refine am_if_eq (tgt := 66) dX0_quarrel_59 (by decide) (⟨by decide, by decide⟩) (fun hc47 => ?_) (fun hc47 => ?_)
            · exact absurd hc47 (by decide)
            refine am_iload_n dX0_quarrel_62 rfl 1 rfl ?_
            refine am_goto (tgt := 67) dX0_quarrel_63 (by decide) ?_
            refine am_istore_n dX0_quarrel_67 rfl (by decide) rfl ?_
            refine am_iinc (n := 4) dX0_quarrel_68 rfl (by decide) rfl ?_
            refine am_goto (tgt := 5) dX0_quarrel_71 (by decide) ?_
            refine am_keep [4, 1, 0] rfl ?_
            exact hh
/-! TableArms.isEnd(LTableArms$Table;I)Z -/
abbrev VX0_isEnd (l : Launch) (Q : Option am_W → ah_H → Prop) (pc : Nat) (lv : List (Nat × am_W)) (st : List am_W) (S : ah_H) : Prop := am_V ah_r l RX0 cX0_isEnd 6 (some .boolean) "isEnd" (am_rm 5 0 0) (am_E1 ah_r 0 0 Q) pc lv st S 0 0
abbrev kX0_isEnd (l : Launch) (as : List am_W) (S : ah_H) (Q : Option am_W → ah_H → Prop) : Prop := am_C ah_r l yX0_isEnd (ws_ yX0_isEnd cX0_isEnd 6 (some .boolean)) (am_rm 5 0 0) 0 0 as S Q
set_option maxHeartbeats 4000000 in
set_option maxRecDepth 100000 in
theorem bX0_isEnd {l : Launch} {Q : Option am_W → ah_H → Prop} {S : ah_H} (v0 : Nat) (v1 : Nat) (v2 : Int) (h2 : am_r v2)
    (hh : VX0_isEnd l Q 8 [(0, am_R v0), (1, am_R v1), (2, am_I v2), (3, am_I 0), (4, am_I 0), (5, am_I 0)] [] S) : kX0_isEnd l [am_R v0, am_R v1, am_I v2] S Q := by
  refine am_entry (lv := [(0, am_R v0), (1, am_R v1), (2, am_I v2)]) rfl rfl rfl (fun _ => rfl) (fun _ => Nat.le_of_ble_eq_true rfl) ?_
  refine am_iconst dX0_isEnd_0 ?_
  refine am_istore_n dX0_isEnd_1 rfl (by decide) rfl ?_
  refine am_iconst dX0_isEnd_2 ?_
  refine am_istore dX0_isEnd_3 (by decide) rfl ?_
  refine am_iconst dX0_isEnd_5 ?_
  refine am_istore dX0_isEnd_6 (by decide) rfl ?_
  refine am_keep [3, 4, 5, 2, 1, 0] rfl ?_
  exact hh
set_option maxHeartbeats 4000000 in
set_option maxRecDepth 100000 in
theorem bX0_isEnd_8 {l : Launch} {Q : Option am_W → ah_H → Prop} {S : ah_H} (v0 : Nat) (v1 : Nat) (v2 : Int) (h2 : am_r v2) (v3 : Int) (h3 : am_r v3) (v4 : Int) (h4 : am_r v4) (v5 : Int) (h5 : am_r v5)
    (hh : (∃ fs1, (S.1 v0 = some (.inl (1, fs1))) ∧
      (∃ z4, (fs1[1]? = some (am_I z4) ∧ am_r z4) ∧
      ((z4 ≤ v5) →
        (0 ≤ v2) ∧
        ((¬ (v2 % 2) = 0) →
          ((v3 ≤ 0) →
            Q (some (am_I (am_b false))) S) ∧
          ((¬ v3 ≤ 0) →
            ((¬ v4 = v3) →
              Q (some (am_I (am_b false))) S) ∧
            ((v4 = v3) →
              Q (some (am_I (am_b true))) S))) ∧
        (((v2 % 2) = 0) →
          ((v4 ≤ 0) →
            Q (some (am_I (am_b false))) S) ∧
          ((¬ v4 ≤ 0) →
            Q (some (am_I (am_b true))) S))) ∧
      ((¬ z4 ≤ v5) →
        (∃ x23, (fs1[2]? = some (am_R x23)) ∧
        (∃ n24 f25, (S.1 x23 = some (.inr (0, n24, .inl f25))) ∧
        (0 ≤ v5 ∧ v5 < (n24 : Int)) ∧
        (0 ≤ v2) ∧
        (0 ≤ (v2 / 2)) ∧
        ((((f25 v5.toNat).toInt) = ((v2 / 2) % 4)) →
          (0 ≤ (v2 / 8)) ∧
          kX0_isAsTold l [am_R v0, am_R v1, am_I v5, am_I ((v2 / 8) % 3), am_I (v2 / 24)] S (am_qz fun b35 G34 =>
            ((b35 = false) →
              VX0_isEnd l Q 8 [(0, am_R v0), (1, am_R v1), (2, am_I v2), (3, am_I (v3 + 1)), (4, am_I (v4 + 0)), (5, am_I (v5 + 1))] [] G34) ∧
            ((b35 = true) →
              VX0_isEnd l Q 8 [(0, am_R v0), (1, am_R v1), (2, am_I v2), (3, am_I (v3 + 1)), (4, am_I (v4 + 1)), (5, am_I (v5 + 1))] [] G34))) ∧
        ((¬ ((f25 v5.toNat).toInt) = ((v2 / 2) % 4)) →
          VX0_isEnd l Q 8 [(0, am_R v0), (1, am_R v1), (2, am_I v2), (3, am_I v3), (4, am_I v4), (5, am_I (v5 + 1))] [] S))))))) : VX0_isEnd l Q 8 [(0, am_R v0), (1, am_R v1), (2, am_I v2), (3, am_I v3), (4, am_I v4), (5, am_I v5)] [] S := by
  refine am_iload dX0_isEnd_8 5 rfl ?_
  refine am_aload_n dX0_isEnd_10 rfl 0 rfl ?_
  obtain ⟨fs1, ho2, hh⟩ := hh
  obtain ⟨z4, ⟨hv3, hr5⟩, hh⟩ := hh
  refine ah_get ho2 hv3 rfl in_X0 (by decide) q210 (Or.inl rfl) dX0_isEnd_11 ?_
  obtain ⟨ha6, hb7⟩ := hh
  refine am_icmp_ge (tgt := 74) dX0_isEnd_14 (by decide) h5 hr5 (fun hc8 => ?_) (fun hc8 => ?_)
  · have hh := ha6 hc8
    refine am_iload_n dX0_isEnd_74 rfl 2 rfl ?_
    refine am_iconst dX0_isEnd_75 ?_
    obtain ⟨o9, hh⟩ := hh
    refine am_irem dX0_isEnd_76 o9 (h2).2 (by decide) (by decide) ?_
    obtain ⟨ha10, hb11⟩ := hh
    refine am_if_ne (tgt := 93) dX0_isEnd_77 (by decide) (am_r_rem o9 (h2).2 (by decide) : am_r (v2 % 2)) (fun hc12 => ?_) (fun hc12 => ?_)
    · have hh := ha10 hc12
      refine am_iload_n dX0_isEnd_93 rfl 3 rfl ?_
      obtain ⟨ha13, hb14⟩ := hh
      refine am_if_le (tgt := 107) dX0_isEnd_94 (by decide) h3 (fun hc15 => ?_) (fun hc15 => ?_)
      · have hh := ha13 hc15
        refine am_iconst dX0_isEnd_107 ?_
        exact am_zret (b := false) rfl dX0_isEnd_108 (Nat.le_refl 0) (Nat.le_refl 0) hh
      · have hh := hb14 hc15
        refine am_iload dX0_isEnd_97 4 rfl ?_
        refine am_iload_n dX0_isEnd_99 rfl 3 rfl ?_
        obtain ⟨ha16, hb17⟩ := hh
        refine am_icmp_ne (tgt := 107) dX0_isEnd_100 (by decide) h4 h3 (fun hc18 => ?_) (fun hc18 => ?_)
        · have hh := ha16 hc18
          refine am_iconst dX0_isEnd_107 ?_
          exact am_zret (b := false) rfl dX0_isEnd_108 (Nat.le_refl 0) (Nat.le_refl 0) hh
        · have hh := hb17 hc18
          refine am_iconst dX0_isEnd_103 ?_
          refine am_goto (tgt := 108) dX0_isEnd_104 (by decide) ?_
          exact am_zret (b := true) rfl dX0_isEnd_108 (Nat.le_refl 0) (Nat.le_refl 0) hh
    · have hh := hb11 hc12
      refine am_iload dX0_isEnd_80 4 rfl ?_
      obtain ⟨ha19, hb20⟩ := hh
      refine am_if_le (tgt := 89) dX0_isEnd_82 (by decide) h4 (fun hc21 => ?_) (fun hc21 => ?_)
      · have hh := ha19 hc21
        refine am_iconst dX0_isEnd_89 ?_
        refine am_goto (tgt := 108) dX0_isEnd_90 (by decide) ?_
        exact am_zret (b := false) rfl dX0_isEnd_108 (Nat.le_refl 0) (Nat.le_refl 0) hh
      · have hh := hb20 hc21
        refine am_iconst dX0_isEnd_85 ?_
        refine am_goto (tgt := 108) dX0_isEnd_86 (by decide) ?_
        exact am_zret (b := true) rfl dX0_isEnd_108 (Nat.le_refl 0) (Nat.le_refl 0) hh
  · have hh := hb7 hc8
    refine am_aload_n dX0_isEnd_17 rfl 0 rfl ?_
    obtain ⟨x23, hv22, hh⟩ := hh
    refine ah_get ho2 hv22 rfl in_X0 (by decide) q211 (Or.inl rfl) dX0_isEnd_18 ?_
    refine am_iload dX0_isEnd_21 5 rfl ?_
    obtain ⟨n24, f25, ha26, hh⟩ := hh
    obtain ⟨o27, hh⟩ := hh
    refine ah_iald ha26 o27.1 o27.2 (v := (f25 v5.toNat).toInt) rfl dX0_isEnd_23 ?_
    refine am_iload_n dX0_isEnd_24 rfl 2 rfl ?_
    refine am_iconst dX0_isEnd_25 ?_
    obtain ⟨o28, hh⟩ := hh
    refine am_idiv dX0_isEnd_26 o28 (h2).2 (by decide) (by decide) ?_
    refine am_iconst dX0_isEnd_27 ?_
    obtain ⟨o29, hh⟩ := hh
    refine am_irem dX0_isEnd_28 o29 ((am_r_div o28 (h2).2 (by decide) : am_r (v2 / 2))).2 (by decide) (by decide) ?_
    obtain ⟨ha30, hb31⟩ := hh
    refine am_icmp_eq (tgt := 35) dX0_isEnd_29 (by decide) (am_rt _) (am_r_rem o29 ((am_r_div o28 (h2).2 (by decide) : am_r (v2 / 2))).2 (by decide) : am_r ((v2 / 2) % 4)) (fun hc32 => ?_) (fun hc32 => ?_)
    · have hh := ha30 hc32
      refine am_iinc (n := 3) dX0_isEnd_35 rfl (by decide) rfl ?_
      refine am_iload dX0_isEnd_38 4 rfl ?_
      refine am_aload_n dX0_isEnd_40 rfl 1 rfl ?_
      refine am_aload_n dX0_isEnd_41 rfl 2 rfl ?_
      refine am_iload dX0_isEnd_42 5 rfl ?_
      refine am_iload_n dX0_isEnd_44 rfl 3 rfl ?_
      refine am_bipush dX0_isEnd_45 (by decide) ?_
      refine am_idiv dX0_isEnd_47 o28 (h2).2 (by decide) (by decide) ?_
      refine am_iconst dX0_isEnd_48 ?_
      obtain ⟨o33, hh⟩ := hh
      refine am_irem dX0_isEnd_49 o33 ((am_r_div o28 (h2).2 (by decide) : am_r (v2 / 8))).2 (by decide) (by decide) ?_
      refine am_iload_n dX0_isEnd_50 rfl 3 rfl ?_
      refine am_bipush dX0_isEnd_51 (by decide) ?_
      refine am_idiv dX0_isEnd_53 o28 (h2).2 (by decide) (by decide) ?_
      refine am_rVz (n := 4) hh dX0_isEnd_54 (lw_V q580 q582 qs12 q90 q583) rfl ⟨⟨by decide, by decide, by decide +kernel⟩, ⟨Nat.le_of_ble_eq_true rfl, Nat.le_of_ble_eq_true rfl⟩⟩ ⟨rfl, rfl⟩ rfl rfl (Nat.le_of_ble_eq_true rfl) ⟨(Nat.le_of_ble_eq_true rfl), (Nat.le_of_ble_eq_true rfl)⟩ (ah_recv ho2 rfl) (fun b35 G34 hh => ?_)
      obtain ⟨ha36, hb37⟩ := hh
      refine am_ifB_eq (tgt := 64) dX0_isEnd_57 (by decide) (fun hc38 => ?_) (fun hc38 => ?_)
      · have hh := ha36 hc38
        refine am_iconst dX0_isEnd_64 ?_
        refine am_iadd dX0_isEnd_65 ?_
        refine am_istore dX0_isEnd_66 (by decide) rfl ?_
        refine am_iinc (n := 5) dX0_isEnd_68 rfl (by decide) rfl ?_
        refine am_goto (tgt := 8) dX0_isEnd_71 (by decide) ?_
        refine am_keep [3, 4, 5, 2, 1, 0] rfl ?_
        exact hh
      · have hh := hb37 hc38
        refine am_iconst dX0_isEnd_60 ?_
        refine am_goto (tgt := 65) dX0_isEnd_61 (by decide) ?_
        refine am_iadd dX0_isEnd_65 ?_
        refine am_istore dX0_isEnd_66 (by decide) rfl ?_
        refine am_iinc (n := 5) dX0_isEnd_68 rfl (by decide) rfl ?_
        refine am_goto (tgt := 8) dX0_isEnd_71 (by decide) ?_
        refine am_keep [3, 4, 5, 2, 1, 0] rfl ?_
        exact hh
    · have hh := hb31 hc32
      refine am_goto (tgt := 68) dX0_isEnd_32 (by decide) ?_
      refine am_iinc (n := 5) dX0_isEnd_68 rfl (by decide) rfl ?_
      refine am_goto (tgt := 8) dX0_isEnd_71 (by decide) ?_
      refine am_keep [1, 2, 3, 4, 5, 0] rfl ?_
      exact hh
