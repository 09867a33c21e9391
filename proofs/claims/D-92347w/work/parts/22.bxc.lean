/-! TableArms.can(LTableArms$Table;II)Z -/
abbrev VX0_can (l : Launch) (Q : Option am_W → ah_H → Prop) (pc : Nat) (lv : List (Nat × am_W)) (st : List am_W) (S : ah_H) : Prop := am_V ah_r l RX0 cX0_can 4 (some .boolean) "can" (am_rm 4 0 0) (am_E1 ah_r 0 0 Q) pc lv st S 0 0
abbrev kX0_can (l : Launch) (as : List am_W) (S : ah_H) (Q : Option am_W → ah_H → Prop) : Prop := am_C ah_r l yX0_can (ws_ yX0_can cX0_can 4 (some .boolean)) (am_rm 4 0 0) 0 0 as S Q
set_option maxHeartbeats 4000000 in
set_option maxRecDepth 100000 in
theorem bX0_can {l : Launch} {Q : Option am_W → ah_H → Prop} {S : ah_H} (v0 : Nat) (v1 : Nat) (v2 : Int) (h2 : am_r v2) (v3 : Int) (h3 : am_r v3)
    (hh : (∃ fs1, (S.1 v1 = some (.inl (2, fs1))) ∧
      kX1_isLoose l [am_R v1, am_I v2] S (am_qz fun b4 G3 =>
        ((b4 = true) →
          ((v3 < 8) →
            Q (some (am_I (am_b true))) G3) ∧
          ((¬ v3 < 8) →
            (∃ fs11, (G3.1 v0 = some (.inl (1, fs11))) ∧
            (∃ x14, (fs11[2]? = some (am_R x14)) ∧
            (∃ n15 f16, (G3.1 x14 = some (.inr (0, n15, .inl f16))) ∧
            (0 ≤ v2 ∧ v2 < (n15 : Int)) ∧
            ((((f16 v2.toNat).toInt) = 2) →
              Q (some (am_I (am_b false))) G3) ∧
            ((¬ ((f16 v2.toNat).toInt) = 2) →
              (∃ fs22, (G3.1 v1 = some (.inl (2, fs22))) ∧
              kX1_isFor l [am_R v1, am_I v2, am_I (v3 - 8)] G3 (am_qz fun b25 G24 =>
                ((b25 = false) →
                  Q (some (am_I (am_b false))) G24) ∧
                ((b25 = true) →
                  (∃ fs29, (G24.1 v1 = some (.inl (2, fs29))) ∧
                  (∃ x32, (fs29[3]? = some (am_R x32)) ∧
                  (∃ n33 f34, (G24.1 x32 = some (.inr (0, n33, .inl f34))) ∧
                  (0 ≤ v2 ∧ v2 < (n33 : Int)) ∧
                  (am_r (v3 - 8)) ∧
                  ((((f34 v2.toNat).toInt) = (v3 - 8)) →
                    Q (some (am_I (am_b false))) G24) ∧
                  ((¬ ((f34 v2.toNat).toInt) = (v3 - 8)) →
                    Q (some (am_I (am_b true))) G24))))))))))))) ∧
        ((b4 = false) →
          Q (some (am_I (am_b false))) G3)))) : kX0_can l [am_R v0, am_R v1, am_I v2, am_I v3] S Q := by
  refine am_entry (lv := [(0, am_R v0), (1, am_R v1), (2, am_I v2), (3, am_I v3)]) rfl rfl rfl (fun _ => rfl) (fun _ => Nat.le_of_ble_eq_true rfl) ?_
  refine am_aload_n dX0_can_0 rfl 1 rfl ?_
  refine am_iload_n dX0_can_1 rfl 2 rfl ?_
  obtain ⟨fs1, ho2, hh⟩ := hh
  refine am_rVz (n := 1) hh dX0_can_2 (lw_V q514 q515 q516 q91 q517) rfl ⟨⟨by decide, by decide, by decide +kernel⟩, ⟨Nat.le_of_ble_eq_true rfl, Nat.le_of_ble_eq_true rfl⟩⟩ ⟨rfl, rfl⟩ rfl rfl (Nat.le_of_ble_eq_true rfl) ⟨(Nat.le_of_ble_eq_true rfl), (Nat.le_of_ble_eq_true rfl)⟩ (ah_recv ho2 rfl) (fun b4 G3 hh => ?_)
  obtain ⟨ha5, hb6⟩ := hh
  refine am_ifB_ne (tgt := 10) dX0_can_5 (by decide) (fun hc7 => ?_) (fun hc7 => ?_)
  · have hh := ha5 hc7
    refine am_iload_n dX0_can_10 rfl 3 rfl ?_
    refine am_bipush dX0_can_11 (by decide) ?_
    obtain ⟨ha8, hb9⟩ := hh
    refine am_icmp_lt (tgt := 51) dX0_can_13 (by decide) h3 (⟨by decide, by decide⟩) (fun hc10 => ?_) (fun hc10 => ?_)
    · have hh := ha8 hc10
      refine am_iconst dX0_can_51 ?_
      refine am_goto (tgt := 56) dX0_can_52 (by decide) ?_
      exact am_zret (b := true) rfl dX0_can_56 (Nat.le_refl 0) (Nat.le_refl 0) hh
    · have hh := hb9 hc10
      refine am_aload_n dX0_can_16 rfl 0 rfl ?_
      obtain ⟨fs11, ho12, hh⟩ := hh
      obtain ⟨x14, hv13, hh⟩ := hh
      refine ah_get ho12 hv13 rfl in_X0 (by decide) q211 (Or.inl rfl) dX0_can_17 ?_
      refine am_iload_n dX0_can_20 rfl 2 rfl ?_
      obtain ⟨n15, f16, ha17, hh⟩ := hh
      obtain ⟨o18, hh⟩ := hh
      refine ah_iald ha17 o18.1 o18.2 (v := (f16 v2.toNat).toInt) rfl dX0_can_21 ?_
      refine am_iconst dX0_can_22 ?_
      obtain ⟨ha19, hb20⟩ := hh
      refine am_icmp_eq (tgt := 55) dX0_can_23 (by decide) (am_rt _) (⟨by decide, by decide⟩) (fun hc21 => ?_) (fun hc21 => ?_)
      · have hh := ha19 hc21
        refine am_iconst dX0_can_55 ?_
        exact am_zret (b := false) rfl dX0_can_56 (Nat.le_refl 0) (Nat.le_refl 0) hh
      · have hh := hb20 hc21
        refine am_aload_n dX0_can_26 rfl 1 rfl ?_
        refine am_iload_n dX0_can_27 rfl 2 rfl ?_
        refine am_iload_n dX0_can_28 rfl 3 rfl ?_
        refine am_bipush dX0_can_29 (by decide) ?_
        refine am_isub dX0_can_31 ?_
        obtain ⟨fs22, ho23, hh⟩ := hh
        refine am_rVz (n := 2) hh dX0_can_32 (lw_V q519 q520 q521 q91 q522) rfl ⟨⟨by decide, by decide, by decide +kernel⟩, ⟨Nat.le_of_ble_eq_true rfl, Nat.le_of_ble_eq_true rfl⟩⟩ ⟨rfl, rfl⟩ rfl rfl (Nat.le_of_ble_eq_true rfl) ⟨(Nat.le_of_ble_eq_true rfl), (Nat.le_of_ble_eq_true rfl)⟩ (ah_recv ho23 rfl) (fun b25 G24 hh => ?_)
        obtain ⟨ha26, hb27⟩ := hh
        refine am_ifB_eq (tgt := 55) dX0_can_35 (by decide) (fun hc28 => ?_) (fun hc28 => ?_)
        · have hh := ha26 hc28
          refine am_iconst dX0_can_55 ?_
          exact am_zret (b := false) rfl dX0_can_56 (Nat.le_refl 0) (Nat.le_refl 0) hh
        · have hh := hb27 hc28
          refine am_aload_n dX0_can_38 rfl 1 rfl ?_
          obtain ⟨fs29, ho30, hh⟩ := hh
          obtain ⟨x32, hv31, hh⟩ := hh
          refine ah_getN ho30 hv31 rfl in_X1 (by decide) (am_nwin q150 rfl) dX0_can_39 ?_
          refine am_iload_n dX0_can_42 rfl 2 rfl ?_
          obtain ⟨n33, f34, ha35, hh⟩ := hh
          obtain ⟨o36, hh⟩ := hh
          refine ah_iald ha35 o36.1 o36.2 (v := (f34 v2.toNat).toInt) rfl dX0_can_43 ?_
          refine am_iload_n dX0_can_44 rfl 3 rfl ?_
          refine am_bipush dX0_can_45 (by decide) ?_
          refine am_isub dX0_can_47 ?_
          obtain ⟨o37, hh⟩ := hh
          obtain ⟨ha38, hb39⟩ := hh
          refine am_icmp_eq (tgt := 55) dX0_can_48 (by decide) (am_rt _) o37 (fun hc40 => ?_) (fun hc40 => ?_)
          · have hh := ha38 hc40
            refine am_iconst dX0_can_55 ?_
            exact am_zret (b := false) rfl dX0_can_56 (Nat.le_refl 0) (Nat.le_refl 0) hh
          · have hh := hb39 hc40
            refine am_iconst dX0_can_51 ?_
            refine am_goto (tgt := 56) dX0_can_52 (by decide) ?_
            exact am_zret (b := true) rfl dX0_can_56 (Nat.le_refl 0) (Nat.le_refl 0) hh
  · have hh := hb6 hc7
    refine am_iconst dX0_can_8 ?_
    exact am_zret (b := false) rfl dX0_can_9 (Nat.le_refl 0) (Nat.le_refl 0) hh
/-! TableArms.isReached(LTableArms$Table;III)Z -/
abbrev VX0_isReached (l : Launch) (Q : Option am_W → ah_H → Prop) (pc : Nat) (lv : List (Nat × am_W)) (st : List am_W) (S : ah_H) : Prop := am_V ah_r l RX0 cX0_isReached 6 (some .boolean) "isReached" (am_rm 2 0 0) (am_E1 ah_r 0 0 Q) pc lv st S 0 0
abbrev kX0_isReached (l : Launch) (as : List am_W) (S : ah_H) (Q : Option am_W → ah_H → Prop) : Prop := am_C ah_r l yX0_isReached (ws_ yX0_isReached cX0_isReached 6 (some .boolean)) (am_rm 2 0 0) 0 0 as S Q
set_option maxHeartbeats 4000000 in
set_option maxRecDepth 100000 in
theorem bX0_isReached {l : Launch} {Q : Option am_W → ah_H → Prop} {S : ah_H} (v0 : Nat) (v1 : Nat) (v2 : Int) (h2 : am_r v2) (v3 : Int) (h3 : am_r v3) (v4 : Int) (h4 : am_r v4)
    (hh : ((8 ≤ v4) →
        (∃ fs4, (S.1 v1 = some (.inl (2, fs4))) ∧
        kX1_cellOf l [am_R v1, am_I (v4 - 8)] S (am_qi fun r7 G6 =>
          (∃ fs9, (G6.1 v0 = some (.inl (1, fs9))) ∧
          (∃ x12, (fs9[10]? = some (am_R x12)) ∧
          (∃ n13 f14, (G6.1 x12 = some (.inr (0, n13, .inl f14))) ∧
          (0 ≤ v2 ∧ v2 < (n13 : Int)) ∧
          (∃ fs17, (G6.1 v1 = some (.inl (2, fs17))) ∧
          kX1_cellOf l [am_R v1, am_I v3] G6 (am_qi fun r20 G19 =>
            ((¬ (am_and (am_shr (f14 v2.toNat).toInt r20) 1) = 1) →
              Q (some (am_I (am_b false))) G19) ∧
            (((am_and (am_shr (f14 v2.toNat).toInt r20) 1) = 1) →
              (∃ fs25, (G19.1 v0 = some (.inl (1, fs25))) ∧
              (∃ x28, (fs25[10]? = some (am_R x28)) ∧
              (∃ n29 f30, (G19.1 x28 = some (.inr (0, n29, .inl f30))) ∧
              (0 ≤ v2 ∧ v2 < (n29 : Int)) ∧
              ((¬ (am_and (am_shr (f30 v2.toNat).toInt r7) 1) = 1) →
                Q (some (am_I (am_b false))) G19) ∧
              (((am_and (am_shr (f30 v2.toNat).toInt r7) 1) = 1) →
                Q (some (am_I (am_b true))) G19))))))))))))) ∧
      ((¬ 8 ≤ v4) →
        (∃ fs36, (S.1 v0 = some (.inl (1, fs36))) ∧
        (∃ x39, (fs36[10]? = some (am_R x39)) ∧
        (∃ n40 f41, (S.1 x39 = some (.inr (0, n40, .inl f41))) ∧
        (0 ≤ v2 ∧ v2 < (n40 : Int)) ∧
        (∃ fs44, (S.1 v1 = some (.inl (2, fs44))) ∧
        kX1_cellOf l [am_R v1, am_I v3] S (am_qi fun r47 G46 =>
          ((¬ (am_and (am_shr (f41 v2.toNat).toInt r47) 1) = 1) →
            Q (some (am_I (am_b false))) G46) ∧
          (((am_and (am_shr (f41 v2.toNat).toInt r47) 1) = 1) →
            (∃ fs52, (G46.1 v0 = some (.inl (1, fs52))) ∧
            (∃ x55, (fs52[10]? = some (am_R x55)) ∧
            (∃ n56 f57, (G46.1 x55 = some (.inr (0, n56, .inl f57))) ∧
            (0 ≤ v2 ∧ v2 < (n56 : Int)) ∧
            ((¬ (am_and (am_shr (f57 v2.toNat).toInt v4) 1) = 1) →
              Q (some (am_I (am_b false))) G46) ∧
            (((am_and (am_shr (f57 v2.toNat).toInt v4) 1) = 1) →
              Q (some (am_I (am_b true))) G46)))))))))))) : kX0_isReached l [am_R v0, am_R v1, am_I v2, am_I v3, am_I v4] S Q := by
  refine am_entry (lv := [(0, am_R v0), (1, am_R v1), (2, am_I v2), (3, am_I v3), (4, am_I v4)]) rfl rfl rfl (fun _ => rfl) (fun _ => Nat.le_of_ble_eq_true rfl) ?_
  refine am_iload dX0_isReached_0 4 rfl ?_
  refine am_bipush dX0_isReached_2 (by decide) ?_
  obtain ⟨ha1, hb2⟩ := hh
  refine am_icmp_ge (tgt := 12) dX0_isReached_4 (by decide) h4 (⟨by decide, by decide⟩) (fun hc3 => ?_) (fun hc3 => ?_)
  · have hh := ha1 hc3
    refine am_aload_n dX0_isReached_12 rfl 1 rfl ?_
    refine am_iload dX0_isReached_13 4 rfl ?_
    refine am_bipush dX0_isReached_15 (by decide) ?_
    refine am_isub dX0_isReached_17 ?_
    obtain ⟨fs4, ho5, hh⟩ := hh
    refine am_rVi (n := 1) hh dX0_isReached_18 (lw_V q468 q469 q470 q91 q471) rfl ⟨⟨by decide, by decide, by decide +kernel⟩, ⟨Nat.le_of_ble_eq_true rfl, Nat.le_of_ble_eq_true rfl⟩⟩ ⟨rfl, rfl⟩ rfl rfl (Nat.le_of_ble_eq_true rfl) ⟨(Nat.le_of_ble_eq_true rfl), (Nat.le_of_ble_eq_true rfl)⟩ (ah_recv ho5 rfl) (fun r7 G6 hr8 hh => ?_)
    refine am_istore dX0_isReached_21 (by decide) rfl ?_
    refine am_aload_n dX0_isReached_23 rfl 1 rfl ?_
    obtain ⟨fs9, ho10, hh⟩ := hh
    obtain ⟨x12, hv11, hh⟩ := hh
    refine ah_get ho10 hv11 rfl in_X0 (by decide) q224 (Or.inl rfl) dX0_isReached_24 ?_
    refine am_iload_n dX0_isReached_27 rfl 3 rfl ?_
    obtain ⟨n13, f14, ha15, hh⟩ := hh
    obtain ⟨o16, hh⟩ := hh
    refine ah_iald ha15 o16.1 o16.2 (v := (f14 v2.toNat).toInt) rfl dX0_isReached_28 ?_
    refine am_aload_n dX0_isReached_29 rfl 2 rfl ?_
    refine am_iload_n dX0_isReached_30 rfl 4 rfl ?_
    obtain ⟨fs17, ho18, hh⟩ := hh
    refine am_rVi (n := 1) hh dX0_isReached_31 (lw_V q468 q469 q470 q91 q471) rfl ⟨⟨by decide, by decide, by decide +kernel⟩, ⟨Nat.le_of_ble_eq_true rfl, Nat.le_of_ble_eq_true rfl⟩⟩ ⟨rfl, rfl⟩ rfl rfl (Nat.le_of_ble_eq_true rfl) ⟨(Nat.le_of_ble_eq_true rfl), (Nat.le_of_ble_eq_true rfl)⟩ (ah_recv ho18 rfl) (fun r20 G19 hr21 hh => ?_)
    refine am_ishr dX0_isReached_34 ?_
    refine am_iconst dX0_isReached_35 ?_
    refine am_iand dX0_isReached_36 ?_
    refine am_iconst dX0_isReached_37 ?_
    obtain ⟨ha22, hb23⟩ := hh
    refine am_icmp_ne (tgt := 60) dX0_isReached_38 (by decide) (am_rt _) (⟨by decide, by decide⟩) (fun hc24 => ?_) (fun hc24 => ?_)
    · have hh := ha22 hc24
      refine am_iconst dX0_isReached_60 ?_
      exact am_zret (b := false) rfl dX0_isReached_61 (Nat.le_refl 0) (Nat.le_refl 0) hh
    · have hh := hb23 hc24
      refine am_aload_n dX0_isReached_41 rfl 1 rfl ?_
      obtain ⟨fs25, ho26, hh⟩ := hh
      obtain ⟨x28, hv27, hh⟩ := hh
      refine ah_get ho26 hv27 rfl in_X0 (by decide) q224 (Or.inl rfl) dX0_isReached_42 ?_
      refine am_iload_n dX0_isReached_45 rfl 3 rfl ?_
      obtain ⟨n29, f30, ha31, hh⟩ := hh
      obtain ⟨o32, hh⟩ := hh
      refine ah_iald ha31 o32.1 o32.2 (v := (f30 v2.toNat).toInt) rfl dX0_isReached_46 ?_
      refine am_iload dX0_isReached_47 0 rfl ?_
      refine am_ishr dX0_isReached_49 ?_
      refine am_iconst dX0_isReached_50 ?_
      refine am_iand dX0_isReached_51 ?_
      refine am_iconst dX0_isReached_52 ?_
      obtain ⟨ha33, hb34⟩ := hh
      refine am_icmp_ne (tgt := 60) dX0_isReached_53 (by decide) (am_rt _) (⟨by decide, by decide⟩) (fun hc35 => ?_) (fun hc35 => ?_)
      · have hh := ha33 hc35
        refine am_iconst dX0_isReached_60 ?_
        exact am_zret (b := false) rfl dX0_isReached_61 (Nat.le_refl 0) (Nat.le_refl 0) hh
      · have hh := hb34 hc35
        refine am_iconst dX0_isReached_56 ?_
        refine am_goto (tgt := 61) dX0_isReached_57 (by decide) ?_
        exact am_zret (b := true) rfl dX0_isReached_61 (Nat.le_refl 0) (Nat.le_refl 0) hh
  · have hh := hb2 hc3
    refine am_iload dX0_isReached_7 4 rfl ?_
    refine am_goto (tgt := 21) dX0_isReached_9 (by decide) ?_
    refine am_istore dX0_isReached_21 (by decide) rfl ?_
    refine am_aload_n dX0_isReached_23 rfl 1 rfl ?_
    obtain ⟨fs36, ho37, hh⟩ := hh
    obtain ⟨x39, hv38, hh⟩ := hh
    refine ah_get ho37 hv38 rfl in_X0 (by decide) q224 (Or.inl rfl) dX0_isReached_24 ?_
    refine am_iload_n dX0_isReached_27 rfl 3 rfl ?_
    obtain ⟨n40, f41, ha42, hh⟩ := hh
    obtain ⟨o43, hh⟩ := hh
    refine ah_iald ha42 o43.1 o43.2 (v := (f41 v2.toNat).toInt) rfl dX0_isReached_28 ?_
    refine am_aload_n dX0_isReached_29 rfl 2 rfl ?_
    refine am_iload_n dX0_isReached_30 rfl 4 rfl ?_
    obtain ⟨fs44, ho45, hh⟩ := hh
    refine am_rVi (n := 1) hh dX0_isReached_31 (lw_V q468 q469 q470 q91 q471) rfl ⟨⟨by decide, by decide, by decide +kernel⟩, ⟨Nat.le_of_ble_eq_true rfl, Nat.le_of_ble_eq_true rfl⟩⟩ ⟨rfl, rfl⟩ rfl rfl (Nat.le_of_ble_eq_true rfl) ⟨(Nat.le_of_ble_eq_true rfl), (Nat.le_of_ble_eq_true rfl)⟩ (ah_recv ho45 rfl) (fun r47 G46 hr48 hh => ?_)
    refine am_ishr dX0_isReached_34 ?_
    refine am_iconst dX0_isReached_35 ?_
    refine am_iand dX0_isReached_36 ?_
    refine am_iconst dX0_isReached_37 ?_
    obtain ⟨ha49, hb50⟩ := hh
    refine am_icmp_ne (tgt := 60) dX0_isReached_38 (by decide) (am_rt _) (⟨by decide, by decide⟩) (fun hc51 => ?_) (fun hc51 => ?_)
    · have hh := ha49 hc51
      refine am_iconst dX0_isReached_60 ?_
      exact am_zret (b := false) rfl dX0_isReached_61 (Nat.le_refl 0) (Nat.le_refl 0) hh
    · have hh := hb50 hc51
      refine am_aload_n dX0_isReached_41 rfl 1 rfl ?_
      obtain ⟨fs52, ho53, hh⟩ := hh
      obtain ⟨x55, hv54, hh⟩ := hh
      refine ah_get ho53 hv54 rfl in_X0 (by decide) q224 (Or.inl rfl) dX0_isReached_42 ?_
      refine am_iload_n dX0_isReached_45 rfl 3 rfl ?_
      obtain ⟨n56, f57, ha58, hh⟩ := hh
      obtain ⟨o59, hh⟩ := hh
      refine ah_iald ha58 o59.1 o59.2 (v := (f57 v2.toNat).toInt) rfl dX0_isReached_46 ?_
      refine am_iload dX0_isReached_47 0 rfl ?_
      refine am_ishr dX0_isReached_49 ?_
      refine am_iconst dX0_isReached_50 ?_
      refine am_iand dX0_isReached_51 ?_
      refine am_iconst dX0_isReached_52 ?_
      obtain ⟨ha60, hb61⟩ := hh
      refine am_icmp_ne (tgt := 60) dX0_isReached_53 (by decide) (am_rt _) (⟨by decide, by decide⟩) (fun hc62 => ?_) (fun hc62 => ?_)
      · have hh := ha60 hc62
        refine am_iconst dX0_isReached_60 ?_
        exact am_zret (b := false) rfl dX0_isReached_61 (Nat.le_refl 0) (Nat.le_refl 0) hh
      · have hh := hb61 hc62
        refine am_iconst dX0_isReached_56 ?_
        refine am_goto (tgt := 61) dX0_isReached_57 (by decide) ?_
        exact am_zret (b := true) rfl dX0_isReached_61 (Nat.le_refl 0) (Nat.le_refl 0) hh
/-! TableArms$Table.leave(I)V -/
abbrev VX1_leave (l : Launch) (Q : Option am_W → ah_H → Prop) (pc : Nat) (lv : List (Nat × am_W)) (st : List am_W) (S : ah_H) : Prop := am_V ah_r l RX1 cX1_leave 2 none "leave" (am_rm 1 0 0) (am_E1 ah_r 0 0 Q) pc lv st S 0 0
abbrev kX1_leave (l : Launch) (as : List am_W) (S : ah_H) (Q : Option am_W → ah_H → Prop) : Prop := am_C ah_r l yX1_leave (ws_ yX1_leave cX1_leave 2 none) (am_rm 1 0 0) 0 0 as S Q
set_option maxHeartbeats 4000000 in
set_option maxRecDepth 100000 in
theorem bX1_leave {l : Launch} {Q : Option am_W → ah_H → Prop} {S : ah_H} (v0 : Nat) (v1 : Int) (h1 : am_r v1)
    (hh : (∃ fs1, (S.1 v0 = some (.inl (2, fs1))) ∧
      (∃ x4, (fs1[3]? = some (am_R x4)) ∧
      (∃ n5 f6, (S.1 x4 = some (.inr (0, n5, .inl f6))) ∧
      (0 ≤ v1 ∧ v1 < (n5 : Int)) ∧
      ((¬ ((f6 v1.toNat).toInt) = (-1000000)) →
        (∃ x13, (fs1[4]? = some (am_R x13)) ∧
        (∃ n14 f15, (S.1 x13 = some (.inr (0, n14, .inl f15))) ∧
        (ah_X ≤ x13) ∧
        (0 ≤ (f6 v1.toNat).toInt ∧ (f6 v1.toNat).toInt < (n14 : Int)) ∧
        (∀ G19, G19 = ah_si S x13 0 n14 f15 ((f6 v1.toNat).toInt) (Int32.ofInt (-1000000)) →
        Q none G19)))) ∧
      ((((f6 v1.toNat).toInt) = (-1000000)) →
        (∃ x22, (fs1[1]? = some (am_R x22)) ∧
        (∃ x24, (fs1[2]? = some (am_R x24)) ∧
        (∃ n25 f26, (S.1 x24 = some (.inr (0, n25, .inl f26))) ∧
        (0 ≤ v1 ∧ v1 < (n25 : Int)) ∧
        (∃ n29 f30, (S.1 x22 = some (.inr (0, n29, .inl f30))) ∧
        (0 ≤ (f26 v1.toNat).toInt ∧ (f26 v1.toNat).toInt < (n29 : Int)) ∧
        (ah_X ≤ x22) ∧
        (∀ G34, G34 = ah_si S x22 0 n29 f30 ((f26 v1.toNat).toInt) (Int32.ofInt ((f30 ((f26 v1.toNat).toInt).toNat).toInt - 1)) →
        Q none G34)))))))))) : kX1_leave l [am_R v0, am_I v1] S Q := by
  refine am_entry (lv := [(0, am_R v0), (1, am_I v1)]) rfl rfl rfl (fun _ => rfl) (fun _ => Nat.le_of_ble_eq_true rfl) ?_
  refine am_aload_n dX1_leave_0 rfl 0 rfl ?_
  obtain ⟨fs1, ho2, hh⟩ := hh
  obtain ⟨x4, hv3, hh⟩ := hh
  refine ah_get ho2 hv3 rfl in_X1 (by decide) q148 (Or.inl rfl) dX1_leave_1 ?_
  refine am_iload_n dX1_leave_4 rfl 1 rfl ?_
  obtain ⟨n5, f6, ha7, hh⟩ := hh
  obtain ⟨o8, hh⟩ := hh
  refine ah_iald ha7 o8.1 o8.2 (v := (f6 v1.toNat).toInt) rfl dX1_leave_5 ?_
  refine am_ldc (z := -1000000) q455 (by decide) dX1_leave_6 ?_
  obtain ⟨ha9, hb10⟩ := hh
  refine am_icmp_ne (tgt := 29) dX1_leave_8 (by decide) (am_rt _) (⟨by decide, by decide⟩) (fun hc11 => ?_) (fun hc11 => ?_)
  · have hh := ha9 hc11
    refine am_aload_n dX1_leave_29 rfl 0 rfl ?_
    obtain ⟨x13, hv12, hh⟩ := hh
    refine ah_get ho2 hv12 rfl in_X1 (by decide) q151 (Or.inl rfl) dX1_leave_30 ?_
    refine am_aload_n dX1_leave_33 rfl 0 rfl ?_
    refine ah_get ho2 hv3 rfl in_X1 (by decide) q148 (Or.inl rfl) dX1_leave_34 ?_
    refine am_iload_n dX1_leave_37 rfl 1 rfl ?_
    refine ah_iald ha7 o8.1 o8.2 (v := (f6 v1.toNat).toInt) rfl dX1_leave_38 ?_
    refine am_ldc (z := -1000000) q455 (by decide) dX1_leave_39 ?_
    obtain ⟨n14, f15, ha16, hh⟩ := hh
    obtain ⟨o17, hh⟩ := hh
    obtain ⟨o18, hh⟩ := hh
    refine ah_iast ha16 o17 o18.1 o18.2 dX1_leave_41 ?_
    have hh := hh _ rfl
    exact am_vret rfl dX1_leave_42 (Nat.le_refl 0) (Nat.le_refl 0) hh
  · have hh := hb10 hc11
    refine am_aload_n dX1_leave_11 rfl 0 rfl ?_
    obtain ⟨x22, hv21, hh⟩ := hh
    refine ah_get ho2 hv21 rfl in_X1 (by decide) q144 (Or.inl rfl) dX1_leave_12 ?_
    refine am_aload_n dX1_leave_15 rfl 0 rfl ?_
    obtain ⟨x24, hv23, hh⟩ := hh
    refine ah_get ho2 hv23 rfl in_X1 (by decide) q146 (Or.inl rfl) dX1_leave_16 ?_
    refine am_iload_n dX1_leave_19 rfl 1 rfl ?_
    obtain ⟨n25, f26, ha27, hh⟩ := hh
    obtain ⟨o28, hh⟩ := hh
    refine ah_iald ha27 o28.1 o28.2 (v := (f26 v1.toNat).toInt) rfl dX1_leave_20 ?_
    refine am_dup2 dX1_leave_21 rfl rfl ?_
    obtain ⟨n29, f30, ha31, hh⟩ := hh
    obtain ⟨o32, hh⟩ := hh
    refine ah_iald ha31 o32.1 o32.2 (v := (f30 ((f26 v1.toNat).toInt).toNat).toInt) rfl dX1_leave_22 ?_
    refine am_iconst dX1_leave_23 ?_
    refine am_isub dX1_leave_24 ?_
    obtain ⟨o33, hh⟩ := hh
    refine ah_iast ha31 o33 o32.1 o32.2 dX1_leave_25 ?_
    have hh := hh _ rfl
    refine am_goto (tgt := 42) dX1_leave_26 (by decide) ?_
    exact am_vret rfl dX1_leave_42 (Nat.le_refl 0) (Nat.le_refl 0) hh
/-! TableArms$Table.move(II)V -/
abbrev VX1_move (l : Launch) (Q : Option am_W → ah_H → Prop) (pc : Nat) (lv : List (Nat × am_W)) (st : List am_W) (S : ah_H) : Prop := am_V ah_r l RX1 cX1_move 3 none "move" (am_rm 2 0 0) (am_E1 ah_r 0 0 Q) pc lv st S 0 0
abbrev kX1_move (l : Launch) (as : List am_W) (S : ah_H) (Q : Option am_W → ah_H → Prop) : Prop := am_C ah_r l yX1_move (ws_ yX1_move cX1_move 3 none) (am_rm 2 0 0) 0 0 as S Q
set_option maxHeartbeats 4000000 in
set_option maxRecDepth 100000 in
theorem bX1_move {l : Launch} {Q : Option am_W → ah_H → Prop} {S : ah_H} (v0 : Nat) (v1 : Int) (h1 : am_r v1) (v2 : Int) (h2 : am_r v2)
    (hh : (∃ fs1, (S.1 v0 = some (.inl (2, fs1))) ∧
      (∃ x4, (fs1[3]? = some (am_R x4)) ∧
      (∃ n5 f6, (S.1 x4 = some (.inr (0, n5, .inl f6))) ∧
      (0 ≤ v1 ∧ v1 < (n5 : Int)) ∧
      ((¬ ((f6 v1.toNat).toInt) = (-1000000)) →
        kX1_leave l [am_R v0, am_I v1] S (am_qv fun G12 =>
          (∃ fs13, (G12.1 v0 = some (.inl (2, fs13))) ∧
          kX1_push l [am_R v0, am_I v1, am_I v2] G12 (am_qv fun G15 =>
            Q none G15)))) ∧
      ((((f6 v1.toNat).toInt) = (-1000000)) →
        (∃ x17, (fs1[2]? = some (am_R x17)) ∧
        (∃ n18 f19, (S.1 x17 = some (.inr (0, n18, .inl f19))) ∧
        (0 ≤ v1 ∧ v1 < (n18 : Int)) ∧
        ((¬ ((f19 v1.toNat).toInt) = v2) →
          kX1_leave l [am_R v0, am_I v1] S (am_qv fun G25 =>
            (∃ fs26, (G25.1 v0 = some (.inl (2, fs26))) ∧
            kX1_push l [am_R v0, am_I v1, am_I v2] G25 (am_qv fun G28 =>
              Q none G28)))) ∧
        ((((f19 v1.toNat).toInt) = v2) →
          Q none S)))))))) : kX1_move l [am_R v0, am_I v1, am_I v2] S Q := by
  refine am_entry (lv := [(0, am_R v0), (1, am_I v1), (2, am_I v2)]) rfl rfl rfl (fun _ => rfl) (fun _ => Nat.le_of_ble_eq_true rfl) ?_
  refine am_aload_n dX1_move_0 rfl 0 rfl ?_
  obtain ⟨fs1, ho2, hh⟩ := hh
  obtain ⟨x4, hv3, hh⟩ := hh
  refine ah_get ho2 hv3 rfl in_X1 (by decide) q148 (Or.inl rfl) dX1_move_1 ?_
  refine am_iload_n dX1_move_4 rfl 1 rfl ?_
  obtain ⟨n5, f6, ha7, hh⟩ := hh
  obtain ⟨o8, hh⟩ := hh
  refine ah_iald ha7 o8.1 o8.2 (v := (f6 v1.toNat).toInt) rfl dX1_move_5 ?_
  refine am_ldc (z := -1000000) q455 (by decide) dX1_move_6 ?_
  obtain ⟨ha9, hb10⟩ := hh
  refine am_icmp_ne (tgt := 22) dX1_move_8 (by decide) (am_rt _) (⟨by decide, by decide⟩) (fun hc11 => ?_) (fun hc11 => ?_)
  · have hh := ha9 hc11
    refine am_aload_n dX1_move_22 rfl 0 rfl ?_
    refine am_iload_n dX1_move_23 rfl 1 rfl ?_
    refine am_rVv (n := 1) hh dX1_move_24 (lw_V q535 q537 qs9 q91 q538) rfl ⟨⟨by decide, by decide, by decide +kernel⟩, ⟨Nat.le_of_ble_eq_true rfl, Nat.le_of_ble_eq_true rfl⟩⟩ ⟨rfl, rfl⟩ rfl rfl (Nat.le_of_ble_eq_true rfl) ⟨(Nat.le_of_ble_eq_true rfl), (Nat.le_of_ble_eq_true rfl)⟩ (ah_recv ho2 rfl) (fun G12 hh => ?_)
    refine am_aload_n dX1_move_27 rfl 0 rfl ?_
    refine am_iload_n dX1_move_28 rfl 1 rfl ?_
    refine am_iload_n dX1_move_29 rfl 2 rfl ?_
    obtain ⟨fs13, ho14, hh⟩ := hh
    refine am_rVv (n := 2) hh dX1_move_30 (lw_V q456 q457 q458 q91 q459) rfl ⟨⟨by decide, by decide, by decide +kernel⟩, ⟨Nat.le_of_ble_eq_true rfl, Nat.le_of_ble_eq_true rfl⟩⟩ ⟨rfl, rfl⟩ rfl rfl (Nat.le_of_ble_eq_true rfl) ⟨(Nat.le_of_ble_eq_true rfl), (Nat.le_of_ble_eq_true rfl)⟩ (ah_recv ho14 rfl) (fun G15 hh => ?_)
    exact am_vret rfl dX1_move_33 (Nat.le_refl 0) (Nat.le_refl 0) hh
  · have hh := hb10 hc11
    refine am_aload_n dX1_move_11 rfl 0 rfl ?_
    obtain ⟨x17, hv16, hh⟩ := hh
    refine ah_get ho2 hv16 rfl in_X1 (by decide) q146 (Or.inl rfl) dX1_move_12 ?_
    refine am_iload_n dX1_move_15 rfl 1 rfl ?_
    obtain ⟨n18, f19, ha20, hh⟩ := hh
    obtain ⟨o21, hh⟩ := hh
    refine ah_iald ha20 o21.1 o21.2 (v := (f19 v1.toNat).toInt) rfl dX1_move_16 ?_
    refine am_iload_n dX1_move_17 rfl 2 rfl ?_
    obtain ⟨ha22, hb23⟩ := hh
    refine am_icmp_ne (tgt := 22) dX1_move_18 (by decide) (am_rt _) h2 (fun hc24 => ?_) (fun hc24 => ?_)
    · have hh := ha22 hc24
      refine am_aload_n dX1_move_22 rfl 0 rfl ?_
      refine am_iload_n dX1_move_23 rfl 1 rfl ?_
      refine am_rVv (n := 1) hh dX1_move_24 (lw_V q535 q537 qs9 q91 q538) rfl ⟨⟨by decide, by decide, by decide +kernel⟩, ⟨Nat.le_of_ble_eq_true rfl, Nat.le_of_ble_eq_true rfl⟩⟩ ⟨rfl, rfl⟩ rfl rfl (Nat.le_of_ble_eq_true rfl) ⟨(Nat.le_of_ble_eq_true rfl), (Nat.le_of_ble_eq_true rfl)⟩ (ah_recv ho2 rfl) (fun G25 hh => ?_)
      refine am_aload_n dX1_move_27 rfl 0 rfl ?_
      refine am_iload_n dX1_move_28 rfl 1 rfl ?_
      refine am_iload_n dX1_move_29 rfl 2 rfl ?_
      obtain ⟨fs26, ho27, hh⟩ := hh
      refine am_rVv (n := 2) hh dX1_move_30 (lw_V q456 q457 q458 q91 q459) rfl ⟨⟨by decide, by decide, by decide +kernel⟩, ⟨Nat.le_of_ble_eq_true rfl, Nat.le_of_ble_eq_true rfl⟩⟩ ⟨rfl, rfl⟩ rfl rfl (Nat.le_of_ble_eq_true rfl) ⟨(Nat.le_of_ble_eq_true rfl), (Nat.le_of_ble_eq_true rfl)⟩ (ah_recv ho27 rfl) (fun G28 hh => ?_)
      exact am_vret rfl dX1_move_33 (Nat.le_refl 0) (Nat.le_refl 0) hh
    · have hh := hb23 hc24
      exact am_vret rfl dX1_move_21 (Nat.le_refl 0) (Nat.le_refl 0) hh
/-! TableArms$Table.into(II)V -/
abbrev VX1_into (l : Launch) (Q : Option am_W → ah_H → Prop) (pc : Nat) (lv : List (Nat × am_W)) (st : List am_W) (S : ah_H) : Prop := am_V ah_r l RX1 cX1_into 3 none "into" (am_rm 2 0 0) (am_E1 ah_r 0 0 Q) pc lv st S 0 0
abbrev kX1_into (l : Launch) (as : List am_W) (S : ah_H) (Q : Option am_W → ah_H → Prop) : Prop := am_C ah_r l yX1_into (ws_ yX1_into cX1_into 3 none) (am_rm 2 0 0) 0 0 as S Q
set_option maxHeartbeats 4000000 in
set_option maxRecDepth 100000 in
theorem bX1_into {l : Launch} {Q : Option am_W → ah_H → Prop} {S : ah_H} (v0 : Nat) (v1 : Int) (h1 : am_r v1) (v2 : Int) (h2 : am_r v2)
    (hh : (∃ fs1, (S.1 v0 = some (.inl (2, fs1))) ∧
      kX1_leave l [am_R v0, am_I v1] S (am_qv fun G3 =>
        (∃ fs4, (G3.1 v0 = some (.inl (2, fs4))) ∧
        (∃ x7, (fs4[2]? = some (am_R x7)) ∧
        (∃ n8 f9, (G3.1 x7 = some (.inr (0, n8, .inl f9))) ∧
        (ah_X ≤ x7) ∧
        (0 ≤ v1 ∧ v1 < (n8 : Int)) ∧
        (∀ G13, G13 = ah_si G3 x7 0 n8 f9 v1 (Int32.ofInt (-1000000)) →
        (∃ fs15, (G13.1 v0 = some (.inl (2, fs15))) ∧
        (∃ x18, (fs15[3]? = some (am_R x18)) ∧
        (∃ n19 f20, (G13.1 x18 = some (.inr (0, n19, .inl f20))) ∧
        (ah_X ≤ x18) ∧
        (0 ≤ v1 ∧ v1 < (n19 : Int)) ∧
        (∀ G24, G24 = ah_si G13 x18 0 n19 f20 v1 (Int32.ofInt v2) →
        (∃ fs26, (G24.1 v0 = some (.inl (2, fs26))) ∧
        (∃ x29, (fs26[4]? = some (am_R x29)) ∧
        (∃ n30 f31, (G24.1 x29 = some (.inr (0, n30, .inl f31))) ∧
        (ah_X ≤ x29) ∧
        (0 ≤ v2 ∧ v2 < (n30 : Int)) ∧
        (∀ G35, G35 = ah_si G24 x29 0 n30 f31 v2 (Int32.ofInt v1) →
        Q none G35))))))))))))))) : kX1_into l [am_R v0, am_I v1, am_I v2] S Q := by
  refine am_entry (lv := [(0, am_R v0), (1, am_I v1), (2, am_I v2)]) rfl rfl rfl (fun _ => rfl) (fun _ => Nat.le_of_ble_eq_true rfl) ?_
  refine am_aload_n dX1_into_0 rfl 0 rfl ?_
  refine am_iload_n dX1_into_1 rfl 1 rfl ?_
  obtain ⟨fs1, ho2, hh⟩ := hh
  refine am_rVv (n := 1) hh dX1_into_2 (lw_V q535 q537 qs9 q91 q538) rfl ⟨⟨by decide, by decide, by decide +kernel⟩, ⟨Nat.le_of_ble_eq_true rfl, Nat.le_of_ble_eq_true rfl⟩⟩ ⟨rfl, rfl⟩ rfl rfl (Nat.le_of_ble_eq_true rfl) ⟨(Nat.le_of_ble_eq_true rfl), (Nat.le_of_ble_eq_true rfl)⟩ (ah_recv ho2 rfl) (fun G3 hh => ?_)
  refine am_aload_n dX1_into_5 rfl 0 rfl ?_
  obtain ⟨fs4, ho5, hh⟩ := hh
  obtain ⟨x7, hv6, hh⟩ := hh
  refine ah_get ho5 hv6 rfl in_X1 (by decide) q146 (Or.inl rfl) dX1_into_6 ?_
  refine am_iload_n dX1_into_9 rfl 1 rfl ?_
  refine am_ldc (z := -1000000) q455 (by decide) dX1_into_10 ?_
  obtain ⟨n8, f9, ha10, hh⟩ := hh
  obtain ⟨o11, hh⟩ := hh
  obtain ⟨o12, hh⟩ := hh
  refine ah_iast ha10 o11 o12.1 o12.2 dX1_into_12 ?_
  have hh := hh _ rfl
  refine am_aload_n dX1_into_13 rfl 0 rfl ?_
  obtain ⟨fs15, ho16, hh⟩ := hh
  obtain ⟨x18, hv17, hh⟩ := hh
  refine ah_get ho16 hv17 rfl in_X1 (by decide) q148 (Or.inl rfl) dX1_into_14 ?_
  refine am_iload_n dX1_into_17 rfl 1 rfl ?_
  refine am_iload_n dX1_into_18 rfl 2 rfl ?_
  obtain ⟨n19, f20, ha21, hh⟩ := hh
  obtain ⟨o22, hh⟩ := hh
  obtain ⟨o23, hh⟩ := hh
  refine ah_iast ha21 o22 o23.1 o23.2 dX1_into_19 ?_
  have hh := hh _ rfl
  refine am_aload_n dX1_into_20 rfl 0 rfl ?_
  obtain ⟨fs26, ho27, hh⟩ := hh
  obtain ⟨x29, hv28, hh⟩ := hh
  refine ah_get ho27 hv28 rfl in_X1 (by decide) q151 (Or.inl rfl) dX1_into_21 ?_
  refine am_iload_n dX1_into_24 rfl 2 rfl ?_
  refine am_iload_n dX1_into_25 rfl 1 rfl ?_
  obtain ⟨n30, f31, ha32, hh⟩ := hh
  obtain ⟨o33, hh⟩ := hh
  obtain ⟨o34, hh⟩ := hh
  refine ah_iast ha32 o33 o34.1 o34.2 dX1_into_26 ?_
  have hh := hh _ rfl
  exact am_vret rfl dX1_into_27 (Nat.le_refl 0) (Nat.le_refl 0) hh
/-! TableArms.carry(LTableArms$Table;II)V -/
abbrev VX0_carry (l : Launch) (Q : Option am_W → ah_H → Prop) (pc : Nat) (lv : List (Nat × am_W)) (st : List am_W) (S : ah_H) : Prop := am_V ah_r l RX0 cX0_carry 3 none "carry" (am_rm 3 0 0) (am_E1 ah_r 0 0 Q) pc lv st S 0 0
abbrev kX0_carry (l : Launch) (as : List am_W) (S : ah_H) (Q : Option am_W → ah_H → Prop) : Prop := am_C ah_r l yX0_carry (ws_ yX0_carry cX0_carry 3 none) (am_rm 3 0 0) 0 0 as S Q
set_option maxHeartbeats 4000000 in
set_option maxRecDepth 100000 in
theorem bX0_carry {l : Launch} {Q : Option am_W → ah_H → Prop} {S : ah_H} (v0 : Nat) (v1 : Int) (h1 : am_r v1) (v2 : Int) (h2 : am_r v2)
    (hh : ((8 ≤ v2) →
        (∃ fs4, (S.1 v0 = some (.inl (2, fs4))) ∧
        kX1_into l [am_R v0, am_I v1, am_I (v2 - 8)] S (am_qv fun G6 =>
          Q none G6))) ∧
      ((¬ 8 ≤ v2) →
        (∃ fs7, (S.1 v0 = some (.inl (2, fs7))) ∧
        kX1_move l [am_R v0, am_I v1, am_I v2] S (am_qv fun G9 =>
          Q none G9)))) : kX0_carry l [am_R v0, am_I v1, am_I v2] S Q := by
  refine am_entry (lv := [(0, am_R v0), (1, am_I v1), (2, am_I v2)]) rfl rfl rfl (fun _ => rfl) (fun _ => Nat.le_of_ble_eq_true rfl) ?_
  refine am_iload_n dX0_carry_0 rfl 2 rfl ?_
  refine am_bipush dX0_carry_1 (by decide) ?_
  obtain ⟨ha1, hb2⟩ := hh
  refine am_icmp_ge (tgt := 15) dX0_carry_3 (by decide) h2 (⟨by decide, by decide⟩) (fun hc3 => ?_) (fun hc3 => ?_)
  · have hh := ha1 hc3
    refine am_aload_n dX0_carry_15 rfl 0 rfl ?_
    refine am_iload_n dX0_carry_16 rfl 1 rfl ?_
    refine am_iload_n dX0_carry_17 rfl 2 rfl ?_
    refine am_bipush dX0_carry_18 (by decide) ?_
    refine am_isub dX0_carry_20 ?_
    obtain ⟨fs4, ho5, hh⟩ := hh
    refine am_rVv (n := 2) hh dX0_carry_21 (lw_V q539 q540 q541 q91 q542) rfl ⟨⟨by decide, by decide, by decide +kernel⟩, ⟨Nat.le_of_ble_eq_true rfl, Nat.le_of_ble_eq_true rfl⟩⟩ ⟨rfl, rfl⟩ rfl rfl (Nat.le_of_ble_eq_true rfl) ⟨(Nat.le_of_ble_eq_true rfl), (Nat.le_of_ble_eq_true rfl)⟩ (ah_recv ho5 rfl) (fun G6 hh => ?_)
    exact am_vret rfl dX0_carry_24 (Nat.le_refl 0) (Nat.le_refl 0) hh
  · have hh := hb2 hc3
    refine am_aload_n dX0_carry_6 rfl 0 rfl ?_
    refine am_iload_n dX0_carry_7 rfl 1 rfl ?_
    refine am_iload_n dX0_carry_8 rfl 2 rfl ?_
    obtain ⟨fs7, ho8, hh⟩ := hh
    refine am_rVv (n := 2) hh dX0_carry_9 (lw_V q531 q532 q533 q91 q534) rfl ⟨⟨by decide, by decide, by decide +kernel⟩, ⟨Nat.le_of_ble_eq_true rfl, Nat.le_of_ble_eq_true rfl⟩⟩ ⟨rfl, rfl⟩ rfl rfl (Nat.le_of_ble_eq_true rfl) ⟨(Nat.le_of_ble_eq_true rfl), (Nat.le_of_ble_eq_true rfl)⟩ (ah_recv ho8 rfl) (fun G9 hh => ?_)
    refine am_goto (tgt := 24) dX0_carry_12 (by decide) ?_
    exact am_vret rfl dX0_carry_24 (Nat.le_refl 0) (Nat.le_refl 0) hh
/-! TableArms.move(III)I -/
abbrev VX0_move (l : Launch) (Q : Option am_W → ah_H → Prop) (pc : Nat) (lv : List (Nat × am_W)) (st : List am_W) (S : ah_H) : Prop := am_V ah_r l RX0 cX0_move 4 (some .int) "move" (am_rm 5 0 0) (am_E1 ah_r 0 0 Q) pc lv st S 0 0
abbrev kX0_move (l : Launch) (as : List am_W) (S : ah_H) (Q : Option am_W → ah_H → Prop) : Prop := am_C ah_r l yX0_move (ws_ yX0_move cX0_move 4 (some .int)) (am_rm 5 0 0) 0 0 as S Q
set_option maxHeartbeats 4000000 in
set_option maxRecDepth 100000 in
theorem bX0_move {l : Launch} {Q : Option am_W → ah_H → Prop} {S : ah_H} (v0 : Nat) (v1 : Int) (h1 : am_r v1) (v2 : Int) (h2 : am_r v2) (v3 : Int) (h3 : am_r v3)
    (hh : (∃ fs1, (S.1 v0 = some (.inl (1, fs1))) ∧
      kX0_isMove l [am_R v0, am_I v1, am_I v2, am_I v3] S (am_qz fun b4 G3 =>
        ((b4 = true) →
          (∃ fs8, (G3.1 v0 = some (.inl (1, fs8))) ∧
          (∃ x11, (fs8[4]? = some (am_R x11)) ∧
          kX0_can l [am_R v0, am_R x11, am_I v2, am_I v3] G3 (am_qz fun b13 G12 =>
            ((b13 = false) →
              Q (some (am_I (-1000002))) G12) ∧
            ((b13 = true) →
              (∃ fs17, (G12.1 v0 = some (.inl (1, fs17))) ∧
              (∃ x20, (fs17[4]? = some (am_R x20)) ∧
              kX0_isReached l [am_R v0, am_R x20, am_I v1, am_I v2, am_I v3] G12 (am_qz fun b22 G21 =>
                ((b22 = true) →
                  (∃ fs26, (G21.1 v0 = some (.inl (1, fs26))) ∧
                  (∃ x29, (fs26[4]? = some (am_R x29)) ∧
                  kX0_carry l [am_R x29, am_I v2, am_I v3] G21 (am_qv fun G30 =>
                    Q (some (am_I 1)) G30)))) ∧
                ((b22 = false) →
                  Q (some (am_I (-1000002))) G21))))))))) ∧
        ((b4 = false) →
          Q (some (am_I (-1000001))) G3)))) : kX0_move l [am_R v0, am_I v1, am_I v2, am_I v3] S Q := by
  refine am_entry (lv := [(0, am_R v0), (1, am_I v1), (2, am_I v2), (3, am_I v3)]) rfl rfl rfl (fun _ => rfl) (fun _ => Nat.le_of_ble_eq_true rfl) ?_
  refine am_aload_n dX0_move_0 rfl 0 rfl ?_
  refine am_iload_n dX0_move_1 rfl 1 rfl ?_
  refine am_iload_n dX0_move_2 rfl 2 rfl ?_
  refine am_iload_n dX0_move_3 rfl 3 rfl ?_
  obtain ⟨fs1, ho2, hh⟩ := hh
  refine am_rVz (n := 3) hh dX0_move_4 (lw_V q502 q504 qs5 q90 q505) rfl ⟨⟨by decide, by decide, by decide +kernel⟩, ⟨Nat.le_of_ble_eq_true rfl, Nat.le_of_ble_eq_true rfl⟩⟩ ⟨rfl, rfl⟩ rfl rfl (Nat.le_of_ble_eq_true rfl) ⟨(Nat.le_of_ble_eq_true rfl), (Nat.le_of_ble_eq_true rfl)⟩ (ah_recv ho2 rfl) (fun b4 G3 hh => ?_)
  obtain ⟨ha5, hb6⟩ := hh
  refine am_ifB_ne (tgt := 13) dX0_move_7 (by decide) (fun hc7 => ?_) (fun hc7 => ?_)
  · have hh := ha5 hc7
    refine am_aload_n dX0_move_13 rfl 0 rfl ?_
    refine am_aload_n dX0_move_14 rfl 0 rfl ?_
    obtain ⟨fs8, ho9, hh⟩ := hh
    obtain ⟨x11, hv10, hh⟩ := hh
    refine ah_get ho9 hv10 rfl in_X0 (by decide) q215 (Or.inl rfl) dX0_move_15 ?_
    refine am_iload_n dX0_move_18 rfl 2 rfl ?_
    refine am_iload_n dX0_move_19 rfl 3 rfl ?_
    refine am_rVz (n := 3) hh dX0_move_20 (lw_V q510 q512 qs7 q90 q513) rfl ⟨⟨by decide, by decide, by decide +kernel⟩, ⟨Nat.le_of_ble_eq_true rfl, Nat.le_of_ble_eq_true rfl⟩⟩ ⟨rfl, rfl⟩ rfl rfl (Nat.le_of_ble_eq_true rfl) ⟨(Nat.le_of_ble_eq_true rfl), (Nat.le_of_ble_eq_true rfl)⟩ (ah_recv ho9 rfl) (fun b13 G12 hh => ?_)
    obtain ⟨ha14, hb15⟩ := hh
    refine am_ifB_eq (tgt := 40) dX0_move_23 (by decide) (fun hc16 => ?_) (fun hc16 => ?_)
    · have hh := ha14 hc16
      refine am_ldc (z := -1000002) q527 (by decide) dX0_move_40 ?_
      exact am_iret rfl dX0_move_42 (Nat.le_refl 0) (Nat.le_refl 0) hh
    · have hh := hb15 hc16
      refine am_aload_n dX0_move_26 rfl 0 rfl ?_
      refine am_aload_n dX0_move_27 rfl 0 rfl ?_
      obtain ⟨fs17, ho18, hh⟩ := hh
      obtain ⟨x20, hv19, hh⟩ := hh
      refine ah_get ho18 hv19 rfl in_X0 (by decide) q215 (Or.inl rfl) dX0_move_28 ?_
      refine am_iload_n dX0_move_31 rfl 1 rfl ?_
      refine am_iload_n dX0_move_32 rfl 2 rfl ?_
      refine am_iload_n dX0_move_33 rfl 3 rfl ?_
      refine am_rVz (n := 4) hh dX0_move_34 (lw_V q523 q525 qs8 q90 q526) rfl ⟨⟨by decide, by decide, by decide +kernel⟩, ⟨Nat.le_of_ble_eq_true rfl, Nat.le_of_ble_eq_true rfl⟩⟩ ⟨rfl, rfl⟩ rfl rfl (Nat.le_of_ble_eq_true rfl) ⟨(Nat.le_of_ble_eq_true rfl), (Nat.le_of_ble_eq_true rfl)⟩ (ah_recv ho18 rfl) (fun b22 G21 hh => ?_)
      obtain ⟨ha23, hb24⟩ := hh
      refine am_ifB_ne (tgt := 43) dX0_move_37 (by decide) (fun hc25 => ?_) (fun hc25 => ?_)
      · have hh := ha23 hc25
        refine am_aload_n dX0_move_43 rfl 0 rfl ?_
        obtain ⟨fs26, ho27, hh⟩ := hh
        obtain ⟨x29, hv28, hh⟩ := hh
        refine ah_get ho27 hv28 rfl in_X0 (by decide) q215 (Or.inl rfl) dX0_move_44 ?_
        refine am_iload_n dX0_move_47 rfl 2 rfl ?_
        refine am_iload_n dX0_move_48 rfl 3 rfl ?_
        refine am_rSv (n := 3) hh dX0_move_49 (lw_S q528 q529 q90 q530) ⟨⟨by decide, by decide, by decide +kernel⟩, ⟨Nat.le_of_ble_eq_true rfl, Nat.le_of_ble_eq_true rfl⟩⟩ ⟨rfl, rfl⟩ rfl rfl (Nat.le_of_ble_eq_true rfl) ⟨(Nat.le_of_ble_eq_true rfl), (Nat.le_of_ble_eq_true rfl)⟩ (fun G30 hh => ?_)
        refine am_iconst dX0_move_52 ?_
        exact am_iret rfl dX0_move_53 (Nat.le_refl 0) (Nat.le_refl 0) hh
      · have hh := hb24 hc25
        refine am_ldc (z := -1000002) q527 (by decide) dX0_move_40 ?_
        exact am_iret rfl dX0_move_42 (Nat.le_refl 0) (Nat.le_refl 0) hh
  · have hh := hb6 hc7
    refine am_ldc (z := -1000001) q289 (by decide) dX0_move_10 ?_
    exact am_iret rfl dX0_move_12 (Nat.le_refl 0) (Nat.le_refl 0) hh
/-! TableArms$Table.lay(LTableArms$Table;)V -/
abbrev VX1_lay (l : Launch) (Q : Option am_W → ah_H → Prop) (pc : Nat) (lv : List (Nat × am_W)) (st : List am_W) (S : ah_H) : Prop := am_V ah_r l RX1 cX1_lay 2 none "lay" (am_rm 2 0 0) (am_E1 ah_r 0 0 Q) pc lv st S 0 0
abbrev kX1_lay (l : Launch) (as : List am_W) (S : ah_H) (Q : Option am_W → ah_H → Prop) : Prop := am_C ah_r l yX1_lay (ws_ yX1_lay cX1_lay 2 none) (am_rm 2 0 0) 0 0 as S Q
set_option maxHeartbeats 4000000 in
set_option maxRecDepth 100000 in
theorem bX1_lay {l : Launch} {Q : Option am_W → ah_H → Prop} {S : ah_H} (v0 : Nat) (v1 : Nat)
    (hh : (∃ fs1, (S.1 v1 = some (.inl (2, fs1))) ∧
      (∃ x4, (fs1[0]? = some (am_R x4)) ∧
      (∃ fs5, (S.1 v0 = some (.inl (2, fs5))) ∧
      (∃ x8, (fs5[0]? = some (am_R x8)) ∧
      (∃ n9 f10, (S.1 x4 = some (.inr (0, n9, .inl f10))) ∧
      (∃ n12 f13, (S.1 x8 = some (.inr (0, n12, .inl f13))) ∧
      (ah_X ≤ x4) ∧
      (ah_X ≤ x8) ∧
      (0 + 48 ≤ (n9 : Int)) ∧
      (0 + 48 ≤ (n12 : Int)) ∧
      (∀ G19, G19 = ah_cp S x8 0 n12 f10 f13 0 0 48 →
      (∃ fs21, (G19.1 v1 = some (.inl (2, fs21))) ∧
      (∃ x24, (fs21[1]? = some (am_R x24)) ∧
      (∃ fs25, (G19.1 v0 = some (.inl (2, fs25))) ∧
      (∃ x28, (fs25[1]? = some (am_R x28)) ∧
      (∃ n29 f30, (G19.1 x24 = some (.inr (0, n29, .inl f30))) ∧
      (∃ n32 f33, (G19.1 x28 = some (.inr (0, n32, .inl f33))) ∧
      (ah_X ≤ x24) ∧
      (ah_X ≤ x28) ∧
      (0 + 8 ≤ (n29 : Int)) ∧
      (0 + 8 ≤ (n32 : Int)) ∧
      (∀ G39, G39 = ah_cp G19 x28 0 n32 f30 f33 0 0 8 →
      (∃ fs41, (G39.1 v1 = some (.inl (2, fs41))) ∧
      (∃ x44, (fs41[2]? = some (am_R x44)) ∧
      (∃ fs45, (G39.1 v0 = some (.inl (2, fs45))) ∧
      (∃ x48, (fs45[2]? = some (am_R x48)) ∧
      (∃ n49 f50, (G39.1 x44 = some (.inr (0, n49, .inl f50))) ∧
      (∃ n52 f53, (G39.1 x48 = some (.inr (0, n52, .inl f53))) ∧
      (ah_X ≤ x44) ∧
      (ah_X ≤ x48) ∧
      (0 + 6 ≤ (n49 : Int)) ∧
      (0 + 6 ≤ (n52 : Int)) ∧
      (∀ G59, G59 = ah_cp G39 x48 0 n52 f50 f53 0 0 6 →
      (∃ fs61, (G59.1 v1 = some (.inl (2, fs61))) ∧
      (∃ x64, (fs61[3]? = some (am_R x64)) ∧
      (∃ fs65, (G59.1 v0 = some (.inl (2, fs65))) ∧
      (∃ x68, (fs65[3]? = some (am_R x68)) ∧
      (∃ n69 f70, (G59.1 x64 = some (.inr (0, n69, .inl f70))) ∧
      (∃ n72 f73, (G59.1 x68 = some (.inr (0, n72, .inl f73))) ∧
      (ah_X ≤ x64) ∧
      (ah_X ≤ x68) ∧
      (0 + 6 ≤ (n69 : Int)) ∧
      (0 + 6 ≤ (n72 : Int)) ∧
      (∀ G79, G79 = ah_cp G59 x68 0 n72 f70 f73 0 0 6 →
      (∃ fs81, (G79.1 v1 = some (.inl (2, fs81))) ∧
      (∃ x84, (fs81[4]? = some (am_R x84)) ∧
      (∃ fs85, (G79.1 v0 = some (.inl (2, fs85))) ∧
      (∃ x88, (fs85[4]? = some (am_R x88)) ∧
      (∃ n89 f90, (G79.1 x84 = some (.inr (0, n89, .inl f90))) ∧
      (∃ n92 f93, (G79.1 x88 = some (.inr (0, n92, .inl f93))) ∧
      (ah_X ≤ x84) ∧
      (ah_X ≤ x88) ∧
      (0 + 6 ≤ (n89 : Int)) ∧
      (0 + 6 ≤ (n92 : Int)) ∧
      (∀ G99, G99 = ah_cp G79 x88 0 n92 f90 f93 0 0 6 →
      Q none G99)))))))))))))))))))))))))))))))))))) : kX1_lay l [am_R v0, am_R v1] S Q := by
  refine am_entry (lv := [(0, am_R v0), (1, am_R v1)]) rfl rfl rfl (fun _ => rfl) (fun _ => Nat.le_of_ble_eq_true rfl) ?_
  refine am_aload_n dX1_lay_0 rfl 1 rfl ?_
  obtain ⟨fs1, ho2, hh⟩ := hh
  obtain ⟨x4, hv3, hh⟩ := hh
  refine ah_get ho2 hv3 rfl in_X1 (by decide) q143 (Or.inl rfl) dX1_lay_1 ?_
  refine am_iconst dX1_lay_4 ?_
  refine am_aload_n dX1_lay_5 rfl 0 rfl ?_
  obtain ⟨fs5, ho6, hh⟩ := hh
  obtain ⟨x8, hv7, hh⟩ := hh
  refine ah_get ho6 hv7 rfl in_X1 (by decide) q143 (Or.inl rfl) dX1_lay_6 ?_
  refine am_iconst dX1_lay_9 ?_
  refine am_bipush dX1_lay_10 (by decide) ?_
  obtain ⟨n9, f10, ha11, hh⟩ := hh
  obtain ⟨n12, f13, ha14, hh⟩ := hh
  obtain ⟨o15, hh⟩ := hh
  obtain ⟨o16, hh⟩ := hh
  obtain ⟨o17, hh⟩ := hh
  obtain ⟨o18, hh⟩ := hh
  refine ah_copy ha11 o15 ha14 o16 (by decide) (by decide) (by decide) (by decide) o17 o18 (fun _ _ => rfl) q551 q433 q432 q105 (Nat.le_of_ble_eq_true rfl) (Nat.le_of_ble_eq_true rfl) dX1_lay_12 ?_
  have hh := hh _ rfl
  refine am_aload_n dX1_lay_15 rfl 1 rfl ?_
  obtain ⟨fs21, ho22, hh⟩ := hh
  obtain ⟨x24, hv23, hh⟩ := hh
  refine ah_get ho22 hv23 rfl in_X1 (by decide) q144 (Or.inl rfl) dX1_lay_16 ?_
  refine am_iconst dX1_lay_19 ?_
  refine am_aload_n dX1_lay_20 rfl 0 rfl ?_
  obtain ⟨fs25, ho26, hh⟩ := hh
  obtain ⟨x28, hv27, hh⟩ := hh
  refine ah_get ho26 hv27 rfl in_X1 (by decide) q144 (Or.inl rfl) dX1_lay_21 ?_
  refine am_iconst dX1_lay_24 ?_
  refine am_bipush dX1_lay_25 (by decide) ?_
  obtain ⟨n29, f30, ha31, hh⟩ := hh
  obtain ⟨n32, f33, ha34, hh⟩ := hh
  obtain ⟨o35, hh⟩ := hh
  obtain ⟨o36, hh⟩ := hh
  obtain ⟨o37, hh⟩ := hh
  obtain ⟨o38, hh⟩ := hh
  refine ah_copy ha31 o35 ha34 o36 (by decide) (by decide) (by decide) (by decide) o37 o38 (fun _ _ => rfl) q551 q433 q432 q105 (Nat.le_of_ble_eq_true rfl) (Nat.le_of_ble_eq_true rfl) dX1_lay_27 ?_
  have hh := hh _ rfl
  refine am_aload_n dX1_lay_30 rfl 1 rfl ?_
  obtain ⟨fs41, ho42, hh⟩ := hh
  obtain ⟨x44, hv43, hh⟩ := hh
  refine ah_get ho42 hv43 rfl in_X1 (by decide) q146 (Or.inl rfl) dX1_lay_31 ?_
  refine am_iconst dX1_lay_34 ?_
  refine am_aload_n dX1_lay_35 rfl 0 rfl ?_
  obtain ⟨fs45, ho46, hh⟩ := hh
  obtain ⟨x48, hv47, hh⟩ := hh
  refine ah_get ho46 hv47 rfl in_X1 (by decide) q146 (Or.inl rfl) dX1_lay_36 ?_
  refine am_iconst dX1_lay_39 ?_
  refine am_bipush dX1_lay_40 (by decide) ?_
  obtain ⟨n49, f50, ha51, hh⟩ := hh
  obtain ⟨n52, f53, ha54, hh⟩ := hh
  obtain ⟨o55, hh⟩ := hh
  obtain ⟨o56, hh⟩ := hh
  obtain ⟨o57, hh⟩ := hh
  obtain ⟨o58, hh⟩ := hh
  refine ah_copy ha51 o55 ha54 o56 (by decide) (by decide) (by decide) (by decide) o57 o58 (fun _ _ => rfl) q551 q433 q432 q105 (Nat.le_of_ble_eq_true rfl) (Nat.le_of_ble_eq_true rfl) dX1_lay_42 ?_
  have hh := hh _ rfl
  refine am_aload_n dX1_lay_45 rfl 1 rfl ?_
  obtain ⟨fs61, ho62, hh⟩ := hh
  obtain ⟨x64, hv63, hh⟩ := hh
  refine ah_get ho62 hv63 rfl in_X1 (by decide) q148 (Or.inl rfl) dX1_lay_46 ?_
  refine am_iconst dX1_lay_49 ?_
  refine am_aload_n dX1_lay_50 rfl 0 rfl ?_
  obtain ⟨fs65, ho66, hh⟩ := hh
  obtain ⟨x68, hv67, hh⟩ := hh
  refine ah_get ho66 hv67 rfl in_X1 (by decide) q148 (Or.inl rfl) dX1_lay_51 ?_
  refine am_iconst dX1_lay_54 ?_
  refine am_bipush dX1_lay_55 (by decide) ?_
  obtain ⟨n69, f70, ha71, hh⟩ := hh
  obtain ⟨n72, f73, ha74, hh⟩ := hh
  obtain ⟨o75, hh⟩ := hh
  obtain ⟨o76, hh⟩ := hh
  obtain ⟨o77, hh⟩ := hh
  obtain ⟨o78, hh⟩ := hh
  refine ah_copy ha71 o75 ha74 o76 (by decide) (by decide) (by decide) (by decide) o77 o78 (fun _ _ => rfl) q551 q433 q432 q105 (Nat.le_of_ble_eq_true rfl) (Nat.le_of_ble_eq_true rfl) dX1_lay_57 ?_
  have hh := hh _ rfl
  refine am_aload_n dX1_lay_60 rfl 1 rfl ?_
  obtain ⟨fs81, ho82, hh⟩ := hh
  obtain ⟨x84, hv83, hh⟩ := hh
  refine ah_get ho82 hv83 rfl in_X1 (by decide) q151 (Or.inl rfl) dX1_lay_61 ?_
  refine am_iconst dX1_lay_64 ?_
  refine am_aload_n dX1_lay_65 rfl 0 rfl ?_
  obtain ⟨fs85, ho86, hh⟩ := hh
  obtain ⟨x88, hv87, hh⟩ := hh
  refine ah_get ho86 hv87 rfl in_X1 (by decide) q151 (Or.inl rfl) dX1_lay_66 ?_
  refine am_iconst dX1_lay_69 ?_
  refine am_bipush dX1_lay_70 (by decide) ?_
  obtain ⟨n89, f90, ha91, hh⟩ := hh
  obtain ⟨n92, f93, ha94, hh⟩ := hh
  obtain ⟨o95, hh⟩ := hh
  obtain ⟨o96, hh⟩ := hh
  obtain ⟨o97, hh⟩ := hh
  obtain ⟨o98, hh⟩ := hh
  refine ah_copy ha91 o95 ha94 o96 (by decide) (by decide) (by decide) (by decide) o97 o98 (fun _ _ => rfl) q551 q433 q432 q105 (Nat.le_of_ble_eq_true rfl) (Nat.le_of_ble_eq_true rfl) dX1_lay_72 ?_
  have hh := hh _ rfl
  exact am_vret rfl dX1_lay_75 (Nat.le_refl 0) (Nat.le_refl 0) hh
/-! TableArms.keep()I -/
abbrev VX0_keep (l : Launch) (mc ms : Nat) (Q : Option am_W → ah_H → Prop) (pc : Nat) (lv : List (Nat × am_W)) (st : List am_W) (S : ah_H) (cells slots : Nat) : Prop := am_V ah_r l RX0 cX0_keep 1 (some .int) "keep" (am_rm 3 mc ms) (am_E1 ah_r mc ms Q) pc lv st S cells slots
abbrev kX0_keep (l : Launch) (mc ms : Nat) (as : List am_W) (S : ah_H) (Q : Option am_W → ah_H → Prop) : Prop := am_C ah_r l yX0_keep (ws_ yX0_keep cX0_keep 1 (some .int)) (am_rm 3 mc ms) mc ms as S Q
set_option maxHeartbeats 4000000 in
set_option maxRecDepth 100000 in
theorem bX0_keep {l : Launch} {mc ms : Nat} {Q : Option am_W → ah_H → Prop} {S : ah_H} (v0 : Nat)
    (hh : (∃ fs1, (S.1 v0 = some (.inl (1, fs1))) ∧
      (∃ z4, (fs1[6]? = some (am_I z4) ∧ am_r z4) ∧
      ((¬ z4 = 8) →
        (∃ x10, (fs1[5]? = some (am_R x10)) ∧
        (1 ≤ mc) ∧
        (5 ≤ ms) ∧
        (∀ G13, G13 = ah_mk S (.inl (2, ah_dX1)) →
        (∃ mc15 ms16 : Nat, ((1 + mc15) ≤ mc ∧ (5 + ms16) ≤ ms) ∧
        kX1_init l mc15 ms16 [am_R S.2] G13 (am_qv fun G19 =>
          (∃ n20 f21, (G19.1 x10 = some (.inr (3, n20, .inr f21))) ∧
          (ah_X ≤ x10) ∧
          (0 ≤ z4 ∧ z4 < (n20 : Int)) ∧
          (ah_is G19 (some S.2) "TableArms$Table") ∧
          (∀ G26, G26 = ah_sr G19 x10 3 n20 f21 z4 (some S.2) →
          (∃ fs28, (G26.1 v0 = some (.inl (1, fs28))) ∧
          (∃ x31, (fs28[5]? = some (am_R x31)) ∧
          (∃ z33, (fs28[6]? = some (am_I z33) ∧ am_r z33) ∧
          (∃ n35 f36, (G26.1 x31 = some (.inr (3, n35, .inr f36))) ∧
          (0 ≤ z33 ∧ z33 < (n35 : Int)) ∧
          (∃ y39, (f36 z33.toNat = some y39) ∧
          (∃ x42, (fs28[4]? = some (am_R x42)) ∧
          (∃ fs43, (G26.1 y39 = some (.inl (2, fs43))) ∧
          kX1_lay l [am_R y39, am_R x42] G26 (am_qv fun G45 =>
            (∃ fs46, (G45.1 v0 = some (.inl (1, fs46))) ∧
            (∃ z49, (fs46[6]? = some (am_I z49) ∧ am_r z49) ∧
            (ah_X ≤ v0) ∧
            (6 < fs46.length) ∧
            (∀ G53, G53 = ah_sf G45 v0 1 fs46 6 (am_I (z49 + 1)) →
            Q (some (am_I z49)) G53)))))))))))))))))) ∧
      ((z4 = 8) →
        Q (some (am_I (-1000003))) S)))) : kX0_keep l mc ms [am_R v0] S Q := by
  refine am_entry (lv := [(0, am_R v0)]) rfl rfl rfl (fun _ => rfl) (fun _ => Nat.le_of_ble_eq_true rfl) ?_
  refine am_aload_n dX0_keep_0 rfl 0 rfl ?_
  obtain ⟨fs1, ho2, hh⟩ := hh
  obtain ⟨z4, ⟨hv3, hr5⟩, hh⟩ := hh
  refine ah_get ho2 hv3 rfl in_X0 (by decide) q220 (Or.inl rfl) dX0_keep_1 ?_
  refine am_bipush dX0_keep_4 (by decide) ?_
  obtain ⟨ha6, hb7⟩ := hh
  refine am_icmp_ne (tgt := 12) dX0_keep_6 (by decide) hr5 (⟨by decide, by decide⟩) (fun hc8 => ?_) (fun hc8 => ?_)
  · have hh := ha6 hc8
    refine am_aload_n dX0_keep_12 rfl 0 rfl ?_
    obtain ⟨x10, hv9, hh⟩ := hh
    refine ah_get ho2 hv9 rfl in_X0 (by decide) q219 (Or.inl rfl) dX0_keep_13 ?_
    refine am_aload_n dX0_keep_16 rfl 0 rfl ?_
    refine ah_get ho2 hv3 rfl in_X0 (by decide) q220 (Or.inl rfl) dX0_keep_17 ?_
    obtain ⟨o11, hh⟩ := hh
    obtain ⟨o12, hh⟩ := hh
    refine ah_new (ci := 2) (fs := ah_dX1) tyX1 rfl in_X1 tyX1_ok q137 q138 q91 ah_dX1_ok o11 o12 dX0_keep_20 ?_
    have hh := hh _ rfl
    refine am_dup dX0_keep_23 rfl ?_
    obtain ⟨mc15, ms16, ⟨o17, o18⟩, hh⟩ := hh
    refine am_rINv (n := 0) hh dX0_keep_24 (am_nwin q139 rfl) q140 q91 q141 rfl ⟨⟨by decide, by decide, by decide +kernel⟩, ⟨Nat.le_of_ble_eq_true rfl, Nat.le_of_ble_eq_true rfl⟩⟩ ⟨rfl, rfl⟩ rfl rfl (Nat.le_of_ble_eq_true rfl) ⟨o17, o18⟩ (fun G19 hh => ?_)
    obtain ⟨n20, f21, ha22, hh⟩ := hh
    obtain ⟨o23, hh⟩ := hh
    obtain ⟨o24, hh⟩ := hh
    obtain ⟨o25, hh⟩ := hh
    refine ah_aast ha22 o23 rfl o24.1 o24.2 o25 dX0_keep_27 ?_
    have hh := hh _ rfl
    refine am_aload_n dX0_keep_28 rfl 0 rfl ?_
    obtain ⟨fs28, ho29, hh⟩ := hh
    obtain ⟨x31, hv30, hh⟩ := hh
    refine ah_get ho29 hv30 rfl in_X0 (by decide) q219 (Or.inl rfl) dX0_keep_29 ?_
    refine am_aload_n dX0_keep_32 rfl 0 rfl ?_
    obtain ⟨z33, ⟨hv32, hr34⟩, hh⟩ := hh
    refine ah_get ho29 hv32 rfl in_X0 (by decide) q220 (Or.inl rfl) dX0_keep_33 ?_
    obtain ⟨n35, f36, ha37, hh⟩ := hh
    obtain ⟨o38, hh⟩ := hh
    obtain ⟨y39, hy40, hh⟩ := hh
    refine ah_aald ha37 (by decide) o38.1 o38.2 hy40 dX0_keep_36 ?_
    refine am_aload_n dX0_keep_37 rfl 0 rfl ?_
    obtain ⟨x42, hv41, hh⟩ := hh
    refine ah_get ho29 hv41 rfl in_X0 (by decide) q215 (Or.inl rfl) dX0_keep_38 ?_
    obtain ⟨fs43, ho44, hh⟩ := hh
    refine am_rVv (n := 1) hh dX0_keep_41 (lw_V q547 q548 q549 q91 q550) rfl ⟨⟨by decide, by decide, by decide +kernel⟩, ⟨Nat.le_of_ble_eq_true rfl, Nat.le_of_ble_eq_true rfl⟩⟩ ⟨rfl, rfl⟩ rfl rfl (Nat.le_of_ble_eq_true rfl) ⟨o17, o18⟩ (ah_recv ho44 rfl) (fun G45 hh => ?_)
    refine am_aload_n dX0_keep_44 rfl 0 rfl ?_
    refine am_dup dX0_keep_45 rfl ?_
    obtain ⟨fs46, ho47, hh⟩ := hh
    obtain ⟨z49, ⟨hv48, hr50⟩, hh⟩ := hh
    refine ah_get ho47 hv48 rfl in_X0 (by decide) q220 (Or.inl rfl) dX0_keep_46 ?_
    refine am_dup_x1 dX0_keep_49 rfl rfl ?_
    refine am_iconst dX0_keep_50 ?_
    refine am_iadd dX0_keep_51 ?_
    obtain ⟨o51, hh⟩ := hh
    obtain ⟨o52, hh⟩ := hh
    refine ah_put (ty := tyX0 6) ho47 o51 o52 rfl in_X0 tyX0 tyX0_ok nmX0 (by decide) q220 (Or.inl rfl) rfl (tyX0_ok 6 (by decide)) ah_fit_int dX0_keep_52 ?_
    have hh := hh _ rfl
    exact am_iret rfl dX0_keep_55 o17 o18 hh
  · have hh := hb7 hc8
    refine am_ldc (z := -1000003) q450 (by decide) dX0_keep_9 ?_
    exact am_iret rfl dX0_keep_11 (Nat.zero_le _) (Nat.zero_le _) hh
/-! TableArms.isKept(I)Z -/
abbrev VX0_isKept (l : Launch) (Q : Option am_W → ah_H → Prop) (pc : Nat) (lv : List (Nat × am_W)) (st : List am_W) (S : ah_H) : Prop := am_V ah_r l RX0 cX0_isKept 2 (some .boolean) "isKept" (am_rm 2 0 0) (am_E1 ah_r 0 0 Q) pc lv st S 0 0
abbrev kX0_isKept (l : Launch) (as : List am_W) (S : ah_H) (Q : Option am_W → ah_H → Prop) : Prop := am_C ah_r l yX0_isKept (ws_ yX0_isKept cX0_isKept 2 (some .boolean)) (am_rm 2 0 0) 0 0 as S Q
set_option maxHeartbeats 4000000 in
set_option maxRecDepth 100000 in
theorem bX0_isKept {l : Launch} {Q : Option am_W → ah_H → Prop} {S : ah_H} (v0 : Nat) (v1 : Int) (h1 : am_r v1)
    (hh : (∃ fs1, (S.1 v0 = some (.inl (1, fs1))) ∧
      (∃ z4, (fs1[6]? = some (am_I z4) ∧ am_r z4) ∧
      (am_r (z4 - 1)) ∧
      kX0_isIn l [am_J v1, am_J 0, am_J (z4 - 1)] S (am_qz fun b8 G7 =>
        Q (some (am_I (am_b b8))) G7)))) : kX0_isKept l [am_R v0, am_I v1] S Q := by
  refine am_entry (lv := [(0, am_R v0), (1, am_I v1)]) rfl rfl rfl (fun _ => rfl) (fun _ => Nat.le_of_ble_eq_true rfl) ?_
  refine am_iload_n dX0_isKept_0 rfl 1 rfl ?_
  refine am_i2l_ h1 dX0_isKept_1 ?_
  refine am_lconst (z := 0) dX0_isKept_2 (by decide) ?_
  refine am_aload_n dX0_isKept_3 rfl 0 rfl ?_
  obtain ⟨fs1, ho2, hh⟩ := hh
  obtain ⟨z4, ⟨hv3, hr5⟩, hh⟩ := hh
  refine ah_get ho2 hv3 rfl in_X0 (by decide) q220 (Or.inl rfl) dX0_isKept_4 ?_
  refine am_iconst dX0_isKept_7 ?_
  refine am_isub dX0_isKept_8 ?_
  obtain ⟨o6, hh⟩ := hh
  refine am_i2l_ o6 dX0_isKept_9 ?_
  refine am_rSz (n := 3) hh dX0_isKept_10 (lw_S q285 q286 q90 q287) ⟨⟨by decide, by decide, by decide +kernel⟩, ⟨Nat.le_of_ble_eq_true rfl, Nat.le_of_ble_eq_true rfl⟩⟩ ⟨rfl, rfl⟩ rfl rfl (Nat.le_of_ble_eq_true rfl) ⟨(Nat.le_of_ble_eq_true rfl), (Nat.le_of_ble_eq_true rfl)⟩ (fun b8 G7 hh => ?_)
  exact am_zret (b := b8) rfl dX0_isKept_13 (Nat.le_refl 0) (Nat.le_refl 0) hh
/-! TableArms.back(I)I -/
abbrev VX0_back (l : Launch) (Q : Option am_W → ah_H → Prop) (pc : Nat) (lv : List (Nat × am_W)) (st : List am_W) (S : ah_H) : Prop := am_V ah_r l RX0 cX0_back 2 (some .int) "back" (am_rm 3 0 0) (am_E1 ah_r 0 0 Q) pc lv st S 0 0
abbrev kX0_back (l : Launch) (as : List am_W) (S : ah_H) (Q : Option am_W → ah_H → Prop) : Prop := am_C ah_r l yX0_back (ws_ yX0_back cX0_back 2 (some .int)) (am_rm 3 0 0) 0 0 as S Q
set_option maxHeartbeats 4000000 in
set_option maxRecDepth 100000 in
theorem bX0_back {l : Launch} {Q : Option am_W → ah_H → Prop} {S : ah_H} (v0 : Nat) (v1 : Int) (h1 : am_r v1)
    (hh : (∃ fs1, (S.1 v0 = some (.inl (1, fs1))) ∧
      kX0_isKept l [am_R v0, am_I v1] S (am_qz fun b4 G3 =>
        ((b4 = true) →
          (∃ fs8, (G3.1 v0 = some (.inl (1, fs8))) ∧
          (∃ x11, (fs8[4]? = some (am_R x11)) ∧
          (∃ x13, (fs8[5]? = some (am_R x13)) ∧
          (∃ n14 f15, (G3.1 x13 = some (.inr (3, n14, .inr f15))) ∧
          (0 ≤ v1 ∧ v1 < (n14 : Int)) ∧
          (∃ y18, (f15 v1.toNat = some y18) ∧
          (∃ fs20, (G3.1 x11 = some (.inl (2, fs20))) ∧
          kX1_lay l [am_R x11, am_R y18] G3 (am_qv fun G22 =>
            Q (some (am_I 1)) G22)))))))) ∧
        ((b4 = false) →
          Q (some (am_I (-1000001))) G3)))) : kX0_back l [am_R v0, am_I v1] S Q := by
  refine am_entry (lv := [(0, am_R v0), (1, am_I v1)]) rfl rfl rfl (fun _ => rfl) (fun _ => Nat.le_of_ble_eq_true rfl) ?_
  refine am_aload_n dX0_back_0 rfl 0 rfl ?_
  refine am_iload_n dX0_back_1 rfl 1 rfl ?_
  obtain ⟨fs1, ho2, hh⟩ := hh
  refine am_rVz (n := 1) hh dX0_back_2 (lw_V q556 q558 qs10 q90 q559) rfl ⟨⟨by decide, by decide, by decide +kernel⟩, ⟨Nat.le_of_ble_eq_true rfl, Nat.le_of_ble_eq_true rfl⟩⟩ ⟨rfl, rfl⟩ rfl rfl (Nat.le_of_ble_eq_true rfl) ⟨(Nat.le_of_ble_eq_true rfl), (Nat.le_of_ble_eq_true rfl)⟩ (ah_recv ho2 rfl) (fun b4 G3 hh => ?_)
  obtain ⟨ha5, hb6⟩ := hh
  refine am_ifB_ne (tgt := 11) dX0_back_5 (by decide) (fun hc7 => ?_) (fun hc7 => ?_)
  · have hh := ha5 hc7
    refine am_aload_n dX0_back_11 rfl 0 rfl ?_
    obtain ⟨fs8, ho9, hh⟩ := hh
    obtain ⟨x11, hv10, hh⟩ := hh
    refine ah_get ho9 hv10 rfl in_X0 (by decide) q215 (Or.inl rfl) dX0_back_12 ?_
    refine am_aload_n dX0_back_15 rfl 0 rfl ?_
    obtain ⟨x13, hv12, hh⟩ := hh
    refine ah_get ho9 hv12 rfl in_X0 (by decide) q219 (Or.inl rfl) dX0_back_16 ?_
    refine am_iload_n dX0_back_19 rfl 1 rfl ?_
    obtain ⟨n14, f15, ha16, hh⟩ := hh
    obtain ⟨o17, hh⟩ := hh
    obtain ⟨y18, hy19, hh⟩ := hh
    refine ah_aald ha16 (by decide) o17.1 o17.2 hy19 dX0_back_20 ?_
    obtain ⟨fs20, ho21, hh⟩ := hh
    refine am_rVv (n := 1) hh dX0_back_21 (lw_V q547 q548 q549 q91 q550) rfl ⟨⟨by decide, by decide, by decide +kernel⟩, ⟨Nat.le_of_ble_eq_true rfl, Nat.le_of_ble_eq_true rfl⟩⟩ ⟨rfl, rfl⟩ rfl rfl (Nat.le_of_ble_eq_true rfl) ⟨(Nat.le_of_ble_eq_true rfl), (Nat.le_of_ble_eq_true rfl)⟩ (ah_recv ho21 rfl) (fun G22 hh => ?_)
    refine am_iconst dX0_back_24 ?_
    exact am_iret rfl dX0_back_25 (Nat.le_refl 0) (Nat.le_refl 0) hh
  · have hh := hb6 hc7
    refine am_ldc (z := -1000001) q289 (by decide) dX0_back_8 ?_
    exact am_iret rfl dX0_back_10 (Nat.le_refl 0) (Nat.le_refl 0) hh
/-! TableArms$Table.isSame(LTableArms$Table;I)Z -/
abbrev VX1_isSame (l : Launch) (Q : Option am_W → ah_H → Prop) (pc : Nat) (lv : List (Nat × am_W)) (st : List am_W) (S : ah_H) : Prop := am_V ah_r l RX1 cX1_isSame 5 (some .boolean) "isSame" (am_rm 2 0 0) (am_E1 ah_r 0 0 Q) pc lv st S 0 0
abbrev kX1_isSame (l : Launch) (as : List am_W) (S : ah_H) (Q : Option am_W → ah_H → Prop) : Prop := am_C ah_r l yX1_isSame (ws_ yX1_isSame cX1_isSame 5 (some .boolean)) (am_rm 2 0 0) 0 0 as S Q
set_option maxHeartbeats 4000000 in
set_option maxRecDepth 100000 in
theorem bX1_isSame {l : Launch} {Q : Option am_W → ah_H → Prop} {S : ah_H} (v0 : Nat) (v1 : Nat) (v2 : Int) (h2 : am_r v2)
    (hh : VX1_isSame l Q 2 [(0, am_R v0), (1, am_R v1), (2, am_I v2), (3, am_I 0)] [] S) : kX1_isSame l [am_R v0, am_R v1, am_I v2] S Q := by
  refine am_entry (lv := [(0, am_R v0), (1, am_R v1), (2, am_I v2)]) rfl rfl rfl (fun _ => rfl) (fun _ => Nat.le_of_ble_eq_true rfl) ?_
  refine am_iconst dX1_isSame_0 ?_
  refine am_istore_n dX1_isSame_1 rfl (by decide) rfl ?_
  refine am_keep [1, 2, 3, 0] rfl ?_
  exact hh
set_option maxHeartbeats 4000000 in
set_option maxRecDepth 100000 in
theorem bX1_isSame_2 {l : Launch} {Q : Option am_W → ah_H → Prop} {S : ah_H} (v0 : Nat) (v1 : Nat) (v2 : Int) (h2 : am_r v2) (v3 : Int) (h3 : am_r v3)
    (hh : ((v2 ≤ v3) →
        VX1_isSame l Q 47 [(0, am_R v0), (1, am_R v1), (3, am_I 0)] [] S) ∧
      ((¬ v2 ≤ v3) →
        (∃ fs4, (S.1 v0 = some (.inl (2, fs4))) ∧
        (∃ x7, (fs4[2]? = some (am_R x7)) ∧
        (∃ n8 f9, (S.1 x7 = some (.inr (0, n8, .inl f9))) ∧
        (0 ≤ v3 ∧ v3 < (n8 : Int)) ∧
        (∃ fs12, (S.1 v1 = some (.inl (2, fs12))) ∧
        (∃ x15, (fs12[2]? = some (am_R x15)) ∧
        (∃ n16 f17, (S.1 x15 = some (.inr (0, n16, .inl f17))) ∧
        (0 ≤ v3 ∧ v3 < (n16 : Int)) ∧
        ((¬ ((f9 v3.toNat).toInt) = ((f17 v3.toNat).toInt)) →
          Q (some (am_I (am_b false))) S) ∧
        ((((f9 v3.toNat).toInt) = ((f17 v3.toNat).toInt)) →
          (∃ x24, (fs4[3]? = some (am_R x24)) ∧
          (∃ n25 f26, (S.1 x24 = some (.inr (0, n25, .inl f26))) ∧
          (0 ≤ v3 ∧ v3 < (n25 : Int)) ∧
          (∃ x30, (fs12[3]? = some (am_R x30)) ∧
          (∃ n31 f32, (S.1 x30 = some (.inr (0, n31, .inl f32))) ∧
          (0 ≤ v3 ∧ v3 < (n31 : Int)) ∧
          ((((f26 v3.toNat).toInt) = ((f32 v3.toNat).toInt)) →
            VX1_isSame l Q 2 [(0, am_R v0), (1, am_R v1), (2, am_I v2), (3, am_I (v3 + 1))] [] S) ∧
          ((¬ ((f26 v3.toNat).toInt) = ((f32 v3.toNat).toInt)) →
            Q (some (am_I (am_b false))) S)))))))))))))) : VX1_isSame l Q 2 [(0, am_R v0), (1, am_R v1), (2, am_I v2), (3, am_I v3)] [] S := by
  refine am_iload_n dX1_isSame_2 rfl 3 rfl ?_
  refine am_iload_n dX1_isSame_3 rfl 2 rfl ?_
  obtain ⟨ha1, hb2⟩ := hh
  refine am_icmp_ge (tgt := 45) dX1_isSame_4 (by decide) h3 h2 (fun hc3 => ?_) (fun hc3 => ?_)
  · have hh := ha1 hc3
    refine am_iconst dX1_isSame_45 ?_
    refine am_istore_n dX1_isSame_46 rfl (by decide) rfl ?_
    refine am_keep [1, 2, 0] rfl ?_
    exact hh
  · have hh := hb2 hc3
    refine am_aload_n dX1_isSame_7 rfl 0 rfl ?_
    obtain ⟨fs4, ho5, hh⟩ := hh
    obtain ⟨x7, hv6, hh⟩ := hh
    refine ah_get ho5 hv6 rfl in_X1 (by decide) q146 (Or.inl rfl) dX1_isSame_8 ?_
    refine am_iload_n dX1_isSame_11 rfl 3 rfl ?_
    obtain ⟨n8, f9, ha10, hh⟩ := hh
    obtain ⟨o11, hh⟩ := hh
    refine ah_iald ha10 o11.1 o11.2 (v := (f9 v3.toNat).toInt) rfl dX1_isSame_12 ?_
    refine am_aload_n dX1_isSame_13 rfl 1 rfl ?_
    obtain ⟨fs12, ho13, hh⟩ := hh
    obtain ⟨x15, hv14, hh⟩ := hh
    refine ah_get ho13 hv14 rfl in_X1 (by decide) q146 (Or.inl rfl) dX1_isSame_14 ?_
    refine am_iload_n dX1_isSame_17 rfl 3 rfl ?_
    obtain ⟨n16, f17, ha18, hh⟩ := hh
    obtain ⟨o19, hh⟩ := hh
    refine ah_iald ha18 o19.1 o19.2 (v := (f17 v3.toNat).toInt) rfl dX1_isSame_18 ?_
    obtain ⟨ha20, hb21⟩ := hh
    refine am_icmp_ne (tgt := 37) dX1_isSame_19 (by decide) (am_rt _) (am_rt _) (fun hc22 => ?_) (fun hc22 => ?_)
    · have hh := ha20 hc22
      refine am_iconst dX1_isSame_37 ?_
      exact am_zret (b := false) rfl dX1_isSame_38 (Nat.le_refl 0) (Nat.le_refl 0) hh
    · have hh := hb21 hc22
      refine am_aload_n dX1_isSame_22 rfl 0 rfl ?_
      obtain ⟨x24, hv23, hh⟩ := hh
      refine ah_get ho5 hv23 rfl in_X1 (by decide) q148 (Or.inl rfl) dX1_isSame_23 ?_
      refine am_iload_n dX1_isSame_26 rfl 3 rfl ?_
      obtain ⟨n25, f26, ha27, hh⟩ := hh
      obtain ⟨o28, hh⟩ := hh
      refine ah_iald ha27 o28.1 o28.2 (v := (f26 v3.toNat).toInt) rfl dX1_isSame_27 ?_
      refine am_aload_n dX1_isSame_28 rfl 1 rfl ?_
      obtain ⟨x30, hv29, hh⟩ := hh
      refine ah_get ho13 hv29 rfl in_X1 (by decide) q148 (Or.inl rfl) dX1_isSame_29 ?_
      refine am_iload_n dX1_isSame_32 rfl 3 rfl ?_
      obtain ⟨n31, f32, ha33, hh⟩ := hh
      obtain ⟨o34, hh⟩ := hh
      refine ah_iald ha33 o34.1 o34.2 (v := (f32 v3.toNat).toInt) rfl dX1_isSame_33 ?_
      obtain ⟨ha35, hb36⟩ := hh
      refine am_icmp_eq (tgt := 39) dX1_isSame_34 (by decide) (am_rt _) (am_rt _) (fun hc37 => ?_) (fun hc37 => ?_)
      · have hh := ha35 hc37
        refine am_iinc (n := 3) dX1_isSame_39 rfl (by decide) rfl ?_
        refine am_goto (tgt := 2) dX1_isSame_42 (by decide) ?_
        refine am_keep [1, 2, 3, 0] rfl ?_
        exact hh
      · have hh := hb36 hc37
        refine am_iconst dX1_isSame_37 ?_
        exact am_zret (b := false) rfl dX1_isSame_38 (Nat.le_refl 0) (Nat.le_refl 0) hh
set_option maxHeartbeats 4000000 in
set_option maxRecDepth 100000 in
theorem bX1_isSame_47 {l : Launch} {Q : Option am_W → ah_H → Prop} {S : ah_H} (v0 : Nat) (v1 : Nat) (v3 : Int) (h3 : am_r v3)
    (hh : ((8 ≤ v3) →
        Q (some (am_I (am_b true))) S) ∧
      ((¬ 8 ≤ v3) →
        VX1_isSame l Q 56 [(0, am_R v0), (1, am_R v1), (3, am_I v3), (4, am_I 0)] [] S)) : VX1_isSame l Q 47 [(0, am_R v0), (1, am_R v1), (3, am_I v3)] [] S := by
  refine am_iload_n dX1_isSame_47 rfl 2 rfl ?_
  refine am_bipush dX1_isSame_48 (by decide) ?_
  obtain ⟨ha1, hb2⟩ := hh
  refine am_icmp_ge (tgt := 98) dX1_isSame_50 (by decide) h3 (⟨by decide, by decide⟩) (fun hc3 => ?_) (fun hc3 => ?_)
  · have hh := ha1 hc3
    refine am_iconst dX1_isSame_98 ?_
    exact am_zret (b := true) rfl dX1_isSame_99 (Nat.le_refl 0) (Nat.le_refl 0) hh
  · have hh := hb2 hc3
    refine am_iconst dX1_isSame_53 ?_
    refine am_istore dX1_isSame_54 (by decide) rfl ?_
    refine am_keep [1, 2, 3, 0] rfl ?_
    exact hh
set_option maxHeartbeats 4000000 in
set_option maxRecDepth 100000 in
theorem bX1_isSame_56 {l : Launch} {Q : Option am_W → ah_H → Prop} {S : ah_H} (v0 : Nat) (v1 : Nat) (v3 : Int) (h3 : am_r v3) (v4 : Int) (h4 : am_r v4)
    (hh : (∃ fs1, (S.1 v0 = some (.inl (2, fs1))) ∧
      (∃ x4, (fs1[1]? = some (am_R x4)) ∧
      (∃ n5 f6, (S.1 x4 = some (.inr (0, n5, .inl f6))) ∧
      (0 ≤ v3 ∧ v3 < (n5 : Int)) ∧
      ((((f6 v3.toNat).toInt) ≤ v4) →
        VX1_isSame l Q 47 [(0, am_R v0), (1, am_R v1), (3, am_I (v3 + 1))] [] S) ∧
      ((¬ ((f6 v3.toNat).toInt) ≤ v4) →
        kX1_at l [am_R v0, am_I v3, am_I v4] S (am_qi fun r13 G12 =>
          (∃ fs15, (G12.1 v1 = some (.inl (2, fs15))) ∧
          kX1_at l [am_R v1, am_I v3, am_I v4] G12 (am_qi fun r18 G17 =>
            ((r13 = r18) →
              VX1_isSame l Q 56 [(0, am_R v0), (1, am_R v1), (3, am_I v3), (4, am_I (v4 + 1))] [] G17) ∧
            ((¬ r13 = r18) →
              Q (some (am_I (am_b false))) G17))))))))) : VX1_isSame l Q 56 [(0, am_R v0), (1, am_R v1), (3, am_I v3), (4, am_I v4)] [] S := by
  refine am_iload dX1_isSame_56 3 rfl ?_
  refine am_aload_n dX1_isSame_58 rfl 0 rfl ?_
  obtain ⟨fs1, ho2, hh⟩ := hh
  obtain ⟨x4, hv3, hh⟩ := hh
  refine ah_get ho2 hv3 rfl in_X1 (by decide) q144 (Or.inl rfl) dX1_isSame_59 ?_
  refine am_iload_n dX1_isSame_62 rfl 2 rfl ?_
  obtain ⟨n5, f6, ha7, hh⟩ := hh
  obtain ⟨o8, hh⟩ := hh
  refine ah_iald ha7 o8.1 o8.2 (v := (f6 v3.toNat).toInt) rfl dX1_isSame_63 ?_
  obtain ⟨ha9, hb10⟩ := hh
  refine am_icmp_ge (tgt := 92) dX1_isSame_64 (by decide) h4 (am_rt _) (fun hc11 => ?_) (fun hc11 => ?_)
  · have hh := ha9 hc11
    refine am_iinc (n := 2) dX1_isSame_92 rfl (by decide) rfl ?_
    refine am_goto (tgt := 47) dX1_isSame_95 (by decide) ?_
    refine am_keep [1, 2, 0] rfl ?_
    exact hh
  · have hh := hb10 hc11
    refine am_aload_n dX1_isSame_67 rfl 0 rfl ?_
    refine am_iload_n dX1_isSame_68 rfl 2 rfl ?_
    refine am_iload dX1_isSame_69 3 rfl ?_
    refine am_rVi (n := 2) hh dX1_isSame_71 (lw_V q477 q478 q479 q91 q480) rfl ⟨⟨by decide, by decide, by decide +kernel⟩, ⟨Nat.le_of_ble_eq_true rfl, Nat.le_of_ble_eq_true rfl⟩⟩ ⟨rfl, rfl⟩ rfl rfl (Nat.le_of_ble_eq_true rfl) ⟨(Nat.le_of_ble_eq_true rfl), (Nat.le_of_ble_eq_true rfl)⟩ (ah_recv ho2 rfl) (fun r13 G12 hr14 hh => ?_)
    refine am_aload_n dX1_isSame_74 rfl 1 rfl ?_
    refine am_iload_n dX1_isSame_75 rfl 2 rfl ?_
    refine am_iload dX1_isSame_76 3 rfl ?_
    obtain ⟨fs15, ho16, hh⟩ := hh
    refine am_rVi (n := 2) hh dX1_isSame_78 (lw_V q477 q478 q479 q91 q480) rfl ⟨⟨by decide, by decide, by decide +kernel⟩, ⟨Nat.le_of_ble_eq_true rfl, Nat.le_of_ble_eq_true rfl⟩⟩ ⟨rfl, rfl⟩ rfl rfl (Nat.le_of_ble_eq_true rfl) ⟨(Nat.le_of_ble_eq_true rfl), (Nat.le_of_ble_eq_true rfl)⟩ (ah_recv ho16 rfl) (fun r18 G17 hr19 hh => ?_)
    obtain ⟨ha20, hb21⟩ := hh
    refine am_icmp_eq (tgt := 86) dX1_isSame_81 (by decide) hr14 hr19 (fun hc22 => ?_) (fun hc22 => ?_)
    · have hh := ha20 hc22
      refine am_iinc (n := 3) dX1_isSame_86 rfl (by decide) rfl ?_
      refine am_goto (tgt := 56) dX1_isSame_89 (by decide) ?_
      refine am_keep [1, 2, 3, 0] rfl ?_
      exact hh
    · have hh := hb21 hc22
      refine am_iconst dX1_isSame_84 ?_
      exact am_zret (b := false) rfl dX1_isSame_85 (Nat.le_refl 0) (Nat.le_refl 0) hh
/-! TableArms.same(II)I -/
abbrev VX0_same (l : Launch) (Q : Option am_W → ah_H → Prop) (pc : Nat) (lv : List (Nat × am_W)) (st : List am_W) (S : ah_H) : Prop := am_V ah_r l RX0 cX0_same 3 (some .int) "same" (am_rm 3 0 0) (am_E1 ah_r 0 0 Q) pc lv st S 0 0
abbrev kX0_same (l : Launch) (as : List am_W) (S : ah_H) (Q : Option am_W → ah_H → Prop) : Prop := am_C ah_r l yX0_same (ws_ yX0_same cX0_same 3 (some .int)) (am_rm 3 0 0) 0 0 as S Q
set_option maxHeartbeats 4000000 in
set_option maxRecDepth 100000 in
theorem bX0_same {l : Launch} {Q : Option am_W → ah_H → Prop} {S : ah_H} (v0 : Nat) (v1 : Int) (h1 : am_r v1) (v2 : Int) (h2 : am_r v2)
    (hh : ((v1 = (-1000000)) →
        ((v2 = (-1000000)) →
          VX0_same l Q 31 [(0, am_R v0), (1, am_I v1), (2, am_I v2)] [] S) ∧
        ((¬ v2 = (-1000000)) →
          (∃ fs7, (S.1 v0 = some (.inl (1, fs7))) ∧
          kX0_isKept l [am_R v0, am_I v2] S (am_qz fun b10 G9 =>
            ((b10 = true) →
              VX0_same l Q 31 [(0, am_R v0), (1, am_I v1), (2, am_I v2)] [] G9) ∧
            ((b10 = false) →
              Q (some (am_I (-1000001))) G9))))) ∧
      ((¬ v1 = (-1000000)) →
        (∃ fs14, (S.1 v0 = some (.inl (1, fs14))) ∧
        kX0_isKept l [am_R v0, am_I v1] S (am_qz fun b17 G16 =>
          ((b17 = false) →
            Q (some (am_I (-1000001))) G16) ∧
          ((b17 = true) →
            ((v2 = (-1000000)) →
              VX0_same l Q 31 [(0, am_R v0), (1, am_I v1), (2, am_I v2)] [] G16) ∧
            ((¬ v2 = (-1000000)) →
              (∃ fs24, (G16.1 v0 = some (.inl (1, fs24))) ∧
              kX0_isKept l [am_R v0, am_I v2] G16 (am_qz fun b27 G26 =>
                ((b27 = true) →
                  VX0_same l Q 31 [(0, am_R v0), (1, am_I v1), (2, am_I v2)] [] G26) ∧
                ((b27 = false) →
                  Q (some (am_I (-1000001))) G26))))))))) : kX0_same l [am_R v0, am_I v1, am_I v2] S Q := by
  refine am_entry (lv := [(0, am_R v0), (1, am_I v1), (2, am_I v2)]) rfl rfl rfl (fun _ => rfl) (fun _ => Nat.le_of_ble_eq_true rfl) ?_
  refine am_iload_n dX0_same_0 rfl 1 rfl ?_
  refine am_ldc (z := -1000000) q472 (by decide) dX0_same_1 ?_
  obtain ⟨ha1, hb2⟩ := hh
  refine am_icmp_eq (tgt := 14) dX0_same_3 (by decide) h1 (⟨by decide, by decide⟩) (fun hc3 => ?_) (fun hc3 => ?_)
  · have hh := ha1 hc3
    refine am_iload_n dX0_same_14 rfl 2 rfl ?_
    refine am_ldc (z := -1000000) q472 (by decide) dX0_same_15 ?_
    obtain ⟨ha4, hb5⟩ := hh
    refine am_icmp_eq (tgt := 31) dX0_same_17 (by decide) h2 (⟨by decide, by decide⟩) (fun hc6 => ?_) (fun hc6 => ?_)
    · have hh := ha4 hc6
      exact hh
    · have hh := hb5 hc6
      refine am_aload_n dX0_same_20 rfl 0 rfl ?_
      refine am_iload_n dX0_same_21 rfl 2 rfl ?_
      obtain ⟨fs7, ho8, hh⟩ := hh
      refine am_rVz (n := 1) hh dX0_same_22 (lw_V q556 q558 qs10 q90 q559) rfl ⟨⟨by decide, by decide, by decide +kernel⟩, ⟨Nat.le_of_ble_eq_true rfl, Nat.le_of_ble_eq_true rfl⟩⟩ ⟨rfl, rfl⟩ rfl rfl (Nat.le_of_ble_eq_true rfl) ⟨(Nat.le_of_ble_eq_true rfl), (Nat.le_of_ble_eq_true rfl)⟩ (ah_recv ho8 rfl) (fun b10 G9 hh => ?_)
      obtain ⟨ha11, hb12⟩ := hh
      refine am_ifB_ne (tgt := 31) dX0_same_25 (by decide) (fun hc13 => ?_) (fun hc13 => ?_)
      · have hh := ha11 hc13
        exact hh
      · have hh := hb12 hc13
        refine am_ldc (z := -1000001) q289 (by decide) dX0_same_28 ?_
        exact am_iret rfl dX0_same_30 (Nat.le_refl 0) (Nat.le_refl 0) hh
  · have hh := hb2 hc3
    refine am_aload_n dX0_same_6 rfl 0 rfl ?_
    refine am_iload_n dX0_same_7 rfl 1 rfl ?_
    obtain ⟨fs14, ho15, hh⟩ := hh
    refine am_rVz (n := 1) hh dX0_same_8 (lw_V q556 q558 qs10 q90 q559) rfl ⟨⟨by decide, by decide, by decide +kernel⟩, ⟨Nat.le_of_ble_eq_true rfl, Nat.le_of_ble_eq_true rfl⟩⟩ ⟨rfl, rfl⟩ rfl rfl (Nat.le_of_ble_eq_true rfl) ⟨(Nat.le_of_ble_eq_true rfl), (Nat.le_of_ble_eq_true rfl)⟩ (ah_recv ho15 rfl) (fun b17 G16 hh => ?_)
    obtain ⟨ha18, hb19⟩ := hh
    refine am_ifB_eq (tgt := 28) dX0_same_11 (by decide) (fun hc20 => ?_) (fun hc20 => ?_)
    · have hh := ha18 hc20
      refine am_ldc (z := -1000001) q289 (by decide) dX0_same_28 ?_
      exact am_iret rfl dX0_same_30 (Nat.le_refl 0) (Nat.le_refl 0) hh
    · have hh := hb19 hc20
      refine am_iload_n dX0_same_14 rfl 2 rfl ?_
      refine am_ldc (z := -1000000) q472 (by decide) dX0_same_15 ?_
      obtain ⟨ha21, hb22⟩ := hh
      refine am_icmp_eq (tgt := 31) dX0_same_17 (by decide) h2 (⟨by decide, by decide⟩) (fun hc23 => ?_) (fun hc23 => ?_)
      · have hh := ha21 hc23
        exact hh
      · have hh := hb22 hc23
        refine am_aload_n dX0_same_20 rfl 0 rfl ?_
        refine am_iload_n dX0_same_21 rfl 2 rfl ?_
        obtain ⟨fs24, ho25, hh⟩ := hh
        refine am_rVz (n := 1) hh dX0_same_22 (lw_V q556 q558 qs10 q90 q559) rfl ⟨⟨by decide, by decide, by decide +kernel⟩, ⟨Nat.le_of_ble_eq_true rfl, Nat.le_of_ble_eq_true rfl⟩⟩ ⟨rfl, rfl⟩ rfl rfl (Nat.le_of_ble_eq_true rfl) ⟨(Nat.le_of_ble_eq_true rfl), (Nat.le_of_ble_eq_true rfl)⟩ (ah_recv ho25 rfl) (fun b27 G26 hh => ?_)
        obtain ⟨ha28, hb29⟩ := hh
        refine am_ifB_ne (tgt := 31) dX0_same_25 (by decide) (fun hc30 => ?_) (fun hc30 => ?_)
        · have hh := ha28 hc30
          exact hh
        · have hh := hb29 hc30
          refine am_ldc (z := -1000001) q289 (by decide) dX0_same_28 ?_
          exact am_iret rfl dX0_same_30 (Nat.le_refl 0) (Nat.le_refl 0) hh
set_option maxHeartbeats 4000000 in
set_option maxRecDepth 100000 in
theorem bX0_same_31 {l : Launch} {Q : Option am_W → ah_H → Prop} {S : ah_H} (v0 : Nat) (v1 : Int) (h1 : am_r v1) (v2 : Int) (h2 : am_r v2)
    (hh : ((¬ v1 = (-1000000)) →
        (∃ fs4, (S.1 v0 = some (.inl (1, fs4))) ∧
        (∃ x7, (fs4[5]? = some (am_R x7)) ∧
        (∃ n8 f9, (S.1 x7 = some (.inr (3, n8, .inr f9))) ∧
        (0 ≤ v1 ∧ v1 < (n8 : Int)) ∧
        (∃ y12, (f9 v1.toNat = some y12) ∧
        ((¬ v2 = (-1000000)) →
          (0 ≤ v2 ∧ v2 < (n8 : Int)) ∧
          (∃ y18, (f9 v2.toNat = some y18) ∧
          (∃ z21, (fs4[1]? = some (am_I z21) ∧ am_r z21) ∧
          (∃ fs23, (S.1 y12 = some (.inl (2, fs23))) ∧
          kX1_isSame l [am_R y12, am_R y18, am_I z21] S (am_qz fun b26 G25 =>
            ((b26 = false) →
              Q (some (am_I 0)) G25) ∧
            ((b26 = true) →
              Q (some (am_I 1)) G25)))))) ∧
        ((v2 = (-1000000)) →
          (∃ x31, (fs4[4]? = some (am_R x31)) ∧
          (∃ z33, (fs4[1]? = some (am_I z33) ∧ am_r z33) ∧
          (∃ fs35, (S.1 y12 = some (.inl (2, fs35))) ∧
          kX1_isSame l [am_R y12, am_R x31, am_I z33] S (am_qz fun b38 G37 =>
            ((b38 = false) →
              Q (some (am_I 0)) G37) ∧
            ((b38 = true) →
              Q (some (am_I 1)) G37))))))))))) ∧
      ((v1 = (-1000000)) →
        (∃ fs42, (S.1 v0 = some (.inl (1, fs42))) ∧
        (∃ x45, (fs42[4]? = some (am_R x45)) ∧
        ((¬ v2 = (-1000000)) →
          (∃ x50, (fs42[5]? = some (am_R x50)) ∧
          (∃ n51 f52, (S.1 x50 = some (.inr (3, n51, .inr f52))) ∧
          (0 ≤ v2 ∧ v2 < (n51 : Int)) ∧
          (∃ y55, (f52 v2.toNat = some y55) ∧
          (∃ z58, (fs42[1]? = some (am_I z58) ∧ am_r z58) ∧
          (∃ fs60, (S.1 x45 = some (.inl (2, fs60))) ∧
          kX1_isSame l [am_R x45, am_R y55, am_I z58] S (am_qz fun b63 G62 =>
            ((b63 = false) →
              Q (some (am_I 0)) G62) ∧
            ((b63 = true) →
              Q (some (am_I 1)) G62)))))))) ∧
        ((v2 = (-1000000)) →
          (∃ z68, (fs42[1]? = some (am_I z68) ∧ am_r z68) ∧
          (∃ fs70, (S.1 x45 = some (.inl (2, fs70))) ∧
          kX1_isSame l [am_R x45, am_R x45, am_I z68] S (am_qz fun b73 G72 =>
            ((b73 = false) →
              Q (some (am_I 0)) G72) ∧
            ((b73 = true) →
              Q (some (am_I 1)) G72))))))))) : VX0_same l Q 31 [(0, am_R v0), (1, am_I v1), (2, am_I v2)] [] S := by
  refine am_iload_n dX0_same_31 rfl 1 rfl ?_
  refine am_ldc (z := -1000000) q472 (by decide) dX0_same_32 ?_
  obtain ⟨ha1, hb2⟩ := hh
  refine am_icmp_ne (tgt := 44) dX0_same_34 (by decide) h1 (⟨by decide, by decide⟩) (fun hc3 => ?_) (fun hc3 => ?_)
  · have hh := ha1 hc3
    refine am_aload_n dX0_same_44 rfl 0 rfl ?_
    obtain ⟨fs4, ho5, hh⟩ := hh
    obtain ⟨x7, hv6, hh⟩ := hh
    refine ah_get ho5 hv6 rfl in_X0 (by decide) q219 (Or.inl rfl) dX0_same_45 ?_
    refine am_iload_n dX0_same_48 rfl 1 rfl ?_
    obtain ⟨n8, f9, ha10, hh⟩ := hh
    obtain ⟨o11, hh⟩ := hh
    obtain ⟨y12, hy13, hh⟩ := hh
    refine ah_aald ha10 (by decide) o11.1 o11.2 hy13 dX0_same_49 ?_
    refine am_iload_n dX0_same_50 rfl 2 rfl ?_
    refine am_ldc (z := -1000000) q472 (by decide) dX0_same_51 ?_
    obtain ⟨ha14, hb15⟩ := hh
    refine am_icmp_ne (tgt := 63) dX0_same_53 (by decide) h2 (⟨by decide, by decide⟩) (fun hc16 => ?_) (fun hc16 => ?_)
    · have hh := ha14 hc16
      refine am_aload_n dX0_same_63 rfl 0 rfl ?_
      refine ah_get ho5 hv6 rfl in_X0 (by decide) q219 (Or.inl rfl) dX0_same_64 ?_
      refine am_iload_n dX0_same_67 rfl 2 rfl ?_
      obtain ⟨o17, hh⟩ := hh
      obtain ⟨y18, hy19, hh⟩ := hh
      refine ah_aald ha10 (by decide) o17.1 o17.2 hy19 dX0_same_68 ?_
      refine am_aload_n dX0_same_69 rfl 0 rfl ?_
      obtain ⟨z21, ⟨hv20, hr22⟩, hh⟩ := hh
      refine ah_get ho5 hv20 rfl in_X0 (by decide) q210 (Or.inl rfl) dX0_same_70 ?_
      obtain ⟨fs23, ho24, hh⟩ := hh
      refine am_rVz (n := 2) hh dX0_same_73 (lw_V q564 q565 q566 q91 q567) rfl ⟨⟨by decide, by decide, by decide +kernel⟩, ⟨Nat.le_of_ble_eq_true rfl, Nat.le_of_ble_eq_true rfl⟩⟩ ⟨rfl, rfl⟩ rfl rfl (Nat.le_of_ble_eq_true rfl) ⟨(Nat.le_of_ble_eq_true rfl), (Nat.le_of_ble_eq_true rfl)⟩ (ah_recv ho24 rfl) (fun b26 G25 hh => ?_)
      obtain ⟨ha27, hb28⟩ := hh
      refine am_ifB_eq (tgt := 83) dX0_same_76 (by decide) (fun hc29 => ?_) (fun hc29 => ?_)
      · have hh := ha27 hc29
        refine am_iconst dX0_same_83 ?_
        exact am_iret rfl dX0_same_84 (Nat.le_refl 0) (Nat.le_refl 0) hh
      · have hh := hb28 hc29
        refine am_iconst dX0_same_79 ?_
        refine am_goto (tgt := 84) dX0_same_80 (by decide) ?_
        exact am_iret rfl dX0_same_84 (Nat.le_refl 0) (Nat.le_refl 0) hh
    · have hh := hb15 hc16
      refine am_aload_n dX0_same_56 rfl 0 rfl ?_
      obtain ⟨x31, hv30, hh⟩ := hh
      refine ah_get ho5 hv30 rfl in_X0 (by decide) q215 (Or.inl rfl) dX0_same_57 ?_
      refine am_goto (tgt := 69) dX0_same_60 (by decide) ?_
      refine am_aload_n dX0_same_69 rfl 0 rfl ?_
      obtain ⟨z33, ⟨hv32, hr34⟩, hh⟩ := hh
      refine ah_get ho5 hv32 rfl in_X0 (by decide) q210 (Or.inl rfl) dX0_same_70 ?_
      obtain ⟨fs35, ho36, hh⟩ := hh
      refine am_rVz (n := 2) hh dX0_same_73 (lw_V q564 q565 q566 q91 q567) rfl ⟨⟨by decide, by decide, by decide +kernel⟩, ⟨Nat.le_of_ble_eq_true rfl, Nat.le_of_ble_eq_true rfl⟩⟩ ⟨rfl, rfl⟩ rfl rfl (Nat.le_of_ble_eq_true rfl) ⟨(Nat.le_of_ble_eq_true rfl), (Nat.le_of_ble_eq_true rfl)⟩ (ah_recv ho36 rfl) (fun b38 G37 hh => ?_)
      obtain ⟨ha39, hb40⟩ := hh
      refine am_ifB_eq (tgt := 83) dX0_same_76 (by decide) (fun hc41 => ?_) (fun hc41 => ?_)
      · have hh := ha39 hc41
        refine am_iconst dX0_same_83 ?_
        exact am_iret rfl dX0_same_84 (Nat.le_refl 0) (Nat.le_refl 0) hh
      · have hh := hb40 hc41
        refine am_iconst dX0_same_79 ?_
        refine am_goto (tgt := 84) dX0_same_80 (by decide) ?_
        exact am_iret rfl dX0_same_84 (Nat.le_refl 0) (Nat.le_refl 0) hh
  · have hh := hb2 hc3
    refine am_aload_n dX0_same_37 rfl 0 rfl ?_
    obtain ⟨fs42, ho43, hh⟩ := hh
    obtain ⟨x45, hv44, hh⟩ := hh
    refine ah_get ho43 hv44 rfl in_X0 (by decide) q215 (Or.inl rfl) dX0_same_38 ?_
    refine am_goto (tgt := 50) dX0_same_41 (by decide) ?_
    refine am_iload_n dX0_same_50 rfl 2 rfl ?_
    refine am_ldc (z := -1000000) q472 (by decide) dX0_same_51 ?_
    obtain ⟨ha46, hb47⟩ := hh
    refine am_icmp_ne (tgt := 63) dX0_same_53 (by decide) h2 (⟨by decide, by decide⟩) (fun hc48 => ?_) (fun hc48 => ?_)
    · have hh := ha46 hc48
      refine am_aload_n dX0_same_63 rfl 0 rfl ?_
      obtain ⟨x50, hv49, hh⟩ := hh
      refine ah_get ho43 hv49 rfl in_X0 (by decide) q219 (Or.inl rfl) dX0_same_64 ?_
      refine am_iload_n dX0_same_67 rfl 2 rfl ?_
      obtain ⟨n51, f52, ha53, hh⟩ := hh
      obtain ⟨o54, hh⟩ := hh
      obtain ⟨y55, hy56, hh⟩ := hh
      refine ah_aald ha53 (by decide) o54.1 o54.2 hy56 dX0_same_68 ?_
      refine am_aload_n dX0_same_69 rfl 0 rfl ?_
      obtain ⟨z58, ⟨hv57, hr59⟩, hh⟩ := hh
      refine ah_get ho43 hv57 rfl in_X0 (by decide) q210 (Or.inl rfl) dX0_same_70 ?_
      obtain ⟨fs60, ho61, hh⟩ := hh
      refine am_rVz (n := 2) hh dX0_same_73 (lw_V q564 q565 q566 q91 q567) rfl ⟨⟨by decide, by decide, by decide +kernel⟩, ⟨Nat.le_of_ble_eq_true rfl, Nat.le_of_ble_eq_true rfl⟩⟩ ⟨rfl, rfl⟩ rfl rfl (Nat.le_of_ble_eq_true rfl) ⟨(Nat.le_of_ble_eq_true rfl), (Nat.le_of_ble_eq_true rfl)⟩ (ah_recv ho61 rfl) (fun b63 G62 hh => ?_)
      obtain ⟨ha64, hb65⟩ := hh
      refine am_ifB_eq (tgt := 83) dX0_same_76 (by decide) (fun hc66 => ?_) (fun hc66 => ?_)
      · have hh := ha64 hc66
        refine am_iconst dX0_same_83 ?_
        exact am_iret rfl dX0_same_84 (Nat.le_refl 0) (Nat.le_refl 0) hh
      · have hh := hb65 hc66
        refine am_iconst dX0_same_79 ?_
        refine am_goto (tgt := 84) dX0_same_80 (by decide) ?_
        exact am_iret rfl dX0_same_84 (Nat.le_refl 0) (Nat.le_refl 0) hh
    · have hh := hb47 hc48
      refine am_aload_n dX0_same_56 rfl 0 rfl ?_
      refine ah_get ho43 hv44 rfl in_X0 (by decide) q215 (Or.inl rfl) dX0_same_57 ?_
      refine am_goto (tgt := 69) dX0_same_60 (by decide) ?_
      refine am_aload_n dX0_same_69 rfl 0 rfl ?_
      obtain ⟨z68, ⟨hv67, hr69⟩, hh⟩ := hh
      refine ah_get ho43 hv67 rfl in_X0 (by decide) q210 (Or.inl rfl) dX0_same_70 ?_
      obtain ⟨fs70, ho71, hh⟩ := hh
      refine am_rVz (n := 2) hh dX0_same_73 (lw_V q564 q565 q566 q91 q567) rfl ⟨⟨by decide, by decide, by decide +kernel⟩, ⟨Nat.le_of_ble_eq_true rfl, Nat.le_of_ble_eq_true rfl⟩⟩ ⟨rfl, rfl⟩ rfl rfl (Nat.le_of_ble_eq_true rfl) ⟨(Nat.le_of_ble_eq_true rfl), (Nat.le_of_ble_eq_true rfl)⟩ (ah_recv ho71 rfl) (fun b73 G72 hh => ?_)
      obtain ⟨ha74, hb75⟩ := hh
      refine am_ifB_eq (tgt := 83) dX0_same_76 (by decide) (fun hc76 => ?_) (fun hc76 => ?_)
      · have hh := ha74 hc76
        refine am_iconst dX0_same_83 ?_
        exact am_iret rfl dX0_same_84 (Nat.le_refl 0) (Nat.le_refl 0) hh
      · have hh := hb75 hc76
        refine am_iconst dX0_same_79 ?_
        refine am_goto (tgt := 84) dX0_same_80 (by decide) ?_
        exact am_iret rfl dX0_same_84 (Nat.le_refl 0) (Nat.le_refl 0) hh
/-! TableArms.isOrder(I)Z -/
abbrev VX0_isOrder (l : Launch) (Q : Option am_W → ah_H → Prop) (pc : Nat) (lv : List (Nat × am_W)) (st : List am_W) (S : ah_H) : Prop := am_V ah_r l RX0 cX0_isOrder 1 (some .boolean) "isOrder" (am_rm 2 0 0) (am_E1 ah_r 0 0 Q) pc lv st S 0 0
abbrev kX0_isOrder (l : Launch) (as : List am_W) (S : ah_H) (Q : Option am_W → ah_H → Prop) : Prop := am_C ah_r l yX0_isOrder (ws_ yX0_isOrder cX0_isOrder 1 (some .boolean)) (am_rm 2 0 0) 0 0 as S Q
set_option maxHeartbeats 4000000 in
set_option maxRecDepth 100000 in
theorem bX0_isOrder {l : Launch} {Q : Option am_W → ah_H → Prop} {S : ah_H} (v0 : Int) (h0 : am_r v0)
    (hh : kX0_isIn l [am_J v0, am_J 0, am_J 95] S (am_qz fun b2 G1 =>
        Q (some (am_I (am_b b2))) G1)) : kX0_isOrder l [am_I v0] S Q := by
  refine am_entry (lv := [(0, am_I v0)]) rfl rfl rfl (fun _ => rfl) (fun _ => Nat.le_of_ble_eq_true rfl) ?_
  refine am_iload_n dX0_isOrder_0 rfl 0 rfl ?_
  refine am_i2l_ h0 dX0_isOrder_1 ?_
  refine am_lconst (z := 0) dX0_isOrder_2 (by decide) ?_
  refine am_ldc2 (z := 95) q575 (by decide) dX0_isOrder_3 ?_
  refine am_rSz (n := 3) hh dX0_isOrder_6 (lw_S q285 q286 q90 q287) ⟨⟨by decide, by decide, by decide +kernel⟩, ⟨Nat.le_of_ble_eq_true rfl, Nat.le_of_ble_eq_true rfl⟩⟩ ⟨rfl, rfl⟩ rfl rfl (Nat.le_of_ble_eq_true rfl) ⟨(Nat.le_of_ble_eq_true rfl), (Nat.le_of_ble_eq_true rfl)⟩ (fun b2 G1 hh => ?_)
  exact am_zret (b := b2) rfl dX0_isOrder_9 (Nat.le_refl 0) (Nat.le_refl 0) hh
/-! TableArms.isNeighbour(II)Z -/
abbrev VX0_isNeighbour (l : Launch) (Q : Option am_W → ah_H → Prop) (pc : Nat) (lv : List (Nat × am_W)) (st : List am_W) (S : ah_H) : Prop := am_V ah_r l RX0 cX0_isNeighbour 4 (some .boolean) "isNeighbour" (am_rm 2 0 0) (am_E1 ah_r 0 0 Q) pc lv st S 0 0
abbrev kX0_isNeighbour (l : Launch) (as : List am_W) (S : ah_H) (Q : Option am_W → ah_H → Prop) : Prop := am_C ah_r l yX0_isNeighbour (ws_ yX0_isNeighbour cX0_isNeighbour 4 (some .boolean)) (am_rm 2 0 0) 0 0 as S Q
set_option maxHeartbeats 4000000 in
set_option maxRecDepth 100000 in
theorem bX0_isNeighbour {l : Launch} {Q : Option am_W → ah_H → Prop} {S : ah_H} (v0 : Int) (h0 : am_r v0) (v1 : Int) (h1 : am_r v1)
    (hh : (0 ≤ v0) ∧
      (0 ≤ v1) ∧
      (am_r ((v0 % 4) - (v1 % 4))) ∧
      (am_r ((v0 / 4) - (v1 / 4))) ∧
      (am_r ((am_abs ((v0 % 4) - (v1 % 4))) + (am_abs ((v0 / 4) - (v1 / 4))))) ∧
      ((¬ ((am_abs ((v0 % 4) - (v1 % 4))) + (am_abs ((v0 / 4) - (v1 / 4)))) = 1) →
        Q (some (am_I (am_b false))) S) ∧
      ((((am_abs ((v0 % 4) - (v1 % 4))) + (am_abs ((v0 / 4) - (v1 / 4)))) = 1) →
        Q (some (am_I (am_b true))) S)) : kX0_isNeighbour l [am_I v0, am_I v1] S Q := by
  refine am_entry (lv := [(0, am_I v0), (1, am_I v1)]) rfl rfl rfl (fun _ => rfl) (fun _ => Nat.le_of_ble_eq_true rfl) ?_
  refine am_iload_n dX0_isNeighbour_0 rfl 0 rfl ?_
  refine am_iconst dX0_isNeighbour_1 ?_
  obtain ⟨o1, hh⟩ := hh
  refine am_irem dX0_isNeighbour_2 o1 (h0).2 (by decide) (by decide) ?_
  refine am_iload_n dX0_isNeighbour_3 rfl 1 rfl ?_
  refine am_iconst dX0_isNeighbour_4 ?_
  obtain ⟨o2, hh⟩ := hh
  refine am_irem dX0_isNeighbour_5 o2 (h1).2 (by decide) (by decide) ?_
  refine am_isub dX0_isNeighbour_6 ?_
  obtain ⟨o3, hh⟩ := hh
  refine am_mabs o3 q591 q592 q106 q593 (Nat.le_of_ble_eq_true rfl) (Nat.le_of_ble_eq_true rfl) (Nat.le_of_ble_eq_true rfl) (Nat.le_of_ble_eq_true rfl) dX0_isNeighbour_7 ?_
  refine am_istore_n dX0_isNeighbour_10 rfl (by decide) rfl ?_
  refine am_iload_n dX0_isNeighbour_11 rfl 1 rfl ?_
  refine am_iconst dX0_isNeighbour_12 ?_
  refine am_idiv dX0_isNeighbour_13 o1 (h0).2 (by decide) (by decide) ?_
  refine am_iload_n dX0_isNeighbour_14 rfl 2 rfl ?_
  refine am_iconst dX0_isNeighbour_15 ?_
  refine am_idiv dX0_isNeighbour_16 o2 (h1).2 (by decide) (by decide) ?_
  refine am_isub dX0_isNeighbour_17 ?_
  obtain ⟨o4, hh⟩ := hh
  refine am_mabs o4 q591 q592 q106 q593 (Nat.le_of_ble_eq_true rfl) (Nat.le_of_ble_eq_true rfl) (Nat.le_of_ble_eq_true rfl) (Nat.le_of_ble_eq_true rfl) dX0_isNeighbour_18 ?_
  refine am_istore_n dX0_isNeighbour_21 rfl (by decide) rfl ?_
  refine am_iload_n dX0_isNeighbour_22 rfl 1 rfl ?_
  refine am_iload_n dX0_isNeighbour_23 rfl 0 rfl ?_
  refine am_iadd dX0_isNeighbour_24 ?_
  refine am_iconst dX0_isNeighbour_25 ?_
  obtain ⟨o5, hh⟩ := hh
  obtain ⟨ha6, hb7⟩ := hh
  refine am_icmp_ne (tgt := 33) dX0_isNeighbour_26 (by decide) o5 (⟨by decide, by decide⟩) (fun hc8 => ?_) (fun hc8 => ?_)
  · have hh := ha6 hc8
    refine am_iconst dX0_isNeighbour_33 ?_
    exact am_zret (b := false) rfl dX0_isNeighbour_34 (Nat.le_refl 0) (Nat.le_refl 0) hh
  · have hh := hb7 hc8
    refine am_iconst dX0_isNeighbour_29 ?_
    refine am_goto (tgt := 34) dX0_isNeighbour_30 (by decide) ?_
    exact am_zret (b := true) rfl dX0_isNeighbour_34 (Nat.le_refl 0) (Nat.le_refl 0) hh
/-! TableArms.hasNear(LTableArms$Table;II)Z -/
abbrev VX0_hasNear (l : Launch) (Q : Option am_W → ah_H → Prop) (pc : Nat) (lv : List (Nat × am_W)) (st : List am_W) (S : ah_H) : Prop := am_V ah_r l RX0 cX0_hasNear 6 (some .boolean) "hasNear" (am_rm 3 0 0) (am_E1 ah_r 0 0 Q) pc lv st S 0 0
abbrev kX0_hasNear (l : Launch) (as : List am_W) (S : ah_H) (Q : Option am_W → ah_H → Prop) : Prop := am_C ah_r l yX0_hasNear (ws_ yX0_hasNear cX0_hasNear 6 (some .boolean)) (am_rm 3 0 0) 0 0 as S Q
set_option maxHeartbeats 4000000 in
set_option maxRecDepth 100000 in
theorem bX0_hasNear {l : Launch} {Q : Option am_W → ah_H → Prop} {S : ah_H} (v0 : Nat) (v1 : Nat) (v2 : Int) (h2 : am_r v2) (v3 : Int) (h3 : am_r v3)
    (hh : VX0_hasNear l Q 3 [(0, am_R v0), (1, am_R v1), (2, am_I v2), (3, am_I v3), (4, am_I 0)] [] S) : kX0_hasNear l [am_R v0, am_R v1, am_I v2, am_I v3] S Q := by
  refine am_entry (lv := [(0, am_R v0), (1, am_R v1), (2, am_I v2), (3, am_I v3)]) rfl rfl rfl (fun _ => rfl) (fun _ => Nat.le_of_ble_eq_true rfl) ?_
  refine am_iconst dX0_hasNear_0 ?_
  refine am_istore dX0_hasNear_1 (by decide) rfl ?_
  refine am_keep [1, 2, 3, 4, 0] rfl ?_
  exact hh
set_option maxHeartbeats 4000000 in
set_option maxRecDepth 100000 in
theorem bX0_hasNear_3 {l : Launch} {Q : Option am_W → ah_H → Prop} {S : ah_H} (v0 : Nat) (v1 : Nat) (v2 : Int) (h2 : am_r v2) (v3 : Int) (h3 : am_r v3) (v4 : Int) (h4 : am_r v4)
    (hh : ((8 ≤ v4) →
        Q (some (am_I (am_b false))) S) ∧
      ((¬ 8 ≤ v4) →
        VX0_hasNear l Q 13 [(0, am_R v0), (1, am_R v1), (2, am_I v2), (3, am_I v3), (4, am_I v4), (5, am_I 0)] [] S)) : VX0_hasNear l Q 3 [(0, am_R v0), (1, am_R v1), (2, am_I v2), (3, am_I v3), (4, am_I v4)] [] S := by
  refine am_iload dX0_hasNear_3 4 rfl ?_
  refine am_bipush dX0_hasNear_5 (by decide) ?_
  obtain ⟨ha1, hb2⟩ := hh
  refine am_icmp_ge (tgt := 65) dX0_hasNear_7 (by decide) h4 (⟨by decide, by decide⟩) (fun hc3 => ?_) (fun hc3 => ?_)
  · have hh := ha1 hc3
    refine am_iconst dX0_hasNear_65 ?_
    exact am_zret (b := false) rfl dX0_hasNear_66 (Nat.le_refl 0) (Nat.le_refl 0) hh
  · have hh := hb2 hc3
    refine am_iconst dX0_hasNear_10 ?_
    refine am_istore dX0_hasNear_11 (by decide) rfl ?_
    refine am_keep [1, 2, 3, 4, 5, 0] rfl ?_
    exact hh
set_option maxHeartbeats 4000000 in
set_option maxRecDepth 100000 in
theorem bX0_hasNear_13 {l : Launch} {Q : Option am_W → ah_H → Prop} {S : ah_H} (v0 : Nat) (v1 : Nat) (v2 : Int) (h2 : am_r v2) (v3 : Int) (h3 : am_r v3) (v4 : Int) (h4 : am_r v4) (v5 : Int) (h5 : am_r v5)
    (hh : kX0_isNeighbour l [am_I v2, am_I v4] S (am_qz fun b2 G1 =>
        ((b2 = false) →
          VX0_hasNear l Q 3 [(0, am_R v0), (1, am_R v1), (2, am_I v2), (3, am_I v3), (4, am_I (v4 + 1))] [] G1) ∧
        ((b2 = true) →
          (∃ fs6, (G1.1 v1 = some (.inl (2, fs6))) ∧
          (∃ x9, (fs6[1]? = some (am_R x9)) ∧
          (∃ n10 f11, (G1.1 x9 = some (.inr (0, n10, .inl f11))) ∧
          (0 ≤ v4 ∧ v4 < (n10 : Int)) ∧
          ((((f11 v4.toNat).toInt) ≤ v5) →
            VX0_hasNear l Q 3 [(0, am_R v0), (1, am_R v1), (2, am_I v2), (3, am_I v3), (4, am_I (v4 + 1))] [] G1) ∧
          ((¬ ((f11 v4.toNat).toInt) ≤ v5) →
            (∃ fs17, (G1.1 v0 = some (.inl (1, fs17))) ∧
            (∃ x20, (fs17[2]? = some (am_R x20)) ∧
            kX1_at l [am_R v1, am_I v4, am_I v5] G1 (am_qi fun r22 G21 =>
              (∃ n24 f25, (G21.1 x20 = some (.inr (0, n24, .inl f25))) ∧
              (0 ≤ r22 ∧ r22 < (n24 : Int)) ∧
              ((¬ ((f25 r22.toNat).toInt) = v3) →
                VX0_hasNear l Q 13 [(0, am_R v0), (1, am_R v1), (2, am_I v2), (3, am_I v3), (4, am_I v4), (5, am_I (v5 + 1))] [] G21) ∧
              ((((f25 r22.toNat).toInt) = v3) →
                Q (some (am_I (am_b true))) G21)))))))))))) : VX0_hasNear l Q 13 [(0, am_R v0), (1, am_R v1), (2, am_I v2), (3, am_I v3), (4, am_I v4), (5, am_I v5)] [] S := by
  refine am_iload_n dX0_hasNear_13 rfl 2 rfl ?_
  refine am_iload dX0_hasNear_14 4 rfl ?_
  refine am_rSz (n := 2) hh dX0_hasNear_16 (lw_S q588 q589 q90 q590) ⟨⟨by decide, by decide, by decide +kernel⟩, ⟨Nat.le_of_ble_eq_true rfl, Nat.le_of_ble_eq_true rfl⟩⟩ ⟨rfl, rfl⟩ rfl rfl (Nat.le_of_ble_eq_true rfl) ⟨(Nat.le_of_ble_eq_true rfl), (Nat.le_of_ble_eq_true rfl)⟩ (fun b2 G1 hh => ?_)
  obtain ⟨ha3, hb4⟩ := hh
  refine am_ifB_eq (tgt := 59) dX0_hasNear_19 (by decide) (fun hc5 => ?_) (fun hc5 => ?_)
  · have hh := ha3 hc5
    refine am_iinc (n := 4) dX0_hasNear_59 rfl (by decide) rfl ?_
    refine am_goto (tgt := 3) dX0_hasNear_62 (by decide) ?_
    refine am_keep [1, 2, 3, 4, 0] rfl ?_
    exact hh
  · have hh := hb4 hc5
    refine am_iload dX0_hasNear_22 5 rfl ?_
    refine am_aload_n dX0_hasNear_24 rfl 1 rfl ?_
    obtain ⟨fs6, ho7, hh⟩ := hh
    obtain ⟨x9, hv8, hh⟩ := hh
    refine ah_getN ho7 hv8 rfl in_X1 (by decide) (am_nwin q145 rfl) dX0_hasNear_25 ?_
    refine am_iload dX0_hasNear_28 4 rfl ?_
    obtain ⟨n10, f11, ha12, hh⟩ := hh
    obtain ⟨o13, hh⟩ := hh
    refine ah_iald ha12 o13.1 o13.2 (v := (f11 v4.toNat).toInt) rfl dX0_hasNear_30 ?_
    obtain ⟨ha14, hb15⟩ := hh
    refine am_icmp_ge (tgt := 59) dX0_hasNear_31 (by decide) h5 (am_rt _) (fun hc16 => ?_) (fun hc16 => ?_)
    · have hh := ha14 hc16
      refine am_iinc (n := 4) dX0_hasNear_59 rfl (by decide) rfl ?_
      refine am_goto (tgt := 3) dX0_hasNear_62 (by decide) ?_
      refine am_keep [1, 2, 3, 4, 0] rfl ?_
      exact hh
    · have hh := hb15 hc16
      refine am_aload_n dX0_hasNear_34 rfl 0 rfl ?_
      obtain ⟨fs17, ho18, hh⟩ := hh
      obtain ⟨x20, hv19, hh⟩ := hh
      refine ah_get ho18 hv19 rfl in_X0 (by decide) q211 (Or.inl rfl) dX0_hasNear_35 ?_
      refine am_aload_n dX0_hasNear_38 rfl 1 rfl ?_
      refine am_iload dX0_hasNear_39 4 rfl ?_
      refine am_iload dX0_hasNear_41 5 rfl ?_
      refine am_rVi (n := 2) hh dX0_hasNear_43 (lw_V q489 q478 q479 q91 q480) rfl ⟨⟨by decide, by decide, by decide +kernel⟩, ⟨Nat.le_of_ble_eq_true rfl, Nat.le_of_ble_eq_true rfl⟩⟩ ⟨rfl, rfl⟩ rfl rfl (Nat.le_of_ble_eq_true rfl) ⟨(Nat.le_of_ble_eq_true rfl), (Nat.le_of_ble_eq_true rfl)⟩ (ah_recv ho7 rfl) (fun r22 G21 hr23 hh => ?_)
      obtain ⟨n24, f25, ha26, hh⟩ := hh
      obtain ⟨o27, hh⟩ := hh
      refine ah_iald ha26 o27.1 o27.2 (v := (f25 r22.toNat).toInt) rfl dX0_hasNear_46 ?_
      refine am_iload_n dX0_hasNear_47 rfl 3 rfl ?_
      obtain ⟨ha28, hb29⟩ := hh
      refine am_icmp_ne (tgt := 53) dX0_hasNear_48 (by decide) (am_rt _) h3 (fun hc30 => ?_) (fun hc30 => ?_)
      · have hh := ha28 hc30
        refine am_iinc (n := 5) dX0_hasNear_53 rfl (by decide) rfl ?_
        refine am_goto (tgt := 13) dX0_hasNear_56 (by decide) ?_
        refine am_keep [1, 2, 3, 4, 5, 0] rfl ?_
        exact hh
      · have hh := hb29 hc30
        refine am_iconst dX0_hasNear_51 ?_
        exact am_zret (b := true) rfl dX0_hasNear_52 (Nat.le_refl 0) (Nat.le_refl 0) hh
/-! TableArms.isAsTold(LTableArms$Table;III)Z -/
abbrev VX0_isAsTold (l : Launch) (Q : Option am_W → ah_H → Prop) (pc : Nat) (lv : List (Nat × am_W)) (st : List am_W) (S : ah_H) : Prop := am_V ah_r l RX0 cX0_isAsTold 6 (some .boolean) "isAsTold" (am_rm 4 0 0) (am_E1 ah_r 0 0 Q) pc lv st S 0 0
abbrev kX0_isAsTold (l : Launch) (as : List am_W) (S : ah_H) (Q : Option am_W → ah_H → Prop) : Prop := am_C ah_r l yX0_isAsTold (ws_ yX0_isAsTold cX0_isAsTold 6 (some .boolean)) (am_rm 4 0 0) 0 0 as S Q
set_option maxHeartbeats 4000000 in
set_option maxRecDepth 100000 in
theorem bX0_isAsTold {l : Launch} {Q : Option am_W → ah_H → Prop} {S : ah_H} (v0 : Nat) (v1 : Nat) (v2 : Int) (h2 : am_r v2) (v3 : Int) (h3 : am_r v3) (v4 : Int) (h4 : am_r v4)
    (hh : ((¬ v3 = 1) →
        (∃ fs4, (S.1 v1 = some (.inl (2, fs4))) ∧
        (∃ x7, (fs4[3]? = some (am_R x7)) ∧
        (∃ n8 f9, (S.1 x7 = some (.inr (0, n8, .inl f9))) ∧
        (0 ≤ v2 ∧ v2 < (n8 : Int)) ∧
        ((((f9 v2.toNat).toInt) = (-1000000)) →
          kX1_below l [am_R v1, am_I v2] S (am_qi fun r16 G15 =>
            ((¬ v3 = 0) →
              ((¬ r16 = 0) →
                Q (some (am_I (am_b false))) G15) ∧
              ((r16 = 0) →
                (∃ fs24, (G15.1 v1 = some (.inl (2, fs24))) ∧
                (∃ x27, (fs24[2]? = some (am_R x27)) ∧
                (∃ n28 f29, (G15.1 x27 = some (.inr (0, n28, .inl f29))) ∧
                (0 ≤ v2 ∧ v2 < (n28 : Int)) ∧
                (∃ fs32, (G15.1 v0 = some (.inl (1, fs32))) ∧
                kX0_hasNear l [am_R v0, am_R v1, am_I (f29 v2.toNat).toInt, am_I v4] G15 (am_qz fun b35 G34 =>
                  ((b35 = false) →
                    Q (some (am_I (am_b false))) G34) ∧
                  ((b35 = true) →
                    Q (some (am_I (am_b true))) G34)))))))) ∧
            ((v3 = 0) →
              ((r16 ≤ 0) →
                Q (some (am_I (am_b false))) G15) ∧
              ((¬ r16 ≤ 0) →
                (∃ fs42, (G15.1 v0 = some (.inl (1, fs42))) ∧
                (∃ x45, (fs42[2]? = some (am_R x45)) ∧
                (∃ fs46, (G15.1 v1 = some (.inl (2, fs46))) ∧
                (∃ x49, (fs46[2]? = some (am_R x49)) ∧
                (∃ n50 f51, (G15.1 x49 = some (.inr (0, n50, .inl f51))) ∧
                (0 ≤ v2 ∧ v2 < (n50 : Int)) ∧
                kX1_at l [am_R v1, am_I (f51 v2.toNat).toInt, am_I (r16 - 1)] G15 (am_qi fun r55 G54 =>
                  (∃ n57 f58, (G54.1 x45 = some (.inr (0, n57, .inl f58))) ∧
                  (0 ≤ r55 ∧ r55 < (n57 : Int)) ∧
                  ((¬ ((f58 r55.toNat).toInt) = v4) →
                    Q (some (am_I (am_b false))) G54) ∧
                  ((((f58 r55.toNat).toInt) = v4) →
                    Q (some (am_I (am_b true))) G54)))))))))))) ∧
        ((¬ ((f9 v2.toNat).toInt) = (-1000000)) →
          Q (some (am_I (am_b false))) S))))) ∧
      ((v3 = 1) →
        (∃ fs64, (S.1 v1 = some (.inl (2, fs64))) ∧
        (∃ x67, (fs64[3]? = some (am_R x67)) ∧
        (∃ n68 f69, (S.1 x67 = some (.inr (0, n68, .inl f69))) ∧
        (0 ≤ v2 ∧ v2 < (n68 : Int)) ∧
        ((((f69 v2.toNat).toInt) = (-1000000)) →
          Q (some (am_I (am_b false))) S) ∧
        ((¬ ((f69 v2.toNat).toInt) = (-1000000)) →
          ((¬ v4 = 2) →
            Q (some (am_I (am_b false))) S) ∧
          ((v4 = 2) →
            Q (some (am_I (am_b true))) S))))))) : kX0_isAsTold l [am_R v0, am_R v1, am_I v2, am_I v3, am_I v4] S Q := by
  refine am_entry (lv := [(0, am_R v0), (1, am_R v1), (2, am_I v2), (3, am_I v3), (4, am_I v4)]) rfl rfl rfl (fun _ => rfl) (fun _ => Nat.le_of_ble_eq_true rfl) ?_
  refine am_iload_n dX0_isAsTold_0 rfl 3 rfl ?_
  refine am_iconst dX0_isAsTold_1 ?_
  obtain ⟨ha1, hb2⟩ := hh
  refine am_icmp_ne (tgt := 28) dX0_isAsTold_2 (by decide) h3 (⟨by decide, by decide⟩) (fun hc3 => ?_) (fun hc3 => ?_)
  · have hh := ha1 hc3
    refine am_aload_n dX0_isAsTold_28 rfl 1 rfl ?_
    obtain ⟨fs4, ho5, hh⟩ := hh
    obtain ⟨x7, hv6, hh⟩ := hh
    refine ah_getN ho5 hv6 rfl in_X1 (by decide) (am_nwin q150 rfl) dX0_isAsTold_29 ?_
    refine am_iload_n dX0_isAsTold_32 rfl 2 rfl ?_
    obtain ⟨n8, f9, ha10, hh⟩ := hh
    obtain ⟨o11, hh⟩ := hh
    refine ah_iald ha10 o11.1 o11.2 (v := (f9 v2.toNat).toInt) rfl dX0_isAsTold_33 ?_
    refine am_ldc (z := -1000000) q472 (by decide) dX0_isAsTold_34 ?_
    obtain ⟨ha12, hb13⟩ := hh
    refine am_icmp_eq (tgt := 41) dX0_isAsTold_36 (by decide) (am_rt _) (⟨by decide, by decide⟩) (fun hc14 => ?_) (fun hc14 => ?_)
    · have hh := ha12 hc14
      refine am_aload_n dX0_isAsTold_41 rfl 1 rfl ?_
      refine am_iload_n dX0_isAsTold_42 rfl 2 rfl ?_
      refine am_rVi (n := 1) hh dX0_isAsTold_43 (lw_V q473 q474 q475 q91 q476) rfl ⟨⟨by decide, by decide, by decide +kernel⟩, ⟨Nat.le_of_ble_eq_true rfl, Nat.le_of_ble_eq_true rfl⟩⟩ ⟨rfl, rfl⟩ rfl rfl (Nat.le_of_ble_eq_true rfl) ⟨(Nat.le_of_ble_eq_true rfl), (Nat.le_of_ble_eq_true rfl)⟩ (ah_recv ho5 rfl) (fun r16 G15 hr17 hh => ?_)
      refine am_istore dX0_isAsTold_46 (by decide) rfl ?_
      refine am_iload_n dX0_isAsTold_48 rfl 4 rfl ?_
      obtain ⟨ha18, hb19⟩ := hh
      refine am_if_ne (tgt := 87) dX0_isAsTold_49 (by decide) h3 (fun hc20 => ?_) (fun hc20 => ?_)
      · have hh := ha18 hc20
        refine am_iload dX0_isAsTold_87 0 rfl ?_
        obtain ⟨ha21, hb22⟩ := hh
        refine am_if_ne (tgt := 112) dX0_isAsTold_89 (by decide) hr17 (fun hc23 => ?_) (fun hc23 => ?_)
        · have hh := ha21 hc23
          refine am_iconst dX0_isAsTold_112 ?_
          exact am_zret (b := false) rfl dX0_isAsTold_113 (Nat.le_refl 0) (Nat.le_refl 0) hh
        · have hh := hb22 hc23
          refine am_aload_n dX0_isAsTold_92 rfl 1 rfl ?_
          refine am_aload_n dX0_isAsTold_93 rfl 2 rfl ?_
          refine am_aload_n dX0_isAsTold_94 rfl 2 rfl ?_
          obtain ⟨fs24, ho25, hh⟩ := hh
          obtain ⟨x27, hv26, hh⟩ := hh
          refine ah_getN ho25 hv26 rfl in_X1 (by decide) (am_nwin q147 rfl) dX0_isAsTold_95 ?_
          refine am_iload_n dX0_isAsTold_98 rfl 3 rfl ?_
          obtain ⟨n28, f29, ha30, hh⟩ := hh
          obtain ⟨o31, hh⟩ := hh
          refine ah_iald ha30 o31.1 o31.2 (v := (f29 v2.toNat).toInt) rfl dX0_isAsTold_99 ?_
          refine am_iload dX0_isAsTold_100 5 rfl ?_
          obtain ⟨fs32, ho33, hh⟩ := hh
          refine am_rVz (n := 3) hh dX0_isAsTold_102 (lw_V q584 q586 qs13 q90 q587) rfl ⟨⟨by decide, by decide, by decide +kernel⟩, ⟨Nat.le_of_ble_eq_true rfl, Nat.le_of_ble_eq_true rfl⟩⟩ ⟨rfl, rfl⟩ rfl rfl (Nat.le_of_ble_eq_true rfl) ⟨(Nat.le_of_ble_eq_true rfl), (Nat.le_of_ble_eq_true rfl)⟩ (ah_recv ho33 rfl) (fun b35 G34 hh => ?_)
          obtain ⟨ha36, hb37⟩ := hh
          refine am_ifB_eq (tgt := 112) dX0_isAsTold_105 (by decide) (fun hc38 => ?_) (fun hc38 => ?_)
          · have hh := ha36 hc38
            refine am_iconst dX0_isAsTold_112 ?_
            exact am_zret (b := false) rfl dX0_isAsTold_113 (Nat.le_refl 0) (Nat.le_refl 0) hh
          · have hh := hb37 hc38
            refine am_iconst dX0_isAsTold_108 ?_
            refine am_goto (tgt := 113) dX0_isAsTold_109 (by decide) ?_
            exact am_zret (b := true) rfl dX0_isAsTold_113 (Nat.le_refl 0) (Nat.le_refl 0) hh
      · have hh := hb19 hc20
        refine am_iload dX0_isAsTold_52 0 rfl ?_
        obtain ⟨ha39, hb40⟩ := hh
        refine am_if_le (tgt := 85) dX0_isAsTold_54 (by decide) hr17 (fun hc41 => ?_) (fun hc41 => ?_)
        · have hh := ha39 hc41
          refine am_iconst dX0_isAsTold_85 ?_
          exact am_zret (b := false) rfl dX0_isAsTold_86 (Nat.le_refl 0) (Nat.le_refl 0) hh
        · have hh := hb40 hc41
          refine am_aload_n dX0_isAsTold_57 rfl 1 rfl ?_
          obtain ⟨fs42, ho43, hh⟩ := hh
          obtain ⟨x45, hv44, hh⟩ := hh
          refine ah_get ho43 hv44 rfl in_X0 (by decide) q211 (Or.inl rfl) dX0_isAsTold_58 ?_
          refine am_aload_n dX0_isAsTold_61 rfl 2 rfl ?_
          refine am_aload_n dX0_isAsTold_62 rfl 2 rfl ?_
          obtain ⟨fs46, ho47, hh⟩ := hh
          obtain ⟨x49, hv48, hh⟩ := hh
          refine ah_getN ho47 hv48 rfl in_X1 (by decide) (am_nwin q147 rfl) dX0_isAsTold_63 ?_
          refine am_iload_n dX0_isAsTold_66 rfl 3 rfl ?_
          obtain ⟨n50, f51, ha52, hh⟩ := hh
          obtain ⟨o53, hh⟩ := hh
          refine ah_iald ha52 o53.1 o53.2 (v := (f51 v2.toNat).toInt) rfl dX0_isAsTold_67 ?_
          refine am_iload dX0_isAsTold_68 0 rfl ?_
          refine am_iconst dX0_isAsTold_70 ?_
          refine am_isub dX0_isAsTold_71 ?_
          refine am_rVi (n := 2) hh dX0_isAsTold_72 (lw_V q489 q478 q479 q91 q480) rfl ⟨⟨by decide, by decide, by decide +kernel⟩, ⟨Nat.le_of_ble_eq_true rfl, Nat.le_of_ble_eq_true rfl⟩⟩ ⟨rfl, rfl⟩ rfl rfl (Nat.le_of_ble_eq_true rfl) ⟨(Nat.le_of_ble_eq_true rfl), (Nat.le_of_ble_eq_true rfl)⟩ (ah_recv ho47 rfl) (fun r55 G54 hr56 hh => ?_)
          obtain ⟨n57, f58, ha59, hh⟩ := hh
          obtain ⟨o60, hh⟩ := hh
          refine ah_iald ha59 o60.1 o60.2 (v := (f58 r55.toNat).toInt) rfl dX0_isAsTold_75 ?_
          refine am_iload dX0_isAsTold_76 5 rfl ?_
          obtain ⟨ha61, hb62⟩ := hh
          refine am_icmp_ne (tgt := 85) dX0_isAsTold_78 (by decide) (am_rt _) h4 (fun hc63 => ?_) (fun hc63 => ?_)
          · have hh := ha61 hc63
            refine am_iconst dX0_isAsTold_85 ?_
            exact am_zret (b := false) rfl dX0_isAsTold_86 (Nat.le_refl 0) (Nat.le_refl 0) hh
          · have hh := hb62 hc63
            refine am_iconst dX0_isAsTold_81 ?_
            refine am_goto (tgt := 86) dX0_isAsTold_82 (by decide) ?_
            exact am_zret (b := true) rfl dX0_isAsTold_86 (Nat.le_refl 0) (Nat.le_refl 0) hh
    · have hh := hb13 hc14
      refine am_iconst dX0_isAsTold_39 ?_
      exact am_zret (b := false) rfl dX0_isAsTold_40 (Nat.le_refl 0) (Nat.le_refl 0) hh
  · have hh := hb2 hc3
    refine am_aload_n dX0_isAsTold_5 rfl 1 rfl ?_
    obtain ⟨fs64, ho65, hh⟩ := hh
    obtain ⟨x67, hv66, hh⟩ := hh
    refine ah_getN ho65 hv66 rfl in_X1 (by decide) (am_nwin q150 rfl) dX0_isAsTold_6 ?_
    refine am_iload_n dX0_isAsTold_9 rfl 2 rfl ?_
    obtain ⟨n68, f69, ha70, hh⟩ := hh
    obtain ⟨o71, hh⟩ := hh
    refine ah_iald ha70 o71.1 o71.2 (v := (f69 v2.toNat).toInt) rfl dX0_isAsTold_10 ?_
    refine am_ldc (z := -1000000) q472 (by decide) dX0_isAsTold_11 ?_
    obtain ⟨ha72, hb73⟩ := hh
    refine am_icmp_eq (tgt := 26) dX0_isAsTold_13 (by decide) (am_rt _) (⟨by decide, by decide⟩) (fun hc74 => ?_) (fun hc74 => ?_)
    · have hh := ha72 hc74
      refine am_iconst dX0_isAsTold_26 ?_
      exact am_zret (b := false) rfl dX0_isAsTold_27 (Nat.le_refl 0) (Nat.le_refl 0) hh
    · have hh := hb73 hc74
      refine am_iload dX0_isAsTold_16 4 rfl ?_
      refine am_iconst dX0_isAsTold_18 ?_
      obtain ⟨ha75, hb76⟩ := hh
      refine am_icmp_ne (tgt := 26) dX0_isAsTold_19 (by decide) h4 (⟨by decide, by decide⟩) (fun hc77 => ?_) (fun hc77 => ?_)
      · have hh := ha75 hc77
        refine am_iconst dX0_isAsTold_26 ?_
        exact am_zret (b := false) rfl dX0_isAsTold_27 (Nat.le_refl 0) (Nat.le_refl 0) hh
      · have hh := hb76 hc77
        refine am_iconst dX0_isAsTold_22 ?_
        refine am_goto (tgt := 27) dX0_isAsTold_23 (by decide) ?_
        exact am_zret (b := true) rfl dX0_isAsTold_27 (Nat.le_refl 0) (Nat.le_refl 0) hh
/-! TableArms.besideOf(LTableArms$Table;I)I -/
abbrev VX0_besideOf (l : Launch) (Q : Option am_W → ah_H → Prop) (pc : Nat) (lv : List (Nat × am_W)) (st : List am_W) (S : ah_H) : Prop := am_V ah_r l RX0 cX0_besideOf 3 (some .int) "besideOf" (am_rm 3 0 0) (am_E1 ah_r 0 0 Q) pc lv st S 0 0
abbrev kX0_besideOf (l : Launch) (as : List am_W) (S : ah_H) (Q : Option am_W → ah_H → Prop) : Prop := am_C ah_r l yX0_besideOf (ws_ yX0_besideOf cX0_besideOf 3 (some .int)) (am_rm 3 0 0) 0 0 as S Q
set_option maxHeartbeats 4000000 in
set_option maxRecDepth 100000 in
theorem bX0_besideOf {l : Launch} {Q : Option am_W → ah_H → Prop} {S : ah_H} (v0 : Nat) (v1 : Int) (h1 : am_r v1)
    (hh : VX0_besideOf l Q 2 [(0, am_R v0), (1, am_I v1), (2, am_I 0)] [] S) : kX0_besideOf l [am_R v0, am_I v1] S Q := by
  refine am_entry (lv := [(0, am_R v0), (1, am_I v1)]) rfl rfl rfl (fun _ => rfl) (fun _ => Nat.le_of_ble_eq_true rfl) ?_
  refine am_iconst dX0_besideOf_0 ?_
  refine am_istore_n dX0_besideOf_1 rfl (by decide) rfl ?_
  refine am_keep [1, 2, 0] rfl ?_
  exact hh
set_option maxHeartbeats 4000000 in
set_option maxRecDepth 100000 in
theorem bX0_besideOf_2 {l : Launch} {Q : Option am_W → ah_H → Prop} {S : ah_H} (v0 : Nat) (v1 : Int) (h1 : am_r v1) (v2 : Int) (h2 : am_r v2)
    (hh : ((8 ≤ v2) →
        Q (some (am_I (-1000000))) S) ∧
      ((¬ 8 ≤ v2) →
        kX0_isNeighbour l [am_I v1, am_I v2] S (am_qz fun b5 G4 =>
          ((b5 = false) →
            VX0_besideOf l Q 2 [(0, am_R v0), (1, am_I v1), (2, am_I (v2 + 1))] [] G4) ∧
          ((b5 = true) →
            (∃ fs9, (G4.1 v0 = some (.inl (2, fs9))) ∧
            (∃ x12, (fs9[1]? = some (am_R x12)) ∧
            (∃ n13 f14, (G4.1 x12 = some (.inr (0, n13, .inl f14))) ∧
            (0 ≤ v2 ∧ v2 < (n13 : Int)) ∧
            ((¬ ((f14 v2.toNat).toInt) = 0) →
              VX0_besideOf l Q 2 [(0, am_R v0), (1, am_I v1), (2, am_I (v2 + 1))] [] G4) ∧
            ((((f14 v2.toNat).toInt) = 0) →
              Q (some (am_I v2)) G4)))))))) : VX0_besideOf l Q 2 [(0, am_R v0), (1, am_I v1), (2, am_I v2)] [] S := by
  refine am_iload_n dX0_besideOf_2 rfl 2 rfl ?_
  refine am_bipush dX0_besideOf_3 (by decide) ?_
  obtain ⟨ha1, hb2⟩ := hh
  refine am_icmp_ge (tgt := 33) dX0_besideOf_5 (by decide) h2 (⟨by decide, by decide⟩) (fun hc3 => ?_) (fun hc3 => ?_)
  · have hh := ha1 hc3
    refine am_ldc (z := -1000000) q472 (by decide) dX0_besideOf_33 ?_
    exact am_iret rfl dX0_besideOf_35 (Nat.le_refl 0) (Nat.le_refl 0) hh
  · have hh := hb2 hc3
    refine am_iload_n dX0_besideOf_8 rfl 1 rfl ?_
    refine am_iload_n dX0_besideOf_9 rfl 2 rfl ?_
    refine am_rSz (n := 2) hh dX0_besideOf_10 (lw_S q588 q589 q90 q590) ⟨⟨by decide, by decide, by decide +kernel⟩, ⟨Nat.le_of_ble_eq_true rfl, Nat.le_of_ble_eq_true rfl⟩⟩ ⟨rfl, rfl⟩ rfl rfl (Nat.le_of_ble_eq_true rfl) ⟨(Nat.le_of_ble_eq_true rfl), (Nat.le_of_ble_eq_true rfl)⟩ (fun b5 G4 hh => ?_)
    obtain ⟨ha6, hb7⟩ := hh
    refine am_ifB_eq (tgt := 27) dX0_besideOf_13 (by decide) (fun hc8 => ?_) (fun hc8 => ?_)
    · have hh := ha6 hc8
      refine am_iinc (n := 2) dX0_besideOf_27 rfl (by decide) rfl ?_
      refine am_goto (tgt := 2) dX0_besideOf_30 (by decide) ?_
      refine am_keep [1, 2, 0] rfl ?_
      exact hh
    · have hh := hb7 hc8
      refine am_aload_n dX0_besideOf_16 rfl 0 rfl ?_
      obtain ⟨fs9, ho10, hh⟩ := hh
      obtain ⟨x12, hv11, hh⟩ := hh
      refine ah_getN ho10 hv11 rfl in_X1 (by decide) (am_nwin q145 rfl) dX0_besideOf_17 ?_
      refine am_iload_n dX0_besideOf_20 rfl 2 rfl ?_
      obtain ⟨n13, f14, ha15, hh⟩ := hh
      obtain ⟨o16, hh⟩ := hh
      refine ah_iald ha15 o16.1 o16.2 (v := (f14 v2.toNat).toInt) rfl dX0_besideOf_21 ?_
      obtain ⟨ha17, hb18⟩ := hh
      refine am_if_ne (tgt := 27) dX0_besideOf_22 (by decide) (am_rt _) (fun hc19 => ?_) (fun hc19 => ?_)
      · have hh := ha17 hc19
        refine am_iinc (n := 2) dX0_besideOf_27 rfl (by decide) rfl ?_
        refine am_goto (tgt := 2) dX0_besideOf_30 (by decide) ?_
        refine am_keep [1, 2, 0] rfl ?_
        exact hh
      · have hh := hb18 hc19
        refine am_iload_n dX0_besideOf_25 rfl 2 rfl ?_
        exact am_iret rfl dX0_besideOf_26 (Nat.le_refl 0) (Nat.le_refl 0) hh
/-! TableArms.goal(LTableArms$Table;III)I -/
abbrev VX0_goal (l : Launch) (Q : Option am_W → ah_H → Prop) (pc : Nat) (lv : List (Nat × am_W)) (st : List am_W) (S : ah_H) : Prop := am_V ah_r l RX0 cX0_goal 6 (some .int) "goal" (am_rm 4 0 0) (am_E1 ah_r 0 0 Q) pc lv st S 0 0
abbrev kX0_goal (l : Launch) (as : List am_W) (S : ah_H) (Q : Option am_W → ah_H → Prop) : Prop := am_C ah_r l yX0_goal (ws_ yX0_goal cX0_goal 6 (some .int)) (am_rm 4 0 0) 0 0 as S Q
set_option maxHeartbeats 4000000 in
set_option maxRecDepth 100000 in
theorem bX0_goal {l : Launch} {Q : Option am_W → ah_H → Prop} {S : ah_H} (v0 : Nat) (v1 : Nat) (v2 : Int) (h2 : am_r v2) (v3 : Int) (h3 : am_r v3) (v4 : Int) (h4 : am_r v4)
    (hh : VX0_goal l Q 3 [(0, am_R v0), (1, am_R v1), (2, am_I v2), (3, am_I v3), (4, am_I v4), (5, am_I 0)] [] S) : kX0_goal l [am_R v0, am_R v1, am_I v2, am_I v3, am_I v4] S Q := by
  refine am_entry (lv := [(0, am_R v0), (1, am_R v1), (2, am_I v2), (3, am_I v3), (4, am_I v4)]) rfl rfl rfl (fun _ => rfl) (fun _ => Nat.le_of_ble_eq_true rfl) ?_
  refine am_iconst dX0_goal_0 ?_
  refine am_istore dX0_goal_1 (by decide) rfl ?_
  refine am_keep [1, 2, 3, 4, 5, 0] rfl ?_
  exact hh
set_option maxHeartbeats 4000000 in
set_option maxRecDepth 100000 in
theorem bX0_goal_3 {l : Launch} {Q : Option am_W → ah_H → Prop} {S : ah_H} (v0 : Nat) (v1 : Nat) (v2 : Int) (h2 : am_r v2) (v3 : Int) (h3 : am_r v3) (v4 : Int) (h4 : am_r v4) (v5 : Int) (h5 : am_r v5)
    (hh : (∃ fs1, (S.1 v0 = some (.inl (1, fs1))) ∧
      (∃ z4, (fs1[1]? = some (am_I z4) ∧ am_r z4) ∧
      ((z4 ≤ v5) →
        Q (some (am_I (-1000000))) S) ∧
      ((¬ z4 ≤ v5) →
        ((v5 = v2) →
          VX0_goal l Q 3 [(0, am_R v0), (1, am_R v1), (2, am_I v2), (3, am_I v3), (4, am_I v4), (5, am_I (v5 + 1))] [] S) ∧
        ((¬ v5 = v2) →
          (∃ x13, (fs1[2]? = some (am_R x13)) ∧
          (∃ n14 f15, (S.1 x13 = some (.inr (0, n14, .inl f15))) ∧
          (0 ≤ v5 ∧ v5 < (n14 : Int)) ∧
          ((((f15 v5.toNat).toInt) = v4) →
            ((¬ v3 = 0) →
              VX0_goal l Q 54 [(0, am_R v0), (1, am_R v1), (2, am_I v2), (3, am_I v3), (4, am_I v4), (5, am_I v5)] [] S) ∧
            ((v3 = 0) →
              (∃ fs24, (S.1 v1 = some (.inl (2, fs24))) ∧
              kX1_isClear l [am_R v1, am_I v5] S (am_qz fun b27 G26 =>
                ((b27 = false) →
                  VX0_goal l Q 54 [(0, am_R v0), (1, am_R v1), (2, am_I v2), (3, am_I v3), (4, am_I v4), (5, am_I v5)] [] G26) ∧
                ((b27 = true) →
                  (∃ fs31, (G26.1 v1 = some (.inl (2, fs31))) ∧
                  (∃ x34, (fs31[2]? = some (am_R x34)) ∧
                  (∃ n35 f36, (G26.1 x34 = some (.inr (0, n35, .inl f36))) ∧
                  (0 ≤ v5 ∧ v5 < (n35 : Int)) ∧
                  Q (some (am_I (f36 v5.toNat).toInt)) G26)))))))) ∧
          ((¬ ((f15 v5.toNat).toInt) = v4) →
            VX0_goal l Q 3 [(0, am_R v0), (1, am_R v1), (2, am_I v2), (3, am_I v3), (4, am_I v4), (5, am_I (v5 + 1))] [] S)))))))) : VX0_goal l Q 3 [(0, am_R v0), (1, am_R v1), (2, am_I v2), (3, am_I v3), (4, am_I v4), (5, am_I v5)] [] S := by
  refine am_iload dX0_goal_3 5 rfl ?_
  refine am_aload_n dX0_goal_5 rfl 0 rfl ?_
  obtain ⟨fs1, ho2, hh⟩ := hh
  obtain ⟨z4, ⟨hv3, hr5⟩, hh⟩ := hh
  refine ah_get ho2 hv3 rfl in_X0 (by decide) q210 (Or.inl rfl) dX0_goal_6 ?_
  obtain ⟨ha6, hb7⟩ := hh
  refine am_icmp_ge (tgt := 127) dX0_goal_9 (by decide) h5 hr5 (fun hc8 => ?_) (fun hc8 => ?_)
  · have hh := ha6 hc8
    refine am_ldc (z := -1000000) q472 (by decide) dX0_goal_127 ?_
    exact am_iret rfl dX0_goal_129 (Nat.le_refl 0) (Nat.le_refl 0) hh
  · have hh := hb7 hc8
    refine am_iload dX0_goal_12 5 rfl ?_
    refine am_iload_n dX0_goal_14 rfl 2 rfl ?_
    obtain ⟨ha9, hb10⟩ := hh
    refine am_icmp_eq (tgt := 121) dX0_goal_15 (by decide) h5 h2 (fun hc11 => ?_) (fun hc11 => ?_)
    · have hh := ha9 hc11
      refine am_iinc (n := 5) dX0_goal_121 rfl (by decide) rfl ?_
      refine am_goto (tgt := 3) dX0_goal_124 (by decide) ?_
      refine am_keep [1, 2, 3, 4, 5, 0] rfl ?_
      exact hh
    · have hh := hb10 hc11
      refine am_aload_n dX0_goal_18 rfl 0 rfl ?_
      obtain ⟨x13, hv12, hh⟩ := hh
      refine ah_get ho2 hv12 rfl in_X0 (by decide) q211 (Or.inl rfl) dX0_goal_19 ?_
      refine am_iload dX0_goal_22 5 rfl ?_
      obtain ⟨n14, f15, ha16, hh⟩ := hh
      obtain ⟨o17, hh⟩ := hh
      refine ah_iald ha16 o17.1 o17.2 (v := (f15 v5.toNat).toInt) rfl dX0_goal_24 ?_
      refine am_iload dX0_goal_25 4 rfl ?_
      obtain ⟨ha18, hb19⟩ := hh
      refine am_icmp_eq (tgt := 33) dX0_goal_27 (by decide) (am_rt _) h4 (fun hc20 => ?_) (fun hc20 => ?_)
      · have hh := ha18 hc20
        refine am_iload_n dX0_goal_33 rfl 3 rfl ?_
        obtain ⟨ha21, hb22⟩ := hh
        refine am_if_ne (tgt := 54) dX0_goal_34 (by decide) h3 (fun hc23 => ?_) (fun hc23 => ?_)
        · have hh := ha21 hc23
          exact hh
        · have hh := hb22 hc23
          refine am_aload_n dX0_goal_37 rfl 1 rfl ?_
          refine am_iload dX0_goal_38 5 rfl ?_
          obtain ⟨fs24, ho25, hh⟩ := hh
          refine am_rVz (n := 1) hh dX0_goal_40 (lw_V q481 q482 q483 q91 q484) rfl ⟨⟨by decide, by decide, by decide +kernel⟩, ⟨Nat.le_of_ble_eq_true rfl, Nat.le_of_ble_eq_true rfl⟩⟩ ⟨rfl, rfl⟩ rfl rfl (Nat.le_of_ble_eq_true rfl) ⟨(Nat.le_of_ble_eq_true rfl), (Nat.le_of_ble_eq_true rfl)⟩ (ah_recv ho25 rfl) (fun b27 G26 hh => ?_)
          obtain ⟨ha28, hb29⟩ := hh
          refine am_ifB_eq (tgt := 54) dX0_goal_43 (by decide) (fun hc30 => ?_) (fun hc30 => ?_)
          · have hh := ha28 hc30
            exact hh
          · have hh := hb29 hc30
            refine am_aload_n dX0_goal_46 rfl 1 rfl ?_
            obtain ⟨fs31, ho32, hh⟩ := hh
            obtain ⟨x34, hv33, hh⟩ := hh
            refine ah_getN ho32 hv33 rfl in_X1 (by decide) (am_nwin q147 rfl) dX0_goal_47 ?_
            refine am_iload dX0_goal_50 5 rfl ?_
            obtain ⟨n35, f36, ha37, hh⟩ := hh
            obtain ⟨o38, hh⟩ := hh
            refine ah_iald ha37 o38.1 o38.2 (v := (f36 v5.toNat).toInt) rfl dX0_goal_52 ?_
            exact am_iret rfl dX0_goal_53 (Nat.le_refl 0) (Nat.le_refl 0) hh
      · have hh := hb19 hc20
        refine am_goto (tgt := 121) dX0_goal_30 (by decide) ?_
        refine am_iinc (n := 5) dX0_goal_121 rfl (by decide) rfl ?_
        refine am_goto (tgt := 3) dX0_goal_124 (by decide) ?_
        refine am_keep [1, 2, 3, 4, 5, 0] rfl ?_
        exact hh
set_option maxHeartbeats 4000000 in
set_option maxRecDepth 100000 in
theorem bX0_goal_54 {l : Launch} {Q : Option am_W → ah_H → Prop} {S : ah_H} (v0 : Nat) (v1 : Nat) (v2 : Int) (h2 : am_r v2) (v3 : Int) (h3 : am_r v3) (v4 : Int) (h4 : am_r v4) (v5 : Int) (h5 : am_r v5)
    (hh : ((¬ v3 = 1) →
        VX0_goal l Q 92 [(0, am_R v0), (1, am_R v1), (2, am_I v2), (3, am_I v3), (4, am_I v4), (5, am_I v5)] [] S) ∧
      ((v3 = 1) →
        ((¬ v4 = 2) →
          VX0_goal l Q 92 [(0, am_R v0), (1, am_R v1), (2, am_I v2), (3, am_I v3), (4, am_I v4), (5, am_I v5)] [] S) ∧
        ((v4 = 2) →
          (∃ fs7, (S.1 v1 = some (.inl (2, fs7))) ∧
          kX1_isClear l [am_R v1, am_I v5] S (am_qz fun b10 G9 =>
            ((b10 = false) →
              VX0_goal l Q 92 [(0, am_R v0), (1, am_R v1), (2, am_I v2), (3, am_I v3), (4, am_I v4), (5, am_I v5)] [] G9) ∧
            ((b10 = true) →
              (∃ fs14, (G9.1 v1 = some (.inl (2, fs14))) ∧
              (∃ x17, (fs14[4]? = some (am_R x17)) ∧
              (∃ n18 f19, (G9.1 x17 = some (.inr (0, n18, .inl f19))) ∧
              (0 ≤ v5 ∧ v5 < (n18 : Int)) ∧
              ((¬ ((f19 v5.toNat).toInt) = (-1000000)) →
                VX0_goal l Q 92 [(0, am_R v0), (1, am_R v1), (2, am_I v2), (3, am_I v3), (4, am_I v4), (5, am_I v5)] [] G9) ∧
              ((((f19 v5.toNat).toInt) = (-1000000)) →
                Q (some (am_I (8 + v5))) G9)))))))))) : VX0_goal l Q 54 [(0, am_R v0), (1, am_R v1), (2, am_I v2), (3, am_I v3), (4, am_I v4), (5, am_I v5)] [] S := by
  refine am_iload_n dX0_goal_54 rfl 3 rfl ?_
  refine am_iconst dX0_goal_55 ?_
  obtain ⟨ha1, hb2⟩ := hh
  refine am_icmp_ne (tgt := 92) dX0_goal_56 (by decide) h3 (⟨by decide, by decide⟩) (fun hc3 => ?_) (fun hc3 => ?_)
  · have hh := ha1 hc3
    exact hh
  · have hh := hb2 hc3
    refine am_iload dX0_goal_59 4 rfl ?_
    refine am_iconst dX0_goal_61 ?_
    obtain ⟨ha4, hb5⟩ := hh
    refine am_icmp_ne (tgt := 92) dX0_goal_62 (by decide) h4 (⟨by decide, by decide⟩) (fun hc6 => ?_) (fun hc6 => ?_)
    · have hh := ha4 hc6
      exact hh
    · have hh := hb5 hc6
      refine am_aload_n dX0_goal_65 rfl 1 rfl ?_
      refine am_iload dX0_goal_66 5 rfl ?_
      obtain ⟨fs7, ho8, hh⟩ := hh
      refine am_rVz (n := 1) hh dX0_goal_68 (lw_V q481 q482 q483 q91 q484) rfl ⟨⟨by decide, by decide, by decide +kernel⟩, ⟨Nat.le_of_ble_eq_true rfl, Nat.le_of_ble_eq_true rfl⟩⟩ ⟨rfl, rfl⟩ rfl rfl (Nat.le_of_ble_eq_true rfl) ⟨(Nat.le_of_ble_eq_true rfl), (Nat.le_of_ble_eq_true rfl)⟩ (ah_recv ho8 rfl) (fun b10 G9 hh => ?_)
      obtain ⟨ha11, hb12⟩ := hh
      refine am_ifB_eq (tgt := 92) dX0_goal_71 (by decide) (fun hc13 => ?_) (fun hc13 => ?_)
      · have hh := ha11 hc13
        exact hh
      · have hh := hb12 hc13
        refine am_aload_n dX0_goal_74 rfl 1 rfl ?_
        obtain ⟨fs14, ho15, hh⟩ := hh
        obtain ⟨x17, hv16, hh⟩ := hh
        refine ah_getN ho15 hv16 rfl in_X1 (by decide) (am_nwin q153 rfl) dX0_goal_75 ?_
        refine am_iload dX0_goal_78 5 rfl ?_
        obtain ⟨n18, f19, ha20, hh⟩ := hh
        obtain ⟨o21, hh⟩ := hh
        refine ah_iald ha20 o21.1 o21.2 (v := (f19 v5.toNat).toInt) rfl dX0_goal_80 ?_
        refine am_ldc (z := -1000000) q472 (by decide) dX0_goal_81 ?_
        obtain ⟨ha22, hb23⟩ := hh
        refine am_icmp_ne (tgt := 92) dX0_goal_83 (by decide) (am_rt _) (⟨by decide, by decide⟩) (fun hc24 => ?_) (fun hc24 => ?_)
        · have hh := ha22 hc24
          exact hh
        · have hh := hb23 hc24
          refine am_bipush dX0_goal_86 (by decide) ?_
          refine am_iload dX0_goal_88 5 rfl ?_
          refine am_iadd dX0_goal_90 ?_
          exact am_iret rfl dX0_goal_91 (Nat.le_refl 0) (Nat.le_refl 0) hh
set_option maxHeartbeats 4000000 in
set_option maxRecDepth 100000 in
theorem bX0_goal_92 {l : Launch} {Q : Option am_W → ah_H → Prop} {S : ah_H} (v0 : Nat) (v1 : Nat) (v2 : Int) (h2 : am_r v2) (v3 : Int) (h3 : am_r v3) (v4 : Int) (h4 : am_r v4) (v5 : Int) (h5 : am_r v5)
    (hh : ((¬ v3 = 2) →
        VX0_goal l Q 3 [(0, am_R v0), (1, am_R v1), (2, am_I v2), (3, am_I v3), (4, am_I v4), (5, am_I (v5 + 1))] [] S) ∧
      ((v3 = 2) →
        (∃ fs4, (S.1 v1 = some (.inl (2, fs4))) ∧
        (∃ x7, (fs4[3]? = some (am_R x7)) ∧
        (∃ n8 f9, (S.1 x7 = some (.inr (0, n8, .inl f9))) ∧
        (0 ≤ v5 ∧ v5 < (n8 : Int)) ∧
        ((¬ ((f9 v5.toNat).toInt) = (-1000000)) →
          VX0_goal l Q 3 [(0, am_R v0), (1, am_R v1), (2, am_I v2), (3, am_I v3), (4, am_I v4), (5, am_I (v5 + 1))] [] S) ∧
        ((((f9 v5.toNat).toInt) = (-1000000)) →
          (∃ x16, (fs4[2]? = some (am_R x16)) ∧
          (∃ n17 f18, (S.1 x16 = some (.inr (0, n17, .inl f18))) ∧
          (0 ≤ v5 ∧ v5 < (n17 : Int)) ∧
          kX0_besideOf l [am_R v1, am_I (f18 v5.toNat).toInt] S (am_qi fun r22 G21 =>
            Q (some (am_I r22)) G21))))))))) : VX0_goal l Q 92 [(0, am_R v0), (1, am_R v1), (2, am_I v2), (3, am_I v3), (4, am_I v4), (5, am_I v5)] [] S := by
  refine am_iload_n dX0_goal_92 rfl 3 rfl ?_
  refine am_iconst dX0_goal_93 ?_
  obtain ⟨ha1, hb2⟩ := hh
  refine am_icmp_ne (tgt := 121) dX0_goal_94 (by decide) h3 (⟨by decide, by decide⟩) (fun hc3 => ?_) (fun hc3 => ?_)
  · have hh := ha1 hc3
    refine am_iinc (n := 5) dX0_goal_121 rfl (by decide) rfl ?_
    refine am_goto (tgt := 3) dX0_goal_124 (by decide) ?_
    refine am_keep [1, 2, 3, 4, 5, 0] rfl ?_
    exact hh
  · have hh := hb2 hc3
    refine am_aload_n dX0_goal_97 rfl 1 rfl ?_
    obtain ⟨fs4, ho5, hh⟩ := hh
    obtain ⟨x7, hv6, hh⟩ := hh
    refine ah_getN ho5 hv6 rfl in_X1 (by decide) (am_nwin q150 rfl) dX0_goal_98 ?_
    refine am_iload dX0_goal_101 5 rfl ?_
    obtain ⟨n8, f9, ha10, hh⟩ := hh
    obtain ⟨o11, hh⟩ := hh
    refine ah_iald ha10 o11.1 o11.2 (v := (f9 v5.toNat).toInt) rfl dX0_goal_103 ?_
    refine am_ldc (z := -1000000) q472 (by decide) dX0_goal_104 ?_
    obtain ⟨ha12, hb13⟩ := hh
    refine am_icmp_ne (tgt := 121) dX0_goal_106 (by decide) (am_rt _) (⟨by decide, by decide⟩) (fun hc14 => ?_) (fun hc14 => ?_)
    · have hh := ha12 hc14
      refine am_iinc (n := 5) dX0_goal_121 rfl (by decide) rfl ?_
      refine am_goto (tgt := 3) dX0_goal_124 (by decide) ?_
      refine am_keep [1, 2, 3, 4, 5, 0] rfl ?_
      exact hh
    · have hh := hb13 hc14
      refine am_aload_n dX0_goal_109 rfl 1 rfl ?_
      refine am_aload_n dX0_goal_110 rfl 1 rfl ?_
      obtain ⟨x16, hv15, hh⟩ := hh
      refine ah_getN ho5 hv15 rfl in_X1 (by decide) (am_nwin q147 rfl) dX0_goal_111 ?_
      refine am_iload dX0_goal_114 5 rfl ?_
      obtain ⟨n17, f18, ha19, hh⟩ := hh
      obtain ⟨o20, hh⟩ := hh
      refine ah_iald ha19 o20.1 o20.2 (v := (f18 v5.toNat).toInt) rfl dX0_goal_116 ?_
      refine am_rSi (n := 2) hh dX0_goal_117 (lw_S q602 q603 q90 q604) ⟨⟨by decide, by decide, by decide +kernel⟩, ⟨Nat.le_of_ble_eq_true rfl, Nat.le_of_ble_eq_true rfl⟩⟩ ⟨rfl, rfl⟩ rfl rfl (Nat.le_of_ble_eq_true rfl) ⟨(Nat.le_of_ble_eq_true rfl), (Nat.le_of_ble_eq_true rfl)⟩ (fun r22 G21 hr23 hh => ?_)
      exact am_iret rfl dX0_goal_120 (Nat.le_refl 0) (Nat.le_refl 0) hh
