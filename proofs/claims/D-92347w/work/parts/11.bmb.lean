/-! TableArmsModel.pile(II)I -/
abbrev VX3_pile (l : Launch) (Q : Option am_W → am_M → Prop) (pc : Nat) (lv : List (Nat × am_W)) (st : List am_W) (S : am_M) : Prop := am_V am_mr l RX3 cX3_pile 3 (some .int) "pile" (am_rm 3 0 0) (am_E1 am_mr 0 0 Q) pc lv st S 0 0
abbrev kX3_pile (l : Launch) (as : List am_W) (S : am_M) (Q : Option am_W → am_M → Prop) : Prop := am_C am_mr l yX3_pile (ws_ yX3_pile cX3_pile 3 (some .int)) (am_rm 3 0 0) 0 0 as S Q
set_option maxHeartbeats 4000000 in
set_option maxRecDepth 100000 in
theorem bX3_pile {l : Launch} {Q : Option am_W → am_M → Prop} {S : am_M} (v1 : Int) (h1 : am_r v1) (v2 : Int) (h2 : am_r v2)
    (hh : kX3_isCell l [am_I v1] (am_sv S 0 0) (am_qz fun b2 S1 =>
        ((b2 = false) →
          Q (some (am_I (-1000001))) S1) ∧
        ((b2 = true) →
          (((-1) ≤ v2) →
            ((¬ v2 = (-1)) →
              kX3_sizeOf l [am_R 0, am_I 0, am_I v1] S1 (am_qi fun r13 S12 =>
                ((r13 ≤ v2) →
                  Q (some (am_I (-1000000))) S12) ∧
                ((¬ r13 ≤ v2) →
                  kX3_thingAt l [am_R 0, am_I 0, am_I v1, am_I v2] S12 (am_qi fun r19 S18 =>
                    Q (some (am_I r19)) S18)))) ∧
            ((v2 = (-1)) →
              kX3_sizeOf l [am_R 0, am_I 0, am_I v1] S1 (am_qi fun r22 S21 =>
                Q (some (am_I r22)) S21))) ∧
          ((¬ (-1) ≤ v2) →
            Q (some (am_I (-1000001))) S1)))) : kX3_pile l [am_R 0, am_I v1, am_I v2] S Q := by
  refine am_entry (lv := [(0, am_R 0), (1, am_I v1), (2, am_I v2)]) rfl rfl rfl (fun _ => rfl) (fun _ => Nat.le_of_ble_eq_true rfl) ?_
  refine am_aload_n dX3_pile_0 rfl 0 rfl ?_
  refine am_iconst dX3_pile_1 ?_
  refine am_mput 0 (by decide) q1401 dX3_pile_2 ?_
  refine am_iload_n dX3_pile_5 rfl 1 rfl ?_
  refine am_rSz (n := 1) hh dX3_pile_6 (lw_S q1599 q1600 q96 q1601) ⟨⟨by decide, by decide, by decide +kernel⟩, ⟨Nat.le_of_ble_eq_true rfl, Nat.le_of_ble_eq_true rfl⟩⟩ ⟨rfl, rfl⟩ rfl rfl (Nat.le_of_ble_eq_true rfl) ⟨(Nat.le_refl 0), (Nat.le_refl 0)⟩ (fun b2 S1 hh => ?_)
  obtain ⟨ha3, hb4⟩ := hh
  refine am_ifB_eq (tgt := 17) dX3_pile_9 (by decide) (fun hc5 => ?_) (fun hc5 => ?_)
  · have hh := ha3 hc5
    refine am_ldc (z := -1000001) q1515 (by decide) dX3_pile_17 ?_
    refine am_goto (tgt := 58) dX3_pile_19 (by decide) ?_
    exact am_iret rfl dX3_pile_58 (Nat.le_refl 0) (Nat.le_refl 0) hh
  · have hh := hb4 hc5
    refine am_iload_n dX3_pile_12 rfl 2 rfl ?_
    refine am_iconst dX3_pile_13 ?_
    obtain ⟨ha6, hb7⟩ := hh
    refine am_icmp_ge (tgt := 22) dX3_pile_14 (by decide) h2 (⟨by decide, by decide⟩) (fun hc8 => ?_) (fun hc8 => ?_)
    · have hh := ha6 hc8
      refine am_iload_n dX3_pile_22 rfl 2 rfl ?_
      refine am_iconst dX3_pile_23 ?_
      obtain ⟨ha9, hb10⟩ := hh
      refine am_icmp_ne (tgt := 36) dX3_pile_24 (by decide) h2 (⟨by decide, by decide⟩) (fun hc11 => ?_) (fun hc11 => ?_)
      · have hh := ha9 hc11
        refine am_iload_n dX3_pile_36 rfl 2 rfl ?_
        refine am_aload_n dX3_pile_37 rfl 0 rfl ?_
        refine am_iconst dX3_pile_38 ?_
        refine am_iload_n dX3_pile_39 rfl 1 rfl ?_
        refine am_rVi (n := 2) hh dX3_pile_40 (lw_V q1536 q1538 qs45 q96 q1539) rfl ⟨⟨by decide, by decide, by decide +kernel⟩, ⟨Nat.le_of_ble_eq_true rfl, Nat.le_of_ble_eq_true rfl⟩⟩ ⟨rfl, rfl⟩ rfl rfl (Nat.le_of_ble_eq_true rfl) ⟨(Nat.le_refl 0), (Nat.le_refl 0)⟩ (am_mrecv _) (fun r13 S12 hr14 hh => ?_)
        obtain ⟨ha15, hb16⟩ := hh
        refine am_icmp_ge (tgt := 56) dX3_pile_43 (by decide) h2 hr14 (fun hc17 => ?_) (fun hc17 => ?_)
        · have hh := ha15 hc17
          refine am_ldc (z := -1000000) q1544 (by decide) dX3_pile_56 ?_
          exact am_iret rfl dX3_pile_58 (Nat.le_refl 0) (Nat.le_refl 0) hh
        · have hh := hb16 hc17
          refine am_aload_n dX3_pile_46 rfl 0 rfl ?_
          refine am_iconst dX3_pile_47 ?_
          refine am_iload_n dX3_pile_48 rfl 1 rfl ?_
          refine am_iload_n dX3_pile_49 rfl 2 rfl ?_
          refine am_rVi (n := 3) hh dX3_pile_50 (lw_V q1540 q1542 qs46 q96 q1543) rfl ⟨⟨by decide, by decide, by decide +kernel⟩, ⟨Nat.le_of_ble_eq_true rfl, Nat.le_of_ble_eq_true rfl⟩⟩ ⟨rfl, rfl⟩ rfl rfl (Nat.le_of_ble_eq_true rfl) ⟨(Nat.le_refl 0), (Nat.le_refl 0)⟩ (am_mrecv _) (fun r19 S18 hr20 hh => ?_)
          refine am_goto (tgt := 58) dX3_pile_53 (by decide) ?_
          exact am_iret rfl dX3_pile_58 (Nat.le_refl 0) (Nat.le_refl 0) hh
      · have hh := hb10 hc11
        refine am_aload_n dX3_pile_27 rfl 0 rfl ?_
        refine am_iconst dX3_pile_28 ?_
        refine am_iload_n dX3_pile_29 rfl 1 rfl ?_
        refine am_rVi (n := 2) hh dX3_pile_30 (lw_V q1536 q1538 qs45 q96 q1539) rfl ⟨⟨by decide, by decide, by decide +kernel⟩, ⟨Nat.le_of_ble_eq_true rfl, Nat.le_of_ble_eq_true rfl⟩⟩ ⟨rfl, rfl⟩ rfl rfl (Nat.le_of_ble_eq_true rfl) ⟨(Nat.le_refl 0), (Nat.le_refl 0)⟩ (am_mrecv _) (fun r22 S21 hr23 hh => ?_)
        refine am_goto (tgt := 58) dX3_pile_33 (by decide) ?_
        exact am_iret rfl dX3_pile_58 (Nat.le_refl 0) (Nat.le_refl 0) hh
    · have hh := hb7 hc8
      refine am_ldc (z := -1000001) q1515 (by decide) dX3_pile_17 ?_
      refine am_goto (tgt := 58) dX3_pile_19 (by decide) ?_
      exact am_iret rfl dX3_pile_58 (Nat.le_refl 0) (Nat.le_refl 0) hh
/-! TableArmsModel.isArm(I)Z -/
abbrev VX3_isArm (l : Launch) (Q : Option am_W → am_M → Prop) (pc : Nat) (lv : List (Nat × am_W)) (st : List am_W) (S : am_M) : Prop := am_V am_mr l RX3 cX3_isArm 1 (some .boolean) "isArm" (am_rm 2 0 0) (am_E1 am_mr 0 0 Q) pc lv st S 0 0
abbrev kX3_isArm (l : Launch) (as : List am_W) (S : am_M) (Q : Option am_W → am_M → Prop) : Prop := am_C am_mr l yX3_isArm (ws_ yX3_isArm cX3_isArm 1 (some .boolean)) (am_rm 2 0 0) 0 0 as S Q
set_option maxHeartbeats 4000000 in
set_option maxRecDepth 100000 in
theorem bX3_isArm {l : Launch} {Q : Option am_W → am_M → Prop} {S : am_M} (v0 : Int) (h0 : am_r v0)
    (hh : kX3_in l [am_J v0, am_J 0, am_J 1] S (am_qz fun b2 S1 =>
        Q (some (am_I (am_b b2))) S1)) : kX3_isArm l [am_I v0] S Q := by
  refine am_entry (lv := [(0, am_I v0)]) rfl rfl rfl (fun _ => rfl) (fun _ => Nat.le_of_ble_eq_true rfl) ?_
  refine am_iload_n dX3_isArm_0 rfl 0 rfl ?_
  refine am_i2l_ h0 dX3_isArm_1 ?_
  refine am_lconst (z := 0) dX3_isArm_2 (by decide) ?_
  refine am_lconst (z := 1) dX3_isArm_3 (by decide) ?_
  refine am_rSz (n := 3) hh dX3_isArm_4 (lw_S q1512 q1513 q96 q1514) ⟨⟨by decide, by decide, by decide +kernel⟩, ⟨Nat.le_of_ble_eq_true rfl, Nat.le_of_ble_eq_true rfl⟩⟩ ⟨rfl, rfl⟩ rfl rfl (Nat.le_of_ble_eq_true rfl) ⟨(Nat.le_refl 0), (Nat.le_refl 0)⟩ (fun b2 S1 hh => ?_)
  exact am_zret (b := b2) rfl dX3_isArm_7 (Nat.le_refl 0) (Nat.le_refl 0) hh
/-! TableArmsModel.reach(II)I -/
abbrev VX3_reach (l : Launch) (Q : Option am_W → am_M → Prop) (pc : Nat) (lv : List (Nat × am_W)) (st : List am_W) (S : am_M) : Prop := am_V am_mr l RX3 cX3_reach 4 (some .int) "reach" (am_rm 3 0 0) (am_E1 am_mr 0 0 Q) pc lv st S 0 0
abbrev kX3_reach (l : Launch) (as : List am_W) (S : am_M) (Q : Option am_W → am_M → Prop) : Prop := am_C am_mr l yX3_reach (ws_ yX3_reach cX3_reach 4 (some .int)) (am_rm 3 0 0) 0 0 as S Q
set_option maxHeartbeats 4000000 in
set_option maxRecDepth 100000 in
theorem bX3_reach {l : Launch} {Q : Option am_W → am_M → Prop} {S : am_M} (v1 : Int) (h1 : am_r v1) (v2 : Int) (h2 : am_r v2)
    (hh : kX3_isArm l [am_I v1] (am_sv S 0 0) (am_qz fun b2 S1 =>
        ((b2 = false) →
          Q (some (am_I (-1000001))) S1) ∧
        ((b2 = true) →
          kX3_in l [am_J v2, am_J 0, am_J 255] S1 (am_qz fun b7 S6 =>
            ((b7 = true) →
              (0 ≤ v1 ∧ v1 < 2) ∧
              Q (some (am_I (S6.2 3 v1.toNat).toInt)) (am_sa S6 3 v1 v2)) ∧
            ((b7 = false) →
              Q (some (am_I (-1000001))) S6))))) : kX3_reach l [am_R 0, am_I v1, am_I v2] S Q := by
  refine am_entry (lv := [(0, am_R 0), (1, am_I v1), (2, am_I v2)]) rfl rfl rfl (fun _ => rfl) (fun _ => Nat.le_of_ble_eq_true rfl) ?_
  refine am_aload_n dX3_reach_0 rfl 0 rfl ?_
  refine am_iconst dX3_reach_1 ?_
  refine am_mput 0 (by decide) q1401 dX3_reach_2 ?_
  refine am_iload_n dX3_reach_5 rfl 1 rfl ?_
  refine am_rSz (n := 1) hh dX3_reach_6 (lw_S q1621 q1622 q96 q1623) ⟨⟨by decide, by decide, by decide +kernel⟩, ⟨Nat.le_of_ble_eq_true rfl, Nat.le_of_ble_eq_true rfl⟩⟩ ⟨rfl, rfl⟩ rfl rfl (Nat.le_of_ble_eq_true rfl) ⟨(Nat.le_refl 0), (Nat.le_refl 0)⟩ (fun b2 S1 hh => ?_)
  obtain ⟨ha3, hb4⟩ := hh
  refine am_ifB_eq (tgt := 24) dX3_reach_9 (by decide) (fun hc5 => ?_) (fun hc5 => ?_)
  · have hh := ha3 hc5
    refine am_ldc (z := -1000001) q1515 (by decide) dX3_reach_24 ?_
    exact am_iret rfl dX3_reach_26 (Nat.le_refl 0) (Nat.le_refl 0) hh
  · have hh := hb4 hc5
    refine am_iload_n dX3_reach_12 rfl 2 rfl ?_
    refine am_i2l_ h2 dX3_reach_13 ?_
    refine am_lconst (z := 0) dX3_reach_14 (by decide) ?_
    refine am_ldc2 (z := 255) q1624 (by decide) dX3_reach_15 ?_
    refine am_rSz (n := 3) hh dX3_reach_18 (lw_S q1512 q1513 q96 q1514) ⟨⟨by decide, by decide, by decide +kernel⟩, ⟨Nat.le_of_ble_eq_true rfl, Nat.le_of_ble_eq_true rfl⟩⟩ ⟨rfl, rfl⟩ rfl rfl (Nat.le_of_ble_eq_true rfl) ⟨(Nat.le_refl 0), (Nat.le_refl 0)⟩ (fun b7 S6 hh => ?_)
    obtain ⟨ha8, hb9⟩ := hh
    refine am_ifB_ne (tgt := 27) dX3_reach_21 (by decide) (fun hc10 => ?_) (fun hc10 => ?_)
    · have hh := ha8 hc10
      refine am_aload_n dX3_reach_27 rfl 0 rfl ?_
      refine am_mgeta 3 (by decide) q1408 dX3_reach_28 ?_
      refine am_iload_n dX3_reach_31 rfl 1 rfl ?_
      obtain ⟨o11, hh⟩ := hh
      refine am_miald 3 (by decide) (by decide) (v := (S6.2 3 v1.toNat).toInt) rfl o11.1 o11.2 dX3_reach_32 ?_
      refine am_istore_n dX3_reach_33 rfl (by decide) rfl ?_
      refine am_aload_n dX3_reach_34 rfl 1 rfl ?_
      refine am_mgeta 3 (by decide) q1408 dX3_reach_35 ?_
      refine am_iload_n dX3_reach_38 rfl 2 rfl ?_
      refine am_iload_n dX3_reach_39 rfl 3 rfl ?_
      refine am_miast 3 (by decide) (by decide) o11.1 o11.2 dX3_reach_40 ?_
      refine am_iload_n dX3_reach_41 rfl 0 rfl ?_
      exact am_iret rfl dX3_reach_42 (Nat.le_refl 0) (Nat.le_refl 0) hh
    · have hh := hb9 hc10
      refine am_ldc (z := -1000001) q1515 (by decide) dX3_reach_24 ?_
      exact am_iret rfl dX3_reach_26 (Nat.le_refl 0) (Nat.le_refl 0) hh
/-! TableArmsModel.isTo(I)Z -/
abbrev VX3_isTo (l : Launch) (Q : Option am_W → am_M → Prop) (pc : Nat) (lv : List (Nat × am_W)) (st : List am_W) (S : am_M) : Prop := am_V am_mr l RX3 cX3_isTo 2 (some .boolean) "isTo" (am_rm 3 0 0) (am_E1 am_mr 0 0 Q) pc lv st S 0 0
abbrev kX3_isTo (l : Launch) (as : List am_W) (S : am_M) (Q : Option am_W → am_M → Prop) : Prop := am_C am_mr l yX3_isTo (ws_ yX3_isTo cX3_isTo 2 (some .boolean)) (am_rm 3 0 0) 0 0 as S Q
set_option maxHeartbeats 4000000 in
set_option maxRecDepth 100000 in
theorem bX3_isTo {l : Launch} {Q : Option am_W → am_M → Prop} {S : am_M} (v1 : Int) (h1 : am_r v1)
    (hh : kX3_isCell l [am_I v1] S (am_qz fun b2 S1 =>
        ((b2 = true) →
          Q (some (am_I (am_b true))) S1) ∧
        ((b2 = false) →
          kX3_in l [am_J v1, am_J 8, am_J 13] S1 (am_qz fun b7 S6 =>
            ((b7 = false) →
              Q (some (am_I (am_b false))) S6) ∧
            ((b7 = true) →
              kX3_isThing l [am_R 0, am_I (v1 - 8)] S6 (am_qz fun b12 S11 =>
                ((b12 = false) →
                  Q (some (am_I (am_b false))) S11) ∧
                ((b12 = true) →
                  (0 ≤ (v1 - 8) ∧ (v1 - 8) < 6) ∧
                  ((¬ ((S11.2 1 (v1 - 8).toNat).toInt) = 2) →
                    Q (some (am_I (am_b false))) S11) ∧
                  ((((S11.2 1 (v1 - 8).toNat).toInt) = 2) →
                    Q (some (am_I (am_b true))) S11)))))))) : kX3_isTo l [am_R 0, am_I v1] S Q := by
  refine am_entry (lv := [(0, am_R 0), (1, am_I v1)]) rfl rfl rfl (fun _ => rfl) (fun _ => Nat.le_of_ble_eq_true rfl) ?_
  refine am_iload_n dX3_isTo_0 rfl 1 rfl ?_
  refine am_rSz (n := 1) hh dX3_isTo_1 (lw_S q1599 q1600 q96 q1601) ⟨⟨by decide, by decide, by decide +kernel⟩, ⟨Nat.le_of_ble_eq_true rfl, Nat.le_of_ble_eq_true rfl⟩⟩ ⟨rfl, rfl⟩ rfl rfl (Nat.le_of_ble_eq_true rfl) ⟨(Nat.le_refl 0), (Nat.le_refl 0)⟩ (fun b2 S1 hh => ?_)
  obtain ⟨ha3, hb4⟩ := hh
  refine am_ifB_ne (tgt := 45) dX3_isTo_4 (by decide) (fun hc5 => ?_) (fun hc5 => ?_)
  · have hh := ha3 hc5
    refine am_iconst dX3_isTo_45 ?_
    refine am_goto (tgt := 50) dX3_isTo_46 (by decide) ?_
    exact am_zret (b := true) rfl dX3_isTo_50 (Nat.le_refl 0) (Nat.le_refl 0) hh
  · have hh := hb4 hc5
    refine am_iload_n dX3_isTo_7 rfl 1 rfl ?_
    refine am_i2l_ h1 dX3_isTo_8 ?_
    refine am_ldc2 (z := 8) q1633 (by decide) dX3_isTo_9 ?_
    refine am_ldc2 (z := 13) q1634 (by decide) dX3_isTo_12 ?_
    refine am_rSz (n := 3) hh dX3_isTo_15 (lw_S q1512 q1513 q96 q1514) ⟨⟨by decide, by decide, by decide +kernel⟩, ⟨Nat.le_of_ble_eq_true rfl, Nat.le_of_ble_eq_true rfl⟩⟩ ⟨rfl, rfl⟩ rfl rfl (Nat.le_of_ble_eq_true rfl) ⟨(Nat.le_refl 0), (Nat.le_refl 0)⟩ (fun b7 S6 hh => ?_)
    obtain ⟨ha8, hb9⟩ := hh
    refine am_ifB_eq (tgt := 49) dX3_isTo_18 (by decide) (fun hc10 => ?_) (fun hc10 => ?_)
    · have hh := ha8 hc10
      refine am_iconst dX3_isTo_49 ?_
      exact am_zret (b := false) rfl dX3_isTo_50 (Nat.le_refl 0) (Nat.le_refl 0) hh
    · have hh := hb9 hc10
      refine am_aload_n dX3_isTo_21 rfl 0 rfl ?_
      refine am_iload_n dX3_isTo_22 rfl 1 rfl ?_
      refine am_bipush dX3_isTo_23 (by decide) ?_
      refine am_isub dX3_isTo_25 ?_
      refine am_rVz (n := 1) hh dX3_isTo_26 (lw_V q1608 q1610 qs58 q96 q1611) rfl ⟨⟨by decide, by decide, by decide +kernel⟩, ⟨Nat.le_of_ble_eq_true rfl, Nat.le_of_ble_eq_true rfl⟩⟩ ⟨rfl, rfl⟩ rfl rfl (Nat.le_of_ble_eq_true rfl) ⟨(Nat.le_refl 0), (Nat.le_refl 0)⟩ (am_mrecv _) (fun b12 S11 hh => ?_)
      obtain ⟨ha13, hb14⟩ := hh
      refine am_ifB_eq (tgt := 49) dX3_isTo_29 (by decide) (fun hc15 => ?_) (fun hc15 => ?_)
      · have hh := ha13 hc15
        refine am_iconst dX3_isTo_49 ?_
        exact am_zret (b := false) rfl dX3_isTo_50 (Nat.le_refl 0) (Nat.le_refl 0) hh
      · have hh := hb14 hc15
        refine am_aload_n dX3_isTo_32 rfl 0 rfl ?_
        refine am_mgeta 1 (by decide) q1405 dX3_isTo_33 ?_
        refine am_iload_n dX3_isTo_36 rfl 1 rfl ?_
        refine am_bipush dX3_isTo_37 (by decide) ?_
        refine am_isub dX3_isTo_39 ?_
        obtain ⟨o16, hh⟩ := hh
        refine am_miald 1 (by decide) (by decide) (v := (S11.2 1 (v1 - 8).toNat).toInt) rfl o16.1 o16.2 dX3_isTo_40 ?_
        refine am_iconst dX3_isTo_41 ?_
        obtain ⟨ha17, hb18⟩ := hh
        refine am_icmp_ne (tgt := 49) dX3_isTo_42 (by decide) (am_rt _) (⟨by decide, by decide⟩) (fun hc19 => ?_) (fun hc19 => ?_)
        · have hh := ha17 hc19
          refine am_iconst dX3_isTo_49 ?_
          exact am_zret (b := false) rfl dX3_isTo_50 (Nat.le_refl 0) (Nat.le_refl 0) hh
        · have hh := hb18 hc19
          refine am_iconst dX3_isTo_45 ?_
          refine am_goto (tgt := 50) dX3_isTo_46 (by decide) ?_
          exact am_zret (b := true) rfl dX3_isTo_50 (Nat.le_refl 0) (Nat.le_refl 0) hh
/-! TableArmsModel.doesReach(IIII)Z -/
abbrev VX3_doesReach (l : Launch) (Q : Option am_W → am_M → Prop) (pc : Nat) (lv : List (Nat × am_W)) (st : List am_W) (S : am_M) : Prop := am_V am_mr l RX3 cX3_doesReach 6 (some .boolean) "doesReach" (am_rm 3 0 0) (am_E1 am_mr 0 0 Q) pc lv st S 0 0
abbrev kX3_doesReach (l : Launch) (as : List am_W) (S : am_M) (Q : Option am_W → am_M → Prop) : Prop := am_C am_mr l yX3_doesReach (ws_ yX3_doesReach cX3_doesReach 6 (some .boolean)) (am_rm 3 0 0) 0 0 as S Q
set_option maxHeartbeats 4000000 in
set_option maxRecDepth 100000 in
theorem bX3_doesReach {l : Launch} {Q : Option am_W → am_M → Prop} {S : am_M} (v1 : Int) (h1 : am_r v1) (v2 : Int) (h2 : am_r v2) (v3 : Int) (h3 : am_r v3) (v4 : Int) (h4 : am_r v4)
    (hh : ((8 ≤ v4) →
        kX3_cellOf l [am_R 0, am_I v1, am_I (v4 - 8)] S (am_qi fun r5 S4 =>
          (0 ≤ v2 ∧ v2 < 2) ∧
          kX3_cellOf l [am_R 0, am_I v1, am_I v3] S4 (am_qi fun r9 S8 =>
            ((¬ (am_and (am_shr (S4.2 3 v2.toNat).toInt r9) 1) = 1) →
              Q (some (am_I (am_b false))) S8) ∧
            (((am_and (am_shr (S4.2 3 v2.toNat).toInt r9) 1) = 1) →
              ((¬ (am_and (am_shr (S8.2 3 v2.toNat).toInt r5) 1) = 1) →
                Q (some (am_I (am_b false))) S8) ∧
              (((am_and (am_shr (S8.2 3 v2.toNat).toInt r5) 1) = 1) →
                Q (some (am_I (am_b true))) S8))))) ∧
      ((¬ 8 ≤ v4) →
        (0 ≤ v2 ∧ v2 < 2) ∧
        kX3_cellOf l [am_R 0, am_I v1, am_I v3] S (am_qi fun r19 S18 =>
          ((¬ (am_and (am_shr (S.2 3 v2.toNat).toInt r19) 1) = 1) →
            Q (some (am_I (am_b false))) S18) ∧
          (((am_and (am_shr (S.2 3 v2.toNat).toInt r19) 1) = 1) →
            ((¬ (am_and (am_shr (S18.2 3 v2.toNat).toInt v4) 1) = 1) →
              Q (some (am_I (am_b false))) S18) ∧
            (((am_and (am_shr (S18.2 3 v2.toNat).toInt v4) 1) = 1) →
              Q (some (am_I (am_b true))) S18))))) : kX3_doesReach l [am_R 0, am_I v1, am_I v2, am_I v3, am_I v4] S Q := by
  refine am_entry (lv := [(0, am_R 0), (1, am_I v1), (2, am_I v2), (3, am_I v3), (4, am_I v4)]) rfl rfl rfl (fun _ => rfl) (fun _ => Nat.le_of_ble_eq_true rfl) ?_
  refine am_iload dX3_doesReach_0 4 rfl ?_
  refine am_bipush dX3_doesReach_2 (by decide) ?_
  obtain ⟨ha1, hb2⟩ := hh
  refine am_icmp_ge (tgt := 12) dX3_doesReach_4 (by decide) h4 (⟨by decide, by decide⟩) (fun hc3 => ?_) (fun hc3 => ?_)
  · have hh := ha1 hc3
    refine am_aload_n dX3_doesReach_12 rfl 0 rfl ?_
    refine am_iload_n dX3_doesReach_13 rfl 1 rfl ?_
    refine am_iload dX3_doesReach_14 4 rfl ?_
    refine am_bipush dX3_doesReach_16 (by decide) ?_
    refine am_isub dX3_doesReach_18 ?_
    refine am_rVi (n := 2) hh dX3_doesReach_19 (lw_V q1532 q1534 qs44 q96 q1535) rfl ⟨⟨by decide, by decide, by decide +kernel⟩, ⟨Nat.le_of_ble_eq_true rfl, Nat.le_of_ble_eq_true rfl⟩⟩ ⟨rfl, rfl⟩ rfl rfl (Nat.le_of_ble_eq_true rfl) ⟨(Nat.le_refl 0), (Nat.le_refl 0)⟩ (am_mrecv _) (fun r5 S4 hr6 hh => ?_)
    refine am_istore dX3_doesReach_22 (by decide) rfl ?_
    refine am_aload_n dX3_doesReach_24 rfl 1 rfl ?_
    refine am_mgeta 3 (by decide) q1408 dX3_doesReach_25 ?_
    refine am_iload_n dX3_doesReach_28 rfl 3 rfl ?_
    obtain ⟨o7, hh⟩ := hh
    refine am_miald 3 (by decide) (by decide) (v := (S4.2 3 v2.toNat).toInt) rfl o7.1 o7.2 dX3_doesReach_29 ?_
    refine am_aload_n dX3_doesReach_30 rfl 1 rfl ?_
    refine am_iload_n dX3_doesReach_31 rfl 2 rfl ?_
    refine am_iload_n dX3_doesReach_32 rfl 4 rfl ?_
    refine am_rVi (n := 2) hh dX3_doesReach_33 (lw_V q1532 q1534 qs44 q96 q1535) rfl ⟨⟨by decide, by decide, by decide +kernel⟩, ⟨Nat.le_of_ble_eq_true rfl, Nat.le_of_ble_eq_true rfl⟩⟩ ⟨rfl, rfl⟩ rfl rfl (Nat.le_of_ble_eq_true rfl) ⟨(Nat.le_refl 0), (Nat.le_refl 0)⟩ (am_mrecv _) (fun r9 S8 hr10 hh => ?_)
    refine am_ishr dX3_doesReach_36 ?_
    refine am_iconst dX3_doesReach_37 ?_
    refine am_iand dX3_doesReach_38 ?_
    refine am_iconst dX3_doesReach_39 ?_
    obtain ⟨ha11, hb12⟩ := hh
    refine am_icmp_ne (tgt := 62) dX3_doesReach_40 (by decide) (am_rt _) (⟨by decide, by decide⟩) (fun hc13 => ?_) (fun hc13 => ?_)
    · have hh := ha11 hc13
      refine am_iconst dX3_doesReach_62 ?_
      exact am_zret (b := false) rfl dX3_doesReach_63 (Nat.le_refl 0) (Nat.le_refl 0) hh
    · have hh := hb12 hc13
      refine am_aload_n dX3_doesReach_43 rfl 1 rfl ?_
      refine am_mgeta 3 (by decide) q1408 dX3_doesReach_44 ?_
      refine am_iload_n dX3_doesReach_47 rfl 3 rfl ?_
      refine am_miald 3 (by decide) (by decide) (v := (S8.2 3 v2.toNat).toInt) rfl o7.1 o7.2 dX3_doesReach_48 ?_
      refine am_iload dX3_doesReach_49 0 rfl ?_
      refine am_ishr dX3_doesReach_51 ?_
      refine am_iconst dX3_doesReach_52 ?_
      refine am_iand dX3_doesReach_53 ?_
      refine am_iconst dX3_doesReach_54 ?_
      obtain ⟨ha14, hb15⟩ := hh
      refine am_icmp_ne (tgt := 62) dX3_doesReach_55 (by decide) (am_rt _) (⟨by decide, by decide⟩) (fun hc16 => ?_) (fun hc16 => ?_)
      · have hh := ha14 hc16
        refine am_iconst dX3_doesReach_62 ?_
        exact am_zret (b := false) rfl dX3_doesReach_63 (Nat.le_refl 0) (Nat.le_refl 0) hh
      · have hh := hb15 hc16
        refine am_iconst dX3_doesReach_58 ?_
        refine am_goto (tgt := 63) dX3_doesReach_59 (by decide) ?_
        exact am_zret (b := true) rfl dX3_doesReach_63 (Nat.le_refl 0) (Nat.le_refl 0) hh
  · have hh := hb2 hc3
    refine am_iload dX3_doesReach_7 4 rfl ?_
    refine am_goto (tgt := 22) dX3_doesReach_9 (by decide) ?_
    refine am_istore dX3_doesReach_22 (by decide) rfl ?_
    refine am_aload_n dX3_doesReach_24 rfl 1 rfl ?_
    refine am_mgeta 3 (by decide) q1408 dX3_doesReach_25 ?_
    refine am_iload_n dX3_doesReach_28 rfl 3 rfl ?_
    obtain ⟨o17, hh⟩ := hh
    refine am_miald 3 (by decide) (by decide) (v := (S.2 3 v2.toNat).toInt) rfl o17.1 o17.2 dX3_doesReach_29 ?_
    refine am_aload_n dX3_doesReach_30 rfl 1 rfl ?_
    refine am_iload_n dX3_doesReach_31 rfl 2 rfl ?_
    refine am_iload_n dX3_doesReach_32 rfl 4 rfl ?_
    refine am_rVi (n := 2) hh dX3_doesReach_33 (lw_V q1532 q1534 qs44 q96 q1535) rfl ⟨⟨by decide, by decide, by decide +kernel⟩, ⟨Nat.le_of_ble_eq_true rfl, Nat.le_of_ble_eq_true rfl⟩⟩ ⟨rfl, rfl⟩ rfl rfl (Nat.le_of_ble_eq_true rfl) ⟨(Nat.le_refl 0), (Nat.le_refl 0)⟩ (am_mrecv _) (fun r19 S18 hr20 hh => ?_)
    refine am_ishr dX3_doesReach_36 ?_
    refine am_iconst dX3_doesReach_37 ?_
    refine am_iand dX3_doesReach_38 ?_
    refine am_iconst dX3_doesReach_39 ?_
    obtain ⟨ha21, hb22⟩ := hh
    refine am_icmp_ne (tgt := 62) dX3_doesReach_40 (by decide) (am_rt _) (⟨by decide, by decide⟩) (fun hc23 => ?_) (fun hc23 => ?_)
    · have hh := ha21 hc23
      refine am_iconst dX3_doesReach_62 ?_
      exact am_zret (b := false) rfl dX3_doesReach_63 (Nat.le_refl 0) (Nat.le_refl 0) hh
    · have hh := hb22 hc23
      refine am_aload_n dX3_doesReach_43 rfl 1 rfl ?_
      refine am_mgeta 3 (by decide) q1408 dX3_doesReach_44 ?_
      refine am_iload_n dX3_doesReach_47 rfl 3 rfl ?_
      refine am_miald 3 (by decide) (by decide) (v := (S18.2 3 v2.toNat).toInt) rfl o17.1 o17.2 dX3_doesReach_48 ?_
      refine am_iload dX3_doesReach_49 0 rfl ?_
      refine am_ishr dX3_doesReach_51 ?_
      refine am_iconst dX3_doesReach_52 ?_
      refine am_iand dX3_doesReach_53 ?_
      refine am_iconst dX3_doesReach_54 ?_
      obtain ⟨ha24, hb25⟩ := hh
      refine am_icmp_ne (tgt := 62) dX3_doesReach_55 (by decide) (am_rt _) (⟨by decide, by decide⟩) (fun hc26 => ?_) (fun hc26 => ?_)
      · have hh := ha24 hc26
        refine am_iconst dX3_doesReach_62 ?_
        exact am_zret (b := false) rfl dX3_doesReach_63 (Nat.le_refl 0) (Nat.le_refl 0) hh
      · have hh := hb25 hc26
        refine am_iconst dX3_doesReach_58 ?_
        refine am_goto (tgt := 63) dX3_doesReach_59 (by decide) ?_
        exact am_zret (b := true) rfl dX3_doesReach_63 (Nat.le_refl 0) (Nat.le_refl 0) hh
/-! TableArmsModel.move(III)I -/
abbrev VX3_move (l : Launch) (Q : Option am_W → am_M → Prop) (pc : Nat) (lv : List (Nat × am_W)) (st : List am_W) (S : am_M) : Prop := am_V am_mr l RX3 cX3_move 4 (some .int) "move" (am_rm 7 0 0) (am_E1 am_mr 0 0 Q) pc lv st S 0 0
abbrev kX3_move (l : Launch) (as : List am_W) (S : am_M) (Q : Option am_W → am_M → Prop) : Prop := am_C am_mr l yX3_move (ws_ yX3_move cX3_move 4 (some .int)) (am_rm 7 0 0) 0 0 as S Q
set_option maxHeartbeats 4000000 in
set_option maxRecDepth 100000 in
theorem bX3_move {l : Launch} {Q : Option am_W → am_M → Prop} {S : am_M} (v1 : Int) (h1 : am_r v1) (v2 : Int) (h2 : am_r v2) (v3 : Int) (h3 : am_r v3)
    (hh : kX3_isArm l [am_I v1] (am_sv S 0 0) (am_qz fun b2 S1 =>
        ((b2 = false) →
          Q (some (am_I (-1000001))) S1) ∧
        ((b2 = true) →
          kX3_isThing l [am_R 0, am_I v2] S1 (am_qz fun b7 S6 =>
            ((b7 = false) →
              Q (some (am_I (-1000001))) S6) ∧
            ((b7 = true) →
              kX3_isTo l [am_R 0, am_I v3] S6 (am_qz fun b12 S11 =>
                ((b12 = true) →
                  kX3_canMove l [am_R 0, am_I 0, am_I v2, am_I v3] S11 (am_qz fun b17 S16 =>
                    ((b17 = false) →
                      Q (some (am_I (-1000002))) S16) ∧
                    ((b17 = true) →
                      kX3_doesReach l [am_R 0, am_I 0, am_I v1, am_I v2, am_I v3] S16 (am_qz fun b22 S21 =>
                        ((b22 = true) →
                          kX3_doMove l [am_R 0, am_I 0, am_I v2, am_I v3] S21 (am_qv fun S26 =>
                            Q (some (am_I 1)) S26)) ∧
                        ((b22 = false) →
                          Q (some (am_I (-1000002))) S21))))) ∧
                ((b12 = false) →
                  Q (some (am_I (-1000001))) S11))))))) : kX3_move l [am_R 0, am_I v1, am_I v2, am_I v3] S Q := by
  refine am_entry (lv := [(0, am_R 0), (1, am_I v1), (2, am_I v2), (3, am_I v3)]) rfl rfl rfl (fun _ => rfl) (fun _ => Nat.le_of_ble_eq_true rfl) ?_
  refine am_aload_n dX3_move_0 rfl 0 rfl ?_
  refine am_iconst dX3_move_1 ?_
  refine am_mput 0 (by decide) q1401 dX3_move_2 ?_
  refine am_iload_n dX3_move_5 rfl 1 rfl ?_
  refine am_rSz (n := 1) hh dX3_move_6 (lw_S q1621 q1622 q96 q1623) ⟨⟨by decide, by decide, by decide +kernel⟩, ⟨Nat.le_of_ble_eq_true rfl, Nat.le_of_ble_eq_true rfl⟩⟩ ⟨rfl, rfl⟩ rfl rfl (Nat.le_of_ble_eq_true rfl) ⟨(Nat.le_refl 0), (Nat.le_refl 0)⟩ (fun b2 S1 hh => ?_)
  obtain ⟨ha3, hb4⟩ := hh
  refine am_ifB_eq (tgt := 28) dX3_move_9 (by decide) (fun hc5 => ?_) (fun hc5 => ?_)
  · have hh := ha3 hc5
    refine am_ldc (z := -1000001) q1515 (by decide) dX3_move_28 ?_
    exact am_iret rfl dX3_move_30 (Nat.le_refl 0) (Nat.le_refl 0) hh
  · have hh := hb4 hc5
    refine am_aload_n dX3_move_12 rfl 0 rfl ?_
    refine am_iload_n dX3_move_13 rfl 2 rfl ?_
    refine am_rVz (n := 1) hh dX3_move_14 (lw_V q1608 q1610 qs58 q96 q1611) rfl ⟨⟨by decide, by decide, by decide +kernel⟩, ⟨Nat.le_of_ble_eq_true rfl, Nat.le_of_ble_eq_true rfl⟩⟩ ⟨rfl, rfl⟩ rfl rfl (Nat.le_of_ble_eq_true rfl) ⟨(Nat.le_refl 0), (Nat.le_refl 0)⟩ (am_mrecv _) (fun b7 S6 hh => ?_)
    obtain ⟨ha8, hb9⟩ := hh
    refine am_ifB_eq (tgt := 28) dX3_move_17 (by decide) (fun hc10 => ?_) (fun hc10 => ?_)
    · have hh := ha8 hc10
      refine am_ldc (z := -1000001) q1515 (by decide) dX3_move_28 ?_
      exact am_iret rfl dX3_move_30 (Nat.le_refl 0) (Nat.le_refl 0) hh
    · have hh := hb9 hc10
      refine am_aload_n dX3_move_20 rfl 0 rfl ?_
      refine am_iload_n dX3_move_21 rfl 3 rfl ?_
      refine am_rVz (n := 1) hh dX3_move_22 (lw_V q1629 q1631 qs59 q96 q1632) rfl ⟨⟨by decide, by decide, by decide +kernel⟩, ⟨Nat.le_of_ble_eq_true rfl, Nat.le_of_ble_eq_true rfl⟩⟩ ⟨rfl, rfl⟩ rfl rfl (Nat.le_of_ble_eq_true rfl) ⟨(Nat.le_refl 0), (Nat.le_refl 0)⟩ (am_mrecv _) (fun b12 S11 hh => ?_)
      obtain ⟨ha13, hb14⟩ := hh
      refine am_ifB_ne (tgt := 31) dX3_move_25 (by decide) (fun hc15 => ?_) (fun hc15 => ?_)
      · have hh := ha13 hc15
        refine am_aload_n dX3_move_31 rfl 0 rfl ?_
        refine am_iconst dX3_move_32 ?_
        refine am_iload_n dX3_move_33 rfl 2 rfl ?_
        refine am_iload_n dX3_move_34 rfl 3 rfl ?_
        refine am_rVz (n := 3) hh dX3_move_35 (lw_V q1568 q1570 qs52 q96 q1571) rfl ⟨⟨by decide, by decide, by decide +kernel⟩, ⟨Nat.le_of_ble_eq_true rfl, Nat.le_of_ble_eq_true rfl⟩⟩ ⟨rfl, rfl⟩ rfl rfl (Nat.le_of_ble_eq_true rfl) ⟨(Nat.le_refl 0), (Nat.le_refl 0)⟩ (am_mrecv _) (fun b17 S16 hh => ?_)
        obtain ⟨ha18, hb19⟩ := hh
        refine am_ifB_eq (tgt := 52) dX3_move_38 (by decide) (fun hc20 => ?_) (fun hc20 => ?_)
        · have hh := ha18 hc20
          refine am_ldc (z := -1000002) q1592 (by decide) dX3_move_52 ?_
          exact am_iret rfl dX3_move_54 (Nat.le_refl 0) (Nat.le_refl 0) hh
        · have hh := hb19 hc20
          refine am_aload_n dX3_move_41 rfl 0 rfl ?_
          refine am_iconst dX3_move_42 ?_
          refine am_iload_n dX3_move_43 rfl 1 rfl ?_
          refine am_iload_n dX3_move_44 rfl 2 rfl ?_
          refine am_iload_n dX3_move_45 rfl 3 rfl ?_
          refine am_rVz (n := 4) hh dX3_move_46 (lw_V q1635 q1637 qs60 q96 q1638) rfl ⟨⟨by decide, by decide, by decide +kernel⟩, ⟨Nat.le_of_ble_eq_true rfl, Nat.le_of_ble_eq_true rfl⟩⟩ ⟨rfl, rfl⟩ rfl rfl (Nat.le_of_ble_eq_true rfl) ⟨(Nat.le_refl 0), (Nat.le_refl 0)⟩ (am_mrecv _) (fun b22 S21 hh => ?_)
          obtain ⟨ha23, hb24⟩ := hh
          refine am_ifB_ne (tgt := 55) dX3_move_49 (by decide) (fun hc25 => ?_) (fun hc25 => ?_)
          · have hh := ha23 hc25
            refine am_aload_n dX3_move_55 rfl 0 rfl ?_
            refine am_iconst dX3_move_56 ?_
            refine am_iload_n dX3_move_57 rfl 2 rfl ?_
            refine am_iload_n dX3_move_58 rfl 3 rfl ?_
            refine am_rVv (n := 3) hh dX3_move_59 (lw_V q1580 q1582 qs55 q96 q1583) rfl ⟨⟨by decide, by decide, by decide +kernel⟩, ⟨Nat.le_of_ble_eq_true rfl, Nat.le_of_ble_eq_true rfl⟩⟩ ⟨rfl, rfl⟩ rfl rfl (Nat.le_of_ble_eq_true rfl) ⟨(Nat.le_refl 0), (Nat.le_refl 0)⟩ (am_mrecv _) (fun S26 hh => ?_)
            refine am_iconst dX3_move_62 ?_
            exact am_iret rfl dX3_move_63 (Nat.le_refl 0) (Nat.le_refl 0) hh
          · have hh := hb24 hc25
            refine am_ldc (z := -1000002) q1592 (by decide) dX3_move_52 ?_
            exact am_iret rfl dX3_move_54 (Nat.le_refl 0) (Nat.le_refl 0) hh
      · have hh := hb14 hc15
        refine am_ldc (z := -1000001) q1515 (by decide) dX3_move_28 ?_
        exact am_iret rfl dX3_move_30 (Nat.le_refl 0) (Nat.le_refl 0) hh
/-! TableArmsModel.keep()I -/
abbrev VX3_keep (l : Launch) (Q : Option am_W → am_M → Prop) (pc : Nat) (lv : List (Nat × am_W)) (st : List am_W) (S : am_M) : Prop := am_V am_mr l RX3 cX3_keep 1 (some .int) "keep" (am_rm 2 0 0) (am_E1 am_mr 0 0 Q) pc lv st S 0 0
abbrev kX3_keep (l : Launch) (as : List am_W) (S : am_M) (Q : Option am_W → am_M → Prop) : Prop := am_C am_mr l yX3_keep (ws_ yX3_keep cX3_keep 1 (some .int)) (am_rm 2 0 0) 0 0 as S Q
set_option maxHeartbeats 4000000 in
set_option maxRecDepth 100000 in
theorem bX3_keep {l : Launch} {Q : Option am_W → am_M → Prop} {S : am_M} 
    (hh : ((¬ ((S.1 3).toInt) = 8) →
        kX3_copyTable l [am_R 0, am_I 0, am_I (Int32.ofInt ((S.1 3).toInt + 1)).toInt] (am_sv (am_sv S 0 0) 3 ((S.1 3).toInt + 1)) (am_qv fun S4 =>
          Q (some (am_I ((S4.1 3).toInt - 1))) S4)) ∧
      ((((S.1 3).toInt) = 8) →
        Q (some (am_I (-1000003))) (am_sv S 0 0))) : kX3_keep l [am_R 0] S Q := by
  refine am_entry (lv := [(0, am_R 0)]) rfl rfl rfl (fun _ => rfl) (fun _ => Nat.le_of_ble_eq_true rfl) ?_
  refine am_aload_n dX3_keep_0 rfl 0 rfl ?_
  refine am_iconst dX3_keep_1 ?_
  refine am_mput 0 (by decide) q1401 dX3_keep_2 ?_
  refine am_aload_n dX3_keep_5 rfl 0 rfl ?_
  refine am_mgeti 3 (by decide) (v := (S.1 3).toInt) rfl q1407 dX3_keep_6 ?_
  refine am_bipush dX3_keep_9 (by decide) ?_
  obtain ⟨ha1, hb2⟩ := hh
  refine am_icmp_ne (tgt := 17) dX3_keep_11 (by decide) (am_rt _) (⟨by decide, by decide⟩) (fun hc3 => ?_) (fun hc3 => ?_)
  · have hh := ha1 hc3
    refine am_aload_n dX3_keep_17 rfl 0 rfl ?_
    refine am_dup dX3_keep_18 rfl ?_
    refine am_mgeti 3 (by decide) (v := (S.1 3).toInt) rfl q1407 dX3_keep_19 ?_
    refine am_iconst dX3_keep_22 ?_
    refine am_iadd dX3_keep_23 ?_
    refine am_mput 3 (by decide) q1407 dX3_keep_24 ?_
    refine am_aload_n dX3_keep_27 rfl 0 rfl ?_
    refine am_iconst dX3_keep_28 ?_
    refine am_aload_n dX3_keep_29 rfl 0 rfl ?_
    refine am_mgeti 3 (by decide) (v := (Int32.ofInt ((S.1 3).toInt + 1)).toInt) rfl q1407 dX3_keep_30 ?_
    refine am_rVv (n := 2) hh dX3_keep_33 (lw_V q1516 q1518 qs40 q96 q1519) rfl ⟨⟨by decide, by decide, by decide +kernel⟩, ⟨Nat.le_of_ble_eq_true rfl, Nat.le_of_ble_eq_true rfl⟩⟩ ⟨rfl, rfl⟩ rfl rfl (Nat.le_of_ble_eq_true rfl) ⟨(Nat.le_refl 0), (Nat.le_refl 0)⟩ (am_mrecv _) (fun S4 hh => ?_)
    refine am_aload_n dX3_keep_36 rfl 0 rfl ?_
    refine am_mgeti 3 (by decide) (v := (S4.1 3).toInt) rfl q1407 dX3_keep_37 ?_
    refine am_iconst dX3_keep_40 ?_
    refine am_isub dX3_keep_41 ?_
    exact am_iret rfl dX3_keep_42 (Nat.le_refl 0) (Nat.le_refl 0) hh
  · have hh := hb2 hc3
    refine am_ldc (z := -1000003) q1603 (by decide) dX3_keep_14 ?_
    exact am_iret rfl dX3_keep_16 (Nat.le_refl 0) (Nat.le_refl 0) hh
/-! TableArmsModel.isKept(I)Z -/
abbrev VX3_isKept (l : Launch) (Q : Option am_W → am_M → Prop) (pc : Nat) (lv : List (Nat × am_W)) (st : List am_W) (S : am_M) : Prop := am_V am_mr l RX3 cX3_isKept 2 (some .boolean) "isKept" (am_rm 2 0 0) (am_E1 am_mr 0 0 Q) pc lv st S 0 0
abbrev kX3_isKept (l : Launch) (as : List am_W) (S : am_M) (Q : Option am_W → am_M → Prop) : Prop := am_C am_mr l yX3_isKept (ws_ yX3_isKept cX3_isKept 2 (some .boolean)) (am_rm 2 0 0) 0 0 as S Q
set_option maxHeartbeats 4000000 in
set_option maxRecDepth 100000 in
theorem bX3_isKept {l : Launch} {Q : Option am_W → am_M → Prop} {S : am_M} (v1 : Int) (h1 : am_r v1)
    (hh : (am_r ((S.1 3).toInt - 1)) ∧
      kX3_in l [am_J v1, am_J 0, am_J ((S.1 3).toInt - 1)] S (am_qz fun b3 S2 =>
        Q (some (am_I (am_b b3))) S2)) : kX3_isKept l [am_R 0, am_I v1] S Q := by
  refine am_entry (lv := [(0, am_R 0), (1, am_I v1)]) rfl rfl rfl (fun _ => rfl) (fun _ => Nat.le_of_ble_eq_true rfl) ?_
  refine am_iload_n dX3_isKept_0 rfl 1 rfl ?_
  refine am_i2l_ h1 dX3_isKept_1 ?_
  refine am_lconst (z := 0) dX3_isKept_2 (by decide) ?_
  refine am_aload_n dX3_isKept_3 rfl 0 rfl ?_
  refine am_mgeti 3 (by decide) (v := (S.1 3).toInt) rfl q1407 dX3_isKept_4 ?_
  refine am_iconst dX3_isKept_7 ?_
  refine am_isub dX3_isKept_8 ?_
  obtain ⟨o1, hh⟩ := hh
  refine am_i2l_ o1 dX3_isKept_9 ?_
  refine am_rSz (n := 3) hh dX3_isKept_10 (lw_S q1512 q1513 q96 q1514) ⟨⟨by decide, by decide, by decide +kernel⟩, ⟨Nat.le_of_ble_eq_true rfl, Nat.le_of_ble_eq_true rfl⟩⟩ ⟨rfl, rfl⟩ rfl rfl (Nat.le_of_ble_eq_true rfl) ⟨(Nat.le_refl 0), (Nat.le_refl 0)⟩ (fun b3 S2 hh => ?_)
  exact am_zret (b := b3) rfl dX3_isKept_13 (Nat.le_refl 0) (Nat.le_refl 0) hh
/-! TableArmsModel.back(I)I -/
abbrev VX3_back (l : Launch) (Q : Option am_W → am_M → Prop) (pc : Nat) (lv : List (Nat × am_W)) (st : List am_W) (S : am_M) : Prop := am_V am_mr l RX3 cX3_back 2 (some .int) "back" (am_rm 3 0 0) (am_E1 am_mr 0 0 Q) pc lv st S 0 0
abbrev kX3_back (l : Launch) (as : List am_W) (S : am_M) (Q : Option am_W → am_M → Prop) : Prop := am_C am_mr l yX3_back (ws_ yX3_back cX3_back 2 (some .int)) (am_rm 3 0 0) 0 0 as S Q
set_option maxHeartbeats 4000000 in
set_option maxRecDepth 100000 in
theorem bX3_back {l : Launch} {Q : Option am_W → am_M → Prop} {S : am_M} (v1 : Int) (h1 : am_r v1)
    (hh : kX3_isKept l [am_R 0, am_I v1] (am_sv S 0 0) (am_qz fun b2 S1 =>
        ((b2 = true) →
          kX3_copyTable l [am_R 0, am_I (v1 + 1), am_I 0] S1 (am_qv fun S6 =>
            Q (some (am_I 1)) S6)) ∧
        ((b2 = false) →
          Q (some (am_I (-1000001))) S1))) : kX3_back l [am_R 0, am_I v1] S Q := by
  refine am_entry (lv := [(0, am_R 0), (1, am_I v1)]) rfl rfl rfl (fun _ => rfl) (fun _ => Nat.le_of_ble_eq_true rfl) ?_
  refine am_aload_n dX3_back_0 rfl 0 rfl ?_
  refine am_iconst dX3_back_1 ?_
  refine am_mput 0 (by decide) q1401 dX3_back_2 ?_
  refine am_aload_n dX3_back_5 rfl 0 rfl ?_
  refine am_iload_n dX3_back_6 rfl 1 rfl ?_
  refine am_rVz (n := 1) hh dX3_back_7 (lw_V q1647 q1649 qs61 q96 q1650) rfl ⟨⟨by decide, by decide, by decide +kernel⟩, ⟨Nat.le_of_ble_eq_true rfl, Nat.le_of_ble_eq_true rfl⟩⟩ ⟨rfl, rfl⟩ rfl rfl (Nat.le_of_ble_eq_true rfl) ⟨(Nat.le_refl 0), (Nat.le_refl 0)⟩ (am_mrecv _) (fun b2 S1 hh => ?_)
  obtain ⟨ha3, hb4⟩ := hh
  refine am_ifB_ne (tgt := 16) dX3_back_10 (by decide) (fun hc5 => ?_) (fun hc5 => ?_)
  · have hh := ha3 hc5
    refine am_aload_n dX3_back_16 rfl 0 rfl ?_
    refine am_iload_n dX3_back_17 rfl 1 rfl ?_
    refine am_iconst dX3_back_18 ?_
    refine am_iadd dX3_back_19 ?_
    refine am_iconst dX3_back_20 ?_
    refine am_rVv (n := 2) hh dX3_back_21 (lw_V q1516 q1518 qs40 q96 q1519) rfl ⟨⟨by decide, by decide, by decide +kernel⟩, ⟨Nat.le_of_ble_eq_true rfl, Nat.le_of_ble_eq_true rfl⟩⟩ ⟨rfl, rfl⟩ rfl rfl (Nat.le_of_ble_eq_true rfl) ⟨(Nat.le_refl 0), (Nat.le_refl 0)⟩ (am_mrecv _) (fun S6 hh => ?_)
    refine am_iconst dX3_back_24 ?_
    exact am_iret rfl dX3_back_25 (Nat.le_refl 0) (Nat.le_refl 0) hh
  · have hh := hb4 hc5
    refine am_ldc (z := -1000001) q1515 (by decide) dX3_back_13 ?_
    exact am_iret rfl dX3_back_15 (Nat.le_refl 0) (Nat.le_refl 0) hh
/-! TableArmsModel.isSame(II)Z -/
abbrev VX3_isSame (l : Launch) (Q : Option am_W → am_M → Prop) (pc : Nat) (lv : List (Nat × am_W)) (st : List am_W) (S : am_M) : Prop := am_V am_mr l RX3 cX3_isSame 5 (some .boolean) "isSame" (am_rm 1 0 0) (am_E1 am_mr 0 0 Q) pc lv st S 0 0
abbrev kX3_isSame (l : Launch) (as : List am_W) (S : am_M) (Q : Option am_W → am_M → Prop) : Prop := am_C am_mr l yX3_isSame (ws_ yX3_isSame cX3_isSame 5 (some .boolean)) (am_rm 1 0 0) 0 0 as S Q
set_option maxHeartbeats 4000000 in
set_option maxRecDepth 100000 in
theorem bX3_isSame {l : Launch} {Q : Option am_W → am_M → Prop} {S : am_M} (v1 : Int) (h1 : am_r v1) (v2 : Int) (h2 : am_r v2)
    (hh : VX3_isSame l Q 5 [(0, am_R 0), (1, am_I v1), (2, am_I v2), (3, am_I (am_b true)), (4, am_I 0)] [] S) : kX3_isSame l [am_R 0, am_I v1, am_I v2] S Q := by
  refine am_entry (lv := [(0, am_R 0), (1, am_I v1), (2, am_I v2)]) rfl rfl rfl (fun _ => rfl) (fun _ => Nat.le_of_ble_eq_true rfl) ?_
  refine am_iconst dX3_isSame_0 ?_
  refine am_istore_n dX3_isSame_1 rfl (by decide) rfl ?_
  refine am_iconst dX3_isSame_2 ?_
  refine am_istore dX3_isSame_3 (by decide) rfl ?_
  refine am_keep [2, 3, 4, 1, 0] rfl ?_
  exact hh
set_option maxHeartbeats 4000000 in
set_option maxRecDepth 100000 in
theorem bX3_isSame_5 {l : Launch} {Q : Option am_W → am_M → Prop} {S : am_M} (v1 : Int) (h1 : am_r v1) (v2 : Int) (h2 : am_r v2) (v3 : Bool) (v4 : Int) (h4 : am_r v4)
    (hh : ((62 ≤ v4) →
        Q (some (am_I (am_b v3))) S) ∧
      ((¬ 62 ≤ v4) →
        ((v3 = false) →
          Q (some (am_I (am_b v3))) S) ∧
        ((v3 = true) →
          (0 ≤ ((62 * v1) + v4) ∧ ((62 * v1) + v4) < 6696) ∧
          (0 ≤ ((62 * v2) + v4) ∧ ((62 * v2) + v4) < 6696) ∧
          ((¬ ((S.2 0 ((62 * v1) + v4).toNat).toInt) = ((S.2 0 ((62 * v2) + v4).toNat).toInt)) →
            VX3_isSame l Q 5 [(0, am_R 0), (1, am_I v1), (2, am_I v2), (3, am_I (am_b false)), (4, am_I (v4 + 1))] [] S) ∧
          ((((S.2 0 ((62 * v1) + v4).toNat).toInt) = ((S.2 0 ((62 * v2) + v4).toNat).toInt)) →
            VX3_isSame l Q 5 [(0, am_R 0), (1, am_I v1), (2, am_I v2), (3, am_I (am_b true)), (4, am_I (v4 + 1))] [] S)))) : VX3_isSame l Q 5 [(0, am_R 0), (1, am_I v1), (2, am_I v2), (3, am_I (am_b v3)), (4, am_I v4)] [] S := by
  refine am_iload dX3_isSame_5 4 rfl ?_
  refine am_bipush dX3_isSame_7 (by decide) ?_
  obtain ⟨ha1, hb2⟩ := hh
  refine am_icmp_ge (tgt := 55) dX3_isSame_9 (by decide) h4 (⟨by decide, by decide⟩) (fun hc3 => ?_) (fun hc3 => ?_)
  · have hh := ha1 hc3
    refine am_iload_n dX3_isSame_55 rfl 3 rfl ?_
    exact am_zret (b := v3) rfl dX3_isSame_56 (Nat.le_refl 0) (Nat.le_refl 0) hh
  · have hh := hb2 hc3
    refine am_iload_n dX3_isSame_12 rfl 3 rfl ?_
    obtain ⟨ha4, hb5⟩ := hh
    refine am_ifB_eq (tgt := 55) dX3_isSame_13 (by decide) (fun hc6 => ?_) (fun hc6 => ?_)
    · have hh := ha4 hc6
      refine am_iload_n dX3_isSame_55 rfl 3 rfl ?_
      exact am_zret (b := v3) rfl dX3_isSame_56 (Nat.le_refl 0) (Nat.le_refl 0) hh
    · have hh := hb5 hc6
      refine am_aload_n dX3_isSame_16 rfl 0 rfl ?_
      refine am_mgeta 0 (by decide) q1403 dX3_isSame_17 ?_
      refine am_bipush dX3_isSame_20 (by decide) ?_
      refine am_iload_n dX3_isSame_22 rfl 1 rfl ?_
      refine am_imul dX3_isSame_23 ?_
      refine am_iload dX3_isSame_24 4 rfl ?_
      refine am_iadd dX3_isSame_26 ?_
      obtain ⟨o7, hh⟩ := hh
      refine am_miald 0 (by decide) (by decide) (v := (S.2 0 ((62 * v1) + v4).toNat).toInt) rfl o7.1 o7.2 dX3_isSame_27 ?_
      refine am_aload_n dX3_isSame_28 rfl 0 rfl ?_
      refine am_mgeta 0 (by decide) q1403 dX3_isSame_29 ?_
      refine am_bipush dX3_isSame_32 (by decide) ?_
      refine am_iload_n dX3_isSame_34 rfl 2 rfl ?_
      refine am_imul dX3_isSame_35 ?_
      refine am_iload dX3_isSame_36 4 rfl ?_
      refine am_iadd dX3_isSame_38 ?_
      obtain ⟨o8, hh⟩ := hh
      refine am_miald 0 (by decide) (by decide) (v := (S.2 0 ((62 * v2) + v4).toNat).toInt) rfl o8.1 o8.2 dX3_isSame_39 ?_
      obtain ⟨ha9, hb10⟩ := hh
      refine am_icmp_ne (tgt := 47) dX3_isSame_40 (by decide) (am_rt _) (am_rt _) (fun hc11 => ?_) (fun hc11 => ?_)
      · have hh := ha9 hc11
        refine am_iconst dX3_isSame_47 ?_
        refine am_istore_n dX3_isSame_48 rfl (by decide) rfl ?_
        refine am_iinc (n := 4) dX3_isSame_49 rfl (by decide) rfl ?_
        refine am_goto (tgt := 5) dX3_isSame_52 (by decide) ?_
        refine am_keep [2, 3, 4, 1, 0] rfl ?_
        exact hh
      · have hh := hb10 hc11
        refine am_iconst dX3_isSame_43 ?_
        refine am_goto (tgt := 48) dX3_isSame_44 (by decide) ?_
        refine am_istore_n dX3_isSame_48 rfl (by decide) rfl ?_
        refine am_iinc (n := 4) dX3_isSame_49 rfl (by decide) rfl ?_
        refine am_goto (tgt := 5) dX3_isSame_52 (by decide) ?_
        refine am_keep [2, 3, 4, 1, 0] rfl ?_
        exact hh
/-! TableArmsModel.same(II)I -/
abbrev VX3_same (l : Launch) (Q : Option am_W → am_M → Prop) (pc : Nat) (lv : List (Nat × am_W)) (st : List am_W) (S : am_M) : Prop := am_V am_mr l RX3 cX3_same 3 (some .int) "same" (am_rm 3 0 0) (am_E1 am_mr 0 0 Q) pc lv st S 0 0
abbrev kX3_same (l : Launch) (as : List am_W) (S : am_M) (Q : Option am_W → am_M → Prop) : Prop := am_C am_mr l yX3_same (ws_ yX3_same cX3_same 3 (some .int)) (am_rm 3 0 0) 0 0 as S Q
set_option maxHeartbeats 4000000 in
set_option maxRecDepth 100000 in
theorem bX3_same {l : Launch} {Q : Option am_W → am_M → Prop} {S : am_M} (v1 : Int) (h1 : am_r v1) (v2 : Int) (h2 : am_r v2)
    (hh : ((v1 = (-1000000)) →
        ((v2 = (-1000000)) →
          ((¬ v1 = (-1000000)) →
            ((¬ v2 = (-1000000)) →
              kX3_isSame l [am_R 0, am_I (v1 + 1), am_I (v2 + 1)] (am_sv S 0 0) (am_qz fun b14 S13 =>
                ((b14 = false) →
                  Q (some (am_I 0)) S13) ∧
                ((b14 = true) →
                  Q (some (am_I 1)) S13))) ∧
            ((v2 = (-1000000)) →
              kX3_isSame l [am_R 0, am_I (v1 + 1), am_I 0] (am_sv S 0 0) (am_qz fun b19 S18 =>
                ((b19 = false) →
                  Q (some (am_I 0)) S18) ∧
                ((b19 = true) →
                  Q (some (am_I 1)) S18)))) ∧
          ((v1 = (-1000000)) →
            ((¬ v2 = (-1000000)) →
              kX3_isSame l [am_R 0, am_I 0, am_I (v2 + 1)] (am_sv S 0 0) (am_qz fun b27 S26 =>
                ((b27 = false) →
                  Q (some (am_I 0)) S26) ∧
                ((b27 = true) →
                  Q (some (am_I 1)) S26))) ∧
            ((v2 = (-1000000)) →
              kX3_isSame l [am_R 0, am_I 0, am_I 0] (am_sv S 0 0) (am_qz fun b32 S31 =>
                ((b32 = false) →
                  Q (some (am_I 0)) S31) ∧
                ((b32 = true) →
                  Q (some (am_I 1)) S31))))) ∧
        ((¬ v2 = (-1000000)) →
          kX3_isKept l [am_R 0, am_I v2] (am_sv S 0 0) (am_qz fun b37 S36 =>
            ((b37 = true) →
              ((¬ v1 = (-1000000)) →
                ((¬ v2 = (-1000000)) →
                  kX3_isSame l [am_R 0, am_I (v1 + 1), am_I (v2 + 1)] S36 (am_qz fun b48 S47 =>
                    ((b48 = false) →
                      Q (some (am_I 0)) S47) ∧
                    ((b48 = true) →
                      Q (some (am_I 1)) S47))) ∧
                ((v2 = (-1000000)) →
                  kX3_isSame l [am_R 0, am_I (v1 + 1), am_I 0] S36 (am_qz fun b53 S52 =>
                    ((b53 = false) →
                      Q (some (am_I 0)) S52) ∧
                    ((b53 = true) →
                      Q (some (am_I 1)) S52)))) ∧
              ((v1 = (-1000000)) →
                ((¬ v2 = (-1000000)) →
                  kX3_isSame l [am_R 0, am_I 0, am_I (v2 + 1)] S36 (am_qz fun b61 S60 =>
                    ((b61 = false) →
                      Q (some (am_I 0)) S60) ∧
                    ((b61 = true) →
                      Q (some (am_I 1)) S60))) ∧
                ((v2 = (-1000000)) →
                  kX3_isSame l [am_R 0, am_I 0, am_I 0] S36 (am_qz fun b66 S65 =>
                    ((b66 = false) →
                      Q (some (am_I 0)) S65) ∧
                    ((b66 = true) →
                      Q (some (am_I 1)) S65))))) ∧
            ((b37 = false) →
              Q (some (am_I (-1000001))) S36)))) ∧
      ((¬ v1 = (-1000000)) →
        kX3_isKept l [am_R 0, am_I v1] (am_sv S 0 0) (am_qz fun b71 S70 =>
          ((b71 = false) →
            Q (some (am_I (-1000001))) S70) ∧
          ((b71 = true) →
            ((v2 = (-1000000)) →
              ((¬ v1 = (-1000000)) →
                ((¬ v2 = (-1000000)) →
                  kX3_isSame l [am_R 0, am_I (v1 + 1), am_I (v2 + 1)] S70 (am_qz fun b85 S84 =>
                    ((b85 = false) →
                      Q (some (am_I 0)) S84) ∧
                    ((b85 = true) →
                      Q (some (am_I 1)) S84))) ∧
                ((v2 = (-1000000)) →
                  kX3_isSame l [am_R 0, am_I (v1 + 1), am_I 0] S70 (am_qz fun b90 S89 =>
                    ((b90 = false) →
                      Q (some (am_I 0)) S89) ∧
                    ((b90 = true) →
                      Q (some (am_I 1)) S89)))) ∧
              ((v1 = (-1000000)) →
                ((¬ v2 = (-1000000)) →
                  kX3_isSame l [am_R 0, am_I 0, am_I (v2 + 1)] S70 (am_qz fun b98 S97 =>
                    ((b98 = false) →
                      Q (some (am_I 0)) S97) ∧
                    ((b98 = true) →
                      Q (some (am_I 1)) S97))) ∧
                ((v2 = (-1000000)) →
                  kX3_isSame l [am_R 0, am_I 0, am_I 0] S70 (am_qz fun b103 S102 =>
                    ((b103 = false) →
                      Q (some (am_I 0)) S102) ∧
                    ((b103 = true) →
                      Q (some (am_I 1)) S102))))) ∧
            ((¬ v2 = (-1000000)) →
              kX3_isKept l [am_R 0, am_I v2] S70 (am_qz fun b108 S107 =>
                ((b108 = true) →
                  ((¬ v1 = (-1000000)) →
                    ((¬ v2 = (-1000000)) →
                      kX3_isSame l [am_R 0, am_I (v1 + 1), am_I (v2 + 1)] S107 (am_qz fun b119 S118 =>
                        ((b119 = false) →
                          Q (some (am_I 0)) S118) ∧
                        ((b119 = true) →
                          Q (some (am_I 1)) S118))) ∧
                    ((v2 = (-1000000)) →
                      kX3_isSame l [am_R 0, am_I (v1 + 1), am_I 0] S107 (am_qz fun b124 S123 =>
                        ((b124 = false) →
                          Q (some (am_I 0)) S123) ∧
                        ((b124 = true) →
                          Q (some (am_I 1)) S123)))) ∧
                  ((v1 = (-1000000)) →
                    ((¬ v2 = (-1000000)) →
                      kX3_isSame l [am_R 0, am_I 0, am_I (v2 + 1)] S107 (am_qz fun b132 S131 =>
                        ((b132 = false) →
                          Q (some (am_I 0)) S131) ∧
                        ((b132 = true) →
                          Q (some (am_I 1)) S131))) ∧
                    ((v2 = (-1000000)) →
                      kX3_isSame l [am_R 0, am_I 0, am_I 0] S107 (am_qz fun b137 S136 =>
                        ((b137 = false) →
                          Q (some (am_I 0)) S136) ∧
                        ((b137 = true) →
                          Q (some (am_I 1)) S136))))) ∧
                ((b108 = false) →
                  Q (some (am_I (-1000001))) S107))))))) : kX3_same l [am_R 0, am_I v1, am_I v2] S Q := by
  refine am_entry (lv := [(0, am_R 0), (1, am_I v1), (2, am_I v2)]) rfl rfl rfl (fun _ => rfl) (fun _ => Nat.le_of_ble_eq_true rfl) ?_
  refine am_aload_n dX3_same_0 rfl 0 rfl ?_
  refine am_iconst dX3_same_1 ?_
  refine am_mput 0 (by decide) q1401 dX3_same_2 ?_
  refine am_iload_n dX3_same_5 rfl 1 rfl ?_
  refine am_ldc (z := -1000000) q1544 (by decide) dX3_same_6 ?_
  obtain ⟨ha1, hb2⟩ := hh
  refine am_icmp_eq (tgt := 19) dX3_same_8 (by decide) h1 (⟨by decide, by decide⟩) (fun hc3 => ?_) (fun hc3 => ?_)
  · have hh := ha1 hc3
    refine am_iload_n dX3_same_19 rfl 2 rfl ?_
    refine am_ldc (z := -1000000) q1544 (by decide) dX3_same_20 ?_
    obtain ⟨ha4, hb5⟩ := hh
    refine am_icmp_eq (tgt := 36) dX3_same_22 (by decide) h2 (⟨by decide, by decide⟩) (fun hc6 => ?_) (fun hc6 => ?_)
    · have hh := ha4 hc6
      refine am_aload_n dX3_same_36 rfl 0 rfl ?_
      refine am_iload_n dX3_same_37 rfl 1 rfl ?_
      refine am_ldc (z := -1000000) q1544 (by decide) dX3_same_38 ?_
      obtain ⟨ha7, hb8⟩ := hh
      refine am_icmp_ne (tgt := 47) dX3_same_40 (by decide) h1 (⟨by decide, by decide⟩) (fun hc9 => ?_) (fun hc9 => ?_)
      · have hh := ha7 hc9
        refine am_iload_n dX3_same_47 rfl 1 rfl ?_
        refine am_iconst dX3_same_48 ?_
        refine am_iadd dX3_same_49 ?_
        refine am_iload_n dX3_same_50 rfl 2 rfl ?_
        refine am_ldc (z := -1000000) q1544 (by decide) dX3_same_51 ?_
        obtain ⟨ha10, hb11⟩ := hh
        refine am_icmp_ne (tgt := 60) dX3_same_53 (by decide) h2 (⟨by decide, by decide⟩) (fun hc12 => ?_) (fun hc12 => ?_)
        · have hh := ha10 hc12
          refine am_iload_n dX3_same_60 rfl 2 rfl ?_
          refine am_iconst dX3_same_61 ?_
          refine am_iadd dX3_same_62 ?_
          refine am_rVz (n := 2) hh dX3_same_63 (lw_V q1655 q1657 qs62 q96 q1658) rfl ⟨⟨by decide, by decide, by decide +kernel⟩, ⟨Nat.le_of_ble_eq_true rfl, Nat.le_of_ble_eq_true rfl⟩⟩ ⟨rfl, rfl⟩ rfl rfl (Nat.le_of_ble_eq_true rfl) ⟨(Nat.le_refl 0), (Nat.le_refl 0)⟩ (am_mrecv _) (fun b14 S13 hh => ?_)
          obtain ⟨ha15, hb16⟩ := hh
          refine am_ifB_eq (tgt := 73) dX3_same_66 (by decide) (fun hc17 => ?_) (fun hc17 => ?_)
          · have hh := ha15 hc17
            refine am_iconst dX3_same_73 ?_
            exact am_iret rfl dX3_same_74 (Nat.le_refl 0) (Nat.le_refl 0) hh
          · have hh := hb16 hc17
            refine am_iconst dX3_same_69 ?_
            refine am_goto (tgt := 74) dX3_same_70 (by decide) ?_
            exact am_iret rfl dX3_same_74 (Nat.le_refl 0) (Nat.le_refl 0) hh
        · have hh := hb11 hc12
          refine am_iconst dX3_same_56 ?_
          refine am_goto (tgt := 63) dX3_same_57 (by decide) ?_
          refine am_rVz (n := 2) hh dX3_same_63 (lw_V q1655 q1657 qs62 q96 q1658) rfl ⟨⟨by decide, by decide, by decide +kernel⟩, ⟨Nat.le_of_ble_eq_true rfl, Nat.le_of_ble_eq_true rfl⟩⟩ ⟨rfl, rfl⟩ rfl rfl (Nat.le_of_ble_eq_true rfl) ⟨(Nat.le_refl 0), (Nat.le_refl 0)⟩ (am_mrecv _) (fun b19 S18 hh => ?_)
          obtain ⟨ha20, hb21⟩ := hh
          refine am_ifB_eq (tgt := 73) dX3_same_66 (by decide) (fun hc22 => ?_) (fun hc22 => ?_)
          · have hh := ha20 hc22
            refine am_iconst dX3_same_73 ?_
            exact am_iret rfl dX3_same_74 (Nat.le_refl 0) (Nat.le_refl 0) hh
          · have hh := hb21 hc22
            refine am_iconst dX3_same_69 ?_
            refine am_goto (tgt := 74) dX3_same_70 (by decide) ?_
            exact am_iret rfl dX3_same_74 (Nat.le_refl 0) (Nat.le_refl 0) hh
      · have hh := hb8 hc9
        refine am_iconst dX3_same_43 ?_
        refine am_goto (tgt := 50) dX3_same_44 (by decide) ?_
        refine am_iload_n dX3_same_50 rfl 2 rfl ?_
        refine am_ldc (z := -1000000) q1544 (by decide) dX3_same_51 ?_
        obtain ⟨ha23, hb24⟩ := hh
        refine am_icmp_ne (tgt := 60) dX3_same_53 (by decide) h2 (⟨by decide, by decide⟩) (fun hc25 => ?_) (fun hc25 => ?_)
        · have hh := ha23 hc25
          refine am_iload_n dX3_same_60 rfl 2 rfl ?_
          refine am_iconst dX3_same_61 ?_
          refine am_iadd dX3_same_62 ?_
          refine am_rVz (n := 2) hh dX3_same_63 (lw_V q1655 q1657 qs62 q96 q1658) rfl ⟨⟨by decide, by decide, by decide +kernel⟩, ⟨Nat.le_of_ble_eq_true rfl, Nat.le_of_ble_eq_true rfl⟩⟩ ⟨rfl, rfl⟩ rfl rfl (Nat.le_of_ble_eq_true rfl) ⟨(Nat.le_refl 0), (Nat.le_refl 0)⟩ (am_mrecv _) (fun b27 S26 hh => ?_)
          obtain ⟨ha28, hb29⟩ := hh
          refine am_ifB_eq (tgt := 73) dX3_same_66 (by decide) (fun hc30 => ?_) (fun hc30 => ?_)
          · have hh := ha28 hc30
            refine am_iconst dX3_same_73 ?_
            exact am_iret rfl dX3_same_74 (Nat.le_refl 0) (Nat.le_refl 0) hh
          · have hh := hb29 hc30
            refine am_iconst dX3_same_69 ?_
            refine am_goto (tgt := 74) dX3_same_70 (by decide) ?_
            exact am_iret rfl dX3_same_74 (Nat.le_refl 0) (Nat.le_refl 0) hh
        · have hh := hb24 hc25
          refine am_iconst dX3_same_56 ?_
          refine am_goto (tgt := 63) dX3_same_57 (by decide) ?_
          refine am_rVz (n := 2) hh dX3_same_63 (lw_V q1655 q1657 qs62 q96 q1658) rfl ⟨⟨by decide, by decide, by decide +kernel⟩, ⟨Nat.le_of_ble_eq_true rfl, Nat.le_of_ble_eq_true rfl⟩⟩ ⟨rfl, rfl⟩ rfl rfl (Nat.le_of_ble_eq_true rfl) ⟨(Nat.le_refl 0), (Nat.le_refl 0)⟩ (am_mrecv _) (fun b32 S31 hh => ?_)
          obtain ⟨ha33, hb34⟩ := hh
          refine am_ifB_eq (tgt := 73) dX3_same_66 (by decide) (fun hc35 => ?_) (fun hc35 => ?_)
          · have hh := ha33 hc35
            refine am_iconst dX3_same_73 ?_
            exact am_iret rfl dX3_same_74 (Nat.le_refl 0) (Nat.le_refl 0) hh
          · have hh := hb34 hc35
            refine am_iconst dX3_same_69 ?_
            refine am_goto (tgt := 74) dX3_same_70 (by decide) ?_
            exact am_iret rfl dX3_same_74 (Nat.le_refl 0) (Nat.le_refl 0) hh
    · have hh := hb5 hc6
      refine am_aload_n dX3_same_25 rfl 0 rfl ?_
      refine am_iload_n dX3_same_26 rfl 2 rfl ?_
      refine am_rVz (n := 1) hh dX3_same_27 (lw_V q1647 q1649 qs61 q96 q1650) rfl ⟨⟨by decide, by decide, by decide +kernel⟩, ⟨Nat.le_of_ble_eq_true rfl, Nat.le_of_ble_eq_true rfl⟩⟩ ⟨rfl, rfl⟩ rfl rfl (Nat.le_of_ble_eq_true rfl) ⟨(Nat.le_refl 0), (Nat.le_refl 0)⟩ (am_mrecv _) (fun b37 S36 hh => ?_)
      obtain ⟨ha38, hb39⟩ := hh
      refine am_ifB_ne (tgt := 36) dX3_same_30 (by decide) (fun hc40 => ?_) (fun hc40 => ?_)
      · have hh := ha38 hc40
        refine am_aload_n dX3_same_36 rfl 0 rfl ?_
        refine am_iload_n dX3_same_37 rfl 1 rfl ?_
        refine am_ldc (z := -1000000) q1544 (by decide) dX3_same_38 ?_
        obtain ⟨ha41, hb42⟩ := hh
        refine am_icmp_ne (tgt := 47) dX3_same_40 (by decide) h1 (⟨by decide, by decide⟩) (fun hc43 => ?_) (fun hc43 => ?_)
        · have hh := ha41 hc43
          refine am_iload_n dX3_same_47 rfl 1 rfl ?_
          refine am_iconst dX3_same_48 ?_
          refine am_iadd dX3_same_49 ?_
          refine am_iload_n dX3_same_50 rfl 2 rfl ?_
          refine am_ldc (z := -1000000) q1544 (by decide) dX3_same_51 ?_
          obtain ⟨ha44, hb45⟩ := hh
          refine am_icmp_ne (tgt := 60) dX3_same_53 (by decide) h2 (⟨by decide, by decide⟩) (fun hc46 => ?_) (fun hc46 => ?_)
          · have hh := ha44 hc46
            refine am_iload_n dX3_same_60 rfl 2 rfl ?_
            refine am_iconst dX3_same_61 ?_
            refine am_iadd dX3_same_62 ?_
            refine am_rVz (n := 2) hh dX3_same_63 (lw_V q1655 q1657 qs62 q96 q1658) rfl ⟨⟨by decide, by decide, by decide +kernel⟩, ⟨Nat.le_of_ble_eq_true rfl, Nat.le_of_ble_eq_true rfl⟩⟩ ⟨rfl, rfl⟩ rfl rfl (Nat.le_of_ble_eq_true rfl) ⟨(Nat.le_refl 0), (Nat.le_refl 0)⟩ (am_mrecv _) (fun b48 S47 hh => ?_)
            obtain ⟨ha49, hb50⟩ := hh
            refine am_ifB_eq (tgt := 73) dX3_same_66 (by decide) (fun hc51 => ?_) (fun hc51 => ?_)
            · have hh := ha49 hc51
              refine am_iconst dX3_same_73 ?_
              exact am_iret rfl dX3_same_74 (Nat.le_refl 0) (Nat.le_refl 0) hh
            · have hh := hb50 hc51
              refine am_iconst dX3_same_69 ?_
              refine am_goto (tgt := 74) dX3_same_70 (by decide) ?_
              exact am_iret rfl dX3_same_74 (Nat.le_refl 0) (Nat.le_refl 0) hh
          · have hh := hb45 hc46
            refine am_iconst dX3_same_56 ?_
            refine am_goto (tgt := 63) dX3_same_57 (by decide) ?_
            refine am_rVz (n := 2) hh dX3_same_63 (lw_V q1655 q1657 qs62 q96 q1658) rfl ⟨⟨by decide, by decide, by decide +kernel⟩, ⟨Nat.le_of_ble_eq_true rfl, Nat.le_of_ble_eq_true rfl⟩⟩ ⟨rfl, rfl⟩ rfl rfl (Nat.le_of_ble_eq_true rfl) ⟨(Nat.le_refl 0), (Nat.le_refl 0)⟩ (am_mrecv _) (fun b53 S52 hh => ?_)
            obtain ⟨ha54, hb55⟩ := hh
            refine am_ifB_eq (tgt := 73) dX3_same_66 (by decide) (fun hc56 => ?_) (fun hc56 => ?_)
            · have hh := ha54 hc56
              refine am_iconst dX3_same_73 ?_
              exact am_iret rfl dX3_same_74 (Nat.le_refl 0) (Nat.le_refl 0) hh
            · have hh := hb55 hc56
              refine am_iconst dX3_same_69 ?_
              refine am_goto (tgt := 74) dX3_same_70 (by decide) ?_
              exact am_iret rfl dX3_same_74 (Nat.le_refl 0) (Nat.le_refl 0) hh
        · have hh := hb42 hc43
          refine am_iconst dX3_same_43 ?_
          refine am_goto (tgt := 50) dX3_same_44 (by decide) ?_
          refine am_iload_n dX3_same_50 rfl 2 rfl ?_
          refine am_ldc (z := -1000000) q1544 (by decide) dX3_same_51 ?_
          obtain ⟨ha57, hb58⟩ := hh
          refine am_icmp_ne (tgt := 60) dX3_same_53 (by decide) h2 (⟨by decide, by decide⟩) (fun hc59 => ?_) (fun hc59 => ?_)
          · have hh := ha57 hc59
            refine am_iload_n dX3_same_60 rfl 2 rfl ?_
            refine am_iconst dX3_same_61 ?_
            refine am_iadd dX3_same_62 ?_
            refine am_rVz (n := 2) hh dX3_same_63 (lw_V q1655 q1657 qs62 q96 q1658) rfl ⟨⟨by decide, by decide, by decide +kernel⟩, ⟨Nat.le_of_ble_eq_true rfl, Nat.le_of_ble_eq_true rfl⟩⟩ ⟨rfl, rfl⟩ rfl rfl (Nat.le_of_ble_eq_true rfl) ⟨(Nat.le_refl 0), (Nat.le_refl 0)⟩ (am_mrecv _) (fun b61 S60 hh => ?_)
            obtain ⟨ha62, hb63⟩ := hh
            refine am_ifB_eq (tgt := 73) dX3_same_66 (by decide) (fun hc64 => ?_) (fun hc64 => ?_)
            · have hh := ha62 hc64
              refine am_iconst dX3_same_73 ?_
              exact am_iret rfl dX3_same_74 (Nat.le_refl 0) (Nat.le_refl 0) hh
            · have hh := hb63 hc64
              refine am_iconst dX3_same_69 ?_
              refine am_goto (tgt := 74) dX3_same_70 (by decide) ?_
              exact am_iret rfl dX3_same_74 (Nat.le_refl 0) (Nat.le_refl 0) hh
          · have hh := hb58 hc59
            refine am_iconst dX3_same_56 ?_
            refine am_goto (tgt := 63) dX3_same_57 (by decide) ?_
            refine am_rVz (n := 2) hh dX3_same_63 (lw_V q1655 q1657 qs62 q96 q1658) rfl ⟨⟨by decide, by decide, by decide +kernel⟩, ⟨Nat.le_of_ble_eq_true rfl, Nat.le_of_ble_eq_true rfl⟩⟩ ⟨rfl, rfl⟩ rfl rfl (Nat.le_of_ble_eq_true rfl) ⟨(Nat.le_refl 0), (Nat.le_refl 0)⟩ (am_mrecv _) (fun b66 S65 hh => ?_)
            obtain ⟨ha67, hb68⟩ := hh
            refine am_ifB_eq (tgt := 73) dX3_same_66 (by decide) (fun hc69 => ?_) (fun hc69 => ?_)
            · have hh := ha67 hc69
              refine am_iconst dX3_same_73 ?_
              exact am_iret rfl dX3_same_74 (Nat.le_refl 0) (Nat.le_refl 0) hh
            · have hh := hb68 hc69
              refine am_iconst dX3_same_69 ?_
              refine am_goto (tgt := 74) dX3_same_70 (by decide) ?_
              exact am_iret rfl dX3_same_74 (Nat.le_refl 0) (Nat.le_refl 0) hh
      · have hh := hb39 hc40
        refine am_ldc (z := -1000001) q1515 (by decide) dX3_same_33 ?_
        exact am_iret rfl dX3_same_35 (Nat.le_refl 0) (Nat.le_refl 0) hh
  · have hh := hb2 hc3
    refine am_aload_n dX3_same_11 rfl 0 rfl ?_
    refine am_iload_n dX3_same_12 rfl 1 rfl ?_
    refine am_rVz (n := 1) hh dX3_same_13 (lw_V q1647 q1649 qs61 q96 q1650) rfl ⟨⟨by decide, by decide, by decide +kernel⟩, ⟨Nat.le_of_ble_eq_true rfl, Nat.le_of_ble_eq_true rfl⟩⟩ ⟨rfl, rfl⟩ rfl rfl (Nat.le_of_ble_eq_true rfl) ⟨(Nat.le_refl 0), (Nat.le_refl 0)⟩ (am_mrecv _) (fun b71 S70 hh => ?_)
    obtain ⟨ha72, hb73⟩ := hh
    refine am_ifB_eq (tgt := 33) dX3_same_16 (by decide) (fun hc74 => ?_) (fun hc74 => ?_)
    · have hh := ha72 hc74
      refine am_ldc (z := -1000001) q1515 (by decide) dX3_same_33 ?_
      exact am_iret rfl dX3_same_35 (Nat.le_refl 0) (Nat.le_refl 0) hh
    · have hh := hb73 hc74
      refine am_iload_n dX3_same_19 rfl 2 rfl ?_
      refine am_ldc (z := -1000000) q1544 (by decide) dX3_same_20 ?_
      obtain ⟨ha75, hb76⟩ := hh
      refine am_icmp_eq (tgt := 36) dX3_same_22 (by decide) h2 (⟨by decide, by decide⟩) (fun hc77 => ?_) (fun hc77 => ?_)
      · have hh := ha75 hc77
        refine am_aload_n dX3_same_36 rfl 0 rfl ?_
        refine am_iload_n dX3_same_37 rfl 1 rfl ?_
        refine am_ldc (z := -1000000) q1544 (by decide) dX3_same_38 ?_
        obtain ⟨ha78, hb79⟩ := hh
        refine am_icmp_ne (tgt := 47) dX3_same_40 (by decide) h1 (⟨by decide, by decide⟩) (fun hc80 => ?_) (fun hc80 => ?_)
        · have hh := ha78 hc80
          refine am_iload_n dX3_same_47 rfl 1 rfl ?_
          refine am_iconst dX3_same_48 ?_
          refine am_iadd dX3_same_49 ?_
          refine am_iload_n dX3_same_50 rfl 2 rfl ?_
          refine am_ldc (z := -1000000) q1544 (by decide) dX3_same_51 ?_
          obtain ⟨ha81, hb82⟩ := hh
          refine am_icmp_ne (tgt := 60) dX3_same_53 (by decide) h2 (⟨by decide, by decide⟩) (fun hc83 => ?_) (fun hc83 => ?_)
          · have hh := ha81 hc83
            refine am_iload_n dX3_same_60 rfl 2 rfl ?_
            refine am_iconst dX3_same_61 ?_
            refine am_iadd dX3_same_62 ?_
            refine am_rVz (n := 2) hh dX3_same_63 (lw_V q1655 q1657 qs62 q96 q1658) rfl ⟨⟨by decide, by decide, by decide +kernel⟩, ⟨Nat.le_of_ble_eq_true rfl, Nat.le_of_ble_eq_true rfl⟩⟩ ⟨rfl, rfl⟩ rfl rfl (Nat.le_of_ble_eq_true rfl) ⟨(Nat.le_refl 0), (Nat.le_refl 0)⟩ (am_mrecv _) (fun b85 S84 hh => ?_)
            obtain ⟨ha86, hb87⟩ := hh
            refine am_ifB_eq (tgt := 73) dX3_same_66 (by decide) (fun hc88 => ?_) (fun hc88 => ?_)
            · have hh := ha86 hc88
              refine am_iconst dX3_same_73 ?_
              exact am_iret rfl dX3_same_74 (Nat.le_refl 0) (Nat.le_refl 0) hh
            · have hh := hb87 hc88
              refine am_iconst dX3_same_69 ?_
              refine am_goto (tgt := 74) dX3_same_70 (by decide) ?_
              exact am_iret rfl dX3_same_74 (Nat.le_refl 0) (Nat.le_refl 0) hh
          · have hh := hb82 hc83
            refine am_iconst dX3_same_56 ?_
            refine am_goto (tgt := 63) dX3_same_57 (by decide) ?_
            refine am_rVz (n := 2) hh dX3_same_63 (lw_V q1655 q1657 qs62 q96 q1658) rfl ⟨⟨by decide, by decide, by decide +kernel⟩, ⟨Nat.le_of_ble_eq_true rfl, Nat.le_of_ble_eq_true rfl⟩⟩ ⟨rfl, rfl⟩ rfl rfl (Nat.le_of_ble_eq_true rfl) ⟨(Nat.le_refl 0), (Nat.le_refl 0)⟩ (am_mrecv _) (fun b90 S89 hh => ?_)
            obtain ⟨ha91, hb92⟩ := hh
            refine am_ifB_eq (tgt := 73) dX3_same_66 (by decide) (fun hc93 => ?_) (fun hc93 => ?_)
            · have hh := ha91 hc93
              refine am_iconst dX3_same_73 ?_
              exact am_iret rfl dX3_same_74 (Nat.le_refl 0) (Nat.le_refl 0) hh
            · have hh := hb92 hc93
              refine am_iconst dX3_same_69 ?_
              refine am_goto (tgt := 74) dX3_same_70 (by decide) ?_
              exact am_iret rfl dX3_same_74 (Nat.le_refl 0) (Nat.le_refl 0) hh
        · have hh := hb79 hc80
          refine am_iconst dX3_same_43 ?_
          refine am_goto (tgt := 50) dX3_same_44 (by decide) ?_
          refine am_iload_n dX3_same_50 rfl 2 rfl ?_
          refine am_ldc (z := -1000000) q1544 (by decide) dX3_same_51 ?_
          obtain ⟨ha94, hb95⟩ := hh
          refine am_icmp_ne (tgt := 60) dX3_same_53 (by decide) h2 (⟨by decide, by decide⟩) (fun hc96 => ?_) (fun hc96 => ?_)
          · have hh := ha94 hc96
            refine am_iload_n dX3_same_60 rfl 2 rfl ?_
            refine am_iconst dX3_same_61 ?_
            refine am_iadd dX3_same_62 ?_
            refine am_rVz (n := 2) hh dX3_same_63 (lw_V q1655 q1657 qs62 q96 q1658) rfl ⟨⟨by decide, by decide, by decide +kernel⟩, ⟨Nat.le_of_ble_eq_true rfl, Nat.le_of_ble_eq_true rfl⟩⟩ ⟨rfl, rfl⟩ rfl rfl (Nat.le_of_ble_eq_true rfl) ⟨(Nat.le_refl 0), (Nat.le_refl 0)⟩ (am_mrecv _) (fun b98 S97 hh => ?_)
            obtain ⟨ha99, hb100⟩ := hh
            refine am_ifB_eq (tgt := 73) dX3_same_66 (by decide) (fun hc101 => ?_) (fun hc101 => ?_)
            · have hh := ha99 hc101
              refine am_iconst dX3_same_73 ?_
              exact am_iret rfl dX3_same_74 (Nat.le_refl 0) (Nat.le_refl 0) hh
            · have hh := hb100 hc101
              refine am_iconst dX3_same_69 ?_
              refine am_goto (tgt := 74) dX3_same_70 (by decide) ?_
              exact am_iret rfl dX3_same_74 (Nat.le_refl 0) (Nat.le_refl 0) hh
          · have hh := hb95 hc96
            refine am_iconst dX3_same_56 ?_
            refine am_goto (tgt := 63) dX3_same_57 (by decide) ?_
            refine am_rVz (n := 2) hh dX3_same_63 (lw_V q1655 q1657 qs62 q96 q1658) rfl ⟨⟨by decide, by decide, by decide +kernel⟩, ⟨Nat.le_of_ble_eq_true rfl, Nat.le_of_ble_eq_true rfl⟩⟩ ⟨rfl, rfl⟩ rfl rfl (Nat.le_of_ble_eq_true rfl) ⟨(Nat.le_refl 0), (Nat.le_refl 0)⟩ (am_mrecv _) (fun b103 S102 hh => ?_)
            obtain ⟨ha104, hb105⟩ := hh
            refine am_ifB_eq (tgt := 73) dX3_same_66 (by decide) (fun hc106 => ?_) (fun hc106 => ?_)
            · have hh := ha104 hc106
              refine am_iconst dX3_same_73 ?_
              exact am_iret rfl dX3_same_74 (Nat.le_refl 0) (Nat.le_refl 0) hh
            · have hh := hb105 hc106
              refine am_iconst dX3_same_69 ?_
              refine am_goto (tgt := 74) dX3_same_70 (by decide) ?_
              exact am_iret rfl dX3_same_74 (Nat.le_refl 0) (Nat.le_refl 0) hh
      · have hh := hb76 hc77
        refine am_aload_n dX3_same_25 rfl 0 rfl ?_
        refine am_iload_n dX3_same_26 rfl 2 rfl ?_
        refine am_rVz (n := 1) hh dX3_same_27 (lw_V q1647 q1649 qs61 q96 q1650) rfl ⟨⟨by decide, by decide, by decide +kernel⟩, ⟨Nat.le_of_ble_eq_true rfl, Nat.le_of_ble_eq_true rfl⟩⟩ ⟨rfl, rfl⟩ rfl rfl (Nat.le_of_ble_eq_true rfl) ⟨(Nat.le_refl 0), (Nat.le_refl 0)⟩ (am_mrecv _) (fun b108 S107 hh => ?_)
        obtain ⟨ha109, hb110⟩ := hh
        refine am_ifB_ne (tgt := 36) dX3_same_30 (by decide) (fun hc111 => ?_) (fun hc111 => ?_)
        · have hh := ha109 hc111
          refine am_aload_n dX3_same_36 rfl 0 rfl ?_
          refine am_iload_n dX3_same_37 rfl 1 rfl ?_
          refine am_ldc (z := -1000000) q1544 (by decide) dX3_same_38 ?_
          obtain ⟨ha112, hb113⟩ := hh
          refine am_icmp_ne (tgt := 47) dX3_same_40 (by decide) h1 (⟨by decide, by decide⟩) (fun hc114 => ?_) (fun hc114 => ?_)
          · have hh := ha112 hc114
            refine am_iload_n dX3_same_47 rfl 1 rfl ?_
            refine am_iconst dX3_same_48 ?_
            refine am_iadd dX3_same_49 ?_
            refine am_iload_n dX3_same_50 rfl 2 rfl ?_
            refine am_ldc (z := -1000000) q1544 (by decide) dX3_same_51 ?_
            obtain ⟨ha115, hb116⟩ := hh
            refine am_icmp_ne (tgt := 60) dX3_same_53 (by decide) h2 (⟨by decide, by decide⟩) (fun hc117 => ?_) (fun hc117 => ?_)
            · have hh := ha115 hc117
              refine am_iload_n dX3_same_60 rfl 2 rfl ?_
              refine am_iconst dX3_same_61 ?_
              refine am_iadd dX3_same_62 ?_
              refine am_rVz (n := 2) hh dX3_same_63 (lw_V q1655 q1657 qs62 q96 q1658) rfl ⟨⟨by decide, by decide, by decide +kernel⟩, ⟨Nat.le_of_ble_eq_true rfl, Nat.le_of_ble_eq_true rfl⟩⟩ ⟨rfl, rfl⟩ rfl rfl (Nat.le_of_ble_eq_true rfl) ⟨(Nat.le_refl 0), (Nat.le_refl 0)⟩ (am_mrecv _) (fun b119 S118 hh => ?_)
              obtain ⟨ha120, hb121⟩ := hh
              refine am_ifB_eq (tgt := 73) dX3_same_66 (by decide) (fun hc122 => ?_) (fun hc122 => ?_)
              · have hh := ha120 hc122
                refine am_iconst dX3_same_73 ?_
                exact am_iret rfl dX3_same_74 (Nat.le_refl 0) (Nat.le_refl 0) hh
              · have hh := hb121 hc122
                refine am_iconst dX3_same_69 ?_
                refine am_goto (tgt := 74) dX3_same_70 (by decide) ?_
                exact am_iret rfl dX3_same_74 (Nat.le_refl 0) (Nat.le_refl 0) hh
            · have hh := hb116 hc117
              refine am_iconst dX3_same_56 ?_
              refine am_goto (tgt := 63) dX3_same_57 (by decide) ?_
              refine am_rVz (n := 2) hh dX3_same_63 (lw_V q1655 q1657 qs62 q96 q1658) rfl ⟨⟨by decide, by decide, by decide +kernel⟩, ⟨Nat.le_of_ble_eq_true rfl, Nat.le_of_ble_eq_true rfl⟩⟩ ⟨rfl, rfl⟩ rfl rfl (Nat.le_of_ble_eq_true rfl) ⟨(Nat.le_refl 0), (Nat.le_refl 0)⟩ (am_mrecv _) (fun b124 S123 hh => ?_)
              obtain ⟨ha125, hb126⟩ := hh
              refine am_ifB_eq (tgt := 73) dX3_same_66 (by decide) (fun hc127 => ?_) (fun hc127 => ?_)
              · have hh := ha125 hc127
                refine am_iconst dX3_same_73 ?_
                exact am_iret rfl dX3_same_74 (Nat.le_refl 0) (Nat.le_refl 0) hh
              · have hh := hb126 hc127
                refine am_iconst dX3_same_69 ?_
                refine am_goto (tgt := 74) dX3_same_70 (by decide) ?_
                exact am_iret rfl dX3_same_74 (Nat.le_refl 0) (Nat.le_refl 0) hh
          · have hh := hb113 hc114
            refine am_iconst dX3_same_43 ?_
            refine am_goto (tgt := 50) dX3_same_44 (by decide) ?_
            refine am_iload_n dX3_same_50 rfl 2 rfl ?_
            refine am_ldc (z := -1000000) q1544 (by decide) dX3_same_51 ?_
            obtain ⟨ha128, hb129⟩ := hh
            refine am_icmp_ne (tgt := 60) dX3_same_53 (by decide) h2 (⟨by decide, by decide⟩) (fun hc130 => ?_) (fun hc130 => ?_)
            · have hh := ha128 hc130
              refine am_iload_n dX3_same_60 rfl 2 rfl ?_
              refine am_iconst dX3_same_61 ?_
              refine am_iadd dX3_same_62 ?_
              refine am_rVz (n := 2) hh dX3_same_63 (lw_V q1655 q1657 qs62 q96 q1658) rfl ⟨⟨by decide, by decide, by decide +kernel⟩, ⟨Nat.le_of_ble_eq_true rfl, Nat.le_of_ble_eq_true rfl⟩⟩ ⟨rfl, rfl⟩ rfl rfl (Nat.le_of_ble_eq_true rfl) ⟨(Nat.le_refl 0), (Nat.le_refl 0)⟩ (am_mrecv _) (fun b132 S131 hh => ?_)
              obtain ⟨ha133, hb134⟩ := hh
              refine am_ifB_eq (tgt := 73) dX3_same_66 (by decide) (fun hc135 => ?_) (fun hc135 => ?_)
              · have hh := ha133 hc135
                refine am_iconst dX3_same_73 ?_
                exact am_iret rfl dX3_same_74 (Nat.le_refl 0) (Nat.le_refl 0) hh
              · have hh := hb134 hc135
                refine am_iconst dX3_same_69 ?_
                refine am_goto (tgt := 74) dX3_same_70 (by decide) ?_
                exact am_iret rfl dX3_same_74 (Nat.le_refl 0) (Nat.le_refl 0) hh
            · have hh := hb129 hc130
              refine am_iconst dX3_same_56 ?_
              refine am_goto (tgt := 63) dX3_same_57 (by decide) ?_
              refine am_rVz (n := 2) hh dX3_same_63 (lw_V q1655 q1657 qs62 q96 q1658) rfl ⟨⟨by decide, by decide, by decide +kernel⟩, ⟨Nat.le_of_ble_eq_true rfl, Nat.le_of_ble_eq_true rfl⟩⟩ ⟨rfl, rfl⟩ rfl rfl (Nat.le_of_ble_eq_true rfl) ⟨(Nat.le_refl 0), (Nat.le_refl 0)⟩ (am_mrecv _) (fun b137 S136 hh => ?_)
              obtain ⟨ha138, hb139⟩ := hh
              refine am_ifB_eq (tgt := 73) dX3_same_66 (by decide) (fun hc140 => ?_) (fun hc140 => ?_)
              · have hh := ha138 hc140
                refine am_iconst dX3_same_73 ?_
                exact am_iret rfl dX3_same_74 (Nat.le_refl 0) (Nat.le_refl 0) hh
              · have hh := hb139 hc140
                refine am_iconst dX3_same_69 ?_
                refine am_goto (tgt := 74) dX3_same_70 (by decide) ?_
                exact am_iret rfl dX3_same_74 (Nat.le_refl 0) (Nat.le_refl 0) hh
        · have hh := hb110 hc111
          refine am_ldc (z := -1000001) q1515 (by decide) dX3_same_33 ?_
          exact am_iret rfl dX3_same_35 (Nat.le_refl 0) (Nat.le_refl 0) hh
/-! TableArmsModel.teach(IIII)I -/
abbrev VX3_teach (l : Launch) (Q : Option am_W → am_M → Prop) (pc : Nat) (lv : List (Nat × am_W)) (st : List am_W) (S : am_M) : Prop := am_V am_mr l RX3 cX3_teach 5 (some .int) "teach" (am_rm 3 0 0) (am_E1 am_mr 0 0 Q) pc lv st S 0 0
abbrev kX3_teach (l : Launch) (as : List am_W) (S : am_M) (Q : Option am_W → am_M → Prop) : Prop := am_C am_mr l yX3_teach (ws_ yX3_teach cX3_teach 5 (some .int)) (am_rm 3 0 0) 0 0 as S Q
set_option maxHeartbeats 4000000 in
set_option maxRecDepth 100000 in
theorem bX3_teach {l : Launch} {Q : Option am_W → am_M → Prop} {S : am_M} (v1 : Int) (h1 : am_r v1) (v2 : Int) (h2 : am_r v2) (v3 : Int) (h3 : am_r v3) (v4 : Int) (h4 : am_r v4)
    (hh : kX3_isKept l [am_R 0, am_I v1] S (am_qz fun b2 S1 =>
        ((b2 = false) →
          Q (some (am_I (-1000001))) S1) ∧
        ((b2 = true) →
          kX3_isKept l [am_R 0, am_I v2] S1 (am_qz fun b7 S6 =>
            ((b7 = false) →
              Q (some (am_I (-1000001))) S6) ∧
            ((b7 = true) →
              kX3_in l [am_J v3, am_J 0, am_J 1] S6 (am_qz fun b12 S11 =>
                ((b12 = false) →
                  Q (some (am_I (-1000001))) S11) ∧
                ((b12 = true) →
                  kX3_in l [am_J v4, am_J 0, am_J 9] S11 (am_qz fun b17 S16 =>
                    ((b17 = true) →
                      ((¬ ((S16.1 4).toInt) = 8) →
                        (0 ≤ (S16.1 4).toInt ∧ (S16.1 4).toInt < 8) ∧
                        ((¬ v3 = 1) →
                          Q (some (am_I ((Int32.ofInt ((S16.1 4).toInt + 1)).toInt - 1))) (am_sv (am_sa (am_sa (am_sa (am_sa S16 4 ((S16.1 4).toInt) v1) 5 ((S16.1 4).toInt) v2) 6 ((S16.1 4).toInt) (am_b false)) 7 ((S16.1 4).toInt) v4) 4 ((S16.1 4).toInt + 1))) ∧
                        ((v3 = 1) →
                          Q (some (am_I ((Int32.ofInt ((S16.1 4).toInt + 1)).toInt - 1))) (am_sv (am_sa (am_sa (am_sa (am_sa S16 4 ((S16.1 4).toInt) v1) 5 ((S16.1 4).toInt) v2) 6 ((S16.1 4).toInt) (am_b true)) 7 ((S16.1 4).toInt) v4) 4 ((S16.1 4).toInt + 1)))) ∧
                      ((((S16.1 4).toInt) = 8) →
                        Q (some (am_I (-1000003))) S16)) ∧
                    ((b17 = false) →
                      Q (some (am_I (-1000001))) S16))))))))) : kX3_teach l [am_R 0, am_I v1, am_I v2, am_I v3, am_I v4] S Q := by
  refine am_entry (lv := [(0, am_R 0), (1, am_I v1), (2, am_I v2), (3, am_I v3), (4, am_I v4)]) rfl rfl rfl (fun _ => rfl) (fun _ => Nat.le_of_ble_eq_true rfl) ?_
  refine am_aload_n dX3_teach_0 rfl 0 rfl ?_
  refine am_iload_n dX3_teach_1 rfl 1 rfl ?_
  refine am_rVz (n := 1) hh dX3_teach_2 (lw_V q1647 q1649 qs61 q96 q1650) rfl ⟨⟨by decide, by decide, by decide +kernel⟩, ⟨Nat.le_of_ble_eq_true rfl, Nat.le_of_ble_eq_true rfl⟩⟩ ⟨rfl, rfl⟩ rfl rfl (Nat.le_of_ble_eq_true rfl) ⟨(Nat.le_refl 0), (Nat.le_refl 0)⟩ (am_mrecv _) (fun b2 S1 hh => ?_)
  obtain ⟨ha3, hb4⟩ := hh
  refine am_ifB_eq (tgt := 39) dX3_teach_5 (by decide) (fun hc5 => ?_) (fun hc5 => ?_)
  · have hh := ha3 hc5
    refine am_ldc (z := -1000001) q1515 (by decide) dX3_teach_39 ?_
    exact am_iret rfl dX3_teach_41 (Nat.le_refl 0) (Nat.le_refl 0) hh
  · have hh := hb4 hc5
    refine am_aload_n dX3_teach_8 rfl 0 rfl ?_
    refine am_iload_n dX3_teach_9 rfl 2 rfl ?_
    refine am_rVz (n := 1) hh dX3_teach_10 (lw_V q1647 q1649 qs61 q96 q1650) rfl ⟨⟨by decide, by decide, by decide +kernel⟩, ⟨Nat.le_of_ble_eq_true rfl, Nat.le_of_ble_eq_true rfl⟩⟩ ⟨rfl, rfl⟩ rfl rfl (Nat.le_of_ble_eq_true rfl) ⟨(Nat.le_refl 0), (Nat.le_refl 0)⟩ (am_mrecv _) (fun b7 S6 hh => ?_)
    obtain ⟨ha8, hb9⟩ := hh
    refine am_ifB_eq (tgt := 39) dX3_teach_13 (by decide) (fun hc10 => ?_) (fun hc10 => ?_)
    · have hh := ha8 hc10
      refine am_ldc (z := -1000001) q1515 (by decide) dX3_teach_39 ?_
      exact am_iret rfl dX3_teach_41 (Nat.le_refl 0) (Nat.le_refl 0) hh
    · have hh := hb9 hc10
      refine am_iload_n dX3_teach_16 rfl 3 rfl ?_
      refine am_i2l_ h3 dX3_teach_17 ?_
      refine am_lconst (z := 0) dX3_teach_18 (by decide) ?_
      refine am_lconst (z := 1) dX3_teach_19 (by decide) ?_
      refine am_rSz (n := 3) hh dX3_teach_20 (lw_S q1512 q1513 q96 q1514) ⟨⟨by decide, by decide, by decide +kernel⟩, ⟨Nat.le_of_ble_eq_true rfl, Nat.le_of_ble_eq_true rfl⟩⟩ ⟨rfl, rfl⟩ rfl rfl (Nat.le_of_ble_eq_true rfl) ⟨(Nat.le_refl 0), (Nat.le_refl 0)⟩ (fun b12 S11 hh => ?_)
      obtain ⟨ha13, hb14⟩ := hh
      refine am_ifB_eq (tgt := 39) dX3_teach_23 (by decide) (fun hc15 => ?_) (fun hc15 => ?_)
      · have hh := ha13 hc15
        refine am_ldc (z := -1000001) q1515 (by decide) dX3_teach_39 ?_
        exact am_iret rfl dX3_teach_41 (Nat.le_refl 0) (Nat.le_refl 0) hh
      · have hh := hb14 hc15
        refine am_iload dX3_teach_26 4 rfl ?_
        refine am_i2l_ h4 dX3_teach_28 ?_
        refine am_lconst (z := 0) dX3_teach_29 (by decide) ?_
        refine am_ldc2 (z := 9) q1667 (by decide) dX3_teach_30 ?_
        refine am_rSz (n := 3) hh dX3_teach_33 (lw_S q1512 q1513 q96 q1514) ⟨⟨by decide, by decide, by decide +kernel⟩, ⟨Nat.le_of_ble_eq_true rfl, Nat.le_of_ble_eq_true rfl⟩⟩ ⟨rfl, rfl⟩ rfl rfl (Nat.le_of_ble_eq_true rfl) ⟨(Nat.le_refl 0), (Nat.le_refl 0)⟩ (fun b17 S16 hh => ?_)
        obtain ⟨ha18, hb19⟩ := hh
        refine am_ifB_ne (tgt := 42) dX3_teach_36 (by decide) (fun hc20 => ?_) (fun hc20 => ?_)
        · have hh := ha18 hc20
          refine am_aload_n dX3_teach_42 rfl 0 rfl ?_
          refine am_mgeti 4 (by decide) (v := (S16.1 4).toInt) rfl q1409 dX3_teach_43 ?_
          refine am_bipush dX3_teach_46 (by decide) ?_
          obtain ⟨ha21, hb22⟩ := hh
          refine am_icmp_ne (tgt := 54) dX3_teach_48 (by decide) (am_rt _) (⟨by decide, by decide⟩) (fun hc23 => ?_) (fun hc23 => ?_)
          · have hh := ha21 hc23
            refine am_aload_n dX3_teach_54 rfl 0 rfl ?_
            refine am_mgeta 4 (by decide) q1410 dX3_teach_55 ?_
            refine am_aload_n dX3_teach_58 rfl 0 rfl ?_
            refine am_mgeti 4 (by decide) (v := (S16.1 4).toInt) rfl q1409 dX3_teach_59 ?_
            refine am_iload_n dX3_teach_62 rfl 1 rfl ?_
            obtain ⟨o24, hh⟩ := hh
            refine am_miast 4 (by decide) (by decide) o24.1 o24.2 dX3_teach_63 ?_
            refine am_aload_n dX3_teach_64 rfl 0 rfl ?_
            refine am_mgeta 5 (by decide) q1411 dX3_teach_65 ?_
            refine am_aload_n dX3_teach_68 rfl 0 rfl ?_
            refine am_mgeti 4 (by decide) (v := (S16.1 4).toInt) rfl q1409 dX3_teach_69 ?_
            refine am_iload_n dX3_teach_72 rfl 2 rfl ?_
            refine am_miast 5 (by decide) (by decide) o24.1 o24.2 dX3_teach_73 ?_
            refine am_aload_n dX3_teach_74 rfl 0 rfl ?_
            refine am_mgeta 6 (by decide) q1412 dX3_teach_75 ?_
            refine am_aload_n dX3_teach_78 rfl 0 rfl ?_
            refine am_mgeti 4 (by decide) (v := (S16.1 4).toInt) rfl q1409 dX3_teach_79 ?_
            refine am_iload_n dX3_teach_82 rfl 3 rfl ?_
            refine am_iconst dX3_teach_83 ?_
            obtain ⟨ha25, hb26⟩ := hh
            refine am_icmp_ne (tgt := 91) dX3_teach_84 (by decide) h3 (⟨by decide, by decide⟩) (fun hc27 => ?_) (fun hc27 => ?_)
            · have hh := ha25 hc27
              refine am_iconst dX3_teach_91 ?_
              refine am_mzast (b := false) 6 (by decide) (by decide) o24.1 o24.2 dX3_teach_92 ?_
              refine am_aload_n dX3_teach_93 rfl 0 rfl ?_
              refine am_mgeta 7 (by decide) q1413 dX3_teach_94 ?_
              refine am_aload_n dX3_teach_97 rfl 0 rfl ?_
              refine am_mgeti 4 (by decide) (v := (S16.1 4).toInt) rfl q1409 dX3_teach_98 ?_
              refine am_iload dX3_teach_101 4 rfl ?_
              refine am_miast 7 (by decide) (by decide) o24.1 o24.2 dX3_teach_103 ?_
              refine am_aload_n dX3_teach_104 rfl 0 rfl ?_
              refine am_dup dX3_teach_105 rfl ?_
              refine am_mgeti 4 (by decide) (v := (S16.1 4).toInt) rfl q1409 dX3_teach_106 ?_
              refine am_iconst dX3_teach_109 ?_
              refine am_iadd dX3_teach_110 ?_
              refine am_mput 4 (by decide) q1409 dX3_teach_111 ?_
              refine am_aload_n dX3_teach_114 rfl 0 rfl ?_
              refine am_mgeti 4 (by decide) (v := (Int32.ofInt ((S16.1 4).toInt + 1)).toInt) rfl q1409 dX3_teach_115 ?_
              refine am_iconst dX3_teach_118 ?_
              refine am_isub dX3_teach_119 ?_
              exact am_iret rfl dX3_teach_120 (Nat.le_refl 0) (Nat.le_refl 0) hh
            · have hh := hb26 hc27
              refine am_iconst dX3_teach_87 ?_
              refine am_goto (tgt := 92) dX3_teach_88 (by decide) ?_
              refine am_mzast (b := true) 6 (by decide) (by decide) o24.1 o24.2 dX3_teach_92 ?_
              refine am_aload_n dX3_teach_93 rfl 0 rfl ?_
              refine am_mgeta 7 (by decide) q1413 dX3_teach_94 ?_
              refine am_aload_n dX3_teach_97 rfl 0 rfl ?_
              refine am_mgeti 4 (by decide) (v := (S16.1 4).toInt) rfl q1409 dX3_teach_98 ?_
              refine am_iload dX3_teach_101 4 rfl ?_
              refine am_miast 7 (by decide) (by decide) o24.1 o24.2 dX3_teach_103 ?_
              refine am_aload_n dX3_teach_104 rfl 0 rfl ?_
              refine am_dup dX3_teach_105 rfl ?_
              refine am_mgeti 4 (by decide) (v := (S16.1 4).toInt) rfl q1409 dX3_teach_106 ?_
              refine am_iconst dX3_teach_109 ?_
              refine am_iadd dX3_teach_110 ?_
              refine am_mput 4 (by decide) q1409 dX3_teach_111 ?_
              refine am_aload_n dX3_teach_114 rfl 0 rfl ?_
              refine am_mgeti 4 (by decide) (v := (Int32.ofInt ((S16.1 4).toInt + 1)).toInt) rfl q1409 dX3_teach_115 ?_
              refine am_iconst dX3_teach_118 ?_
              refine am_isub dX3_teach_119 ?_
              exact am_iret rfl dX3_teach_120 (Nat.le_refl 0) (Nat.le_refl 0) hh
          · have hh := hb22 hc23
            refine am_ldc (z := -1000003) q1603 (by decide) dX3_teach_51 ?_
            exact am_iret rfl dX3_teach_53 (Nat.le_refl 0) (Nat.le_refl 0) hh
        · have hh := hb19 hc20
          refine am_ldc (z := -1000001) q1515 (by decide) dX3_teach_39 ?_
          exact am_iret rfl dX3_teach_41 (Nat.le_refl 0) (Nat.le_refl 0) hh
/-! TableArmsModel.lesson(IIII)I -/
abbrev VX3_lesson (l : Launch) (Q : Option am_W → am_M → Prop) (pc : Nat) (lv : List (Nat × am_W)) (st : List am_W) (S : am_M) : Prop := am_V am_mr l RX3 cX3_lesson 5 (some .int) "lesson" (am_rm 4 0 0) (am_E1 am_mr 0 0 Q) pc lv st S 0 0
abbrev kX3_lesson (l : Launch) (as : List am_W) (S : am_M) (Q : Option am_W → am_M → Prop) : Prop := am_C am_mr l yX3_lesson (ws_ yX3_lesson cX3_lesson 5 (some .int)) (am_rm 4 0 0) 0 0 as S Q
set_option maxHeartbeats 4000000 in
set_option maxRecDepth 100000 in
theorem bX3_lesson {l : Launch} {Q : Option am_W → am_M → Prop} {S : am_M} (v1 : Int) (h1 : am_r v1) (v2 : Int) (h2 : am_r v2) (v3 : Int) (h3 : am_r v3) (v4 : Int) (h4 : am_r v4)
    (hh : kX3_teach l [am_R 0, am_I v1, am_I v2, am_I v3, am_I v4] (am_sv S 0 0) (am_qi fun r2 S1 =>
        Q (some (am_I r2)) S1)) : kX3_lesson l [am_R 0, am_I v1, am_I v2, am_I v3, am_I v4] S Q := by
  refine am_entry (lv := [(0, am_R 0), (1, am_I v1), (2, am_I v2), (3, am_I v3), (4, am_I v4)]) rfl rfl rfl (fun _ => rfl) (fun _ => Nat.le_of_ble_eq_true rfl) ?_
  refine am_aload_n dX3_lesson_0 rfl 0 rfl ?_
  refine am_iconst dX3_lesson_1 ?_
  refine am_mput 0 (by decide) q1401 dX3_lesson_2 ?_
  refine am_aload_n dX3_lesson_5 rfl 0 rfl ?_
  refine am_iload_n dX3_lesson_6 rfl 1 rfl ?_
  refine am_iload_n dX3_lesson_7 rfl 2 rfl ?_
  refine am_iload_n dX3_lesson_8 rfl 3 rfl ?_
  refine am_iload dX3_lesson_9 4 rfl ?_
  refine am_rVi (n := 4) hh dX3_lesson_11 (lw_V q1663 q1665 qs63 q96 q1666) rfl ⟨⟨by decide, by decide, by decide +kernel⟩, ⟨Nat.le_of_ble_eq_true rfl, Nat.le_of_ble_eq_true rfl⟩⟩ ⟨rfl, rfl⟩ rfl rfl (Nat.le_of_ble_eq_true rfl) ⟨(Nat.le_refl 0), (Nat.le_refl 0)⟩ (am_mrecv _) (fun r2 S1 hr3 hh => ?_)
  exact am_iret rfl dX3_lesson_14 (Nat.le_refl 0) (Nat.le_refl 0) hh
/-! TableArmsModel.isSheet(I)Z -/
abbrev VX3_isSheet (l : Launch) (Q : Option am_W → am_M → Prop) (pc : Nat) (lv : List (Nat × am_W)) (st : List am_W) (S : am_M) : Prop := am_V am_mr l RX3 cX3_isSheet 1 (some .boolean) "isSheet" (am_rm 2 0 0) (am_E1 am_mr 0 0 Q) pc lv st S 0 0
abbrev kX3_isSheet (l : Launch) (as : List am_W) (S : am_M) (Q : Option am_W → am_M → Prop) : Prop := am_C am_mr l yX3_isSheet (ws_ yX3_isSheet cX3_isSheet 1 (some .boolean)) (am_rm 2 0 0) 0 0 as S Q
set_option maxHeartbeats 4000000 in
set_option maxRecDepth 100000 in
theorem bX3_isSheet {l : Launch} {Q : Option am_W → am_M → Prop} {S : am_M} (v0 : Int) (h0 : am_r v0)
    (hh : kX3_in l [am_J v0, am_J 0, am_J 7] S (am_qz fun b2 S1 =>
        Q (some (am_I (am_b b2))) S1)) : kX3_isSheet l [am_I v0] S Q := by
  refine am_entry (lv := [(0, am_I v0)]) rfl rfl rfl (fun _ => rfl) (fun _ => Nat.le_of_ble_eq_true rfl) ?_
  refine am_iload_n dX3_isSheet_0 rfl 0 rfl ?_
  refine am_i2l_ h0 dX3_isSheet_1 ?_
  refine am_lconst (z := 0) dX3_isSheet_2 (by decide) ?_
  refine am_ldc2 (z := 7) q1602 (by decide) dX3_isSheet_3 ?_
  refine am_rSz (n := 3) hh dX3_isSheet_6 (lw_S q1512 q1513 q96 q1514) ⟨⟨by decide, by decide, by decide +kernel⟩, ⟨Nat.le_of_ble_eq_true rfl, Nat.le_of_ble_eq_true rfl⟩⟩ ⟨rfl, rfl⟩ rfl rfl (Nat.le_of_ble_eq_true rfl) ⟨(Nat.le_refl 0), (Nat.le_refl 0)⟩ (fun b2 S1 hh => ?_)
  exact am_zret (b := b2) rfl dX3_isSheet_9 (Nat.le_refl 0) (Nat.le_refl 0) hh
/-! TableArmsModel.finding(I)I -/
abbrev VX3_finding (l : Launch) (Q : Option am_W → am_M → Prop) (pc : Nat) (lv : List (Nat × am_W)) (st : List am_W) (S : am_M) : Prop := am_V am_mr l RX3 cX3_finding 2 (some .int) "finding" (am_rm 1 0 0) (am_E1 am_mr 0 0 Q) pc lv st S 0 0
abbrev kX3_finding (l : Launch) (as : List am_W) (S : am_M) (Q : Option am_W → am_M → Prop) : Prop := am_C am_mr l yX3_finding (ws_ yX3_finding cX3_finding 2 (some .int)) (am_rm 1 0 0) 0 0 as S Q
set_option maxHeartbeats 4000000 in
set_option maxRecDepth 100000 in
theorem bX3_finding {l : Launch} {Q : Option am_W → am_M → Prop} {S : am_M} (v1 : Int) (h1 : am_r v1)
    (hh : Q (some (am_I ((-1000010) - v1))) (am_sv S 1 v1)) : kX3_finding l [am_R 0, am_I v1] S Q := by
  refine am_entry (lv := [(0, am_R 0), (1, am_I v1)]) rfl rfl rfl (fun _ => rfl) (fun _ => Nat.le_of_ble_eq_true rfl) ?_
  refine am_aload_n dX3_finding_0 rfl 0 rfl ?_
  refine am_iload_n dX3_finding_1 rfl 1 rfl ?_
  refine am_mput 1 (by decide) q1402 dX3_finding_2 ?_
  refine am_ldc (z := -1000010) q1684 (by decide) dX3_finding_5 ?_
  refine am_iload_n dX3_finding_7 rfl 1 rfl ?_
  refine am_isub dX3_finding_8 ?_
  exact am_iret rfl dX3_finding_9 (Nat.le_refl 0) (Nat.le_refl 0) hh
/-! TableArmsModel.lookItems(III)I -/
abbrev VX3_lookItems (l : Launch) (Q : Option am_W → am_M → Prop) (pc : Nat) (lv : List (Nat × am_W)) (st : List am_W) (S : am_M) : Prop := am_V am_mr l RX3 cX3_lookItems 4 (some .int) "lookItems" (am_rm 2 0 0) (am_E1 am_mr 0 0 Q) pc lv st S 0 0
abbrev kX3_lookItems (l : Launch) (as : List am_W) (S : am_M) (Q : Option am_W → am_M → Prop) : Prop := am_C am_mr l yX3_lookItems (ws_ yX3_lookItems cX3_lookItems 4 (some .int)) (am_rm 2 0 0) 0 0 as S Q
set_option maxHeartbeats 4000000 in
set_option maxRecDepth 100000 in
theorem bX3_lookItems {l : Launch} {Q : Option am_W → am_M → Prop} {S : am_M} (v1 : Int) (h1 : am_r v1) (v2 : Int) (h2 : am_r v2) (v3 : Int) (h3 : am_r v3)
    (hh : (0 ≤ v1 ∧ v1 < 8) ∧
      ((0 ≤ ((S.2 9 v1.toNat).toInt)) →
        ((v2 < 0) →
          kX3_finding l [am_R 0, am_I 2] S (am_qi fun r9 S8 =>
            Q (some (am_I r9)) S8)) ∧
        ((¬ v2 < 0) →
          (am_r64 (v2 + v3)) ∧
          (((v2 + v3) ≤ ((S.2 10 v1.toNat).toInt)) →
            Q (some (am_I 0)) S) ∧
          ((¬ (v2 + v3) ≤ ((S.2 10 v1.toNat).toInt)) →
            kX3_finding l [am_R 0, am_I 2] S (am_qi fun r16 S15 =>
              Q (some (am_I r16)) S15)))) ∧
      ((¬ 0 ≤ ((S.2 9 v1.toNat).toInt)) →
        kX3_finding l [am_R 0, am_I 1] S (am_qi fun r19 S18 =>
          Q (some (am_I r19)) S18))) : kX3_lookItems l [am_R 0, am_I v1, am_I v2, am_I v3] S Q := by
  refine am_entry (lv := [(0, am_R 0), (1, am_I v1), (2, am_I v2), (3, am_I v3)]) rfl rfl rfl (fun _ => rfl) (fun _ => Nat.le_of_ble_eq_true rfl) ?_
  refine am_aload_n dX3_lookItems_0 rfl 0 rfl ?_
  refine am_mgeta 9 (by decide) q1415 dX3_lookItems_1 ?_
  refine am_iload_n dX3_lookItems_4 rfl 1 rfl ?_
  obtain ⟨o1, hh⟩ := hh
  refine am_miald 9 (by decide) (by decide) (v := (S.2 9 v1.toNat).toInt) rfl o1.1 o1.2 dX3_lookItems_5 ?_
  obtain ⟨ha2, hb3⟩ := hh
  refine am_if_ge (tgt := 15) dX3_lookItems_6 (by decide) (am_rt _) (fun hc4 => ?_) (fun hc4 => ?_)
  · have hh := ha2 hc4
    refine am_iload_n dX3_lookItems_15 rfl 2 rfl ?_
    obtain ⟨ha5, hb6⟩ := hh
    refine am_if_lt (tgt := 35) dX3_lookItems_16 (by decide) h2 (fun hc7 => ?_) (fun hc7 => ?_)
    · have hh := ha5 hc7
      refine am_aload_n dX3_lookItems_35 rfl 0 rfl ?_
      refine am_iconst dX3_lookItems_36 ?_
      refine am_rVi (n := 1) hh dX3_lookItems_37 (lw_V q1680 q1682 qs65 q96 q1683) rfl ⟨⟨by decide, by decide, by decide +kernel⟩, ⟨Nat.le_of_ble_eq_true rfl, Nat.le_of_ble_eq_true rfl⟩⟩ ⟨rfl, rfl⟩ rfl rfl (Nat.le_of_ble_eq_true rfl) ⟨(Nat.le_refl 0), (Nat.le_refl 0)⟩ (am_mrecv _) (fun r9 S8 hr10 hh => ?_)
      refine am_goto (tgt := 44) dX3_lookItems_40 (by decide) ?_
      exact am_iret rfl dX3_lookItems_44 (Nat.le_refl 0) (Nat.le_refl 0) hh
    · have hh := hb6 hc7
      refine am_iload_n dX3_lookItems_19 rfl 2 rfl ?_
      refine am_i2l_ h2 dX3_lookItems_20 ?_
      refine am_iload_n dX3_lookItems_21 rfl 3 rfl ?_
      refine am_i2l_ h3 dX3_lookItems_22 ?_
      refine am_ladd dX3_lookItems_23 ?_
      refine am_aload_n dX3_lookItems_24 rfl 0 rfl ?_
      refine am_mgeta 10 (by decide) q1416 dX3_lookItems_25 ?_
      refine am_iload_n dX3_lookItems_28 rfl 1 rfl ?_
      refine am_miald 10 (by decide) (by decide) (v := (S.2 10 v1.toNat).toInt) rfl o1.1 o1.2 dX3_lookItems_29 ?_
      refine am_i2l_ (am_rt _) dX3_lookItems_30 ?_
      obtain ⟨o11, hh⟩ := hh
      refine am_lcmp o11 (am_r64_of (am_rt _)) dX3_lookItems_31 ?_
      obtain ⟨ha12, hb13⟩ := hh
      refine am_cmp_le (tgt := 43) dX3_lookItems_32 (by decide) (fun hc14 => ?_) (fun hc14 => ?_)
      · have hh := ha12 hc14
        refine am_iconst dX3_lookItems_43 ?_
        exact am_iret rfl dX3_lookItems_44 (Nat.le_refl 0) (Nat.le_refl 0) hh
      · have hh := hb13 hc14
        refine am_aload_n dX3_lookItems_35 rfl 0 rfl ?_
        refine am_iconst dX3_lookItems_36 ?_
        refine am_rVi (n := 1) hh dX3_lookItems_37 (lw_V q1680 q1682 qs65 q96 q1683) rfl ⟨⟨by decide, by decide, by decide +kernel⟩, ⟨Nat.le_of_ble_eq_true rfl, Nat.le_of_ble_eq_true rfl⟩⟩ ⟨rfl, rfl⟩ rfl rfl (Nat.le_of_ble_eq_true rfl) ⟨(Nat.le_refl 0), (Nat.le_refl 0)⟩ (am_mrecv _) (fun r16 S15 hr17 hh => ?_)
        refine am_goto (tgt := 44) dX3_lookItems_40 (by decide) ?_
        exact am_iret rfl dX3_lookItems_44 (Nat.le_refl 0) (Nat.le_refl 0) hh
  · have hh := hb3 hc4
    refine am_aload_n dX3_lookItems_9 rfl 0 rfl ?_
    refine am_iconst dX3_lookItems_10 ?_
    refine am_rVi (n := 1) hh dX3_lookItems_11 (lw_V q1680 q1682 qs65 q96 q1683) rfl ⟨⟨by decide, by decide, by decide +kernel⟩, ⟨Nat.le_of_ble_eq_true rfl, Nat.le_of_ble_eq_true rfl⟩⟩ ⟨rfl, rfl⟩ rfl rfl (Nat.le_of_ble_eq_true rfl) ⟨(Nat.le_refl 0), (Nat.le_refl 0)⟩ (am_mrecv _) (fun r19 S18 hr20 hh => ?_)
    exact am_iret rfl dX3_lookItems_14 (Nat.le_refl 0) (Nat.le_refl 0) hh
/-! TableArmsModel.lessons(III)I -/
abbrev VX3_lessons (l : Launch) (Q : Option am_W → am_M → Prop) (pc : Nat) (lv : List (Nat × am_W)) (st : List am_W) (S : am_M) : Prop := am_V am_mr l RX3 cX3_lessons 8 (some .int) "lessons" (am_rm 4 0 0) (am_E1 am_mr 0 0 Q) pc lv st S 0 0
abbrev kX3_lessons (l : Launch) (as : List am_W) (S : am_M) (Q : Option am_W → am_M → Prop) : Prop := am_C am_mr l yX3_lessons (ws_ yX3_lessons cX3_lessons 8 (some .int)) (am_rm 4 0 0) 0 0 as S Q
set_option maxHeartbeats 4000000 in
set_option maxRecDepth 100000 in
theorem bX3_lessons {l : Launch} {Q : Option am_W → am_M → Prop} {S : am_M} (v1 : Int) (h1 : am_r v1) (v2 : Int) (h2 : am_r v2) (v3 : Int) (h3 : am_r v3)
    (hh : kX3_isSheet l [am_I v1] (am_sv S 0 0) (am_qz fun b2 S1 =>
        ((b2 = false) →
          Q (some (am_I (-1000001))) S1) ∧
        ((b2 = true) →
          kX3_in l [am_J v3, am_J 1, am_J 4] S1 (am_qz fun b7 S6 =>
            ((b7 = true) →
              kX3_lookItems l [am_R 0, am_I v1, am_I v2, am_I (4 * v3)] S6 (am_qi fun r12 S11 =>
                ((0 ≤ r12) →
                  VX3_lessons l Q 57 [(0, am_R 0), (1, am_I v1), (2, am_I v2), (3, am_I v3), (5, am_I 0), (6, am_I 0)] [] (am_sv S11 1 0)) ∧
                ((¬ 0 ≤ r12) →
                  Q (some (am_I r12)) S11))) ∧
            ((b7 = false) →
              Q (some (am_I (-1000001))) S6))))) : kX3_lessons l [am_R 0, am_I v1, am_I v2, am_I v3] S Q := by
  refine am_entry (lv := [(0, am_R 0), (1, am_I v1), (2, am_I v2), (3, am_I v3)]) rfl rfl rfl (fun _ => rfl) (fun _ => Nat.le_of_ble_eq_true rfl) ?_
  refine am_aload_n dX3_lessons_0 rfl 0 rfl ?_
  refine am_iconst dX3_lessons_1 ?_
  refine am_mput 0 (by decide) q1401 dX3_lessons_2 ?_
  refine am_iload_n dX3_lessons_5 rfl 1 rfl ?_
  refine am_rSz (n := 1) hh dX3_lessons_6 (lw_S q1672 q1673 q96 q1674) ⟨⟨by decide, by decide, by decide +kernel⟩, ⟨Nat.le_of_ble_eq_true rfl, Nat.le_of_ble_eq_true rfl⟩⟩ ⟨rfl, rfl⟩ rfl rfl (Nat.le_of_ble_eq_true rfl) ⟨(Nat.le_refl 0), (Nat.le_refl 0)⟩ (fun b2 S1 hh => ?_)
  obtain ⟨ha3, hb4⟩ := hh
  refine am_ifB_eq (tgt := 24) dX3_lessons_9 (by decide) (fun hc5 => ?_) (fun hc5 => ?_)
  · have hh := ha3 hc5
    refine am_ldc (z := -1000001) q1515 (by decide) dX3_lessons_24 ?_
    exact am_iret rfl dX3_lessons_26 (Nat.le_refl 0) (Nat.le_refl 0) hh
  · have hh := hb4 hc5
    refine am_iload_n dX3_lessons_12 rfl 3 rfl ?_
    refine am_i2l_ h3 dX3_lessons_13 ?_
    refine am_lconst (z := 1) dX3_lessons_14 (by decide) ?_
    refine am_ldc2 (z := 4) q1675 (by decide) dX3_lessons_15 ?_
    refine am_rSz (n := 3) hh dX3_lessons_18 (lw_S q1512 q1513 q96 q1514) ⟨⟨by decide, by decide, by decide +kernel⟩, ⟨Nat.le_of_ble_eq_true rfl, Nat.le_of_ble_eq_true rfl⟩⟩ ⟨rfl, rfl⟩ rfl rfl (Nat.le_of_ble_eq_true rfl) ⟨(Nat.le_refl 0), (Nat.le_refl 0)⟩ (fun b7 S6 hh => ?_)
    obtain ⟨ha8, hb9⟩ := hh
    refine am_ifB_ne (tgt := 27) dX3_lessons_21 (by decide) (fun hc10 => ?_) (fun hc10 => ?_)
    · have hh := ha8 hc10
      refine am_aload_n dX3_lessons_27 rfl 0 rfl ?_
      refine am_iload_n dX3_lessons_28 rfl 1 rfl ?_
      refine am_iload_n dX3_lessons_29 rfl 2 rfl ?_
      refine am_iconst dX3_lessons_30 ?_
      refine am_iload_n dX3_lessons_31 rfl 3 rfl ?_
      refine am_imul dX3_lessons_32 ?_
      refine am_rVi (n := 3) hh dX3_lessons_33 (lw_V q1676 q1678 qs64 q96 q1679) rfl ⟨⟨by decide, by decide, by decide +kernel⟩, ⟨Nat.le_of_ble_eq_true rfl, Nat.le_of_ble_eq_true rfl⟩⟩ ⟨rfl, rfl⟩ rfl rfl (Nat.le_of_ble_eq_true rfl) ⟨(Nat.le_refl 0), (Nat.le_refl 0)⟩ (am_mrecv _) (fun r12 S11 hr13 hh => ?_)
      refine am_istore dX3_lessons_36 (by decide) rfl ?_
      refine am_iload dX3_lessons_38 0 rfl ?_
      obtain ⟨ha14, hb15⟩ := hh
      refine am_if_ge (tgt := 46) dX3_lessons_40 (by decide) hr13 (fun hc16 => ?_) (fun hc16 => ?_)
      · have hh := ha14 hc16
        refine am_aload_n dX3_lessons_46 rfl 1 rfl ?_
        refine am_iconst dX3_lessons_47 ?_
        refine am_mput 1 (by decide) q1402 dX3_lessons_48 ?_
        refine am_iconst dX3_lessons_51 ?_
        refine am_istore dX3_lessons_52 (by decide) rfl ?_
        refine am_iconst dX3_lessons_54 ?_
        refine am_istore dX3_lessons_55 (by decide) rfl ?_
        refine am_keep [3, 4, 5, 6, 1, 0] rfl ?_
        exact hh
      · have hh := hb15 hc16
        refine am_iload dX3_lessons_43 0 rfl ?_
        exact am_iret rfl dX3_lessons_45 (Nat.le_refl 0) (Nat.le_refl 0) hh
    · have hh := hb9 hc10
      refine am_ldc (z := -1000001) q1515 (by decide) dX3_lessons_24 ?_
      exact am_iret rfl dX3_lessons_26 (Nat.le_refl 0) (Nat.le_refl 0) hh
set_option maxHeartbeats 4000000 in
set_option maxRecDepth 100000 in
theorem bX3_lessons_57 {l : Launch} {Q : Option am_W → am_M → Prop} {S : am_M} (v1 : Int) (h1 : am_r v1) (v2 : Int) (h2 : am_r v2) (v3 : Int) (h3 : am_r v3) (v5 : Int) (h5 : am_r v5) (v6 : Int) (h6 : am_r v6)
    (hh : ((v3 ≤ v6) →
        Q (some (am_I v5)) S) ∧
      ((¬ v3 ≤ v6) →
        (0 ≤ (((40 * v1) + v2) + (4 * v6)) ∧ (((40 * v1) + v2) + (4 * v6)) < 320) ∧
        (0 ≤ ((((40 * v1) + v2) + (4 * v6)) + 1) ∧ ((((40 * v1) + v2) + (4 * v6)) + 1) < 320) ∧
        (0 ≤ ((((40 * v1) + v2) + (4 * v6)) + 2) ∧ ((((40 * v1) + v2) + (4 * v6)) + 2) < 320) ∧
        (0 ≤ ((((40 * v1) + v2) + (4 * v6)) + 3) ∧ ((((40 * v1) + v2) + (4 * v6)) + 3) < 320) ∧
        kX3_teach l [am_R 0, am_I (S.2 11 (((40 * v1) + v2) + (4 * v6)).toNat).toInt, am_I (S.2 11 ((((40 * v1) + v2) + (4 * v6)) + 1).toNat).toInt, am_I (S.2 11 ((((40 * v1) + v2) + (4 * v6)) + 2).toNat).toInt, am_I (S.2 11 ((((40 * v1) + v2) + (4 * v6)) + 3).toNat).toInt] S (am_qi fun r9 S8 =>
          ((r9 < 0) →
            VX3_lessons l Q 57 [(0, am_R 0), (1, am_I v1), (2, am_I v2), (3, am_I v3), (5, am_I (v5 + 0)), (6, am_I (v6 + 1))] [] S8) ∧
          ((¬ r9 < 0) →
            VX3_lessons l Q 57 [(0, am_R 0), (1, am_I v1), (2, am_I v2), (3, am_I v3), (5, am_I (v5 + 1)), (6, am_I (v6 + 1))] [] S8)))) : VX3_lessons l Q 57 [(0, am_R 0), (1, am_I v1), (2, am_I v2), (3, am_I v3), (5, am_I v5), (6, am_I v6)] [] S := by
  refine am_iload dX3_lessons_57 5 rfl ?_
  refine am_iload_n dX3_lessons_59 rfl 3 rfl ?_
  obtain ⟨ha1, hb2⟩ := hh
  refine am_icmp_ge (tgt := 133) dX3_lessons_60 (by decide) h6 h3 (fun hc3 => ?_) (fun hc3 => ?_)
  · have hh := ha1 hc3
    refine am_iload dX3_lessons_133 4 rfl ?_
    exact am_iret rfl dX3_lessons_135 (Nat.le_refl 0) (Nat.le_refl 0) hh
  · have hh := hb2 hc3
    refine am_bipush dX3_lessons_63 (by decide) ?_
    refine am_iload_n dX3_lessons_65 rfl 1 rfl ?_
    refine am_imul dX3_lessons_66 ?_
    refine am_iload_n dX3_lessons_67 rfl 2 rfl ?_
    refine am_iadd dX3_lessons_68 ?_
    refine am_iconst dX3_lessons_69 ?_
    refine am_iload dX3_lessons_70 5 rfl ?_
    refine am_imul dX3_lessons_72 ?_
    refine am_iadd dX3_lessons_73 ?_
    refine am_istore dX3_lessons_74 (by decide) rfl ?_
    refine am_iload dX3_lessons_76 5 rfl ?_
    refine am_aload_n dX3_lessons_78 rfl 1 rfl ?_
    refine am_aload_n dX3_lessons_79 rfl 1 rfl ?_
    refine am_mgeta 11 (by decide) q1417 dX3_lessons_80 ?_
    refine am_iload dX3_lessons_83 0 rfl ?_
    obtain ⟨o4, hh⟩ := hh
    refine am_miald 11 (by decide) (by decide) (v := (S.2 11 (((40 * v1) + v2) + (4 * v6)).toNat).toInt) rfl o4.1 o4.2 dX3_lessons_85 ?_
    refine am_aload_n dX3_lessons_86 rfl 1 rfl ?_
    refine am_mgeta 11 (by decide) q1417 dX3_lessons_87 ?_
    refine am_iload dX3_lessons_90 0 rfl ?_
    refine am_iconst dX3_lessons_92 ?_
    refine am_iadd dX3_lessons_93 ?_
    obtain ⟨o5, hh⟩ := hh
    refine am_miald 11 (by decide) (by decide) (v := (S.2 11 ((((40 * v1) + v2) + (4 * v6)) + 1).toNat).toInt) rfl o5.1 o5.2 dX3_lessons_94 ?_
    refine am_aload_n dX3_lessons_95 rfl 1 rfl ?_
    refine am_mgeta 11 (by decide) q1417 dX3_lessons_96 ?_
    refine am_iload dX3_lessons_99 0 rfl ?_
    refine am_iconst dX3_lessons_101 ?_
    refine am_iadd dX3_lessons_102 ?_
    obtain ⟨o6, hh⟩ := hh
    refine am_miald 11 (by decide) (by decide) (v := (S.2 11 ((((40 * v1) + v2) + (4 * v6)) + 2).toNat).toInt) rfl o6.1 o6.2 dX3_lessons_103 ?_
    refine am_aload_n dX3_lessons_104 rfl 1 rfl ?_
    refine am_mgeta 11 (by decide) q1417 dX3_lessons_105 ?_
    refine am_iload dX3_lessons_108 0 rfl ?_
    refine am_iconst dX3_lessons_110 ?_
    refine am_iadd dX3_lessons_111 ?_
    obtain ⟨o7, hh⟩ := hh
    refine am_miald 11 (by decide) (by decide) (v := (S.2 11 ((((40 * v1) + v2) + (4 * v6)) + 3).toNat).toInt) rfl o7.1 o7.2 dX3_lessons_112 ?_
    refine am_rVi (n := 4) hh dX3_lessons_113 (lw_V q1663 q1665 qs63 q96 q1666) rfl ⟨⟨by decide, by decide, by decide +kernel⟩, ⟨Nat.le_of_ble_eq_true rfl, Nat.le_of_ble_eq_true rfl⟩⟩ ⟨rfl, rfl⟩ rfl rfl (Nat.le_of_ble_eq_true rfl) ⟨(Nat.le_refl 0), (Nat.le_refl 0)⟩ (am_mrecv _) (fun r9 S8 hr10 hh => ?_)
    obtain ⟨ha11, hb12⟩ := hh
    refine am_if_lt (tgt := 123) dX3_lessons_116 (by decide) hr10 (fun hc13 => ?_) (fun hc13 => ?_)
    · have hh := ha11 hc13
      refine am_iconst dX3_lessons_123 ?_
      refine am_iadd dX3_lessons_124 ?_
      refine am_istore dX3_lessons_125 (by decide) rfl ?_
      refine am_iinc (n := 6) dX3_lessons_127 rfl (by decide) rfl ?_
      refine am_goto (tgt := 57) dX3_lessons_130 (by decide) ?_
      refine am_keep [3, 4, 5, 6, 1, 0] rfl ?_
      exact hh
    · have hh := hb12 hc13
      refine am_iconst dX3_lessons_119 ?_
      refine am_goto (tgt := 124) dX3_lessons_120 (by decide) ?_
      refine am_iadd dX3_lessons_124 ?_
      refine am_istore dX3_lessons_125 (by decide) rfl ?_
      refine am_iinc (n := 6) dX3_lessons_127 rfl (by decide) rfl ?_
      refine am_goto (tgt := 57) dX3_lessons_130 (by decide) ?_
      refine am_keep [3, 4, 5, 6, 1, 0] rfl ?_
      exact hh
/-! TableArmsModel.unteach(I)I -/
abbrev VX3_unteach (l : Launch) (Q : Option am_W → am_M → Prop) (pc : Nat) (lv : List (Nat × am_W)) (st : List am_W) (S : am_M) : Prop := am_V am_mr l RX3 cX3_unteach 2 (some .int) "unteach" (am_rm 2 0 0) (am_E1 am_mr 0 0 Q) pc lv st S 0 0
abbrev kX3_unteach (l : Launch) (as : List am_W) (S : am_M) (Q : Option am_W → am_M → Prop) : Prop := am_C am_mr l yX3_unteach (ws_ yX3_unteach cX3_unteach 2 (some .int)) (am_rm 2 0 0) 0 0 as S Q
set_option maxHeartbeats 4000000 in
set_option maxRecDepth 100000 in
theorem bX3_unteach {l : Launch} {Q : Option am_W → am_M → Prop} {S : am_M} (v1 : Int) (h1 : am_r v1)
    (hh : (am_r ((S.1 4).toInt - 1)) ∧
      kX3_in l [am_J v1, am_J 0, am_J ((S.1 4).toInt - 1)] (am_sv S 0 0) (am_qz fun b3 S2 =>
        ((b3 = true) →
          (0 ≤ v1 ∧ v1 < 8) ∧
          ((((S2.2 8 v1.toNat).toInt) = 0) →
            Q (some (am_I 1)) (am_sa S2 8 v1 (am_b true))) ∧
          ((¬ ((S2.2 8 v1.toNat).toInt) = 0) →
            Q (some (am_I (-1000002))) S2)) ∧
        ((b3 = false) →
          Q (some (am_I (-1000001))) S2))) : kX3_unteach l [am_R 0, am_I v1] S Q := by
  refine am_entry (lv := [(0, am_R 0), (1, am_I v1)]) rfl rfl rfl (fun _ => rfl) (fun _ => Nat.le_of_ble_eq_true rfl) ?_
  refine am_aload_n dX3_unteach_0 rfl 0 rfl ?_
  refine am_iconst dX3_unteach_1 ?_
  refine am_mput 0 (by decide) q1401 dX3_unteach_2 ?_
  refine am_iload_n dX3_unteach_5 rfl 1 rfl ?_
  refine am_i2l_ h1 dX3_unteach_6 ?_
  refine am_lconst (z := 0) dX3_unteach_7 (by decide) ?_
  refine am_aload_n dX3_unteach_8 rfl 0 rfl ?_
  refine am_mgeti 4 (by decide) (v := (S.1 4).toInt) rfl q1409 dX3_unteach_9 ?_
  refine am_iconst dX3_unteach_12 ?_
  refine am_isub dX3_unteach_13 ?_
  obtain ⟨o1, hh⟩ := hh
  refine am_i2l_ o1 dX3_unteach_14 ?_
  refine am_rSz (n := 3) hh dX3_unteach_15 (lw_S q1512 q1513 q96 q1514) ⟨⟨by decide, by decide, by decide +kernel⟩, ⟨Nat.le_of_ble_eq_true rfl, Nat.le_of_ble_eq_true rfl⟩⟩ ⟨rfl, rfl⟩ rfl rfl (Nat.le_of_ble_eq_true rfl) ⟨(Nat.le_refl 0), (Nat.le_refl 0)⟩ (fun b3 S2 hh => ?_)
  obtain ⟨ha4, hb5⟩ := hh
  refine am_ifB_ne (tgt := 24) dX3_unteach_18 (by decide) (fun hc6 => ?_) (fun hc6 => ?_)
  · have hh := ha4 hc6
    refine am_aload_n dX3_unteach_24 rfl 0 rfl ?_
    refine am_mgeta 8 (by decide) q1414 dX3_unteach_25 ?_
    refine am_iload_n dX3_unteach_28 rfl 1 rfl ?_
    obtain ⟨o7, hh⟩ := hh
    refine am_mzald 8 (by decide) (by decide) (v := (S2.2 8 v1.toNat).toInt) rfl o7.1 o7.2 dX3_unteach_29 ?_
    obtain ⟨ha8, hb9⟩ := hh
    refine am_if_eq (tgt := 36) dX3_unteach_30 (by decide) (am_rt _) (fun hc10 => ?_) (fun hc10 => ?_)
    · have hh := ha8 hc10
      refine am_aload_n dX3_unteach_36 rfl 0 rfl ?_
      refine am_mgeta 8 (by decide) q1414 dX3_unteach_37 ?_
      refine am_iload_n dX3_unteach_40 rfl 1 rfl ?_
      refine am_iconst dX3_unteach_41 ?_
      refine am_mzast (b := true) 8 (by decide) (by decide) o7.1 o7.2 dX3_unteach_42 ?_
      refine am_iconst dX3_unteach_43 ?_
      exact am_iret rfl dX3_unteach_44 (Nat.le_refl 0) (Nat.le_refl 0) hh
    · have hh := hb9 hc10
      refine am_ldc (z := -1000002) q1592 (by decide) dX3_unteach_33 ?_
      exact am_iret rfl dX3_unteach_35 (Nat.le_refl 0) (Nat.le_refl 0) hh
  · have hh := hb5 hc6
    refine am_ldc (z := -1000001) q1515 (by decide) dX3_unteach_21 ?_
    exact am_iret rfl dX3_unteach_23 (Nat.le_refl 0) (Nat.le_refl 0) hh
/-! TableArmsModel.standing()I -/
abbrev VX3_standing (l : Launch) (Q : Option am_W → am_M → Prop) (pc : Nat) (lv : List (Nat × am_W)) (st : List am_W) (S : am_M) : Prop := am_V am_mr l RX3 cX3_standing 3 (some .int) "standing" (am_rm 1 0 0) (am_E1 am_mr 0 0 Q) pc lv st S 0 0
abbrev kX3_standing (l : Launch) (as : List am_W) (S : am_M) (Q : Option am_W → am_M → Prop) : Prop := am_C am_mr l yX3_standing (ws_ yX3_standing cX3_standing 3 (some .int)) (am_rm 1 0 0) 0 0 as S Q
set_option maxHeartbeats 4000000 in
set_option maxRecDepth 100000 in
theorem bX3_standing {l : Launch} {Q : Option am_W → am_M → Prop} {S : am_M} 
    (hh : VX3_standing l Q 4 [(0, am_R 0), (1, am_I 0), (2, am_I 0)] [] S) : kX3_standing l [am_R 0] S Q := by
  refine am_entry (lv := [(0, am_R 0)]) rfl rfl rfl (fun _ => rfl) (fun _ => Nat.le_of_ble_eq_true rfl) ?_
  refine am_iconst dX3_standing_0 ?_
  refine am_istore_n dX3_standing_1 rfl (by decide) rfl ?_
  refine am_iconst dX3_standing_2 ?_
  refine am_istore_n dX3_standing_3 rfl (by decide) rfl ?_
  refine am_keep [2, 1, 0] rfl ?_
  exact hh
set_option maxHeartbeats 4000000 in
set_option maxRecDepth 100000 in
theorem bX3_standing_4 {l : Launch} {Q : Option am_W → am_M → Prop} {S : am_M} (v1 : Int) (h1 : am_r v1) (v2 : Int) (h2 : am_r v2)
    (hh : ((((S.1 4).toInt) ≤ v2) →
        Q (some (am_I v1)) S) ∧
      ((¬ ((S.1 4).toInt) ≤ v2) →
        (0 ≤ v2 ∧ v2 < 8) ∧
        ((((S.2 8 v2.toNat).toInt) = 0) →
          VX3_standing l Q 4 [(0, am_R 0), (1, am_I (am_or v1 (am_shl 1 v2))), (2, am_I (v2 + 1))] [] S) ∧
        ((¬ ((S.2 8 v2.toNat).toInt) = 0) →
          VX3_standing l Q 4 [(0, am_R 0), (1, am_I (am_or v1 0)), (2, am_I (v2 + 1))] [] S))) : VX3_standing l Q 4 [(0, am_R 0), (1, am_I v1), (2, am_I v2)] [] S := by
  refine am_iload_n dX3_standing_4 rfl 2 rfl ?_
  refine am_aload_n dX3_standing_5 rfl 0 rfl ?_
  refine am_mgeti 4 (by decide) (v := (S.1 4).toInt) rfl q1409 dX3_standing_6 ?_
  obtain ⟨ha1, hb2⟩ := hh
  refine am_icmp_ge (tgt := 37) dX3_standing_9 (by decide) h2 (am_rt _) (fun hc3 => ?_) (fun hc3 => ?_)
  · have hh := ha1 hc3
    refine am_iload_n dX3_standing_37 rfl 1 rfl ?_
    exact am_iret rfl dX3_standing_38 (Nat.le_refl 0) (Nat.le_refl 0) hh
  · have hh := hb2 hc3
    refine am_iload_n dX3_standing_12 rfl 1 rfl ?_
    refine am_aload_n dX3_standing_13 rfl 0 rfl ?_
    refine am_mgeta 8 (by decide) q1414 dX3_standing_14 ?_
    refine am_iload_n dX3_standing_17 rfl 2 rfl ?_
    obtain ⟨o4, hh⟩ := hh
    refine am_mzald 8 (by decide) (by decide) (v := (S.2 8 v2.toNat).toInt) rfl o4.1 o4.2 dX3_standing_18 ?_
    obtain ⟨ha5, hb6⟩ := hh
    refine am_if_eq (tgt := 26) dX3_standing_19 (by decide) (am_rt _) (fun hc7 => ?_) (fun hc7 => ?_)
    · have hh := ha5 hc7
      refine am_iconst dX3_standing_26 ?_
      refine am_iload_n dX3_standing_27 rfl 2 rfl ?_
      refine am_ishl dX3_standing_28 ?_
      refine am_ior dX3_standing_29 ?_
      refine am_istore_n dX3_standing_30 rfl (by decide) rfl ?_
      refine am_iinc (n := 2) dX3_standing_31 rfl (by decide) rfl ?_
      refine am_goto (tgt := 4) dX3_standing_34 (by decide) ?_
      refine am_keep [2, 1, 0] rfl ?_
      exact hh
    · have hh := hb6 hc7
      refine am_iconst dX3_standing_22 ?_
      refine am_goto (tgt := 29) dX3_standing_23 (by decide) ?_
      refine am_ior dX3_standing_29 ?_
      refine am_istore_n dX3_standing_30 rfl (by decide) rfl ?_
      refine am_iinc (n := 2) dX3_standing_31 rfl (by decide) rfl ?_
      refine am_goto (tgt := 4) dX3_standing_34 (by decide) ?_
      refine am_keep [2, 1, 0] rfl ?_
      exact hh
/-! TableArmsModel.isBarring(II)Z -/
abbrev VX3_isBarring (l : Launch) (Q : Option am_W → am_M → Prop) (pc : Nat) (lv : List (Nat × am_W)) (st : List am_W) (S : am_M) : Prop := am_V am_mr l RX3 cX3_isBarring 5 (some .boolean) "isBarring" (am_rm 9 0 0) (am_E1 am_mr 0 0 Q) pc lv st S 0 0
abbrev kX3_isBarring (l : Launch) (as : List am_W) (S : am_M) (Q : Option am_W → am_M → Prop) : Prop := am_C am_mr l yX3_isBarring (ws_ yX3_isBarring cX3_isBarring 5 (some .boolean)) (am_rm 9 0 0) 0 0 as S Q
set_option maxHeartbeats 4000000 in
set_option maxRecDepth 100000 in
theorem bX3_isBarring {l : Launch} {Q : Option am_W → am_M → Prop} {S : am_M} (v1 : Int) (h1 : am_r v1) (v2 : Int) (h2 : am_r v2)
    (hh : (0 ≤ v1 ∧ v1 < 8) ∧
      kX3_copyTable l [am_R 0, am_I ((S.2 4 v1.toNat).toInt + 1), am_I 9] S (am_qv fun S2 =>
        kX3_doOrder l [am_R 0, am_I 9, am_I v2] S2 (am_qi fun r4 S3 =>
          ((¬ r4 = (-1000000)) →
            kX3_isSame l [am_R 0, am_I 9, am_I ((S3.2 5 v1.toNat).toInt + 1)] S3 (am_qz fun b13 S12 =>
              ((b13 = false) →
                ((((S12.2 6 v1.toNat).toInt) = 0) →
                  Q (some (am_I (am_b true))) S12) ∧
                ((¬ ((S12.2 6 v1.toNat).toInt) = 0) →
                  Q (some (am_I (am_b false))) S12)) ∧
              ((b13 = true) →
                ((((S12.2 6 v1.toNat).toInt) = 0) →
                  Q (some (am_I (am_b false))) S12) ∧
                ((¬ ((S12.2 6 v1.toNat).toInt) = 0) →
                  Q (some (am_I (am_b true))) S12)))) ∧
          ((r4 = (-1000000)) →
            ((((S3.2 6 v1.toNat).toInt) = 0) →
              Q (some (am_I (am_b true))) S3) ∧
            ((¬ ((S3.2 6 v1.toNat).toInt) = 0) →
              Q (some (am_I (am_b false))) S3))))) : kX3_isBarring l [am_R 0, am_I v1, am_I v2] S Q := by
  refine am_entry (lv := [(0, am_R 0), (1, am_I v1), (2, am_I v2)]) rfl rfl rfl (fun _ => rfl) (fun _ => Nat.le_of_ble_eq_true rfl) ?_
  refine am_aload_n dX3_isBarring_0 rfl 0 rfl ?_
  refine am_aload_n dX3_isBarring_1 rfl 0 rfl ?_
  refine am_mgeta 4 (by decide) q1410 dX3_isBarring_2 ?_
  refine am_iload_n dX3_isBarring_5 rfl 1 rfl ?_
  obtain ⟨o1, hh⟩ := hh
  refine am_miald 4 (by decide) (by decide) (v := (S.2 4 v1.toNat).toInt) rfl o1.1 o1.2 dX3_isBarring_6 ?_
  refine am_iconst dX3_isBarring_7 ?_
  refine am_iadd dX3_isBarring_8 ?_
  refine am_bipush dX3_isBarring_9 (by decide) ?_
  refine am_rVv (n := 2) hh dX3_isBarring_11 (lw_V q1516 q1518 qs40 q96 q1519) rfl ⟨⟨by decide, by decide, by decide +kernel⟩, ⟨Nat.le_of_ble_eq_true rfl, Nat.le_of_ble_eq_true rfl⟩⟩ ⟨rfl, rfl⟩ rfl rfl (Nat.le_of_ble_eq_true rfl) ⟨(Nat.le_refl 0), (Nat.le_refl 0)⟩ (am_mrecv _) (fun S2 hh => ?_)
  refine am_aload_n dX3_isBarring_14 rfl 0 rfl ?_
  refine am_bipush dX3_isBarring_15 (by decide) ?_
  refine am_iload_n dX3_isBarring_17 rfl 2 rfl ?_
  refine am_rVi (n := 2) hh dX3_isBarring_18 (lw_V q1520 q1522 qs41 q96 q1523) rfl ⟨⟨by decide, by decide, by decide +kernel⟩, ⟨Nat.le_of_ble_eq_true rfl, Nat.le_of_ble_eq_true rfl⟩⟩ ⟨rfl, rfl⟩ rfl rfl (Nat.le_of_ble_eq_true rfl) ⟨(Nat.le_refl 0), (Nat.le_refl 0)⟩ (am_mrecv _) (fun r4 S3 hr5 hh => ?_)
  refine am_ldc (z := -1000000) q1544 (by decide) dX3_isBarring_21 ?_
  obtain ⟨ha6, hb7⟩ := hh
  refine am_icmp_ne (tgt := 30) dX3_isBarring_23 (by decide) hr5 (⟨by decide, by decide⟩) (fun hc8 => ?_) (fun hc8 => ?_)
  · have hh := ha6 hc8
    refine am_iconst dX3_isBarring_30 ?_
    refine am_istore_n dX3_isBarring_31 rfl (by decide) rfl ?_
    refine am_iload_n dX3_isBarring_32 rfl 0 rfl ?_
    refine am_if_ne (tgt := 57) dX3_isBarring_33 (by decide) (⟨by decide, by decide⟩) (fun hc11 => ?_) (fun hc11 => ?_)
    · exact absurd hc11 (by decide)
    refine am_aload_n dX3_isBarring_36 rfl 1 rfl ?_
    refine am_bipush dX3_isBarring_37 (by decide) ?_
    refine am_aload_n dX3_isBarring_39 rfl 1 rfl ?_
    refine am_mgeta 5 (by decide) q1411 dX3_isBarring_40 ?_
    refine am_iload_n dX3_isBarring_43 rfl 2 rfl ?_
    refine am_miald 5 (by decide) (by decide) (v := (S3.2 5 v1.toNat).toInt) rfl o1.1 o1.2 dX3_isBarring_44 ?_
    refine am_iconst dX3_isBarring_45 ?_
    refine am_iadd dX3_isBarring_46 ?_
    refine am_rVz (n := 2) hh dX3_isBarring_47 (lw_V q1655 q1657 qs62 q96 q1658) rfl ⟨⟨by decide, by decide, by decide +kernel⟩, ⟨Nat.le_of_ble_eq_true rfl, Nat.le_of_ble_eq_true rfl⟩⟩ ⟨rfl, rfl⟩ rfl rfl (Nat.le_of_ble_eq_true rfl) ⟨(Nat.le_refl 0), (Nat.le_refl 0)⟩ (am_mrecv _) (fun b13 S12 hh => ?_)
    obtain ⟨ha14, hb15⟩ := hh
    refine am_ifB_eq (tgt := 57) dX3_isBarring_50 (by decide) (fun hc16 => ?_) (fun hc16 => ?_)
    · have hh := ha14 hc16
      refine am_iconst dX3_isBarring_57 ?_
      refine am_istore dX3_isBarring_58 (by decide) rfl ?_
      refine am_aload_n dX3_isBarring_60 rfl 2 rfl ?_
      refine am_mgeta 6 (by decide) q1412 dX3_isBarring_61 ?_
      refine am_iload_n dX3_isBarring_64 rfl 3 rfl ?_
      refine am_mzald 6 (by decide) (by decide) (v := (S12.2 6 v1.toNat).toInt) rfl o1.1 o1.2 dX3_isBarring_65 ?_
      obtain ⟨ha17, hb18⟩ := hh
      refine am_if_eq (tgt := 74) dX3_isBarring_66 (by decide) (am_rt _) (fun hc19 => ?_) (fun hc19 => ?_)
      · have hh := ha17 hc19
        refine am_iload dX3_isBarring_74 0 rfl ?_
        refine am_if_ne (tgt := 83) dX3_isBarring_76 (by decide) (⟨by decide, by decide⟩) (fun hc22 => ?_) (fun hc22 => ?_)
        · exact absurd hc22 (by decide)
        refine am_iconst dX3_isBarring_79 ?_
        refine am_goto (tgt := 84) dX3_isBarring_80 (by decide) ?_
        exact am_zret (b := true) rfl dX3_isBarring_84 (Nat.le_refl 0) (Nat.le_refl 0) hh
      · have hh := hb18 hc19
        refine am_iload dX3_isBarring_69 0 rfl ?_
        refine am_goto (tgt := 84) dX3_isBarring_71 (by decide) ?_
        exact am_zret (b := false) rfl dX3_isBarring_84 (Nat.le_refl 0) (Nat.le_refl 0) hh
    · have hh := hb15 hc16
      refine am_iconst dX3_isBarring_53 ?_
      refine am_goto (tgt := 58) dX3_isBarring_54 (by decide) ?_
      refine am_istore dX3_isBarring_58 (by decide) rfl ?_
      refine am_aload_n dX3_isBarring_60 rfl 2 rfl ?_
      refine am_mgeta 6 (by decide) q1412 dX3_isBarring_61 ?_
      refine am_iload_n dX3_isBarring_64 rfl 3 rfl ?_
      refine am_mzald 6 (by decide) (by decide) (v := (S12.2 6 v1.toNat).toInt) rfl o1.1 o1.2 dX3_isBarring_65 ?_
      obtain ⟨ha23, hb24⟩ := hh
      refine am_if_eq (tgt := 74) dX3_isBarring_66 (by decide) (am_rt _) (fun hc25 => ?_) (fun hc25 => ?_)
      · have hh := ha23 hc25
        refine am_iload dX3_isBarring_74 0 rfl ?_
        refine am_if_ne (tgt := 83) dX3_isBarring_76 (by decide) (⟨by decide, by decide⟩) (fun hc28 => ?_) (fun hc28 => ?_)
        rotate_left
        · exact absurd hc28 (by decide)
        refine am_iconst dX3_isBarring_83 ?_
        exact am_zret (b := false) rfl dX3_isBarring_84 (Nat.le_refl 0) (Nat.le_refl 0) hh
      · have hh := hb24 hc25
        refine am_iload dX3_isBarring_69 0 rfl ?_
        refine am_goto (tgt := 84) dX3_isBarring_71 (by decide) ?_
        exact am_zret (b := true) rfl dX3_isBarring_84 (Nat.le_refl 0) (Nat.le_refl 0) hh
  · have hh := hb7 hc8
    refine am_iconst dX3_isBarring_26 ?_
    refine am_goto (tgt := 31) dX3_isBarring_27 (by decide) ?_
    refine am_istore_n dX3_isBarring_31 rfl (by decide) rfl ?_
    refine am_iload_n dX3_isBarring_32 rfl 0 rfl ?_
    refine am_if_ne (tgt := 57) dX3_isBarring_33 (by decide) (⟨by decide, by decide⟩) (fun hc31 => ?_) (fun hc31 => ?_)
    rotate_left
    · exact absurd hc31 (by decide)
    refine am_iconst dX3_isBarring_57 ?_
    refine am_istore dX3_isBarring_58 (by decide) rfl ?_
    refine am_aload_n dX3_isBarring_60 rfl 2 rfl ?_
    refine am_mgeta 6 (by decide) q1412 dX3_isBarring_61 ?_
    refine am_iload_n dX3_isBarring_64 rfl 3 rfl ?_
    refine am_mzald 6 (by decide) (by decide) (v := (S3.2 6 v1.toNat).toInt) rfl o1.1 o1.2 dX3_isBarring_65 ?_
    obtain ⟨ha32, hb33⟩ := hh
    refine am_if_eq (tgt := 74) dX3_isBarring_66 (by decide) (am_rt _) (fun hc34 => ?_) (fun hc34 => ?_)
    · have hh := ha32 hc34
      refine am_iload dX3_isBarring_74 0 rfl ?_
      refine am_if_ne (tgt := 83) dX3_isBarring_76 (by decide) (⟨by decide, by decide⟩) (fun hc37 => ?_) (fun hc37 => ?_)
      · exact absurd hc37 (by decide)
      refine am_iconst dX3_isBarring_79 ?_
      refine am_goto (tgt := 84) dX3_isBarring_80 (by decide) ?_
      exact am_zret (b := true) rfl dX3_isBarring_84 (Nat.le_refl 0) (Nat.le_refl 0) hh
    · have hh := hb33 hc34
      refine am_iload dX3_isBarring_69 0 rfl ?_
      refine am_goto (tgt := 84) dX3_isBarring_71 (by decide) ?_
      exact am_zret (b := false) rfl dX3_isBarring_84 (Nat.le_refl 0) (Nat.le_refl 0) hh
/-! TableArmsModel.barredBy(II)I -/
abbrev VX3_barredBy (l : Launch) (Q : Option am_W → am_M → Prop) (pc : Nat) (lv : List (Nat × am_W)) (st : List am_W) (S : am_M) : Prop := am_V am_mr l RX3 cX3_barredBy 4 (some .int) "barredBy" (am_rm 10 0 0) (am_E1 am_mr 0 0 Q) pc lv st S 0 0
abbrev kX3_barredBy (l : Launch) (as : List am_W) (S : am_M) (Q : Option am_W → am_M → Prop) : Prop := am_C am_mr l yX3_barredBy (ws_ yX3_barredBy cX3_barredBy 4 (some .int)) (am_rm 10 0 0) 0 0 as S Q
set_option maxHeartbeats 4000000 in
set_option maxRecDepth 100000 in
theorem bX3_barredBy {l : Launch} {Q : Option am_W → am_M → Prop} {S : am_M} (v1 : Int) (h1 : am_r v1) (v2 : Int) (h2 : am_r v2)
    (hh : VX3_barredBy l Q 2 [(0, am_R 0), (1, am_I v1), (2, am_I v2), (3, am_I 0)] [] S) : kX3_barredBy l [am_R 0, am_I v1, am_I v2] S Q := by
  refine am_entry (lv := [(0, am_R 0), (1, am_I v1), (2, am_I v2)]) rfl rfl rfl (fun _ => rfl) (fun _ => Nat.le_of_ble_eq_true rfl) ?_
  refine am_iconst dX3_barredBy_0 ?_
  refine am_istore_n dX3_barredBy_1 rfl (by decide) rfl ?_
  refine am_keep [1, 2, 3, 0] rfl ?_
  exact hh
set_option maxHeartbeats 4000000 in
set_option maxRecDepth 100000 in
theorem bX3_barredBy_2 {l : Launch} {Q : Option am_W → am_M → Prop} {S : am_M} (v1 : Int) (h1 : am_r v1) (v2 : Int) (h2 : am_r v2) (v3 : Int) (h3 : am_r v3)
    (hh : ((((S.1 4).toInt) ≤ v3) →
        Q (some (am_I (-1000000))) S) ∧
      ((¬ ((S.1 4).toInt) ≤ v3) →
        ((¬ (am_and (am_shr v2 v3) 1) = 1) →
          VX3_barredBy l Q 2 [(0, am_R 0), (1, am_I v1), (2, am_I v2), (3, am_I (v3 + 1))] [] S) ∧
        (((am_and (am_shr v2 v3) 1) = 1) →
          kX3_isBarring l [am_R 0, am_I v3, am_I v1] S (am_qz fun b8 S7 =>
            ((b8 = false) →
              VX3_barredBy l Q 2 [(0, am_R 0), (1, am_I v1), (2, am_I v2), (3, am_I (v3 + 1))] [] S7) ∧
            ((b8 = true) →
              Q (some (am_I v3)) S7))))) : VX3_barredBy l Q 2 [(0, am_R 0), (1, am_I v1), (2, am_I v2), (3, am_I v3)] [] S := by
  refine am_iload_n dX3_barredBy_2 rfl 3 rfl ?_
  refine am_aload_n dX3_barredBy_3 rfl 0 rfl ?_
  refine am_mgeti 4 (by decide) (v := (S.1 4).toInt) rfl q1409 dX3_barredBy_4 ?_
  obtain ⟨ha1, hb2⟩ := hh
  refine am_icmp_ge (tgt := 36) dX3_barredBy_7 (by decide) h3 (am_rt _) (fun hc3 => ?_) (fun hc3 => ?_)
  · have hh := ha1 hc3
    refine am_ldc (z := -1000000) q1544 (by decide) dX3_barredBy_36 ?_
    exact am_iret rfl dX3_barredBy_38 (Nat.le_refl 0) (Nat.le_refl 0) hh
  · have hh := hb2 hc3
    refine am_iload_n dX3_barredBy_10 rfl 2 rfl ?_
    refine am_iload_n dX3_barredBy_11 rfl 3 rfl ?_
    refine am_ishr dX3_barredBy_12 ?_
    refine am_iconst dX3_barredBy_13 ?_
    refine am_iand dX3_barredBy_14 ?_
    refine am_iconst dX3_barredBy_15 ?_
    obtain ⟨ha4, hb5⟩ := hh
    refine am_icmp_ne (tgt := 30) dX3_barredBy_16 (by decide) (am_rt _) (⟨by decide, by decide⟩) (fun hc6 => ?_) (fun hc6 => ?_)
    · have hh := ha4 hc6
      refine am_iinc (n := 3) dX3_barredBy_30 rfl (by decide) rfl ?_
      refine am_goto (tgt := 2) dX3_barredBy_33 (by decide) ?_
      refine am_keep [1, 2, 3, 0] rfl ?_
      exact hh
    · have hh := hb5 hc6
      refine am_aload_n dX3_barredBy_19 rfl 0 rfl ?_
      refine am_iload_n dX3_barredBy_20 rfl 3 rfl ?_
      refine am_iload_n dX3_barredBy_21 rfl 1 rfl ?_
      refine am_rVz (n := 2) hh dX3_barredBy_22 (lw_V q1701 q1703 qs68 q96 q1704) rfl ⟨⟨by decide, by decide, by decide +kernel⟩, ⟨Nat.le_of_ble_eq_true rfl, Nat.le_of_ble_eq_true rfl⟩⟩ ⟨rfl, rfl⟩ rfl rfl (Nat.le_of_ble_eq_true rfl) ⟨(Nat.le_refl 0), (Nat.le_refl 0)⟩ (am_mrecv _) (fun b8 S7 hh => ?_)
      obtain ⟨ha9, hb10⟩ := hh
      refine am_ifB_eq (tgt := 30) dX3_barredBy_25 (by decide) (fun hc11 => ?_) (fun hc11 => ?_)
      · have hh := ha9 hc11
        refine am_iinc (n := 3) dX3_barredBy_30 rfl (by decide) rfl ?_
        refine am_goto (tgt := 2) dX3_barredBy_33 (by decide) ?_
        refine am_keep [1, 2, 3, 0] rfl ?_
        exact hh
      · have hh := hb10 hc11
        refine am_iload_n dX3_barredBy_28 rfl 3 rfl ?_
        exact am_iret rfl dX3_barredBy_29 (Nat.le_refl 0) (Nat.le_refl 0) hh
/-! TableArmsModel.fits(I)I -/
abbrev VX3_fits (l : Launch) (Q : Option am_W → am_M → Prop) (pc : Nat) (lv : List (Nat × am_W)) (st : List am_W) (S : am_M) : Prop := am_V am_mr l RX3 cX3_fits 4 (some .int) "fits" (am_rm 11 0 0) (am_E1 am_mr 0 0 Q) pc lv st S 0 0
abbrev kX3_fits (l : Launch) (as : List am_W) (S : am_M) (Q : Option am_W → am_M → Prop) : Prop := am_C am_mr l yX3_fits (ws_ yX3_fits cX3_fits 4 (some .int)) (am_rm 11 0 0) 0 0 as S Q
set_option maxHeartbeats 4000000 in
set_option maxRecDepth 100000 in
theorem bX3_fits {l : Launch} {Q : Option am_W → am_M → Prop} {S : am_M} (v1 : Int) (h1 : am_r v1)
    (hh : (((-1) ≤ v1) →
        VX3_fits l Q 17 [(0, am_R 0), (1, am_I v1), (2, am_I 0), (3, am_I 0)] [] (am_sv S 0 0)) ∧
      ((¬ (-1) ≤ v1) →
        Q (some (am_I (-1000001))) (am_sv S 0 0))) : kX3_fits l [am_R 0, am_I v1] S Q := by
  refine am_entry (lv := [(0, am_R 0), (1, am_I v1)]) rfl rfl rfl (fun _ => rfl) (fun _ => Nat.le_of_ble_eq_true rfl) ?_
  refine am_aload_n dX3_fits_0 rfl 0 rfl ?_
  refine am_iconst dX3_fits_1 ?_
  refine am_mput 0 (by decide) q1401 dX3_fits_2 ?_
  refine am_iload_n dX3_fits_5 rfl 1 rfl ?_
  refine am_iconst dX3_fits_6 ?_
  obtain ⟨ha1, hb2⟩ := hh
  refine am_icmp_ge (tgt := 13) dX3_fits_7 (by decide) h1 (⟨by decide, by decide⟩) (fun hc3 => ?_) (fun hc3 => ?_)
  · have hh := ha1 hc3
    refine am_iconst dX3_fits_13 ?_
    refine am_istore_n dX3_fits_14 rfl (by decide) rfl ?_
    refine am_iconst dX3_fits_15 ?_
    refine am_istore_n dX3_fits_16 rfl (by decide) rfl ?_
    refine am_keep [2, 3, 1, 0] rfl ?_
    exact hh
  · have hh := hb2 hc3
    refine am_ldc (z := -1000001) q1515 (by decide) dX3_fits_10 ?_
    exact am_iret rfl dX3_fits_12 (Nat.le_refl 0) (Nat.le_refl 0) hh
set_option maxHeartbeats 4000000 in
set_option maxRecDepth 100000 in
theorem bX3_fits_17 {l : Launch} {Q : Option am_W → am_M → Prop} {S : am_M} (v1 : Int) (h1 : am_r v1) (v2 : Int) (h2 : am_r v2) (v3 : Int) (h3 : am_r v3)
    (hh : ((96 ≤ v3) →
        ((¬ v1 = (-1)) →
          Q (some (am_I (-1000000))) S) ∧
        ((v1 = (-1)) →
          Q (some (am_I v2)) S)) ∧
      ((¬ 96 ≤ v3) →
        kX3_standing l [am_R 0] S (am_qi fun r8 S7 =>
          kX3_barredBy l [am_R 0, am_I v3, am_I r8] S7 (am_qi fun r11 S10 =>
            ((¬ r11 = (-1000000)) →
              VX3_fits l Q 17 [(0, am_R 0), (1, am_I v1), (2, am_I v2), (3, am_I (v3 + 1))] [] S10) ∧
            ((r11 = (-1000000)) →
              ((¬ v2 = v1) →
                VX3_fits l Q 17 [(0, am_R 0), (1, am_I v1), (2, am_I (v2 + 1)), (3, am_I (v3 + 1))] [] S10) ∧
              ((v2 = v1) →
                Q (some (am_I v3)) S10)))))) : VX3_fits l Q 17 [(0, am_R 0), (1, am_I v1), (2, am_I v2), (3, am_I v3)] [] S := by
  refine am_iload_n dX3_fits_17 rfl 3 rfl ?_
  refine am_bipush dX3_fits_18 (by decide) ?_
  obtain ⟨ha1, hb2⟩ := hh
  refine am_icmp_ge (tgt := 53) dX3_fits_20 (by decide) h3 (⟨by decide, by decide⟩) (fun hc3 => ?_) (fun hc3 => ?_)
  · have hh := ha1 hc3
    refine am_iload_n dX3_fits_53 rfl 1 rfl ?_
    refine am_iconst dX3_fits_54 ?_
    obtain ⟨ha4, hb5⟩ := hh
    refine am_icmp_ne (tgt := 62) dX3_fits_55 (by decide) h1 (⟨by decide, by decide⟩) (fun hc6 => ?_) (fun hc6 => ?_)
    · have hh := ha4 hc6
      refine am_ldc (z := -1000000) q1544 (by decide) dX3_fits_62 ?_
      exact am_iret rfl dX3_fits_64 (Nat.le_refl 0) (Nat.le_refl 0) hh
    · have hh := hb5 hc6
      refine am_iload_n dX3_fits_58 rfl 2 rfl ?_
      refine am_goto (tgt := 64) dX3_fits_59 (by decide) ?_
      exact am_iret rfl dX3_fits_64 (Nat.le_refl 0) (Nat.le_refl 0) hh
  · have hh := hb2 hc3
    refine am_aload_n dX3_fits_23 rfl 0 rfl ?_
    refine am_iload_n dX3_fits_24 rfl 3 rfl ?_
    refine am_aload_n dX3_fits_25 rfl 0 rfl ?_
    refine am_rVi (n := 0) hh dX3_fits_26 (lw_V q1693 q1695 qs66 q96 q1696) rfl ⟨⟨by decide, by decide, by decide +kernel⟩, ⟨Nat.le_of_ble_eq_true rfl, Nat.le_of_ble_eq_true rfl⟩⟩ ⟨rfl, rfl⟩ rfl rfl (Nat.le_of_ble_eq_true rfl) ⟨(Nat.le_refl 0), (Nat.le_refl 0)⟩ (am_mrecv _) (fun r8 S7 hr9 hh => ?_)
    refine am_rVi (n := 2) hh dX3_fits_29 (lw_V q1697 q1699 qs67 q96 q1700) rfl ⟨⟨by decide, by decide, by decide +kernel⟩, ⟨Nat.le_of_ble_eq_true rfl, Nat.le_of_ble_eq_true rfl⟩⟩ ⟨rfl, rfl⟩ rfl rfl (Nat.le_of_ble_eq_true rfl) ⟨(Nat.le_refl 0), (Nat.le_refl 0)⟩ (am_mrecv _) (fun r11 S10 hr12 hh => ?_)
    refine am_ldc (z := -1000000) q1544 (by decide) dX3_fits_32 ?_
    obtain ⟨ha13, hb14⟩ := hh
    refine am_icmp_ne (tgt := 47) dX3_fits_34 (by decide) hr12 (⟨by decide, by decide⟩) (fun hc15 => ?_) (fun hc15 => ?_)
    · have hh := ha13 hc15
      refine am_iinc (n := 3) dX3_fits_47 rfl (by decide) rfl ?_
      refine am_goto (tgt := 17) dX3_fits_50 (by decide) ?_
      refine am_keep [1, 2, 3, 0] rfl ?_
      exact hh
    · have hh := hb14 hc15
      refine am_iload_n dX3_fits_37 rfl 2 rfl ?_
      refine am_iload_n dX3_fits_38 rfl 1 rfl ?_
      obtain ⟨ha16, hb17⟩ := hh
      refine am_icmp_ne (tgt := 44) dX3_fits_39 (by decide) h2 h1 (fun hc18 => ?_) (fun hc18 => ?_)
      · have hh := ha16 hc18
        refine am_iinc (n := 2) dX3_fits_44 rfl (by decide) rfl ?_
        refine am_iinc (n := 3) dX3_fits_47 rfl (by decide) rfl ?_
        refine am_goto (tgt := 17) dX3_fits_50 (by decide) ?_
        refine am_keep [2, 3, 1, 0] rfl ?_
        exact hh
      · have hh := hb17 hc18
        refine am_iload_n dX3_fits_42 rfl 3 rfl ?_
        exact am_iret rfl dX3_fits_43 (Nat.le_refl 0) (Nat.le_refl 0) hh
