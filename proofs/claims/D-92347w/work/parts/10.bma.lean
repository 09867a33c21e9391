/-! TableArmsModel.in(JJJ)Z -/
abbrev VX3_in (l : Launch) (Q : Option am_W → am_M → Prop) (pc : Nat) (lv : List (Nat × am_W)) (st : List am_W) (S : am_M) : Prop := am_V am_mr l RX3 cX3_in 6 (some .boolean) "in" (am_rm 1 0 0) (am_E1 am_mr 0 0 Q) pc lv st S 0 0
abbrev kX3_in (l : Launch) (as : List am_W) (S : am_M) (Q : Option am_W → am_M → Prop) : Prop := am_C am_mr l yX3_in (ws_ yX3_in cX3_in 6 (some .boolean)) (am_rm 1 0 0) 0 0 as S Q
set_option maxHeartbeats 4000000 in
set_option maxRecDepth 100000 in
theorem bX3_in {l : Launch} {Q : Option am_W → am_M → Prop} {S : am_M} (v0 : Int) (h0 : am_r64 v0) (v2 : Int) (h2 : am_r64 v2) (v4 : Int) (h4 : am_r64 v4)
    (hh : ((v0 < v2) →
        Q (some (am_I (am_b false))) S) ∧
      ((¬ v0 < v2) →
        ((v4 < v0) →
          Q (some (am_I (am_b false))) S) ∧
        ((¬ v4 < v0) →
          Q (some (am_I (am_b true))) S))) : kX3_in l [am_J v0, am_J v2, am_J v4] S Q := by
  refine am_entry (lv := [(0, am_J v0), (2, am_J v2), (4, am_J v4)]) rfl rfl rfl (fun _ => rfl) (fun _ => Nat.le_of_ble_eq_true rfl) ?_
  refine am_lload_n dX3_in_0 rfl 0 rfl ?_
  refine am_lload_n dX3_in_1 rfl 1 rfl ?_
  refine am_lcmp h0 h2 dX3_in_2 ?_
  obtain ⟨ha1, hb2⟩ := hh
  refine am_cmp_lt (tgt := 17) dX3_in_3 (by decide) (fun hc3 => ?_) (fun hc3 => ?_)
  · have hh := ha1 hc3
    refine am_iconst dX3_in_17 ?_
    exact am_zret (b := false) rfl dX3_in_18 (Nat.le_refl 0) (Nat.le_refl 0) hh
  · have hh := hb2 hc3
    refine am_lload_n dX3_in_6 rfl 0 rfl ?_
    refine am_lload dX3_in_7 2 rfl ?_
    refine am_lcmp h0 h4 dX3_in_9 ?_
    obtain ⟨ha4, hb5⟩ := hh
    refine am_cmp_gt (tgt := 17) dX3_in_10 (by decide) (fun hc6 => ?_) (fun hc6 => ?_)
    · have hh := ha4 hc6
      refine am_iconst dX3_in_17 ?_
      exact am_zret (b := false) rfl dX3_in_18 (Nat.le_refl 0) (Nat.le_refl 0) hh
    · have hh := hb5 hc6
      refine am_iconst dX3_in_13 ?_
      refine am_goto (tgt := 18) dX3_in_14 (by decide) ?_
      exact am_zret (b := true) rfl dX3_in_18 (Nat.le_refl 0) (Nat.le_refl 0) hh
/-! TableArmsModel.isOrder(I)Z -/
abbrev VX3_isOrder (l : Launch) (Q : Option am_W → am_M → Prop) (pc : Nat) (lv : List (Nat × am_W)) (st : List am_W) (S : am_M) : Prop := am_V am_mr l RX3 cX3_isOrder 1 (some .boolean) "isOrder" (am_rm 2 0 0) (am_E1 am_mr 0 0 Q) pc lv st S 0 0
abbrev kX3_isOrder (l : Launch) (as : List am_W) (S : am_M) (Q : Option am_W → am_M → Prop) : Prop := am_C am_mr l yX3_isOrder (ws_ yX3_isOrder cX3_isOrder 1 (some .boolean)) (am_rm 2 0 0) 0 0 as S Q
set_option maxHeartbeats 4000000 in
set_option maxRecDepth 100000 in
theorem bX3_isOrder {l : Launch} {Q : Option am_W → am_M → Prop} {S : am_M} (v0 : Int) (h0 : am_r v0)
    (hh : kX3_in l [am_J v0, am_J 0, am_J 95] S (am_qz fun b2 S1 =>
        Q (some (am_I (am_b b2))) S1)) : kX3_isOrder l [am_I v0] S Q := by
  refine am_entry (lv := [(0, am_I v0)]) rfl rfl rfl (fun _ => rfl) (fun _ => Nat.le_of_ble_eq_true rfl) ?_
  refine am_iload_n dX3_isOrder_0 rfl 0 rfl ?_
  refine am_i2l_ h0 dX3_isOrder_1 ?_
  refine am_lconst (z := 0) dX3_isOrder_2 (by decide) ?_
  refine am_ldc2 (z := 95) q1511 (by decide) dX3_isOrder_3 ?_
  refine am_rSz (n := 3) hh dX3_isOrder_6 (lw_S q1512 q1513 q96 q1514) ⟨⟨by decide, by decide, by decide +kernel⟩, ⟨Nat.le_of_ble_eq_true rfl, Nat.le_of_ble_eq_true rfl⟩⟩ ⟨rfl, rfl⟩ rfl rfl (Nat.le_of_ble_eq_true rfl) ⟨(Nat.le_refl 0), (Nat.le_refl 0)⟩ (fun b2 S1 hh => ?_)
  exact am_zret (b := b2) rfl dX3_isOrder_9 (Nat.le_refl 0) (Nat.le_refl 0) hh
/-! TableArmsModel.copyTable(II)V -/
abbrev VX3_copyTable (l : Launch) (Q : Option am_W → am_M → Prop) (pc : Nat) (lv : List (Nat × am_W)) (st : List am_W) (S : am_M) : Prop := am_V am_mr l RX3 cX3_copyTable 4 none "copyTable" (am_rm 1 0 0) (am_E1 am_mr 0 0 Q) pc lv st S 0 0
abbrev kX3_copyTable (l : Launch) (as : List am_W) (S : am_M) (Q : Option am_W → am_M → Prop) : Prop := am_C am_mr l yX3_copyTable (ws_ yX3_copyTable cX3_copyTable 4 none) (am_rm 1 0 0) 0 0 as S Q
set_option maxHeartbeats 4000000 in
set_option maxRecDepth 100000 in
theorem bX3_copyTable {l : Launch} {Q : Option am_W → am_M → Prop} {S : am_M} (v1 : Int) (h1 : am_r v1) (v2 : Int) (h2 : am_r v2)
    (hh : VX3_copyTable l Q 2 [(0, am_R 0), (1, am_I v1), (2, am_I v2), (3, am_I 0)] [] S) : kX3_copyTable l [am_R 0, am_I v1, am_I v2] S Q := by
  refine am_entry (lv := [(0, am_R 0), (1, am_I v1), (2, am_I v2)]) rfl rfl rfl (fun _ => rfl) (fun _ => Nat.le_of_ble_eq_true rfl) ?_
  refine am_iconst dX3_copyTable_0 ?_
  refine am_istore_n dX3_copyTable_1 rfl (by decide) rfl ?_
  refine am_keep [1, 2, 3, 0] rfl ?_
  exact hh
set_option maxHeartbeats 4000000 in
set_option maxRecDepth 100000 in
theorem bX3_copyTable_2 {l : Launch} {Q : Option am_W → am_M → Prop} {S : am_M} (v1 : Int) (h1 : am_r v1) (v2 : Int) (h2 : am_r v2) (v3 : Int) (h3 : am_r v3)
    (hh : ((62 ≤ v3) →
        Q none S) ∧
      ((¬ 62 ≤ v3) →
        (0 ≤ ((62 * v1) + v3) ∧ ((62 * v1) + v3) < 6696) ∧
        (0 ≤ ((62 * v2) + v3) ∧ ((62 * v2) + v3) < 6696) ∧
        VX3_copyTable l Q 2 [(0, am_R 0), (1, am_I v1), (2, am_I v2), (3, am_I (v3 + 1))] [] (am_sa S 0 ((62 * v2) + v3) ((S.2 0 ((62 * v1) + v3).toNat).toInt)))) : VX3_copyTable l Q 2 [(0, am_R 0), (1, am_I v1), (2, am_I v2), (3, am_I v3)] [] S := by
  refine am_iload_n dX3_copyTable_2 rfl 3 rfl ?_
  refine am_bipush dX3_copyTable_3 (by decide) ?_
  obtain ⟨ha1, hb2⟩ := hh
  refine am_icmp_ge (tgt := 36) dX3_copyTable_5 (by decide) h3 (⟨by decide, by decide⟩) (fun hc3 => ?_) (fun hc3 => ?_)
  · have hh := ha1 hc3
    exact am_vret rfl dX3_copyTable_36 (Nat.le_refl 0) (Nat.le_refl 0) hh
  · have hh := hb2 hc3
    refine am_aload_n dX3_copyTable_8 rfl 0 rfl ?_
    refine am_mgeta 0 (by decide) q1403 dX3_copyTable_9 ?_
    refine am_bipush dX3_copyTable_12 (by decide) ?_
    refine am_iload_n dX3_copyTable_14 rfl 2 rfl ?_
    refine am_imul dX3_copyTable_15 ?_
    refine am_iload_n dX3_copyTable_16 rfl 3 rfl ?_
    refine am_iadd dX3_copyTable_17 ?_
    refine am_aload_n dX3_copyTable_18 rfl 0 rfl ?_
    refine am_mgeta 0 (by decide) q1403 dX3_copyTable_19 ?_
    refine am_bipush dX3_copyTable_22 (by decide) ?_
    refine am_iload_n dX3_copyTable_24 rfl 1 rfl ?_
    refine am_imul dX3_copyTable_25 ?_
    refine am_iload_n dX3_copyTable_26 rfl 3 rfl ?_
    refine am_iadd dX3_copyTable_27 ?_
    obtain ⟨o4, hh⟩ := hh
    refine am_miald 0 (by decide) (by decide) (v := (S.2 0 ((62 * v1) + v3).toNat).toInt) rfl o4.1 o4.2 dX3_copyTable_28 ?_
    obtain ⟨o5, hh⟩ := hh
    refine am_miast 0 (by decide) (by decide) o5.1 o5.2 dX3_copyTable_29 ?_
    refine am_iinc (n := 3) dX3_copyTable_30 rfl (by decide) rfl ?_
    refine am_goto (tgt := 2) dX3_copyTable_33 (by decide) ?_
    refine am_keep [1, 2, 3, 0] rfl ?_
    exact hh
/-! TableArmsModel.boxOf(II)I -/
abbrev VX3_boxOf (l : Launch) (Q : Option am_W → am_M → Prop) (pc : Nat) (lv : List (Nat × am_W)) (st : List am_W) (S : am_M) : Prop := am_V am_mr l RX3 cX3_boxOf 3 (some .int) "boxOf" (am_rm 1 0 0) (am_E1 am_mr 0 0 Q) pc lv st S 0 0
abbrev kX3_boxOf (l : Launch) (as : List am_W) (S : am_M) (Q : Option am_W → am_M → Prop) : Prop := am_C am_mr l yX3_boxOf (ws_ yX3_boxOf cX3_boxOf 3 (some .int)) (am_rm 1 0 0) 0 0 as S Q
set_option maxHeartbeats 4000000 in
set_option maxRecDepth 100000 in
theorem bX3_boxOf {l : Launch} {Q : Option am_W → am_M → Prop} {S : am_M} (v1 : Int) (h1 : am_r v1) (v2 : Int) (h2 : am_r v2)
    (hh : (0 ≤ (((62 * v1) + 56) + v2) ∧ (((62 * v1) + 56) + v2) < 6696) ∧
      Q (some (am_I (S.2 0 (((62 * v1) + 56) + v2).toNat).toInt)) S) : kX3_boxOf l [am_R 0, am_I v1, am_I v2] S Q := by
  refine am_entry (lv := [(0, am_R 0), (1, am_I v1), (2, am_I v2)]) rfl rfl rfl (fun _ => rfl) (fun _ => Nat.le_of_ble_eq_true rfl) ?_
  refine am_aload_n dX3_boxOf_0 rfl 0 rfl ?_
  refine am_mgeta 0 (by decide) q1403 dX3_boxOf_1 ?_
  refine am_bipush dX3_boxOf_4 (by decide) ?_
  refine am_iload_n dX3_boxOf_6 rfl 1 rfl ?_
  refine am_imul dX3_boxOf_7 ?_
  refine am_bipush dX3_boxOf_8 (by decide) ?_
  refine am_iadd dX3_boxOf_10 ?_
  refine am_iload_n dX3_boxOf_11 rfl 2 rfl ?_
  refine am_iadd dX3_boxOf_12 ?_
  obtain ⟨o1, hh⟩ := hh
  refine am_miald 0 (by decide) (by decide) (v := (S.2 0 (((62 * v1) + 56) + v2).toNat).toInt) rfl o1.1 o1.2 dX3_boxOf_13 ?_
  exact am_iret rfl dX3_boxOf_14 (Nat.le_refl 0) (Nat.le_refl 0) hh
/-! TableArmsModel.sizeOf(II)I -/
abbrev VX3_sizeOf (l : Launch) (Q : Option am_W → am_M → Prop) (pc : Nat) (lv : List (Nat × am_W)) (st : List am_W) (S : am_M) : Prop := am_V am_mr l RX3 cX3_sizeOf 3 (some .int) "sizeOf" (am_rm 1 0 0) (am_E1 am_mr 0 0 Q) pc lv st S 0 0
abbrev kX3_sizeOf (l : Launch) (as : List am_W) (S : am_M) (Q : Option am_W → am_M → Prop) : Prop := am_C am_mr l yX3_sizeOf (ws_ yX3_sizeOf cX3_sizeOf 3 (some .int)) (am_rm 1 0 0) 0 0 as S Q
set_option maxHeartbeats 4000000 in
set_option maxRecDepth 100000 in
theorem bX3_sizeOf {l : Launch} {Q : Option am_W → am_M → Prop} {S : am_M} (v1 : Int) (h1 : am_r v1) (v2 : Int) (h2 : am_r v2)
    (hh : (0 ≤ ((62 * v1) + (7 * v2)) ∧ ((62 * v1) + (7 * v2)) < 6696) ∧
      Q (some (am_I (S.2 0 ((62 * v1) + (7 * v2)).toNat).toInt)) S) : kX3_sizeOf l [am_R 0, am_I v1, am_I v2] S Q := by
  refine am_entry (lv := [(0, am_R 0), (1, am_I v1), (2, am_I v2)]) rfl rfl rfl (fun _ => rfl) (fun _ => Nat.le_of_ble_eq_true rfl) ?_
  refine am_aload_n dX3_sizeOf_0 rfl 0 rfl ?_
  refine am_mgeta 0 (by decide) q1403 dX3_sizeOf_1 ?_
  refine am_bipush dX3_sizeOf_4 (by decide) ?_
  refine am_iload_n dX3_sizeOf_6 rfl 1 rfl ?_
  refine am_imul dX3_sizeOf_7 ?_
  refine am_bipush dX3_sizeOf_8 (by decide) ?_
  refine am_iload_n dX3_sizeOf_10 rfl 2 rfl ?_
  refine am_imul dX3_sizeOf_11 ?_
  refine am_iadd dX3_sizeOf_12 ?_
  obtain ⟨o1, hh⟩ := hh
  refine am_miald 0 (by decide) (by decide) (v := (S.2 0 ((62 * v1) + (7 * v2)).toNat).toInt) rfl o1.1 o1.2 dX3_sizeOf_13 ?_
  exact am_iret rfl dX3_sizeOf_14 (Nat.le_refl 0) (Nat.le_refl 0) hh
/-! TableArmsModel.thingAt(III)I -/
abbrev VX3_thingAt (l : Launch) (Q : Option am_W → am_M → Prop) (pc : Nat) (lv : List (Nat × am_W)) (st : List am_W) (S : am_M) : Prop := am_V am_mr l RX3 cX3_thingAt 4 (some .int) "thingAt" (am_rm 1 0 0) (am_E1 am_mr 0 0 Q) pc lv st S 0 0
abbrev kX3_thingAt (l : Launch) (as : List am_W) (S : am_M) (Q : Option am_W → am_M → Prop) : Prop := am_C am_mr l yX3_thingAt (ws_ yX3_thingAt cX3_thingAt 4 (some .int)) (am_rm 1 0 0) 0 0 as S Q
set_option maxHeartbeats 4000000 in
set_option maxRecDepth 100000 in
theorem bX3_thingAt {l : Launch} {Q : Option am_W → am_M → Prop} {S : am_M} (v1 : Int) (h1 : am_r v1) (v2 : Int) (h2 : am_r v2) (v3 : Int) (h3 : am_r v3)
    (hh : (0 ≤ ((((62 * v1) + (7 * v2)) + 1) + v3) ∧ ((((62 * v1) + (7 * v2)) + 1) + v3) < 6696) ∧
      Q (some (am_I (S.2 0 ((((62 * v1) + (7 * v2)) + 1) + v3).toNat).toInt)) S) : kX3_thingAt l [am_R 0, am_I v1, am_I v2, am_I v3] S Q := by
  refine am_entry (lv := [(0, am_R 0), (1, am_I v1), (2, am_I v2), (3, am_I v3)]) rfl rfl rfl (fun _ => rfl) (fun _ => Nat.le_of_ble_eq_true rfl) ?_
  refine am_aload_n dX3_thingAt_0 rfl 0 rfl ?_
  refine am_mgeta 0 (by decide) q1403 dX3_thingAt_1 ?_
  refine am_bipush dX3_thingAt_4 (by decide) ?_
  refine am_iload_n dX3_thingAt_6 rfl 1 rfl ?_
  refine am_imul dX3_thingAt_7 ?_
  refine am_bipush dX3_thingAt_8 (by decide) ?_
  refine am_iload_n dX3_thingAt_10 rfl 2 rfl ?_
  refine am_imul dX3_thingAt_11 ?_
  refine am_iadd dX3_thingAt_12 ?_
  refine am_iconst dX3_thingAt_13 ?_
  refine am_iadd dX3_thingAt_14 ?_
  refine am_iload_n dX3_thingAt_15 rfl 3 rfl ?_
  refine am_iadd dX3_thingAt_16 ?_
  obtain ⟨o1, hh⟩ := hh
  refine am_miald 0 (by decide) (by decide) (v := (S.2 0 ((((62 * v1) + (7 * v2)) + 1) + v3).toNat).toInt) rfl o1.1 o1.2 dX3_thingAt_17 ?_
  exact am_iret rfl dX3_thingAt_18 (Nat.le_refl 0) (Nat.le_refl 0) hh
/-! TableArmsModel.cellOf(II)I -/
abbrev VX3_cellOf (l : Launch) (Q : Option am_W → am_M → Prop) (pc : Nat) (lv : List (Nat × am_W)) (st : List am_W) (S : am_M) : Prop := am_V am_mr l RX3 cX3_cellOf 6 (some .int) "cellOf" (am_rm 2 0 0) (am_E1 am_mr 0 0 Q) pc lv st S 0 0
abbrev kX3_cellOf (l : Launch) (as : List am_W) (S : am_M) (Q : Option am_W → am_M → Prop) : Prop := am_C am_mr l yX3_cellOf (ws_ yX3_cellOf cX3_cellOf 6 (some .int)) (am_rm 2 0 0) 0 0 as S Q
set_option maxHeartbeats 4000000 in
set_option maxRecDepth 100000 in
theorem bX3_cellOf {l : Launch} {Q : Option am_W → am_M → Prop} {S : am_M} (v1 : Int) (h1 : am_r v1) (v2 : Int) (h2 : am_r v2)
    (hh : kX3_boxOf l [am_R 0, am_I v1, am_I v2] S (am_qi fun r2 S1 =>
        ((r2 < 0) →
          VX3_cellOf l Q 23 [(0, am_R 0), (1, am_I v1), (3, am_I v2), (4, am_I 0)] [] S1) ∧
        ((¬ r2 < 0) →
          kX3_boxOf l [am_R 0, am_I v1, am_I v2] S1 (am_qi fun r8 S7 =>
            VX3_cellOf l Q 23 [(0, am_R 0), (1, am_I v1), (3, am_I r8), (4, am_I 0)] [] S7)))) : kX3_cellOf l [am_R 0, am_I v1, am_I v2] S Q := by
  refine am_entry (lv := [(0, am_R 0), (1, am_I v1), (2, am_I v2)]) rfl rfl rfl (fun _ => rfl) (fun _ => Nat.le_of_ble_eq_true rfl) ?_
  refine am_aload_n dX3_cellOf_0 rfl 0 rfl ?_
  refine am_iload_n dX3_cellOf_1 rfl 1 rfl ?_
  refine am_iload_n dX3_cellOf_2 rfl 2 rfl ?_
  refine am_rVi (n := 2) hh dX3_cellOf_3 (lw_V q1528 q1530 qs43 q96 q1531) rfl ⟨⟨by decide, by decide, by decide +kernel⟩, ⟨Nat.le_of_ble_eq_true rfl, Nat.le_of_ble_eq_true rfl⟩⟩ ⟨rfl, rfl⟩ rfl rfl (Nat.le_of_ble_eq_true rfl) ⟨(Nat.le_refl 0), (Nat.le_refl 0)⟩ (am_mrecv _) (fun r2 S1 hr3 hh => ?_)
  obtain ⟨ha4, hb5⟩ := hh
  refine am_if_lt (tgt := 18) dX3_cellOf_6 (by decide) hr3 (fun hc6 => ?_) (fun hc6 => ?_)
  · have hh := ha4 hc6
    refine am_iload_n dX3_cellOf_18 rfl 2 rfl ?_
    refine am_istore_n dX3_cellOf_19 rfl (by decide) rfl ?_
    refine am_iconst dX3_cellOf_20 ?_
    refine am_istore dX3_cellOf_21 (by decide) rfl ?_
    refine am_keep [2, 3, 1, 0] rfl ?_
    exact hh
  · have hh := hb5 hc6
    refine am_aload_n dX3_cellOf_9 rfl 0 rfl ?_
    refine am_iload_n dX3_cellOf_10 rfl 1 rfl ?_
    refine am_iload_n dX3_cellOf_11 rfl 2 rfl ?_
    refine am_rVi (n := 2) hh dX3_cellOf_12 (lw_V q1528 q1530 qs43 q96 q1531) rfl ⟨⟨by decide, by decide, by decide +kernel⟩, ⟨Nat.le_of_ble_eq_true rfl, Nat.le_of_ble_eq_true rfl⟩⟩ ⟨rfl, rfl⟩ rfl rfl (Nat.le_of_ble_eq_true rfl) ⟨(Nat.le_refl 0), (Nat.le_refl 0)⟩ (am_mrecv _) (fun r8 S7 hr9 hh => ?_)
    refine am_goto (tgt := 19) dX3_cellOf_15 (by decide) ?_
    refine am_istore_n dX3_cellOf_19 rfl (by decide) rfl ?_
    refine am_iconst dX3_cellOf_20 ?_
    refine am_istore dX3_cellOf_21 (by decide) rfl ?_
    refine am_keep [2, 3, 1, 0] rfl ?_
    exact hh
set_option maxHeartbeats 4000000 in
set_option maxRecDepth 100000 in
theorem bX3_cellOf_23 {l : Launch} {Q : Option am_W → am_M → Prop} {S : am_M} (v1 : Int) (h1 : am_r v1) (v3 : Int) (h3 : am_r v3) (v4 : Int) (h4 : am_r v4)
    (hh : ((8 ≤ v4) →
        Q (some (am_I (-1000000))) S) ∧
      ((¬ 8 ≤ v4) →
        VX3_cellOf l Q 33 [(0, am_R 0), (1, am_I v1), (3, am_I v3), (4, am_I v4), (5, am_I 0)] [] S)) : VX3_cellOf l Q 23 [(0, am_R 0), (1, am_I v1), (3, am_I v3), (4, am_I v4)] [] S := by
  refine am_iload dX3_cellOf_23 3 rfl ?_
  refine am_bipush dX3_cellOf_25 (by decide) ?_
  obtain ⟨ha1, hb2⟩ := hh
  refine am_icmp_ge (tgt := 73) dX3_cellOf_27 (by decide) h4 (⟨by decide, by decide⟩) (fun hc3 => ?_) (fun hc3 => ?_)
  · have hh := ha1 hc3
    refine am_ldc (z := -1000000) q1544 (by decide) dX3_cellOf_73 ?_
    exact am_iret rfl dX3_cellOf_75 (Nat.le_refl 0) (Nat.le_refl 0) hh
  · have hh := hb2 hc3
    refine am_iconst dX3_cellOf_30 ?_
    refine am_istore dX3_cellOf_31 (by decide) rfl ?_
    refine am_keep [1, 2, 3, 4, 0] rfl ?_
    exact hh
set_option maxHeartbeats 4000000 in
set_option maxRecDepth 100000 in
theorem bX3_cellOf_33 {l : Launch} {Q : Option am_W → am_M → Prop} {S : am_M} (v1 : Int) (h1 : am_r v1) (v3 : Int) (h3 : am_r v3) (v4 : Int) (h4 : am_r v4) (v5 : Int) (h5 : am_r v5)
    (hh : kX3_sizeOf l [am_R 0, am_I v1, am_I v4] S (am_qi fun r2 S1 =>
        ((r2 ≤ v5) →
          VX3_cellOf l Q 23 [(0, am_R 0), (1, am_I v1), (3, am_I v3), (4, am_I (v4 + 1))] [] S1) ∧
        ((¬ r2 ≤ v5) →
          kX3_thingAt l [am_R 0, am_I v1, am_I v4, am_I v5] S1 (am_qi fun r8 S7 =>
            ((¬ r8 = v3) →
              VX3_cellOf l Q 33 [(0, am_R 0), (1, am_I v1), (3, am_I v3), (4, am_I v4), (5, am_I (v5 + 1))] [] S7) ∧
            ((r8 = v3) →
              Q (some (am_I v4)) S7))))) : VX3_cellOf l Q 33 [(0, am_R 0), (1, am_I v1), (3, am_I v3), (4, am_I v4), (5, am_I v5)] [] S := by
  refine am_iload dX3_cellOf_33 4 rfl ?_
  refine am_aload_n dX3_cellOf_35 rfl 0 rfl ?_
  refine am_iload_n dX3_cellOf_36 rfl 1 rfl ?_
  refine am_iload dX3_cellOf_37 3 rfl ?_
  refine am_rVi (n := 2) hh dX3_cellOf_39 (lw_V q1536 q1538 qs45 q96 q1539) rfl ⟨⟨by decide, by decide, by decide +kernel⟩, ⟨Nat.le_of_ble_eq_true rfl, Nat.le_of_ble_eq_true rfl⟩⟩ ⟨rfl, rfl⟩ rfl rfl (Nat.le_of_ble_eq_true rfl) ⟨(Nat.le_refl 0), (Nat.le_refl 0)⟩ (am_mrecv _) (fun r2 S1 hr3 hh => ?_)
  obtain ⟨ha4, hb5⟩ := hh
  refine am_icmp_ge (tgt := 67) dX3_cellOf_42 (by decide) h5 hr3 (fun hc6 => ?_) (fun hc6 => ?_)
  · have hh := ha4 hc6
    refine am_iinc (n := 3) dX3_cellOf_67 rfl (by decide) rfl ?_
    refine am_goto (tgt := 23) dX3_cellOf_70 (by decide) ?_
    refine am_keep [1, 2, 3, 0] rfl ?_
    exact hh
  · have hh := hb5 hc6
    refine am_aload_n dX3_cellOf_45 rfl 0 rfl ?_
    refine am_iload_n dX3_cellOf_46 rfl 1 rfl ?_
    refine am_iload dX3_cellOf_47 3 rfl ?_
    refine am_iload dX3_cellOf_49 4 rfl ?_
    refine am_rVi (n := 3) hh dX3_cellOf_51 (lw_V q1540 q1542 qs46 q96 q1543) rfl ⟨⟨by decide, by decide, by decide +kernel⟩, ⟨Nat.le_of_ble_eq_true rfl, Nat.le_of_ble_eq_true rfl⟩⟩ ⟨rfl, rfl⟩ rfl rfl (Nat.le_of_ble_eq_true rfl) ⟨(Nat.le_refl 0), (Nat.le_refl 0)⟩ (am_mrecv _) (fun r8 S7 hr9 hh => ?_)
    refine am_iload_n dX3_cellOf_54 rfl 2 rfl ?_
    obtain ⟨ha10, hb11⟩ := hh
    refine am_icmp_ne (tgt := 61) dX3_cellOf_55 (by decide) hr9 h3 (fun hc12 => ?_) (fun hc12 => ?_)
    · have hh := ha10 hc12
      refine am_iinc (n := 4) dX3_cellOf_61 rfl (by decide) rfl ?_
      refine am_goto (tgt := 33) dX3_cellOf_64 (by decide) ?_
      refine am_keep [1, 2, 3, 4, 0] rfl ?_
      exact hh
    · have hh := hb11 hc12
      refine am_iload dX3_cellOf_58 3 rfl ?_
      exact am_iret rfl dX3_cellOf_60 (Nat.le_refl 0) (Nat.le_refl 0) hh
/-! TableArmsModel.below(II)I -/
abbrev VX3_below (l : Launch) (Q : Option am_W → am_M → Prop) (pc : Nat) (lv : List (Nat × am_W)) (st : List am_W) (S : am_M) : Prop := am_V am_mr l RX3 cX3_below 5 (some .int) "below" (am_rm 3 0 0) (am_E1 am_mr 0 0 Q) pc lv st S 0 0
abbrev kX3_below (l : Launch) (as : List am_W) (S : am_M) (Q : Option am_W → am_M → Prop) : Prop := am_C am_mr l yX3_below (ws_ yX3_below cX3_below 5 (some .int)) (am_rm 3 0 0) 0 0 as S Q
set_option maxHeartbeats 4000000 in
set_option maxRecDepth 100000 in
theorem bX3_below {l : Launch} {Q : Option am_W → am_M → Prop} {S : am_M} (v1 : Int) (h1 : am_r v1) (v2 : Int) (h2 : am_r v2)
    (hh : kX3_cellOf l [am_R 0, am_I v1, am_I v2] S (am_qi fun r2 S1 =>
        VX3_below l Q 10 [(0, am_R 0), (1, am_I v1), (2, am_I v2), (3, am_I r2), (4, am_I 0)] [] S1)) : kX3_below l [am_R 0, am_I v1, am_I v2] S Q := by
  refine am_entry (lv := [(0, am_R 0), (1, am_I v1), (2, am_I v2)]) rfl rfl rfl (fun _ => rfl) (fun _ => Nat.le_of_ble_eq_true rfl) ?_
  refine am_aload_n dX3_below_0 rfl 0 rfl ?_
  refine am_iload_n dX3_below_1 rfl 1 rfl ?_
  refine am_iload_n dX3_below_2 rfl 2 rfl ?_
  refine am_rVi (n := 2) hh dX3_below_3 (lw_V q1532 q1534 qs44 q96 q1535) rfl ⟨⟨by decide, by decide, by decide +kernel⟩, ⟨Nat.le_of_ble_eq_true rfl, Nat.le_of_ble_eq_true rfl⟩⟩ ⟨rfl, rfl⟩ rfl rfl (Nat.le_of_ble_eq_true rfl) ⟨(Nat.le_refl 0), (Nat.le_refl 0)⟩ (am_mrecv _) (fun r2 S1 hr3 hh => ?_)
  refine am_istore_n dX3_below_6 rfl (by decide) rfl ?_
  refine am_iconst dX3_below_7 ?_
  refine am_istore dX3_below_8 (by decide) rfl ?_
  refine am_keep [2, 3, 4, 1, 0] rfl ?_
  exact hh
set_option maxHeartbeats 4000000 in
set_option maxRecDepth 100000 in
theorem bX3_below_10 {l : Launch} {Q : Option am_W → am_M → Prop} {S : am_M} (v1 : Int) (h1 : am_r v1) (v2 : Int) (h2 : am_r v2) (v3 : Int) (h3 : am_r v3) (v4 : Int) (h4 : am_r v4)
    (hh : kX3_thingAt l [am_R 0, am_I v1, am_I v3, am_I v4] S (am_qi fun r2 S1 =>
        ((r2 = v2) →
          Q (some (am_I v4)) S1) ∧
        ((¬ r2 = v2) →
          VX3_below l Q 10 [(0, am_R 0), (1, am_I v1), (2, am_I v2), (3, am_I v3), (4, am_I (v4 + 1))] [] S1))) : VX3_below l Q 10 [(0, am_R 0), (1, am_I v1), (2, am_I v2), (3, am_I v3), (4, am_I v4)] [] S := by
  refine am_aload_n dX3_below_10 rfl 0 rfl ?_
  refine am_iload_n dX3_below_11 rfl 1 rfl ?_
  refine am_iload_n dX3_below_12 rfl 3 rfl ?_
  refine am_iload dX3_below_13 4 rfl ?_
  refine am_rVi (n := 3) hh dX3_below_15 (lw_V q1540 q1542 qs46 q96 q1543) rfl ⟨⟨by decide, by decide, by decide +kernel⟩, ⟨Nat.le_of_ble_eq_true rfl, Nat.le_of_ble_eq_true rfl⟩⟩ ⟨rfl, rfl⟩ rfl rfl (Nat.le_of_ble_eq_true rfl) ⟨(Nat.le_refl 0), (Nat.le_refl 0)⟩ (am_mrecv _) (fun r2 S1 hr3 hh => ?_)
  refine am_iload_n dX3_below_18 rfl 2 rfl ?_
  obtain ⟨ha4, hb5⟩ := hh
  refine am_icmp_eq (tgt := 28) dX3_below_19 (by decide) hr3 h2 (fun hc6 => ?_) (fun hc6 => ?_)
  · have hh := ha4 hc6
    refine am_iload dX3_below_28 4 rfl ?_
    exact am_iret rfl dX3_below_30 (Nat.le_refl 0) (Nat.le_refl 0) hh
  · have hh := hb5 hc6
    refine am_iinc (n := 4) dX3_below_22 rfl (by decide) rfl ?_
    refine am_goto (tgt := 10) dX3_below_25 (by decide) ?_
    refine am_keep [1, 2, 3, 4, 0] rfl ?_
    exact hh
/-! TableArmsModel.isNeighbour(II)Z -/
abbrev VX3_isNeighbour (l : Launch) (Q : Option am_W → am_M → Prop) (pc : Nat) (lv : List (Nat × am_W)) (st : List am_W) (S : am_M) : Prop := am_V am_mr l RX3 cX3_isNeighbour 4 (some .boolean) "isNeighbour" (am_rm 1 0 0) (am_E1 am_mr 0 0 Q) pc lv st S 0 0
abbrev kX3_isNeighbour (l : Launch) (as : List am_W) (S : am_M) (Q : Option am_W → am_M → Prop) : Prop := am_C am_mr l yX3_isNeighbour (ws_ yX3_isNeighbour cX3_isNeighbour 4 (some .boolean)) (am_rm 1 0 0) 0 0 as S Q
set_option maxHeartbeats 4000000 in
set_option maxRecDepth 100000 in
theorem bX3_isNeighbour {l : Launch} {Q : Option am_W → am_M → Prop} {S : am_M} (v0 : Int) (h0 : am_r v0) (v1 : Int) (h1 : am_r v1)
    (hh : (0 ≤ v0) ∧
      (0 ≤ v1) ∧
      (am_r ((((v0 % 4) - (v1 % 4)) * ((v0 % 4) - (v1 % 4))) + (((v0 / 4) - (v1 / 4)) * ((v0 / 4) - (v1 / 4))))) ∧
      ((¬ ((((v0 % 4) - (v1 % 4)) * ((v0 % 4) - (v1 % 4))) + (((v0 / 4) - (v1 / 4)) * ((v0 / 4) - (v1 / 4)))) = 1) →
        Q (some (am_I (am_b false))) S) ∧
      ((((((v0 % 4) - (v1 % 4)) * ((v0 % 4) - (v1 % 4))) + (((v0 / 4) - (v1 / 4)) * ((v0 / 4) - (v1 / 4)))) = 1) →
        Q (some (am_I (am_b true))) S)) : kX3_isNeighbour l [am_I v0, am_I v1] S Q := by
  refine am_entry (lv := [(0, am_I v0), (1, am_I v1)]) rfl rfl rfl (fun _ => rfl) (fun _ => Nat.le_of_ble_eq_true rfl) ?_
  refine am_iload_n dX3_isNeighbour_0 rfl 0 rfl ?_
  refine am_iconst dX3_isNeighbour_1 ?_
  obtain ⟨o1, hh⟩ := hh
  refine am_irem dX3_isNeighbour_2 o1 (h0).2 (by decide) (by decide) ?_
  refine am_iload_n dX3_isNeighbour_3 rfl 1 rfl ?_
  refine am_iconst dX3_isNeighbour_4 ?_
  obtain ⟨o2, hh⟩ := hh
  refine am_irem dX3_isNeighbour_5 o2 (h1).2 (by decide) (by decide) ?_
  refine am_isub dX3_isNeighbour_6 ?_
  refine am_istore_n dX3_isNeighbour_7 rfl (by decide) rfl ?_
  refine am_iload_n dX3_isNeighbour_8 rfl 1 rfl ?_
  refine am_iconst dX3_isNeighbour_9 ?_
  refine am_idiv dX3_isNeighbour_10 o1 (h0).2 (by decide) (by decide) ?_
  refine am_iload_n dX3_isNeighbour_11 rfl 2 rfl ?_
  refine am_iconst dX3_isNeighbour_12 ?_
  refine am_idiv dX3_isNeighbour_13 o2 (h1).2 (by decide) (by decide) ?_
  refine am_isub dX3_isNeighbour_14 ?_
  refine am_istore_n dX3_isNeighbour_15 rfl (by decide) rfl ?_
  refine am_iload_n dX3_isNeighbour_16 rfl 1 rfl ?_
  refine am_iload_n dX3_isNeighbour_17 rfl 1 rfl ?_
  refine am_imul dX3_isNeighbour_18 ?_
  refine am_iload_n dX3_isNeighbour_19 rfl 0 rfl ?_
  refine am_iload_n dX3_isNeighbour_20 rfl 0 rfl ?_
  refine am_imul dX3_isNeighbour_21 ?_
  refine am_iadd dX3_isNeighbour_22 ?_
  refine am_iconst dX3_isNeighbour_23 ?_
  obtain ⟨o3, hh⟩ := hh
  obtain ⟨ha4, hb5⟩ := hh
  refine am_icmp_ne (tgt := 31) dX3_isNeighbour_24 (by decide) o3 (⟨by decide, by decide⟩) (fun hc6 => ?_) (fun hc6 => ?_)
  · have hh := ha4 hc6
    refine am_iconst dX3_isNeighbour_31 ?_
    exact am_zret (b := false) rfl dX3_isNeighbour_32 (Nat.le_refl 0) (Nat.le_refl 0) hh
  · have hh := hb5 hc6
    refine am_iconst dX3_isNeighbour_27 ?_
    refine am_goto (tgt := 32) dX3_isNeighbour_28 (by decide) ?_
    exact am_zret (b := true) rfl dX3_isNeighbour_32 (Nat.le_refl 0) (Nat.le_refl 0) hh
/-! TableArmsModel.isAsTold(IIII)Z -/
abbrev VX3_isAsTold (l : Launch) (Q : Option am_W → am_M → Prop) (pc : Nat) (lv : List (Nat × am_W)) (st : List am_W) (S : am_M) : Prop := am_V am_mr l RX3 cX3_isAsTold 10 (some .boolean) "isAsTold" (am_rm 4 0 0) (am_E1 am_mr 0 0 Q) pc lv st S 0 0
abbrev kX3_isAsTold (l : Launch) (as : List am_W) (S : am_M) (Q : Option am_W → am_M → Prop) : Prop := am_C am_mr l yX3_isAsTold (ws_ yX3_isAsTold cX3_isAsTold 10 (some .boolean)) (am_rm 4 0 0) 0 0 as S Q
set_option maxHeartbeats 4000000 in
set_option maxRecDepth 100000 in
theorem bX3_isAsTold {l : Launch} {Q : Option am_W → am_M → Prop} {S : am_M} (v1 : Int) (h1 : am_r v1) (v2 : Int) (h2 : am_r v2) (v3 : Int) (h3 : am_r v3) (v4 : Int) (h4 : am_r v4)
    (hh : ((¬ v3 = 1) →
        kX3_boxOf l [am_R 0, am_I v1, am_I v2] S (am_qi fun r5 S4 =>
          ((r5 < 0) →
            kX3_cellOf l [am_R 0, am_I v1, am_I v2] S4 (am_qi fun r11 S10 =>
              kX3_below l [am_R 0, am_I v1, am_I v2] S10 (am_qi fun r14 S13 =>
                ((¬ v3 = 0) →
                  VX3_isAsTold l Q 95 [(0, am_R 0), (1, am_I v1), (4, am_I v4), (5, am_I r11), (6, am_I r14), (7, am_I (am_b false)), (8, am_I 0)] [] S13) ∧
                ((v3 = 0) →
                  ((r14 ≤ 0) →
                    Q (some (am_I (am_b false))) S13) ∧
                  ((¬ r14 ≤ 0) →
                    kX3_thingAt l [am_R 0, am_I v1, am_I r11, am_I (r14 - 1)] S13 (am_qi fun r23 S22 =>
                      (0 ≤ r23 ∧ r23 < 6) ∧
                      ((¬ ((S22.2 1 r23.toNat).toInt) = v4) →
                        Q (some (am_I (am_b false))) S22) ∧
                      ((((S22.2 1 r23.toNat).toInt) = v4) →
                        Q (some (am_I (am_b true))) S22))))))) ∧
          ((¬ r5 < 0) →
            Q (some (am_I (am_b false))) S4))) ∧
      ((v3 = 1) →
        kX3_boxOf l [am_R 0, am_I v1, am_I v2] S (am_qi fun r30 S29 =>
          ((r30 < 0) →
            Q (some (am_I (am_b false))) S29) ∧
          ((¬ r30 < 0) →
            ((¬ v4 = 2) →
              Q (some (am_I (am_b false))) S29) ∧
            ((v4 = 2) →
              Q (some (am_I (am_b true))) S29))))) : kX3_isAsTold l [am_R 0, am_I v1, am_I v2, am_I v3, am_I v4] S Q := by
  refine am_entry (lv := [(0, am_R 0), (1, am_I v1), (2, am_I v2), (3, am_I v3), (4, am_I v4)]) rfl rfl rfl (fun _ => rfl) (fun _ => Nat.le_of_ble_eq_true rfl) ?_
  refine am_iload_n dX3_isAsTold_0 rfl 3 rfl ?_
  refine am_iconst dX3_isAsTold_1 ?_
  obtain ⟨ha1, hb2⟩ := hh
  refine am_icmp_ne (tgt := 26) dX3_isAsTold_2 (by decide) h3 (⟨by decide, by decide⟩) (fun hc3 => ?_) (fun hc3 => ?_)
  · have hh := ha1 hc3
    refine am_aload_n dX3_isAsTold_26 rfl 0 rfl ?_
    refine am_iload_n dX3_isAsTold_27 rfl 1 rfl ?_
    refine am_iload_n dX3_isAsTold_28 rfl 2 rfl ?_
    refine am_rVi (n := 2) hh dX3_isAsTold_29 (lw_V q1528 q1530 qs43 q96 q1531) rfl ⟨⟨by decide, by decide, by decide +kernel⟩, ⟨Nat.le_of_ble_eq_true rfl, Nat.le_of_ble_eq_true rfl⟩⟩ ⟨rfl, rfl⟩ rfl rfl (Nat.le_of_ble_eq_true rfl) ⟨(Nat.le_refl 0), (Nat.le_refl 0)⟩ (am_mrecv _) (fun r5 S4 hr6 hh => ?_)
    obtain ⟨ha7, hb8⟩ := hh
    refine am_if_lt (tgt := 37) dX3_isAsTold_32 (by decide) hr6 (fun hc9 => ?_) (fun hc9 => ?_)
    · have hh := ha7 hc9
      refine am_aload_n dX3_isAsTold_37 rfl 0 rfl ?_
      refine am_iload_n dX3_isAsTold_38 rfl 1 rfl ?_
      refine am_iload_n dX3_isAsTold_39 rfl 2 rfl ?_
      refine am_rVi (n := 2) hh dX3_isAsTold_40 (lw_V q1532 q1534 qs44 q96 q1535) rfl ⟨⟨by decide, by decide, by decide +kernel⟩, ⟨Nat.le_of_ble_eq_true rfl, Nat.le_of_ble_eq_true rfl⟩⟩ ⟨rfl, rfl⟩ rfl rfl (Nat.le_of_ble_eq_true rfl) ⟨(Nat.le_refl 0), (Nat.le_refl 0)⟩ (am_mrecv _) (fun r11 S10 hr12 hh => ?_)
      refine am_istore dX3_isAsTold_43 (by decide) rfl ?_
      refine am_aload_n dX3_isAsTold_45 rfl 1 rfl ?_
      refine am_iload_n dX3_isAsTold_46 rfl 2 rfl ?_
      refine am_iload_n dX3_isAsTold_47 rfl 3 rfl ?_
      refine am_rVi (n := 2) hh dX3_isAsTold_48 (lw_V q1545 q1547 qs47 q96 q1548) rfl ⟨⟨by decide, by decide, by decide +kernel⟩, ⟨Nat.le_of_ble_eq_true rfl, Nat.le_of_ble_eq_true rfl⟩⟩ ⟨rfl, rfl⟩ rfl rfl (Nat.le_of_ble_eq_true rfl) ⟨(Nat.le_refl 0), (Nat.le_refl 0)⟩ (am_mrecv _) (fun r14 S13 hr15 hh => ?_)
      refine am_istore dX3_isAsTold_51 (by decide) rfl ?_
      refine am_iload_n dX3_isAsTold_53 rfl 5 rfl ?_
      obtain ⟨ha16, hb17⟩ := hh
      refine am_if_ne (tgt := 89) dX3_isAsTold_54 (by decide) h3 (fun hc18 => ?_) (fun hc18 => ?_)
      · have hh := ha16 hc18
        refine am_iconst dX3_isAsTold_89 ?_
        refine am_istore dX3_isAsTold_90 (by decide) rfl ?_
        refine am_iconst dX3_isAsTold_92 ?_
        refine am_istore dX3_isAsTold_93 (by decide) rfl ?_
        refine am_keep [4, 5, 8, 3, 2, 1, 0] rfl ?_
        exact hh
      · have hh := hb17 hc18
        refine am_iload dX3_isAsTold_57 0 rfl ?_
        obtain ⟨ha19, hb20⟩ := hh
        refine am_if_le (tgt := 87) dX3_isAsTold_59 (by decide) hr15 (fun hc21 => ?_) (fun hc21 => ?_)
        · have hh := ha19 hc21
          refine am_iconst dX3_isAsTold_87 ?_
          exact am_zret (b := false) rfl dX3_isAsTold_88 (Nat.le_refl 0) (Nat.le_refl 0) hh
        · have hh := hb20 hc21
          refine am_aload_n dX3_isAsTold_62 rfl 2 rfl ?_
          refine am_mgeta 1 (by decide) q1405 dX3_isAsTold_63 ?_
          refine am_aload_n dX3_isAsTold_66 rfl 2 rfl ?_
          refine am_iload_n dX3_isAsTold_67 rfl 3 rfl ?_
          refine am_iload dX3_isAsTold_68 1 rfl ?_
          refine am_iload dX3_isAsTold_70 0 rfl ?_
          refine am_iconst dX3_isAsTold_72 ?_
          refine am_isub dX3_isAsTold_73 ?_
          refine am_rVi (n := 3) hh dX3_isAsTold_74 (lw_V q1540 q1542 qs46 q96 q1543) rfl ⟨⟨by decide, by decide, by decide +kernel⟩, ⟨Nat.le_of_ble_eq_true rfl, Nat.le_of_ble_eq_true rfl⟩⟩ ⟨rfl, rfl⟩ rfl rfl (Nat.le_of_ble_eq_true rfl) ⟨(Nat.le_refl 0), (Nat.le_refl 0)⟩ (am_mrecv _) (fun r23 S22 hr24 hh => ?_)
          obtain ⟨o25, hh⟩ := hh
          refine am_miald 1 (by decide) (by decide) (v := (S22.2 1 r23.toNat).toInt) rfl o25.1 o25.2 dX3_isAsTold_77 ?_
          refine am_iload dX3_isAsTold_78 6 rfl ?_
          obtain ⟨ha26, hb27⟩ := hh
          refine am_icmp_ne (tgt := 87) dX3_isAsTold_80 (by decide) (am_rt _) h4 (fun hc28 => ?_) (fun hc28 => ?_)
          · have hh := ha26 hc28
            refine am_iconst dX3_isAsTold_87 ?_
            exact am_zret (b := false) rfl dX3_isAsTold_88 (Nat.le_refl 0) (Nat.le_refl 0) hh
          · have hh := hb27 hc28
            refine am_iconst dX3_isAsTold_83 ?_
            refine am_goto (tgt := 88) dX3_isAsTold_84 (by decide) ?_
            exact am_zret (b := true) rfl dX3_isAsTold_88 (Nat.le_refl 0) (Nat.le_refl 0) hh
    · have hh := hb8 hc9
      refine am_iconst dX3_isAsTold_35 ?_
      exact am_zret (b := false) rfl dX3_isAsTold_36 (Nat.le_refl 0) (Nat.le_refl 0) hh
  · have hh := hb2 hc3
    refine am_aload_n dX3_isAsTold_5 rfl 0 rfl ?_
    refine am_iload_n dX3_isAsTold_6 rfl 1 rfl ?_
    refine am_iload_n dX3_isAsTold_7 rfl 2 rfl ?_
    refine am_rVi (n := 2) hh dX3_isAsTold_8 (lw_V q1528 q1530 qs43 q96 q1531) rfl ⟨⟨by decide, by decide, by decide +kernel⟩, ⟨Nat.le_of_ble_eq_true rfl, Nat.le_of_ble_eq_true rfl⟩⟩ ⟨rfl, rfl⟩ rfl rfl (Nat.le_of_ble_eq_true rfl) ⟨(Nat.le_refl 0), (Nat.le_refl 0)⟩ (am_mrecv _) (fun r30 S29 hr31 hh => ?_)
    obtain ⟨ha32, hb33⟩ := hh
    refine am_if_lt (tgt := 24) dX3_isAsTold_11 (by decide) hr31 (fun hc34 => ?_) (fun hc34 => ?_)
    · have hh := ha32 hc34
      refine am_iconst dX3_isAsTold_24 ?_
      exact am_zret (b := false) rfl dX3_isAsTold_25 (Nat.le_refl 0) (Nat.le_refl 0) hh
    · have hh := hb33 hc34
      refine am_iload dX3_isAsTold_14 4 rfl ?_
      refine am_iconst dX3_isAsTold_16 ?_
      obtain ⟨ha35, hb36⟩ := hh
      refine am_icmp_ne (tgt := 24) dX3_isAsTold_17 (by decide) h4 (⟨by decide, by decide⟩) (fun hc37 => ?_) (fun hc37 => ?_)
      · have hh := ha35 hc37
        refine am_iconst dX3_isAsTold_24 ?_
        exact am_zret (b := false) rfl dX3_isAsTold_25 (Nat.le_refl 0) (Nat.le_refl 0) hh
      · have hh := hb36 hc37
        refine am_iconst dX3_isAsTold_20 ?_
        refine am_goto (tgt := 25) dX3_isAsTold_21 (by decide) ?_
        exact am_zret (b := true) rfl dX3_isAsTold_25 (Nat.le_refl 0) (Nat.le_refl 0) hh
set_option maxHeartbeats 4000000 in
set_option maxRecDepth 100000 in
theorem bX3_isAsTold_95 {l : Launch} {Q : Option am_W → am_M → Prop} {S : am_M} (v1 : Int) (h1 : am_r v1) (v4 : Int) (h4 : am_r v4) (v5 : Int) (h5 : am_r v5) (v6 : Int) (h6 : am_r v6) (v7 : Bool) (v8 : Int) (h8 : am_r v8)
    (hh : ((8 ≤ v8) →
        Q (some (am_I (am_b v7))) S) ∧
      ((¬ 8 ≤ v8) →
        ((¬ v6 = 0) →
          Q (some (am_I (am_b v7))) S) ∧
        ((v6 = 0) →
          VX3_isAsTold l Q 110 [(0, am_R 0), (1, am_I v1), (4, am_I v4), (5, am_I v5), (6, am_I v6), (7, am_I (am_b v7)), (8, am_I v8), (9, am_I 0)] [] S))) : VX3_isAsTold l Q 95 [(0, am_R 0), (1, am_I v1), (4, am_I v4), (5, am_I v5), (6, am_I v6), (7, am_I (am_b v7)), (8, am_I v8)] [] S := by
  refine am_iload dX3_isAsTold_95 6 rfl ?_
  refine am_bipush dX3_isAsTold_97 (by decide) ?_
  obtain ⟨ha1, hb2⟩ := hh
  refine am_icmp_ge (tgt := 175) dX3_isAsTold_99 (by decide) h8 (⟨by decide, by decide⟩) (fun hc3 => ?_) (fun hc3 => ?_)
  · have hh := ha1 hc3
    refine am_iload dX3_isAsTold_175 5 rfl ?_
    exact am_zret (b := v7) rfl dX3_isAsTold_177 (Nat.le_refl 0) (Nat.le_refl 0) hh
  · have hh := hb2 hc3
    refine am_iload dX3_isAsTold_102 4 rfl ?_
    obtain ⟨ha4, hb5⟩ := hh
    refine am_if_ne (tgt := 175) dX3_isAsTold_104 (by decide) h6 (fun hc6 => ?_) (fun hc6 => ?_)
    · have hh := ha4 hc6
      refine am_iload dX3_isAsTold_175 5 rfl ?_
      exact am_zret (b := v7) rfl dX3_isAsTold_177 (Nat.le_refl 0) (Nat.le_refl 0) hh
    · have hh := hb5 hc6
      refine am_iconst dX3_isAsTold_107 ?_
      refine am_istore dX3_isAsTold_108 (by decide) rfl ?_
      refine am_keep [1, 2, 3, 4, 5, 6, 7, 0] rfl ?_
      exact hh
set_option maxHeartbeats 4000000 in
set_option maxRecDepth 100000 in
theorem bX3_isAsTold_110 {l : Launch} {Q : Option am_W → am_M → Prop} {S : am_M} (v1 : Int) (h1 : am_r v1) (v4 : Int) (h4 : am_r v4) (v5 : Int) (h5 : am_r v5) (v6 : Int) (h6 : am_r v6) (v7 : Bool) (v8 : Int) (h8 : am_r v8) (v9 : Int) (h9 : am_r v9)
    (hh : kX3_sizeOf l [am_R 0, am_I v1, am_I v8] S (am_qi fun r2 S1 =>
        ((r2 ≤ v9) →
          VX3_isAsTold l Q 95 [(0, am_R 0), (1, am_I v1), (4, am_I v4), (5, am_I v5), (6, am_I v6), (7, am_I (am_b v7)), (8, am_I (v8 + 1))] [] S1) ∧
        ((¬ r2 ≤ v9) →
          ((v7 = true) →
            VX3_isAsTold l Q 110 [(0, am_R 0), (1, am_I v1), (4, am_I v4), (5, am_I v5), (6, am_I v6), (7, am_I (am_b true)), (8, am_I v8), (9, am_I (v9 + 1))] [] S1) ∧
          ((v7 = false) →
            kX3_isNeighbour l [am_I v5, am_I v8] S1 (am_qz fun b11 S10 =>
              ((b11 = false) →
                VX3_isAsTold l Q 110 [(0, am_R 0), (1, am_I v1), (4, am_I v4), (5, am_I v5), (6, am_I v6), (7, am_I (am_b false)), (8, am_I v8), (9, am_I (v9 + 1))] [] S10) ∧
              ((b11 = true) →
                kX3_thingAt l [am_R 0, am_I v1, am_I v8, am_I v9] S10 (am_qi fun r16 S15 =>
                  (0 ≤ r16 ∧ r16 < 6) ∧
                  ((¬ ((S15.2 1 r16.toNat).toInt) = v4) →
                    VX3_isAsTold l Q 110 [(0, am_R 0), (1, am_I v1), (4, am_I v4), (5, am_I v5), (6, am_I v6), (7, am_I (am_b false)), (8, am_I v8), (9, am_I (v9 + 1))] [] S15) ∧
                  ((((S15.2 1 r16.toNat).toInt) = v4) →
                    VX3_isAsTold l Q 110 [(0, am_R 0), (1, am_I v1), (4, am_I v4), (5, am_I v5), (6, am_I v6), (7, am_I (am_b true)), (8, am_I v8), (9, am_I (v9 + 1))] [] S15)))))))) : VX3_isAsTold l Q 110 [(0, am_R 0), (1, am_I v1), (4, am_I v4), (5, am_I v5), (6, am_I v6), (7, am_I (am_b v7)), (8, am_I v8), (9, am_I v9)] [] S := by
  refine am_iload dX3_isAsTold_110 7 rfl ?_
  refine am_aload_n dX3_isAsTold_112 rfl 0 rfl ?_
  refine am_iload_n dX3_isAsTold_113 rfl 1 rfl ?_
  refine am_iload dX3_isAsTold_114 6 rfl ?_
  refine am_rVi (n := 2) hh dX3_isAsTold_116 (lw_V q1536 q1538 qs45 q96 q1539) rfl ⟨⟨by decide, by decide, by decide +kernel⟩, ⟨Nat.le_of_ble_eq_true rfl, Nat.le_of_ble_eq_true rfl⟩⟩ ⟨rfl, rfl⟩ rfl rfl (Nat.le_of_ble_eq_true rfl) ⟨(Nat.le_refl 0), (Nat.le_refl 0)⟩ (am_mrecv _) (fun r2 S1 hr3 hh => ?_)
  obtain ⟨ha4, hb5⟩ := hh
  refine am_icmp_ge (tgt := 169) dX3_isAsTold_119 (by decide) h9 hr3 (fun hc6 => ?_) (fun hc6 => ?_)
  · have hh := ha4 hc6
    refine am_iinc (n := 6) dX3_isAsTold_169 rfl (by decide) rfl ?_
    refine am_goto (tgt := 95) dX3_isAsTold_172 (by decide) ?_
    refine am_keep [1, 2, 3, 4, 5, 6, 0] rfl ?_
    exact hh
  · have hh := hb5 hc6
    refine am_iload dX3_isAsTold_122 5 rfl ?_
    obtain ⟨ha7, hb8⟩ := hh
    refine am_ifB_ne (tgt := 156) dX3_isAsTold_124 (by decide) (fun hc9 => ?_) (fun hc9 => ?_)
    · have hh := ha7 hc9
      refine am_iconst dX3_isAsTold_156 ?_
      refine am_goto (tgt := 161) dX3_isAsTold_157 (by decide) ?_
      refine am_istore dX3_isAsTold_161 (by decide) rfl ?_
      refine am_iinc (n := 7) dX3_isAsTold_163 rfl (by decide) rfl ?_
      refine am_goto (tgt := 110) dX3_isAsTold_166 (by decide) ?_
      refine am_keep [2, 3, 4, 5, 6, 1, 7, 0] rfl ?_
      exact hh
    · have hh := hb8 hc9
      refine am_iload dX3_isAsTold_127 3 rfl ?_
      refine am_iload dX3_isAsTold_129 6 rfl ?_
      refine am_rSz (n := 2) hh dX3_isAsTold_131 (lw_S q1549 q1550 q96 q1551) ⟨⟨by decide, by decide, by decide +kernel⟩, ⟨Nat.le_of_ble_eq_true rfl, Nat.le_of_ble_eq_true rfl⟩⟩ ⟨rfl, rfl⟩ rfl rfl (Nat.le_of_ble_eq_true rfl) ⟨(Nat.le_refl 0), (Nat.le_refl 0)⟩ (fun b11 S10 hh => ?_)
      obtain ⟨ha12, hb13⟩ := hh
      refine am_ifB_eq (tgt := 160) dX3_isAsTold_134 (by decide) (fun hc14 => ?_) (fun hc14 => ?_)
      · have hh := ha12 hc14
        refine am_iconst dX3_isAsTold_160 ?_
        refine am_istore dX3_isAsTold_161 (by decide) rfl ?_
        refine am_iinc (n := 7) dX3_isAsTold_163 rfl (by decide) rfl ?_
        refine am_goto (tgt := 110) dX3_isAsTold_166 (by decide) ?_
        refine am_keep [2, 3, 4, 5, 6, 1, 7, 0] rfl ?_
        exact hh
      · have hh := hb13 hc14
        refine am_aload_n dX3_isAsTold_137 rfl 0 rfl ?_
        refine am_mgeta 1 (by decide) q1405 dX3_isAsTold_138 ?_
        refine am_aload_n dX3_isAsTold_141 rfl 0 rfl ?_
        refine am_iload_n dX3_isAsTold_142 rfl 1 rfl ?_
        refine am_iload dX3_isAsTold_143 6 rfl ?_
        refine am_iload dX3_isAsTold_145 7 rfl ?_
        refine am_rVi (n := 3) hh dX3_isAsTold_147 (lw_V q1540 q1542 qs46 q96 q1543) rfl ⟨⟨by decide, by decide, by decide +kernel⟩, ⟨Nat.le_of_ble_eq_true rfl, Nat.le_of_ble_eq_true rfl⟩⟩ ⟨rfl, rfl⟩ rfl rfl (Nat.le_of_ble_eq_true rfl) ⟨(Nat.le_refl 0), (Nat.le_refl 0)⟩ (am_mrecv _) (fun r16 S15 hr17 hh => ?_)
        obtain ⟨o18, hh⟩ := hh
        refine am_miald 1 (by decide) (by decide) (v := (S15.2 1 r16.toNat).toInt) rfl o18.1 o18.2 dX3_isAsTold_150 ?_
        refine am_iload dX3_isAsTold_151 2 rfl ?_
        obtain ⟨ha19, hb20⟩ := hh
        refine am_icmp_ne (tgt := 160) dX3_isAsTold_153 (by decide) (am_rt _) h4 (fun hc21 => ?_) (fun hc21 => ?_)
        · have hh := ha19 hc21
          refine am_iconst dX3_isAsTold_160 ?_
          refine am_istore dX3_isAsTold_161 (by decide) rfl ?_
          refine am_iinc (n := 7) dX3_isAsTold_163 rfl (by decide) rfl ?_
          refine am_goto (tgt := 110) dX3_isAsTold_166 (by decide) ?_
          refine am_keep [2, 3, 4, 5, 6, 1, 7, 0] rfl ?_
          exact hh
        · have hh := hb20 hc21
          refine am_iconst dX3_isAsTold_156 ?_
          refine am_goto (tgt := 161) dX3_isAsTold_157 (by decide) ?_
          refine am_istore dX3_isAsTold_161 (by decide) rfl ?_
          refine am_iinc (n := 7) dX3_isAsTold_163 rfl (by decide) rfl ?_
          refine am_goto (tgt := 110) dX3_isAsTold_166 (by decide) ?_
          refine am_keep [2, 3, 4, 5, 6, 1, 7, 0] rfl ?_
          exact hh
/-! TableArmsModel.isClear(II)Z -/
abbrev VX3_isClear (l : Launch) (Q : Option am_W → am_M → Prop) (pc : Nat) (lv : List (Nat × am_W)) (st : List am_W) (S : am_M) : Prop := am_V am_mr l RX3 cX3_isClear 4 (some .boolean) "isClear" (am_rm 3 0 0) (am_E1 am_mr 0 0 Q) pc lv st S 0 0
abbrev kX3_isClear (l : Launch) (as : List am_W) (S : am_M) (Q : Option am_W → am_M → Prop) : Prop := am_C am_mr l yX3_isClear (ws_ yX3_isClear cX3_isClear 4 (some .boolean)) (am_rm 3 0 0) 0 0 as S Q
set_option maxHeartbeats 4000000 in
set_option maxRecDepth 100000 in
theorem bX3_isClear {l : Launch} {Q : Option am_W → am_M → Prop} {S : am_M} (v1 : Int) (h1 : am_r v1) (v2 : Int) (h2 : am_r v2)
    (hh : kX3_cellOf l [am_R 0, am_I v1, am_I v2] S (am_qi fun r2 S1 =>
        kX3_boxOf l [am_R 0, am_I v1, am_I v2] S1 (am_qi fun r5 S4 =>
          ((0 ≤ r5) →
            Q (some (am_I (am_b false))) S4) ∧
          ((¬ 0 ≤ r5) →
            kX3_sizeOf l [am_R 0, am_I v1, am_I r2] S4 (am_qi fun r11 S10 =>
              kX3_thingAt l [am_R 0, am_I v1, am_I r2, am_I (r11 - 1)] S10 (am_qi fun r14 S13 =>
                ((¬ r14 = v2) →
                  Q (some (am_I (am_b false))) S13) ∧
                ((r14 = v2) →
                  Q (some (am_I (am_b true))) S13))))))) : kX3_isClear l [am_R 0, am_I v1, am_I v2] S Q := by
  refine am_entry (lv := [(0, am_R 0), (1, am_I v1), (2, am_I v2)]) rfl rfl rfl (fun _ => rfl) (fun _ => Nat.le_of_ble_eq_true rfl) ?_
  refine am_aload_n dX3_isClear_0 rfl 0 rfl ?_
  refine am_iload_n dX3_isClear_1 rfl 1 rfl ?_
  refine am_iload_n dX3_isClear_2 rfl 2 rfl ?_
  refine am_rVi (n := 2) hh dX3_isClear_3 (lw_V q1532 q1534 qs44 q96 q1535) rfl ⟨⟨by decide, by decide, by decide +kernel⟩, ⟨Nat.le_of_ble_eq_true rfl, Nat.le_of_ble_eq_true rfl⟩⟩ ⟨rfl, rfl⟩ rfl rfl (Nat.le_of_ble_eq_true rfl) ⟨(Nat.le_refl 0), (Nat.le_refl 0)⟩ (am_mrecv _) (fun r2 S1 hr3 hh => ?_)
  refine am_istore_n dX3_isClear_6 rfl (by decide) rfl ?_
  refine am_aload_n dX3_isClear_7 rfl 1 rfl ?_
  refine am_iload_n dX3_isClear_8 rfl 2 rfl ?_
  refine am_iload_n dX3_isClear_9 rfl 3 rfl ?_
  refine am_rVi (n := 2) hh dX3_isClear_10 (lw_V q1528 q1530 qs43 q96 q1531) rfl ⟨⟨by decide, by decide, by decide +kernel⟩, ⟨Nat.le_of_ble_eq_true rfl, Nat.le_of_ble_eq_true rfl⟩⟩ ⟨rfl, rfl⟩ rfl rfl (Nat.le_of_ble_eq_true rfl) ⟨(Nat.le_refl 0), (Nat.le_refl 0)⟩ (am_mrecv _) (fun r5 S4 hr6 hh => ?_)
  obtain ⟨ha7, hb8⟩ := hh
  refine am_if_ge (tgt := 38) dX3_isClear_13 (by decide) hr6 (fun hc9 => ?_) (fun hc9 => ?_)
  · have hh := ha7 hc9
    refine am_iconst dX3_isClear_38 ?_
    exact am_zret (b := false) rfl dX3_isClear_39 (Nat.le_refl 0) (Nat.le_refl 0) hh
  · have hh := hb8 hc9
    refine am_aload_n dX3_isClear_16 rfl 1 rfl ?_
    refine am_iload_n dX3_isClear_17 rfl 2 rfl ?_
    refine am_iload_n dX3_isClear_18 rfl 0 rfl ?_
    refine am_aload_n dX3_isClear_19 rfl 1 rfl ?_
    refine am_iload_n dX3_isClear_20 rfl 2 rfl ?_
    refine am_iload_n dX3_isClear_21 rfl 0 rfl ?_
    refine am_rVi (n := 2) hh dX3_isClear_22 (lw_V q1536 q1538 qs45 q96 q1539) rfl ⟨⟨by decide, by decide, by decide +kernel⟩, ⟨Nat.le_of_ble_eq_true rfl, Nat.le_of_ble_eq_true rfl⟩⟩ ⟨rfl, rfl⟩ rfl rfl (Nat.le_of_ble_eq_true rfl) ⟨(Nat.le_refl 0), (Nat.le_refl 0)⟩ (am_mrecv _) (fun r11 S10 hr12 hh => ?_)
    refine am_iconst dX3_isClear_25 ?_
    refine am_isub dX3_isClear_26 ?_
    refine am_rVi (n := 3) hh dX3_isClear_27 (lw_V q1540 q1542 qs46 q96 q1543) rfl ⟨⟨by decide, by decide, by decide +kernel⟩, ⟨Nat.le_of_ble_eq_true rfl, Nat.le_of_ble_eq_true rfl⟩⟩ ⟨rfl, rfl⟩ rfl rfl (Nat.le_of_ble_eq_true rfl) ⟨(Nat.le_refl 0), (Nat.le_refl 0)⟩ (am_mrecv _) (fun r14 S13 hr15 hh => ?_)
    refine am_iload_n dX3_isClear_30 rfl 3 rfl ?_
    obtain ⟨ha16, hb17⟩ := hh
    refine am_icmp_ne (tgt := 38) dX3_isClear_31 (by decide) hr15 h2 (fun hc18 => ?_) (fun hc18 => ?_)
    · have hh := ha16 hc18
      refine am_iconst dX3_isClear_38 ?_
      exact am_zret (b := false) rfl dX3_isClear_39 (Nat.le_refl 0) (Nat.le_refl 0) hh
    · have hh := hb17 hc18
      refine am_iconst dX3_isClear_34 ?_
      refine am_goto (tgt := 39) dX3_isClear_35 (by decide) ?_
      exact am_zret (b := true) rfl dX3_isClear_39 (Nat.le_refl 0) (Nat.le_refl 0) hh
/-! TableArmsModel.insideOf(II)I -/
abbrev VX3_insideOf (l : Launch) (Q : Option am_W → am_M → Prop) (pc : Nat) (lv : List (Nat × am_W)) (st : List am_W) (S : am_M) : Prop := am_V am_mr l RX3 cX3_insideOf 5 (some .int) "insideOf" (am_rm 2 0 0) (am_E1 am_mr 0 0 Q) pc lv st S 0 0
abbrev kX3_insideOf (l : Launch) (as : List am_W) (S : am_M) (Q : Option am_W → am_M → Prop) : Prop := am_C am_mr l yX3_insideOf (ws_ yX3_insideOf cX3_insideOf 5 (some .int)) (am_rm 2 0 0) 0 0 as S Q
set_option maxHeartbeats 4000000 in
set_option maxRecDepth 100000 in
theorem bX3_insideOf {l : Launch} {Q : Option am_W → am_M → Prop} {S : am_M} (v1 : Int) (h1 : am_r v1) (v2 : Int) (h2 : am_r v2)
    (hh : VX3_insideOf l Q 5 [(0, am_R 0), (1, am_I v1), (2, am_I v2), (3, am_I (-1)), (4, am_I 0)] [] S) : kX3_insideOf l [am_R 0, am_I v1, am_I v2] S Q := by
  refine am_entry (lv := [(0, am_R 0), (1, am_I v1), (2, am_I v2)]) rfl rfl rfl (fun _ => rfl) (fun _ => Nat.le_of_ble_eq_true rfl) ?_
  refine am_iconst dX3_insideOf_0 ?_
  refine am_istore_n dX3_insideOf_1 rfl (by decide) rfl ?_
  refine am_iconst dX3_insideOf_2 ?_
  refine am_istore dX3_insideOf_3 (by decide) rfl ?_
  refine am_keep [2, 3, 4, 1, 0] rfl ?_
  exact hh
set_option maxHeartbeats 4000000 in
set_option maxRecDepth 100000 in
theorem bX3_insideOf_5 {l : Launch} {Q : Option am_W → am_M → Prop} {S : am_M} (v1 : Int) (h1 : am_r v1) (v2 : Int) (h2 : am_r v2) (v3 : Int) (h3 : am_r v3) (v4 : Int) (h4 : am_r v4)
    (hh : ((((S.1 2).toInt) ≤ v4) →
        Q (some (am_I v3)) S) ∧
      ((¬ ((S.1 2).toInt) ≤ v4) →
        kX3_boxOf l [am_R 0, am_I v1, am_I v4] S (am_qi fun r5 S4 =>
          ((¬ r5 = v2) →
            VX3_insideOf l Q 5 [(0, am_R 0), (1, am_I v1), (2, am_I v2), (3, am_I v3), (4, am_I (v4 + 1))] [] S4) ∧
          ((r5 = v2) →
            VX3_insideOf l Q 5 [(0, am_R 0), (1, am_I v1), (2, am_I v2), (3, am_I v4), (4, am_I (v4 + 1))] [] S4)))) : VX3_insideOf l Q 5 [(0, am_R 0), (1, am_I v1), (2, am_I v2), (3, am_I v3), (4, am_I v4)] [] S := by
  refine am_iload dX3_insideOf_5 4 rfl ?_
  refine am_aload_n dX3_insideOf_7 rfl 0 rfl ?_
  refine am_mgeti 2 (by decide) (v := (S.1 2).toInt) rfl q1404 dX3_insideOf_8 ?_
  obtain ⟨ha1, hb2⟩ := hh
  refine am_icmp_ge (tgt := 38) dX3_insideOf_11 (by decide) h4 (am_rt _) (fun hc3 => ?_) (fun hc3 => ?_)
  · have hh := ha1 hc3
    refine am_iload_n dX3_insideOf_38 rfl 3 rfl ?_
    exact am_iret rfl dX3_insideOf_39 (Nat.le_refl 0) (Nat.le_refl 0) hh
  · have hh := hb2 hc3
    refine am_aload_n dX3_insideOf_14 rfl 0 rfl ?_
    refine am_iload_n dX3_insideOf_15 rfl 1 rfl ?_
    refine am_iload dX3_insideOf_16 4 rfl ?_
    refine am_rVi (n := 2) hh dX3_insideOf_18 (lw_V q1528 q1530 qs43 q96 q1531) rfl ⟨⟨by decide, by decide, by decide +kernel⟩, ⟨Nat.le_of_ble_eq_true rfl, Nat.le_of_ble_eq_true rfl⟩⟩ ⟨rfl, rfl⟩ rfl rfl (Nat.le_of_ble_eq_true rfl) ⟨(Nat.le_refl 0), (Nat.le_refl 0)⟩ (am_mrecv _) (fun r5 S4 hr6 hh => ?_)
    refine am_iload_n dX3_insideOf_21 rfl 2 rfl ?_
    obtain ⟨ha7, hb8⟩ := hh
    refine am_icmp_ne (tgt := 30) dX3_insideOf_22 (by decide) hr6 h2 (fun hc9 => ?_) (fun hc9 => ?_)
    · have hh := ha7 hc9
      refine am_iload_n dX3_insideOf_30 rfl 3 rfl ?_
      refine am_istore_n dX3_insideOf_31 rfl (by decide) rfl ?_
      refine am_iinc (n := 4) dX3_insideOf_32 rfl (by decide) rfl ?_
      refine am_goto (tgt := 5) dX3_insideOf_35 (by decide) ?_
      refine am_keep [2, 3, 4, 1, 0] rfl ?_
      exact hh
    · have hh := hb8 hc9
      refine am_iload dX3_insideOf_25 4 rfl ?_
      refine am_goto (tgt := 31) dX3_insideOf_27 (by decide) ?_
      refine am_istore_n dX3_insideOf_31 rfl (by decide) rfl ?_
      refine am_iinc (n := 4) dX3_insideOf_32 rfl (by decide) rfl ?_
      refine am_goto (tgt := 5) dX3_insideOf_35 (by decide) ?_
      refine am_keep [2, 3, 4, 1, 0] rfl ?_
      exact hh
/-! TableArmsModel.whereTo(IIII)I -/
abbrev VX3_whereTo (l : Launch) (Q : Option am_W → am_M → Prop) (pc : Nat) (lv : List (Nat × am_W)) (st : List am_W) (S : am_M) : Prop := am_V am_mr l RX3 cX3_whereTo 8 (some .int) "whereTo" (am_rm 4 0 0) (am_E1 am_mr 0 0 Q) pc lv st S 0 0
abbrev kX3_whereTo (l : Launch) (as : List am_W) (S : am_M) (Q : Option am_W → am_M → Prop) : Prop := am_C am_mr l yX3_whereTo (ws_ yX3_whereTo cX3_whereTo 8 (some .int)) (am_rm 4 0 0) 0 0 as S Q
set_option maxHeartbeats 4000000 in
set_option maxRecDepth 100000 in
theorem bX3_whereTo {l : Launch} {Q : Option am_W → am_M → Prop} {S : am_M} (v1 : Int) (h1 : am_r v1) (v2 : Int) (h2 : am_r v2) (v3 : Int) (h3 : am_r v3) (v4 : Int) (h4 : am_r v4)
    (hh : ((¬ v3 = 1) →
        VX3_whereTo l Q 72 [(0, am_R 0), (1, am_I v1), (2, am_I v2), (3, am_I v3), (4, am_I v4), (5, am_I 0)] [] S) ∧
      ((v3 = 1) →
        VX3_whereTo l Q 8 [(0, am_R 0), (1, am_I v1), (4, am_I v4), (5, am_I 0)] [] S)) : kX3_whereTo l [am_R 0, am_I v1, am_I v2, am_I v3, am_I v4] S Q := by
  refine am_entry (lv := [(0, am_R 0), (1, am_I v1), (2, am_I v2), (3, am_I v3), (4, am_I v4)]) rfl rfl rfl (fun _ => rfl) (fun _ => Nat.le_of_ble_eq_true rfl) ?_
  refine am_iload_n dX3_whereTo_0 rfl 3 rfl ?_
  refine am_iconst dX3_whereTo_1 ?_
  obtain ⟨ha1, hb2⟩ := hh
  refine am_icmp_ne (tgt := 69) dX3_whereTo_2 (by decide) h3 (⟨by decide, by decide⟩) (fun hc3 => ?_) (fun hc3 => ?_)
  · have hh := ha1 hc3
    refine am_iconst dX3_whereTo_69 ?_
    refine am_istore dX3_whereTo_70 (by decide) rfl ?_
    refine am_keep [1, 2, 3, 4, 5, 0] rfl ?_
    exact hh
  · have hh := hb2 hc3
    refine am_iconst dX3_whereTo_5 ?_
    refine am_istore dX3_whereTo_6 (by decide) rfl ?_
    refine am_keep [1, 2, 5, 0] rfl ?_
    exact hh
set_option maxHeartbeats 4000000 in
set_option maxRecDepth 100000 in
theorem bX3_whereTo_8 {l : Launch} {Q : Option am_W → am_M → Prop} {S : am_M} (v1 : Int) (h1 : am_r v1) (v4 : Int) (h4 : am_r v4) (v5 : Int) (h5 : am_r v5)
    (hh : ((((S.1 2).toInt) ≤ v5) →
        Q (some (am_I (-1000000))) S) ∧
      ((¬ ((S.1 2).toInt) ≤ v5) →
        ((¬ v4 = 2) →
          VX3_whereTo l Q 8 [(0, am_R 0), (1, am_I v1), (4, am_I v4), (5, am_I (v5 + 1))] [] S) ∧
        ((v4 = 2) →
          (0 ≤ v5 ∧ v5 < 6) ∧
          ((¬ ((S.2 1 v5.toNat).toInt) = 2) →
            VX3_whereTo l Q 8 [(0, am_R 0), (1, am_I v1), (4, am_I v4), (5, am_I (v5 + 1))] [] S) ∧
          ((((S.2 1 v5.toNat).toInt) = 2) →
            kX3_isClear l [am_R 0, am_I v1, am_I v5] S (am_qz fun b12 S11 =>
              ((b12 = false) →
                VX3_whereTo l Q 8 [(0, am_R 0), (1, am_I v1), (4, am_I v4), (5, am_I (v5 + 1))] [] S11) ∧
              ((b12 = true) →
                kX3_insideOf l [am_R 0, am_I v1, am_I v5] S11 (am_qi fun r17 S16 =>
                  ((0 ≤ r17) →
                    VX3_whereTo l Q 8 [(0, am_R 0), (1, am_I v1), (4, am_I v4), (5, am_I (v5 + 1))] [] S16) ∧
                  ((¬ 0 ≤ r17) →
                    Q (some (am_I (8 + v5))) S16)))))))) : VX3_whereTo l Q 8 [(0, am_R 0), (1, am_I v1), (4, am_I v4), (5, am_I v5)] [] S := by
  refine am_iload dX3_whereTo_8 3 rfl ?_
  refine am_aload_n dX3_whereTo_10 rfl 0 rfl ?_
  refine am_mgeti 2 (by decide) (v := (S.1 2).toInt) rfl q1404 dX3_whereTo_11 ?_
  obtain ⟨ha1, hb2⟩ := hh
  refine am_icmp_ge (tgt := 66) dX3_whereTo_14 (by decide) h5 (am_rt _) (fun hc3 => ?_) (fun hc3 => ?_)
  · have hh := ha1 hc3
    refine am_ldc (z := -1000000) q1544 (by decide) dX3_whereTo_66 ?_
    exact am_iret rfl dX3_whereTo_68 (Nat.le_refl 0) (Nat.le_refl 0) hh
  · have hh := hb2 hc3
    refine am_iload dX3_whereTo_17 2 rfl ?_
    refine am_iconst dX3_whereTo_19 ?_
    obtain ⟨ha4, hb5⟩ := hh
    refine am_icmp_ne (tgt := 60) dX3_whereTo_20 (by decide) h4 (⟨by decide, by decide⟩) (fun hc6 => ?_) (fun hc6 => ?_)
    · have hh := ha4 hc6
      refine am_iinc (n := 3) dX3_whereTo_60 rfl (by decide) rfl ?_
      refine am_goto (tgt := 8) dX3_whereTo_63 (by decide) ?_
      refine am_keep [1, 2, 3, 0] rfl ?_
      exact hh
    · have hh := hb5 hc6
      refine am_aload_n dX3_whereTo_23 rfl 0 rfl ?_
      refine am_mgeta 1 (by decide) q1405 dX3_whereTo_24 ?_
      refine am_iload dX3_whereTo_27 3 rfl ?_
      obtain ⟨o7, hh⟩ := hh
      refine am_miald 1 (by decide) (by decide) (v := (S.2 1 v5.toNat).toInt) rfl o7.1 o7.2 dX3_whereTo_29 ?_
      refine am_iconst dX3_whereTo_30 ?_
      obtain ⟨ha8, hb9⟩ := hh
      refine am_icmp_ne (tgt := 60) dX3_whereTo_31 (by decide) (am_rt _) (⟨by decide, by decide⟩) (fun hc10 => ?_) (fun hc10 => ?_)
      · have hh := ha8 hc10
        refine am_iinc (n := 3) dX3_whereTo_60 rfl (by decide) rfl ?_
        refine am_goto (tgt := 8) dX3_whereTo_63 (by decide) ?_
        refine am_keep [1, 2, 3, 0] rfl ?_
        exact hh
      · have hh := hb9 hc10
        refine am_aload_n dX3_whereTo_34 rfl 0 rfl ?_
        refine am_iload_n dX3_whereTo_35 rfl 1 rfl ?_
        refine am_iload dX3_whereTo_36 3 rfl ?_
        refine am_rVz (n := 2) hh dX3_whereTo_38 (lw_V q1560 q1562 qs50 q96 q1563) rfl ⟨⟨by decide, by decide, by decide +kernel⟩, ⟨Nat.le_of_ble_eq_true rfl, Nat.le_of_ble_eq_true rfl⟩⟩ ⟨rfl, rfl⟩ rfl rfl (Nat.le_of_ble_eq_true rfl) ⟨(Nat.le_refl 0), (Nat.le_refl 0)⟩ (am_mrecv _) (fun b12 S11 hh => ?_)
        obtain ⟨ha13, hb14⟩ := hh
        refine am_ifB_eq (tgt := 60) dX3_whereTo_41 (by decide) (fun hc15 => ?_) (fun hc15 => ?_)
        · have hh := ha13 hc15
          refine am_iinc (n := 3) dX3_whereTo_60 rfl (by decide) rfl ?_
          refine am_goto (tgt := 8) dX3_whereTo_63 (by decide) ?_
          refine am_keep [1, 2, 3, 0] rfl ?_
          exact hh
        · have hh := hb14 hc15
          refine am_aload_n dX3_whereTo_44 rfl 0 rfl ?_
          refine am_iload_n dX3_whereTo_45 rfl 1 rfl ?_
          refine am_iload dX3_whereTo_46 3 rfl ?_
          refine am_rVi (n := 2) hh dX3_whereTo_48 (lw_V q1564 q1566 qs51 q96 q1567) rfl ⟨⟨by decide, by decide, by decide +kernel⟩, ⟨Nat.le_of_ble_eq_true rfl, Nat.le_of_ble_eq_true rfl⟩⟩ ⟨rfl, rfl⟩ rfl rfl (Nat.le_of_ble_eq_true rfl) ⟨(Nat.le_refl 0), (Nat.le_refl 0)⟩ (am_mrecv _) (fun r17 S16 hr18 hh => ?_)
          obtain ⟨ha19, hb20⟩ := hh
          refine am_if_ge (tgt := 60) dX3_whereTo_51 (by decide) hr18 (fun hc21 => ?_) (fun hc21 => ?_)
          · have hh := ha19 hc21
            refine am_iinc (n := 3) dX3_whereTo_60 rfl (by decide) rfl ?_
            refine am_goto (tgt := 8) dX3_whereTo_63 (by decide) ?_
            refine am_keep [1, 2, 3, 0] rfl ?_
            exact hh
          · have hh := hb20 hc21
            refine am_bipush dX3_whereTo_54 (by decide) ?_
            refine am_iload dX3_whereTo_56 3 rfl ?_
            refine am_iadd dX3_whereTo_58 ?_
            exact am_iret rfl dX3_whereTo_59 (Nat.le_refl 0) (Nat.le_refl 0) hh
set_option maxHeartbeats 4000000 in
set_option maxRecDepth 100000 in
theorem bX3_whereTo_72 {l : Launch} {Q : Option am_W → am_M → Prop} {S : am_M} (v1 : Int) (h1 : am_r v1) (v2 : Int) (h2 : am_r v2) (v3 : Int) (h3 : am_r v3) (v4 : Int) (h4 : am_r v4) (v5 : Int) (h5 : am_r v5)
    (hh : ((((S.1 2).toInt) ≤ v5) →
        Q (some (am_I (-1000000))) S) ∧
      ((¬ ((S.1 2).toInt) ≤ v5) →
        ((v5 = v2) →
          VX3_whereTo l Q 72 [(0, am_R 0), (1, am_I v1), (2, am_I v2), (3, am_I v3), (4, am_I v4), (5, am_I (v5 + 1))] [] S) ∧
        ((¬ v5 = v2) →
          (0 ≤ v5 ∧ v5 < 6) ∧
          ((¬ ((S.2 1 v5.toNat).toInt) = v4) →
            VX3_whereTo l Q 72 [(0, am_R 0), (1, am_I v1), (2, am_I v2), (3, am_I v3), (4, am_I v4), (5, am_I (v5 + 1))] [] S) ∧
          ((((S.2 1 v5.toNat).toInt) = v4) →
            ((¬ v3 = 0) →
              kX3_boxOf l [am_R 0, am_I v1, am_I v5] S (am_qi fun r15 S14 =>
                ((0 ≤ r15) →
                  VX3_whereTo l Q 72 [(0, am_R 0), (1, am_I v1), (2, am_I v2), (3, am_I v3), (4, am_I v4), (5, am_I (v5 + 1))] [] S14) ∧
                ((¬ 0 ≤ r15) →
                  kX3_cellOf l [am_R 0, am_I v1, am_I v5] S14 (am_qi fun r21 S20 =>
                    ((¬ v3 = 0) →
                      VX3_whereTo l Q 145 [(0, am_R 0), (1, am_I v1), (6, am_I r21), (7, am_I 0)] [] S20) ∧
                    ((v3 = 0) →
                      Q (some (am_I r21)) S20))))) ∧
            ((v3 = 0) →
              kX3_isClear l [am_R 0, am_I v1, am_I v5] S (am_qz fun b27 S26 =>
                ((b27 = false) →
                  VX3_whereTo l Q 72 [(0, am_R 0), (1, am_I v1), (2, am_I v2), (3, am_I v3), (4, am_I v4), (5, am_I (v5 + 1))] [] S26) ∧
                ((b27 = true) →
                  kX3_cellOf l [am_R 0, am_I v1, am_I v5] S26 (am_qi fun r32 S31 =>
                    ((¬ v3 = 0) →
                      VX3_whereTo l Q 145 [(0, am_R 0), (1, am_I v1), (6, am_I r32), (7, am_I 0)] [] S31) ∧
                    ((v3 = 0) →
                      Q (some (am_I r32)) S31))))))))) : VX3_whereTo l Q 72 [(0, am_R 0), (1, am_I v1), (2, am_I v2), (3, am_I v3), (4, am_I v4), (5, am_I v5)] [] S := by
  refine am_iload dX3_whereTo_72 5 rfl ?_
  refine am_aload_n dX3_whereTo_74 rfl 0 rfl ?_
  refine am_mgeti 2 (by decide) (v := (S.1 2).toInt) rfl q1404 dX3_whereTo_75 ?_
  obtain ⟨ha1, hb2⟩ := hh
  refine am_icmp_ge (tgt := 190) dX3_whereTo_78 (by decide) h5 (am_rt _) (fun hc3 => ?_) (fun hc3 => ?_)
  · have hh := ha1 hc3
    refine am_ldc (z := -1000000) q1544 (by decide) dX3_whereTo_190 ?_
    exact am_iret rfl dX3_whereTo_192 (Nat.le_refl 0) (Nat.le_refl 0) hh
  · have hh := hb2 hc3
    refine am_iload dX3_whereTo_81 5 rfl ?_
    refine am_iload_n dX3_whereTo_83 rfl 2 rfl ?_
    obtain ⟨ha4, hb5⟩ := hh
    refine am_icmp_eq (tgt := 184) dX3_whereTo_84 (by decide) h5 h2 (fun hc6 => ?_) (fun hc6 => ?_)
    · have hh := ha4 hc6
      refine am_iinc (n := 5) dX3_whereTo_184 rfl (by decide) rfl ?_
      refine am_goto (tgt := 72) dX3_whereTo_187 (by decide) ?_
      refine am_keep [1, 2, 3, 4, 5, 0] rfl ?_
      exact hh
    · have hh := hb5 hc6
      refine am_aload_n dX3_whereTo_87 rfl 0 rfl ?_
      refine am_mgeta 1 (by decide) q1405 dX3_whereTo_88 ?_
      refine am_iload dX3_whereTo_91 5 rfl ?_
      obtain ⟨o7, hh⟩ := hh
      refine am_miald 1 (by decide) (by decide) (v := (S.2 1 v5.toNat).toInt) rfl o7.1 o7.2 dX3_whereTo_93 ?_
      refine am_iload dX3_whereTo_94 4 rfl ?_
      obtain ⟨ha8, hb9⟩ := hh
      refine am_icmp_ne (tgt := 184) dX3_whereTo_96 (by decide) (am_rt _) h4 (fun hc10 => ?_) (fun hc10 => ?_)
      · have hh := ha8 hc10
        refine am_iinc (n := 5) dX3_whereTo_184 rfl (by decide) rfl ?_
        refine am_goto (tgt := 72) dX3_whereTo_187 (by decide) ?_
        refine am_keep [1, 2, 3, 4, 5, 0] rfl ?_
        exact hh
      · have hh := hb9 hc10
        refine am_iload_n dX3_whereTo_99 rfl 3 rfl ?_
        obtain ⟨ha11, hb12⟩ := hh
        refine am_if_ne (tgt := 116) dX3_whereTo_100 (by decide) h3 (fun hc13 => ?_) (fun hc13 => ?_)
        · have hh := ha11 hc13
          refine am_aload_n dX3_whereTo_116 rfl 0 rfl ?_
          refine am_iload_n dX3_whereTo_117 rfl 1 rfl ?_
          refine am_iload dX3_whereTo_118 5 rfl ?_
          refine am_rVi (n := 2) hh dX3_whereTo_120 (lw_V q1528 q1530 qs43 q96 q1531) rfl ⟨⟨by decide, by decide, by decide +kernel⟩, ⟨Nat.le_of_ble_eq_true rfl, Nat.le_of_ble_eq_true rfl⟩⟩ ⟨rfl, rfl⟩ rfl rfl (Nat.le_of_ble_eq_true rfl) ⟨(Nat.le_refl 0), (Nat.le_refl 0)⟩ (am_mrecv _) (fun r15 S14 hr16 hh => ?_)
          obtain ⟨ha17, hb18⟩ := hh
          refine am_if_ge (tgt := 184) dX3_whereTo_123 (by decide) hr16 (fun hc19 => ?_) (fun hc19 => ?_)
          · have hh := ha17 hc19
            refine am_iinc (n := 5) dX3_whereTo_184 rfl (by decide) rfl ?_
            refine am_goto (tgt := 72) dX3_whereTo_187 (by decide) ?_
            refine am_keep [1, 2, 3, 4, 5, 0] rfl ?_
            exact hh
          · have hh := hb18 hc19
            refine am_aload_n dX3_whereTo_126 rfl 0 rfl ?_
            refine am_iload_n dX3_whereTo_127 rfl 1 rfl ?_
            refine am_iload dX3_whereTo_128 5 rfl ?_
            refine am_rVi (n := 2) hh dX3_whereTo_130 (lw_V q1532 q1534 qs44 q96 q1535) rfl ⟨⟨by decide, by decide, by decide +kernel⟩, ⟨Nat.le_of_ble_eq_true rfl, Nat.le_of_ble_eq_true rfl⟩⟩ ⟨rfl, rfl⟩ rfl rfl (Nat.le_of_ble_eq_true rfl) ⟨(Nat.le_refl 0), (Nat.le_refl 0)⟩ (am_mrecv _) (fun r21 S20 hr22 hh => ?_)
            refine am_istore dX3_whereTo_133 (by decide) rfl ?_
            refine am_iload_n dX3_whereTo_135 rfl 4 rfl ?_
            obtain ⟨ha23, hb24⟩ := hh
            refine am_if_ne (tgt := 142) dX3_whereTo_136 (by decide) h3 (fun hc25 => ?_) (fun hc25 => ?_)
            · have hh := ha23 hc25
              refine am_iconst dX3_whereTo_142 ?_
              refine am_istore dX3_whereTo_143 (by decide) rfl ?_
              refine am_keep [2, 3, 1, 0] rfl ?_
              exact hh
            · have hh := hb24 hc25
              refine am_iload dX3_whereTo_139 0 rfl ?_
              exact am_iret rfl dX3_whereTo_141 (Nat.le_refl 0) (Nat.le_refl 0) hh
        · have hh := hb12 hc13
          refine am_aload_n dX3_whereTo_103 rfl 0 rfl ?_
          refine am_iload_n dX3_whereTo_104 rfl 1 rfl ?_
          refine am_iload dX3_whereTo_105 5 rfl ?_
          refine am_rVz (n := 2) hh dX3_whereTo_107 (lw_V q1560 q1562 qs50 q96 q1563) rfl ⟨⟨by decide, by decide, by decide +kernel⟩, ⟨Nat.le_of_ble_eq_true rfl, Nat.le_of_ble_eq_true rfl⟩⟩ ⟨rfl, rfl⟩ rfl rfl (Nat.le_of_ble_eq_true rfl) ⟨(Nat.le_refl 0), (Nat.le_refl 0)⟩ (am_mrecv _) (fun b27 S26 hh => ?_)
          obtain ⟨ha28, hb29⟩ := hh
          refine am_ifB_eq (tgt := 184) dX3_whereTo_110 (by decide) (fun hc30 => ?_) (fun hc30 => ?_)
          · have hh := ha28 hc30
            refine am_iinc (n := 5) dX3_whereTo_184 rfl (by decide) rfl ?_
            refine am_goto (tgt := 72) dX3_whereTo_187 (by decide) ?_
            refine am_keep [1, 2, 3, 4, 5, 0] rfl ?_
            exact hh
          · have hh := hb29 hc30
            refine am_goto (tgt := 126) dX3_whereTo_113 (by decide) ?_
            refine am_aload_n dX3_whereTo_126 rfl 0 rfl ?_
            refine am_iload_n dX3_whereTo_127 rfl 1 rfl ?_
            refine am_iload dX3_whereTo_128 5 rfl ?_
            refine am_rVi (n := 2) hh dX3_whereTo_130 (lw_V q1532 q1534 qs44 q96 q1535) rfl ⟨⟨by decide, by decide, by decide +kernel⟩, ⟨Nat.le_of_ble_eq_true rfl, Nat.le_of_ble_eq_true rfl⟩⟩ ⟨rfl, rfl⟩ rfl rfl (Nat.le_of_ble_eq_true rfl) ⟨(Nat.le_refl 0), (Nat.le_refl 0)⟩ (am_mrecv _) (fun r32 S31 hr33 hh => ?_)
            refine am_istore dX3_whereTo_133 (by decide) rfl ?_
            refine am_iload_n dX3_whereTo_135 rfl 4 rfl ?_
            obtain ⟨ha34, hb35⟩ := hh
            refine am_if_ne (tgt := 142) dX3_whereTo_136 (by decide) h3 (fun hc36 => ?_) (fun hc36 => ?_)
            · have hh := ha34 hc36
              refine am_iconst dX3_whereTo_142 ?_
              refine am_istore dX3_whereTo_143 (by decide) rfl ?_
              refine am_keep [2, 3, 1, 0] rfl ?_
              exact hh
            · have hh := hb35 hc36
              refine am_iload dX3_whereTo_139 0 rfl ?_
              exact am_iret rfl dX3_whereTo_141 (Nat.le_refl 0) (Nat.le_refl 0) hh
set_option maxHeartbeats 4000000 in
set_option maxRecDepth 100000 in
theorem bX3_whereTo_145 {l : Launch} {Q : Option am_W → am_M → Prop} {S : am_M} (v1 : Int) (h1 : am_r v1) (v6 : Int) (h6 : am_r v6) (v7 : Int) (h7 : am_r v7)
    (hh : ((8 ≤ v7) →
        Q (some (am_I (-1000000))) S) ∧
      ((¬ 8 ≤ v7) →
        kX3_isNeighbour l [am_I v6, am_I v7] S (am_qz fun b5 S4 =>
          ((b5 = false) →
            VX3_whereTo l Q 145 [(0, am_R 0), (1, am_I v1), (6, am_I v6), (7, am_I (v7 + 1))] [] S4) ∧
          ((b5 = true) →
            kX3_sizeOf l [am_R 0, am_I v1, am_I v7] S4 (am_qi fun r10 S9 =>
              ((¬ r10 = 0) →
                VX3_whereTo l Q 145 [(0, am_R 0), (1, am_I v1), (6, am_I v6), (7, am_I (v7 + 1))] [] S9) ∧
              ((r10 = 0) →
                Q (some (am_I v7)) S9)))))) : VX3_whereTo l Q 145 [(0, am_R 0), (1, am_I v1), (6, am_I v6), (7, am_I v7)] [] S := by
  refine am_iload dX3_whereTo_145 3 rfl ?_
  refine am_bipush dX3_whereTo_147 (by decide) ?_
  obtain ⟨ha1, hb2⟩ := hh
  refine am_icmp_ge (tgt := 181) dX3_whereTo_149 (by decide) h7 (⟨by decide, by decide⟩) (fun hc3 => ?_) (fun hc3 => ?_)
  · have hh := ha1 hc3
    refine am_ldc (z := -1000000) q1544 (by decide) dX3_whereTo_181 ?_
    exact am_iret rfl dX3_whereTo_183 (Nat.le_refl 0) (Nat.le_refl 0) hh
  · have hh := hb2 hc3
    refine am_iload dX3_whereTo_152 2 rfl ?_
    refine am_iload dX3_whereTo_154 3 rfl ?_
    refine am_rSz (n := 2) hh dX3_whereTo_156 (lw_S q1549 q1550 q96 q1551) ⟨⟨by decide, by decide, by decide +kernel⟩, ⟨Nat.le_of_ble_eq_true rfl, Nat.le_of_ble_eq_true rfl⟩⟩ ⟨rfl, rfl⟩ rfl rfl (Nat.le_of_ble_eq_true rfl) ⟨(Nat.le_refl 0), (Nat.le_refl 0)⟩ (fun b5 S4 hh => ?_)
    obtain ⟨ha6, hb7⟩ := hh
    refine am_ifB_eq (tgt := 175) dX3_whereTo_159 (by decide) (fun hc8 => ?_) (fun hc8 => ?_)
    · have hh := ha6 hc8
      refine am_iinc (n := 3) dX3_whereTo_175 rfl (by decide) rfl ?_
      refine am_goto (tgt := 145) dX3_whereTo_178 (by decide) ?_
      refine am_keep [1, 2, 3, 0] rfl ?_
      exact hh
    · have hh := hb7 hc8
      refine am_aload_n dX3_whereTo_162 rfl 0 rfl ?_
      refine am_iload_n dX3_whereTo_163 rfl 1 rfl ?_
      refine am_iload dX3_whereTo_164 3 rfl ?_
      refine am_rVi (n := 2) hh dX3_whereTo_166 (lw_V q1536 q1538 qs45 q96 q1539) rfl ⟨⟨by decide, by decide, by decide +kernel⟩, ⟨Nat.le_of_ble_eq_true rfl, Nat.le_of_ble_eq_true rfl⟩⟩ ⟨rfl, rfl⟩ rfl rfl (Nat.le_of_ble_eq_true rfl) ⟨(Nat.le_refl 0), (Nat.le_refl 0)⟩ (am_mrecv _) (fun r10 S9 hr11 hh => ?_)
      obtain ⟨ha12, hb13⟩ := hh
      refine am_if_ne (tgt := 175) dX3_whereTo_169 (by decide) hr11 (fun hc14 => ?_) (fun hc14 => ?_)
      · have hh := ha12 hc14
        refine am_iinc (n := 3) dX3_whereTo_175 rfl (by decide) rfl ?_
        refine am_goto (tgt := 145) dX3_whereTo_178 (by decide) ?_
        refine am_keep [1, 2, 3, 0] rfl ?_
        exact hh
      · have hh := hb13 hc14
        refine am_iload dX3_whereTo_172 3 rfl ?_
        exact am_iret rfl dX3_whereTo_174 (Nat.le_refl 0) (Nat.le_refl 0) hh
/-! TableArmsModel.isLoose(II)Z -/
abbrev VX3_isLoose (l : Launch) (Q : Option am_W → am_M → Prop) (pc : Nat) (lv : List (Nat × am_W)) (st : List am_W) (S : am_M) : Prop := am_V am_mr l RX3 cX3_isLoose 3 (some .boolean) "isLoose" (am_rm 4 0 0) (am_E1 am_mr 0 0 Q) pc lv st S 0 0
abbrev kX3_isLoose (l : Launch) (as : List am_W) (S : am_M) (Q : Option am_W → am_M → Prop) : Prop := am_C am_mr l yX3_isLoose (ws_ yX3_isLoose cX3_isLoose 3 (some .boolean)) (am_rm 4 0 0) 0 0 as S Q
set_option maxHeartbeats 4000000 in
set_option maxRecDepth 100000 in
theorem bX3_isLoose {l : Launch} {Q : Option am_W → am_M → Prop} {S : am_M} (v1 : Int) (h1 : am_r v1) (v2 : Int) (h2 : am_r v2)
    (hh : kX3_boxOf l [am_R 0, am_I v1, am_I v2] S (am_qi fun r2 S1 =>
        ((r2 < 0) →
          kX3_isClear l [am_R 0, am_I v1, am_I v2] S1 (am_qz fun b8 S7 =>
            Q (some (am_I (am_b b8))) S7)) ∧
        ((¬ r2 < 0) →
          kX3_boxOf l [am_R 0, am_I v1, am_I v2] S1 (am_qi fun r10 S9 =>
            kX3_isClear l [am_R 0, am_I v1, am_I r10] S9 (am_qz fun b13 S12 =>
              Q (some (am_I (am_b b13))) S12))))) : kX3_isLoose l [am_R 0, am_I v1, am_I v2] S Q := by
  refine am_entry (lv := [(0, am_R 0), (1, am_I v1), (2, am_I v2)]) rfl rfl rfl (fun _ => rfl) (fun _ => Nat.le_of_ble_eq_true rfl) ?_
  refine am_aload_n dX3_isLoose_0 rfl 0 rfl ?_
  refine am_iload_n dX3_isLoose_1 rfl 1 rfl ?_
  refine am_aload_n dX3_isLoose_2 rfl 0 rfl ?_
  refine am_iload_n dX3_isLoose_3 rfl 1 rfl ?_
  refine am_iload_n dX3_isLoose_4 rfl 2 rfl ?_
  refine am_rVi (n := 2) hh dX3_isLoose_5 (lw_V q1528 q1530 qs43 q96 q1531) rfl ⟨⟨by decide, by decide, by decide +kernel⟩, ⟨Nat.le_of_ble_eq_true rfl, Nat.le_of_ble_eq_true rfl⟩⟩ ⟨rfl, rfl⟩ rfl rfl (Nat.le_of_ble_eq_true rfl) ⟨(Nat.le_refl 0), (Nat.le_refl 0)⟩ (am_mrecv _) (fun r2 S1 hr3 hh => ?_)
  obtain ⟨ha4, hb5⟩ := hh
  refine am_if_lt (tgt := 20) dX3_isLoose_8 (by decide) hr3 (fun hc6 => ?_) (fun hc6 => ?_)
  · have hh := ha4 hc6
    refine am_iload_n dX3_isLoose_20 rfl 2 rfl ?_
    refine am_rVz (n := 2) hh dX3_isLoose_21 (lw_V q1560 q1562 qs50 q96 q1563) rfl ⟨⟨by decide, by decide, by decide +kernel⟩, ⟨Nat.le_of_ble_eq_true rfl, Nat.le_of_ble_eq_true rfl⟩⟩ ⟨rfl, rfl⟩ rfl rfl (Nat.le_of_ble_eq_true rfl) ⟨(Nat.le_refl 0), (Nat.le_refl 0)⟩ (am_mrecv _) (fun b8 S7 hh => ?_)
    exact am_zret (b := b8) rfl dX3_isLoose_24 (Nat.le_refl 0) (Nat.le_refl 0) hh
  · have hh := hb5 hc6
    refine am_aload_n dX3_isLoose_11 rfl 0 rfl ?_
    refine am_iload_n dX3_isLoose_12 rfl 1 rfl ?_
    refine am_iload_n dX3_isLoose_13 rfl 2 rfl ?_
    refine am_rVi (n := 2) hh dX3_isLoose_14 (lw_V q1528 q1530 qs43 q96 q1531) rfl ⟨⟨by decide, by decide, by decide +kernel⟩, ⟨Nat.le_of_ble_eq_true rfl, Nat.le_of_ble_eq_true rfl⟩⟩ ⟨rfl, rfl⟩ rfl rfl (Nat.le_of_ble_eq_true rfl) ⟨(Nat.le_refl 0), (Nat.le_refl 0)⟩ (am_mrecv _) (fun r10 S9 hr11 hh => ?_)
    refine am_goto (tgt := 21) dX3_isLoose_17 (by decide) ?_
    refine am_rVz (n := 2) hh dX3_isLoose_21 (lw_V q1560 q1562 qs50 q96 q1563) rfl ⟨⟨by decide, by decide, by decide +kernel⟩, ⟨Nat.le_of_ble_eq_true rfl, Nat.le_of_ble_eq_true rfl⟩⟩ ⟨rfl, rfl⟩ rfl rfl (Nat.le_of_ble_eq_true rfl) ⟨(Nat.le_refl 0), (Nat.le_refl 0)⟩ (am_mrecv _) (fun b13 S12 hh => ?_)
    exact am_zret (b := b13) rfl dX3_isLoose_24 (Nat.le_refl 0) (Nat.le_refl 0) hh
/-! TableArmsModel.mayInto(III)Z -/
abbrev VX3_mayInto (l : Launch) (Q : Option am_W → am_M → Prop) (pc : Nat) (lv : List (Nat × am_W)) (st : List am_W) (S : am_M) : Prop := am_V am_mr l RX3 cX3_mayInto 4 (some .boolean) "mayInto" (am_rm 5 0 0) (am_E1 am_mr 0 0 Q) pc lv st S 0 0
abbrev kX3_mayInto (l : Launch) (as : List am_W) (S : am_M) (Q : Option am_W → am_M → Prop) : Prop := am_C am_mr l yX3_mayInto (ws_ yX3_mayInto cX3_mayInto 4 (some .boolean)) (am_rm 5 0 0) 0 0 as S Q
set_option maxHeartbeats 4000000 in
set_option maxRecDepth 100000 in
theorem bX3_mayInto {l : Launch} {Q : Option am_W → am_M → Prop} {S : am_M} (v1 : Int) (h1 : am_r v1) (v2 : Int) (h2 : am_r v2) (v3 : Int) (h3 : am_r v3)
    (hh : kX3_isLoose l [am_R 0, am_I v1, am_I v2] S (am_qz fun b2 S1 =>
        ((b2 = false) →
          Q (some (am_I (am_b false))) S1) ∧
        ((b2 = true) →
          (0 ≤ v2 ∧ v2 < 6) ∧
          ((((S1.2 1 v2.toNat).toInt) = 2) →
            Q (some (am_I (am_b false))) S1) ∧
          ((¬ ((S1.2 1 v2.toNat).toInt) = 2) →
            kX3_isClear l [am_R 0, am_I v1, am_I v3] S1 (am_qz fun b11 S10 =>
              ((b11 = false) →
                Q (some (am_I (am_b false))) S10) ∧
              ((b11 = true) →
                kX3_insideOf l [am_R 0, am_I v1, am_I v3] S10 (am_qi fun r16 S15 =>
                  ((0 ≤ r16) →
                    Q (some (am_I (am_b false))) S15) ∧
                  ((¬ 0 ≤ r16) →
                    Q (some (am_I (am_b true))) S15)))))))) : kX3_mayInto l [am_R 0, am_I v1, am_I v2, am_I v3] S Q := by
  refine am_entry (lv := [(0, am_R 0), (1, am_I v1), (2, am_I v2), (3, am_I v3)]) rfl rfl rfl (fun _ => rfl) (fun _ => Nat.le_of_ble_eq_true rfl) ?_
  refine am_aload_n dX3_mayInto_0 rfl 0 rfl ?_
  refine am_iload_n dX3_mayInto_1 rfl 1 rfl ?_
  refine am_iload_n dX3_mayInto_2 rfl 2 rfl ?_
  refine am_rVz (n := 2) hh dX3_mayInto_3 (lw_V q1572 q1574 qs53 q96 q1575) rfl ⟨⟨by decide, by decide, by decide +kernel⟩, ⟨Nat.le_of_ble_eq_true rfl, Nat.le_of_ble_eq_true rfl⟩⟩ ⟨rfl, rfl⟩ rfl rfl (Nat.le_of_ble_eq_true rfl) ⟨(Nat.le_refl 0), (Nat.le_refl 0)⟩ (am_mrecv _) (fun b2 S1 hh => ?_)
  obtain ⟨ha3, hb4⟩ := hh
  refine am_ifB_eq (tgt := 41) dX3_mayInto_6 (by decide) (fun hc5 => ?_) (fun hc5 => ?_)
  · have hh := ha3 hc5
    refine am_iconst dX3_mayInto_41 ?_
    exact am_zret (b := false) rfl dX3_mayInto_42 (Nat.le_refl 0) (Nat.le_refl 0) hh
  · have hh := hb4 hc5
    refine am_aload_n dX3_mayInto_9 rfl 0 rfl ?_
    refine am_mgeta 1 (by decide) q1405 dX3_mayInto_10 ?_
    refine am_iload_n dX3_mayInto_13 rfl 2 rfl ?_
    obtain ⟨o6, hh⟩ := hh
    refine am_miald 1 (by decide) (by decide) (v := (S1.2 1 v2.toNat).toInt) rfl o6.1 o6.2 dX3_mayInto_14 ?_
    refine am_iconst dX3_mayInto_15 ?_
    obtain ⟨ha7, hb8⟩ := hh
    refine am_icmp_eq (tgt := 41) dX3_mayInto_16 (by decide) (am_rt _) (⟨by decide, by decide⟩) (fun hc9 => ?_) (fun hc9 => ?_)
    · have hh := ha7 hc9
      refine am_iconst dX3_mayInto_41 ?_
      exact am_zret (b := false) rfl dX3_mayInto_42 (Nat.le_refl 0) (Nat.le_refl 0) hh
    · have hh := hb8 hc9
      refine am_aload_n dX3_mayInto_19 rfl 0 rfl ?_
      refine am_iload_n dX3_mayInto_20 rfl 1 rfl ?_
      refine am_iload_n dX3_mayInto_21 rfl 3 rfl ?_
      refine am_rVz (n := 2) hh dX3_mayInto_22 (lw_V q1560 q1562 qs50 q96 q1563) rfl ⟨⟨by decide, by decide, by decide +kernel⟩, ⟨Nat.le_of_ble_eq_true rfl, Nat.le_of_ble_eq_true rfl⟩⟩ ⟨rfl, rfl⟩ rfl rfl (Nat.le_of_ble_eq_true rfl) ⟨(Nat.le_refl 0), (Nat.le_refl 0)⟩ (am_mrecv _) (fun b11 S10 hh => ?_)
      obtain ⟨ha12, hb13⟩ := hh
      refine am_ifB_eq (tgt := 41) dX3_mayInto_25 (by decide) (fun hc14 => ?_) (fun hc14 => ?_)
      · have hh := ha12 hc14
        refine am_iconst dX3_mayInto_41 ?_
        exact am_zret (b := false) rfl dX3_mayInto_42 (Nat.le_refl 0) (Nat.le_refl 0) hh
      · have hh := hb13 hc14
        refine am_aload_n dX3_mayInto_28 rfl 0 rfl ?_
        refine am_iload_n dX3_mayInto_29 rfl 1 rfl ?_
        refine am_iload_n dX3_mayInto_30 rfl 3 rfl ?_
        refine am_rVi (n := 2) hh dX3_mayInto_31 (lw_V q1564 q1566 qs51 q96 q1567) rfl ⟨⟨by decide, by decide, by decide +kernel⟩, ⟨Nat.le_of_ble_eq_true rfl, Nat.le_of_ble_eq_true rfl⟩⟩ ⟨rfl, rfl⟩ rfl rfl (Nat.le_of_ble_eq_true rfl) ⟨(Nat.le_refl 0), (Nat.le_refl 0)⟩ (am_mrecv _) (fun r16 S15 hr17 hh => ?_)
        obtain ⟨ha18, hb19⟩ := hh
        refine am_if_ge (tgt := 41) dX3_mayInto_34 (by decide) hr17 (fun hc20 => ?_) (fun hc20 => ?_)
        · have hh := ha18 hc20
          refine am_iconst dX3_mayInto_41 ?_
          exact am_zret (b := false) rfl dX3_mayInto_42 (Nat.le_refl 0) (Nat.le_refl 0) hh
        · have hh := hb19 hc20
          refine am_iconst dX3_mayInto_37 ?_
          refine am_goto (tgt := 42) dX3_mayInto_38 (by decide) ?_
          exact am_zret (b := true) rfl dX3_mayInto_42 (Nat.le_refl 0) (Nat.le_refl 0) hh
/-! TableArmsModel.canMove(III)Z -/
abbrev VX3_canMove (l : Launch) (Q : Option am_W → am_M → Prop) (pc : Nat) (lv : List (Nat × am_W)) (st : List am_W) (S : am_M) : Prop := am_V am_mr l RX3 cX3_canMove 4 (some .boolean) "canMove" (am_rm 6 0 0) (am_E1 am_mr 0 0 Q) pc lv st S 0 0
abbrev kX3_canMove (l : Launch) (as : List am_W) (S : am_M) (Q : Option am_W → am_M → Prop) : Prop := am_C am_mr l yX3_canMove (ws_ yX3_canMove cX3_canMove 4 (some .boolean)) (am_rm 6 0 0) 0 0 as S Q
set_option maxHeartbeats 4000000 in
set_option maxRecDepth 100000 in
theorem bX3_canMove {l : Launch} {Q : Option am_W → am_M → Prop} {S : am_M} (v1 : Int) (h1 : am_r v1) (v2 : Int) (h2 : am_r v2) (v3 : Int) (h3 : am_r v3)
    (hh : ((8 ≤ v3) →
        kX3_mayInto l [am_R 0, am_I v1, am_I v2, am_I (v3 - 8)] S (am_qz fun b5 S4 =>
          Q (some (am_I (am_b b5))) S4)) ∧
      ((¬ 8 ≤ v3) →
        kX3_isLoose l [am_R 0, am_I v1, am_I v2] S (am_qz fun b7 S6 =>
          Q (some (am_I (am_b b7))) S6))) : kX3_canMove l [am_R 0, am_I v1, am_I v2, am_I v3] S Q := by
  refine am_entry (lv := [(0, am_R 0), (1, am_I v1), (2, am_I v2), (3, am_I v3)]) rfl rfl rfl (fun _ => rfl) (fun _ => Nat.le_of_ble_eq_true rfl) ?_
  refine am_iload_n dX3_canMove_0 rfl 3 rfl ?_
  refine am_bipush dX3_canMove_1 (by decide) ?_
  obtain ⟨ha1, hb2⟩ := hh
  refine am_icmp_ge (tgt := 15) dX3_canMove_3 (by decide) h3 (⟨by decide, by decide⟩) (fun hc3 => ?_) (fun hc3 => ?_)
  · have hh := ha1 hc3
    refine am_aload_n dX3_canMove_15 rfl 0 rfl ?_
    refine am_iload_n dX3_canMove_16 rfl 1 rfl ?_
    refine am_iload_n dX3_canMove_17 rfl 2 rfl ?_
    refine am_iload_n dX3_canMove_18 rfl 3 rfl ?_
    refine am_bipush dX3_canMove_19 (by decide) ?_
    refine am_isub dX3_canMove_21 ?_
    refine am_rVz (n := 3) hh dX3_canMove_22 (lw_V q1576 q1578 qs54 q96 q1579) rfl ⟨⟨by decide, by decide, by decide +kernel⟩, ⟨Nat.le_of_ble_eq_true rfl, Nat.le_of_ble_eq_true rfl⟩⟩ ⟨rfl, rfl⟩ rfl rfl (Nat.le_of_ble_eq_true rfl) ⟨(Nat.le_refl 0), (Nat.le_refl 0)⟩ (am_mrecv _) (fun b5 S4 hh => ?_)
    exact am_zret (b := b5) rfl dX3_canMove_25 (Nat.le_refl 0) (Nat.le_refl 0) hh
  · have hh := hb2 hc3
    refine am_aload_n dX3_canMove_6 rfl 0 rfl ?_
    refine am_iload_n dX3_canMove_7 rfl 1 rfl ?_
    refine am_iload_n dX3_canMove_8 rfl 2 rfl ?_
    refine am_rVz (n := 2) hh dX3_canMove_9 (lw_V q1572 q1574 qs53 q96 q1575) rfl ⟨⟨by decide, by decide, by decide +kernel⟩, ⟨Nat.le_of_ble_eq_true rfl, Nat.le_of_ble_eq_true rfl⟩⟩ ⟨rfl, rfl⟩ rfl rfl (Nat.le_of_ble_eq_true rfl) ⟨(Nat.le_refl 0), (Nat.le_refl 0)⟩ (am_mrecv _) (fun b7 S6 hh => ?_)
    refine am_goto (tgt := 25) dX3_canMove_12 (by decide) ?_
    exact am_zret (b := b7) rfl dX3_canMove_25 (Nat.le_refl 0) (Nat.le_refl 0) hh
/-! TableArmsModel.takeUp(II)V -/
abbrev VX3_takeUp (l : Launch) (Q : Option am_W → am_M → Prop) (pc : Nat) (lv : List (Nat × am_W)) (st : List am_W) (S : am_M) : Prop := am_V am_mr l RX3 cX3_takeUp 4 none "takeUp" (am_rm 3 0 0) (am_E1 am_mr 0 0 Q) pc lv st S 0 0
abbrev kX3_takeUp (l : Launch) (as : List am_W) (S : am_M) (Q : Option am_W → am_M → Prop) : Prop := am_C am_mr l yX3_takeUp (ws_ yX3_takeUp cX3_takeUp 4 none) (am_rm 3 0 0) 0 0 as S Q
set_option maxHeartbeats 4000000 in
set_option maxRecDepth 100000 in
theorem bX3_takeUp {l : Launch} {Q : Option am_W → am_M → Prop} {S : am_M} (v1 : Int) (h1 : am_r v1) (v2 : Int) (h2 : am_r v2)
    (hh : kX3_boxOf l [am_R 0, am_I v1, am_I v2] S (am_qi fun r2 S1 =>
        ((r2 < 0) →
          kX3_cellOf l [am_R 0, am_I v1, am_I v2] S1 (am_qi fun r8 S7 =>
            (0 ≤ ((62 * v1) + (7 * r8)) ∧ ((62 * v1) + (7 * r8)) < 6696) ∧
            (0 ≤ ((((62 * v1) + (7 * r8)) + 1) + ((am_sa S7 0 ((62 * v1) + (7 * r8)) ((S7.2 0 ((62 * v1) + (7 * r8)).toNat).toInt - 1)).2 0 ((62 * v1) + (7 * r8)).toNat).toInt) ∧ ((((62 * v1) + (7 * r8)) + 1) + ((am_sa S7 0 ((62 * v1) + (7 * r8)) ((S7.2 0 ((62 * v1) + (7 * r8)).toNat).toInt - 1)).2 0 ((62 * v1) + (7 * r8)).toNat).toInt) < 6696) ∧
            Q none (am_sa (am_sa S7 0 ((62 * v1) + (7 * r8)) ((S7.2 0 ((62 * v1) + (7 * r8)).toNat).toInt - 1)) 0 ((((62 * v1) + (7 * r8)) + 1) + ((am_sa S7 0 ((62 * v1) + (7 * r8)) ((S7.2 0 ((62 * v1) + (7 * r8)).toNat).toInt - 1)).2 0 ((62 * v1) + (7 * r8)).toNat).toInt) (-1)))) ∧
        ((¬ r2 < 0) →
          (0 ≤ (((62 * v1) + 56) + v2) ∧ (((62 * v1) + 56) + v2) < 6696) ∧
          Q none (am_sa S1 0 (((62 * v1) + 56) + v2) (-1))))) : kX3_takeUp l [am_R 0, am_I v1, am_I v2] S Q := by
  refine am_entry (lv := [(0, am_R 0), (1, am_I v1), (2, am_I v2)]) rfl rfl rfl (fun _ => rfl) (fun _ => Nat.le_of_ble_eq_true rfl) ?_
  refine am_aload_n dX3_takeUp_0 rfl 0 rfl ?_
  refine am_iload_n dX3_takeUp_1 rfl 1 rfl ?_
  refine am_iload_n dX3_takeUp_2 rfl 2 rfl ?_
  refine am_rVi (n := 2) hh dX3_takeUp_3 (lw_V q1528 q1530 qs43 q96 q1531) rfl ⟨⟨by decide, by decide, by decide +kernel⟩, ⟨Nat.le_of_ble_eq_true rfl, Nat.le_of_ble_eq_true rfl⟩⟩ ⟨rfl, rfl⟩ rfl rfl (Nat.le_of_ble_eq_true rfl) ⟨(Nat.le_refl 0), (Nat.le_refl 0)⟩ (am_mrecv _) (fun r2 S1 hr3 hh => ?_)
  obtain ⟨ha4, hb5⟩ := hh
  refine am_if_lt (tgt := 27) dX3_takeUp_6 (by decide) hr3 (fun hc6 => ?_) (fun hc6 => ?_)
  · have hh := ha4 hc6
    refine am_bipush dX3_takeUp_27 (by decide) ?_
    refine am_iload_n dX3_takeUp_29 rfl 1 rfl ?_
    refine am_imul dX3_takeUp_30 ?_
    refine am_bipush dX3_takeUp_31 (by decide) ?_
    refine am_aload_n dX3_takeUp_33 rfl 0 rfl ?_
    refine am_iload_n dX3_takeUp_34 rfl 1 rfl ?_
    refine am_iload_n dX3_takeUp_35 rfl 2 rfl ?_
    refine am_rVi (n := 2) hh dX3_takeUp_36 (lw_V q1532 q1534 qs44 q96 q1535) rfl ⟨⟨by decide, by decide, by decide +kernel⟩, ⟨Nat.le_of_ble_eq_true rfl, Nat.le_of_ble_eq_true rfl⟩⟩ ⟨rfl, rfl⟩ rfl rfl (Nat.le_of_ble_eq_true rfl) ⟨(Nat.le_refl 0), (Nat.le_refl 0)⟩ (am_mrecv _) (fun r8 S7 hr9 hh => ?_)
    refine am_imul dX3_takeUp_39 ?_
    refine am_iadd dX3_takeUp_40 ?_
    refine am_istore_n dX3_takeUp_41 rfl (by decide) rfl ?_
    refine am_aload_n dX3_takeUp_42 rfl 1 rfl ?_
    refine am_mgeta 0 (by decide) q1403 dX3_takeUp_43 ?_
    refine am_iload_n dX3_takeUp_46 rfl 0 rfl ?_
    refine am_dup2 dX3_takeUp_47 rfl rfl ?_
    obtain ⟨o10, hh⟩ := hh
    refine am_miald 0 (by decide) (by decide) (v := (S7.2 0 ((62 * v1) + (7 * r8)).toNat).toInt) rfl o10.1 o10.2 dX3_takeUp_48 ?_
    refine am_iconst dX3_takeUp_49 ?_
    refine am_isub dX3_takeUp_50 ?_
    refine am_miast 0 (by decide) (by decide) o10.1 o10.2 dX3_takeUp_51 ?_
    refine am_aload_n dX3_takeUp_52 rfl 1 rfl ?_
    refine am_mgeta 0 (by decide) q1403 dX3_takeUp_53 ?_
    refine am_iload_n dX3_takeUp_56 rfl 0 rfl ?_
    refine am_iconst dX3_takeUp_57 ?_
    refine am_iadd dX3_takeUp_58 ?_
    refine am_aload_n dX3_takeUp_59 rfl 1 rfl ?_
    refine am_mgeta 0 (by decide) q1403 dX3_takeUp_60 ?_
    refine am_iload_n dX3_takeUp_63 rfl 0 rfl ?_
    refine am_miald 0 (by decide) (by decide) (v := ((am_sa S7 0 ((62 * v1) + (7 * r8)) ((S7.2 0 ((62 * v1) + (7 * r8)).toNat).toInt - 1)).2 0 ((62 * v1) + (7 * r8)).toNat).toInt) rfl o10.1 o10.2 dX3_takeUp_64 ?_
    refine am_iadd dX3_takeUp_65 ?_
    refine am_iconst dX3_takeUp_66 ?_
    obtain ⟨o11, hh⟩ := hh
    refine am_miast 0 (by decide) (by decide) o11.1 o11.2 dX3_takeUp_67 ?_
    exact am_vret rfl dX3_takeUp_68 (Nat.le_refl 0) (Nat.le_refl 0) hh
  · have hh := hb5 hc6
    refine am_aload_n dX3_takeUp_9 rfl 0 rfl ?_
    refine am_mgeta 0 (by decide) q1403 dX3_takeUp_10 ?_
    refine am_bipush dX3_takeUp_13 (by decide) ?_
    refine am_iload_n dX3_takeUp_15 rfl 1 rfl ?_
    refine am_imul dX3_takeUp_16 ?_
    refine am_bipush dX3_takeUp_17 (by decide) ?_
    refine am_iadd dX3_takeUp_19 ?_
    refine am_iload_n dX3_takeUp_20 rfl 2 rfl ?_
    refine am_iadd dX3_takeUp_21 ?_
    refine am_iconst dX3_takeUp_22 ?_
    obtain ⟨o12, hh⟩ := hh
    refine am_miast 0 (by decide) (by decide) o12.1 o12.2 dX3_takeUp_23 ?_
    refine am_goto (tgt := 68) dX3_takeUp_24 (by decide) ?_
    exact am_vret rfl dX3_takeUp_68 (Nat.le_refl 0) (Nat.le_refl 0) hh
/-! TableArmsModel.putOn(III)V -/
abbrev VX3_putOn (l : Launch) (Q : Option am_W → am_M → Prop) (pc : Nat) (lv : List (Nat × am_W)) (st : List am_W) (S : am_M) : Prop := am_V am_mr l RX3 cX3_putOn 5 none "putOn" (am_rm 1 0 0) (am_E1 am_mr 0 0 Q) pc lv st S 0 0
abbrev kX3_putOn (l : Launch) (as : List am_W) (S : am_M) (Q : Option am_W → am_M → Prop) : Prop := am_C am_mr l yX3_putOn (ws_ yX3_putOn cX3_putOn 5 none) (am_rm 1 0 0) 0 0 as S Q
set_option maxHeartbeats 4000000 in
set_option maxRecDepth 100000 in
theorem bX3_putOn {l : Launch} {Q : Option am_W → am_M → Prop} {S : am_M} (v1 : Int) (h1 : am_r v1) (v2 : Int) (h2 : am_r v2) (v3 : Int) (h3 : am_r v3)
    (hh : (0 ≤ ((62 * v1) + (7 * v3)) ∧ ((62 * v1) + (7 * v3)) < 6696) ∧
      (0 ≤ ((((62 * v1) + (7 * v3)) + 1) + (S.2 0 ((62 * v1) + (7 * v3)).toNat).toInt) ∧ ((((62 * v1) + (7 * v3)) + 1) + (S.2 0 ((62 * v1) + (7 * v3)).toNat).toInt) < 6696) ∧
      Q none (am_sa (am_sa S 0 ((((62 * v1) + (7 * v3)) + 1) + (S.2 0 ((62 * v1) + (7 * v3)).toNat).toInt) v2) 0 ((62 * v1) + (7 * v3)) (((am_sa S 0 ((((62 * v1) + (7 * v3)) + 1) + (S.2 0 ((62 * v1) + (7 * v3)).toNat).toInt) v2).2 0 ((62 * v1) + (7 * v3)).toNat).toInt + 1))) : kX3_putOn l [am_R 0, am_I v1, am_I v2, am_I v3] S Q := by
  refine am_entry (lv := [(0, am_R 0), (1, am_I v1), (2, am_I v2), (3, am_I v3)]) rfl rfl rfl (fun _ => rfl) (fun _ => Nat.le_of_ble_eq_true rfl) ?_
  refine am_bipush dX3_putOn_0 (by decide) ?_
  refine am_iload_n dX3_putOn_2 rfl 1 rfl ?_
  refine am_imul dX3_putOn_3 ?_
  refine am_bipush dX3_putOn_4 (by decide) ?_
  refine am_iload_n dX3_putOn_6 rfl 3 rfl ?_
  refine am_imul dX3_putOn_7 ?_
  refine am_iadd dX3_putOn_8 ?_
  refine am_istore dX3_putOn_9 (by decide) rfl ?_
  refine am_aload_n dX3_putOn_11 rfl 1 rfl ?_
  refine am_mgeta 0 (by decide) q1403 dX3_putOn_12 ?_
  refine am_iload dX3_putOn_15 0 rfl ?_
  refine am_iconst dX3_putOn_17 ?_
  refine am_iadd dX3_putOn_18 ?_
  refine am_aload_n dX3_putOn_19 rfl 1 rfl ?_
  refine am_mgeta 0 (by decide) q1403 dX3_putOn_20 ?_
  refine am_iload dX3_putOn_23 0 rfl ?_
  obtain ⟨o1, hh⟩ := hh
  refine am_miald 0 (by decide) (by decide) (v := (S.2 0 ((62 * v1) + (7 * v3)).toNat).toInt) rfl o1.1 o1.2 dX3_putOn_25 ?_
  refine am_iadd dX3_putOn_26 ?_
  refine am_iload_n dX3_putOn_27 rfl 3 rfl ?_
  obtain ⟨o2, hh⟩ := hh
  refine am_miast 0 (by decide) (by decide) o2.1 o2.2 dX3_putOn_28 ?_
  refine am_aload_n dX3_putOn_29 rfl 1 rfl ?_
  refine am_mgeta 0 (by decide) q1403 dX3_putOn_30 ?_
  refine am_iload dX3_putOn_33 0 rfl ?_
  refine am_dup2 dX3_putOn_35 rfl rfl ?_
  refine am_miald 0 (by decide) (by decide) (v := ((am_sa S 0 ((((62 * v1) + (7 * v3)) + 1) + (S.2 0 ((62 * v1) + (7 * v3)).toNat).toInt) v2).2 0 ((62 * v1) + (7 * v3)).toNat).toInt) rfl o1.1 o1.2 dX3_putOn_36 ?_
  refine am_iconst dX3_putOn_37 ?_
  refine am_iadd dX3_putOn_38 ?_
  refine am_miast 0 (by decide) (by decide) o1.1 o1.2 dX3_putOn_39 ?_
  exact am_vret rfl dX3_putOn_40 (Nat.le_refl 0) (Nat.le_refl 0) hh
/-! TableArmsModel.doMove(III)V -/
abbrev VX3_doMove (l : Launch) (Q : Option am_W → am_M → Prop) (pc : Nat) (lv : List (Nat × am_W)) (st : List am_W) (S : am_M) : Prop := am_V am_mr l RX3 cX3_doMove 4 none "doMove" (am_rm 4 0 0) (am_E1 am_mr 0 0 Q) pc lv st S 0 0
abbrev kX3_doMove (l : Launch) (as : List am_W) (S : am_M) (Q : Option am_W → am_M → Prop) : Prop := am_C am_mr l yX3_doMove (ws_ yX3_doMove cX3_doMove 4 none) (am_rm 4 0 0) 0 0 as S Q
set_option maxHeartbeats 4000000 in
set_option maxRecDepth 100000 in
theorem bX3_doMove {l : Launch} {Q : Option am_W → am_M → Prop} {S : am_M} (v1 : Int) (h1 : am_r v1) (v2 : Int) (h2 : am_r v2) (v3 : Int) (h3 : am_r v3)
    (hh : ((v3 < 8) →
        kX3_boxOf l [am_R 0, am_I v1, am_I v2] S (am_qi fun r5 S4 =>
          ((0 ≤ r5) →
            kX3_takeUp l [am_R 0, am_I v1, am_I v2] S4 (am_qv fun S10 =>
              kX3_putOn l [am_R 0, am_I v1, am_I v2, am_I v3] S10 (am_qv fun S11 =>
                Q none S11))) ∧
          ((¬ 0 ≤ r5) →
            kX3_cellOf l [am_R 0, am_I v1, am_I v2] S4 (am_qi fun r13 S12 =>
              ((r13 = v3) →
                Q none S12) ∧
              ((¬ r13 = v3) →
                kX3_takeUp l [am_R 0, am_I v1, am_I v2] S12 (am_qv fun S18 =>
                  kX3_putOn l [am_R 0, am_I v1, am_I v2, am_I v3] S18 (am_qv fun S19 =>
                    Q none S19))))))) ∧
      ((¬ v3 < 8) →
        kX3_takeUp l [am_R 0, am_I v1, am_I v2] S (am_qv fun S20 =>
          (0 ≤ (((62 * v1) + 56) + v2) ∧ (((62 * v1) + 56) + v2) < 6696) ∧
          Q none (am_sa S20 0 (((62 * v1) + 56) + v2) (v3 - 8))))) : kX3_doMove l [am_R 0, am_I v1, am_I v2, am_I v3] S Q := by
  refine am_entry (lv := [(0, am_R 0), (1, am_I v1), (2, am_I v2), (3, am_I v3)]) rfl rfl rfl (fun _ => rfl) (fun _ => Nat.le_of_ble_eq_true rfl) ?_
  refine am_iload_n dX3_doMove_0 rfl 3 rfl ?_
  refine am_bipush dX3_doMove_1 (by decide) ?_
  obtain ⟨ha1, hb2⟩ := hh
  refine am_icmp_lt (tgt := 33) dX3_doMove_3 (by decide) h3 (⟨by decide, by decide⟩) (fun hc3 => ?_) (fun hc3 => ?_)
  · have hh := ha1 hc3
    refine am_aload_n dX3_doMove_33 rfl 0 rfl ?_
    refine am_iload_n dX3_doMove_34 rfl 1 rfl ?_
    refine am_iload_n dX3_doMove_35 rfl 2 rfl ?_
    refine am_rVi (n := 2) hh dX3_doMove_36 (lw_V q1528 q1530 qs43 q96 q1531) rfl ⟨⟨by decide, by decide, by decide +kernel⟩, ⟨Nat.le_of_ble_eq_true rfl, Nat.le_of_ble_eq_true rfl⟩⟩ ⟨rfl, rfl⟩ rfl rfl (Nat.le_of_ble_eq_true rfl) ⟨(Nat.le_refl 0), (Nat.le_refl 0)⟩ (am_mrecv _) (fun r5 S4 hr6 hh => ?_)
    obtain ⟨ha7, hb8⟩ := hh
    refine am_if_ge (tgt := 52) dX3_doMove_39 (by decide) hr6 (fun hc9 => ?_) (fun hc9 => ?_)
    · have hh := ha7 hc9
      refine am_aload_n dX3_doMove_52 rfl 0 rfl ?_
      refine am_iload_n dX3_doMove_53 rfl 1 rfl ?_
      refine am_iload_n dX3_doMove_54 rfl 2 rfl ?_
      refine am_rVv (n := 2) hh dX3_doMove_55 (lw_V q1584 q1586 qs56 q96 q1587) rfl ⟨⟨by decide, by decide, by decide +kernel⟩, ⟨Nat.le_of_ble_eq_true rfl, Nat.le_of_ble_eq_true rfl⟩⟩ ⟨rfl, rfl⟩ rfl rfl (Nat.le_of_ble_eq_true rfl) ⟨(Nat.le_refl 0), (Nat.le_refl 0)⟩ (am_mrecv _) (fun S10 hh => ?_)
      refine am_aload_n dX3_doMove_58 rfl 0 rfl ?_
      refine am_iload_n dX3_doMove_59 rfl 1 rfl ?_
      refine am_iload_n dX3_doMove_60 rfl 2 rfl ?_
      refine am_iload_n dX3_doMove_61 rfl 3 rfl ?_
      refine am_rVv (n := 3) hh dX3_doMove_62 (lw_V q1588 q1590 qs57 q96 q1591) rfl ⟨⟨by decide, by decide, by decide +kernel⟩, ⟨Nat.le_of_ble_eq_true rfl, Nat.le_of_ble_eq_true rfl⟩⟩ ⟨rfl, rfl⟩ rfl rfl (Nat.le_of_ble_eq_true rfl) ⟨(Nat.le_refl 0), (Nat.le_refl 0)⟩ (am_mrecv _) (fun S11 hh => ?_)
      exact am_vret rfl dX3_doMove_65 (Nat.le_refl 0) (Nat.le_refl 0) hh
    · have hh := hb8 hc9
      refine am_aload_n dX3_doMove_42 rfl 0 rfl ?_
      refine am_iload_n dX3_doMove_43 rfl 1 rfl ?_
      refine am_iload_n dX3_doMove_44 rfl 2 rfl ?_
      refine am_rVi (n := 2) hh dX3_doMove_45 (lw_V q1532 q1534 qs44 q96 q1535) rfl ⟨⟨by decide, by decide, by decide +kernel⟩, ⟨Nat.le_of_ble_eq_true rfl, Nat.le_of_ble_eq_true rfl⟩⟩ ⟨rfl, rfl⟩ rfl rfl (Nat.le_of_ble_eq_true rfl) ⟨(Nat.le_refl 0), (Nat.le_refl 0)⟩ (am_mrecv _) (fun r13 S12 hr14 hh => ?_)
      refine am_iload_n dX3_doMove_48 rfl 3 rfl ?_
      obtain ⟨ha15, hb16⟩ := hh
      refine am_icmp_eq (tgt := 65) dX3_doMove_49 (by decide) hr14 h3 (fun hc17 => ?_) (fun hc17 => ?_)
      · have hh := ha15 hc17
        exact am_vret rfl dX3_doMove_65 (Nat.le_refl 0) (Nat.le_refl 0) hh
      · have hh := hb16 hc17
        refine am_aload_n dX3_doMove_52 rfl 0 rfl ?_
        refine am_iload_n dX3_doMove_53 rfl 1 rfl ?_
        refine am_iload_n dX3_doMove_54 rfl 2 rfl ?_
        refine am_rVv (n := 2) hh dX3_doMove_55 (lw_V q1584 q1586 qs56 q96 q1587) rfl ⟨⟨by decide, by decide, by decide +kernel⟩, ⟨Nat.le_of_ble_eq_true rfl, Nat.le_of_ble_eq_true rfl⟩⟩ ⟨rfl, rfl⟩ rfl rfl (Nat.le_of_ble_eq_true rfl) ⟨(Nat.le_refl 0), (Nat.le_refl 0)⟩ (am_mrecv _) (fun S18 hh => ?_)
        refine am_aload_n dX3_doMove_58 rfl 0 rfl ?_
        refine am_iload_n dX3_doMove_59 rfl 1 rfl ?_
        refine am_iload_n dX3_doMove_60 rfl 2 rfl ?_
        refine am_iload_n dX3_doMove_61 rfl 3 rfl ?_
        refine am_rVv (n := 3) hh dX3_doMove_62 (lw_V q1588 q1590 qs57 q96 q1591) rfl ⟨⟨by decide, by decide, by decide +kernel⟩, ⟨Nat.le_of_ble_eq_true rfl, Nat.le_of_ble_eq_true rfl⟩⟩ ⟨rfl, rfl⟩ rfl rfl (Nat.le_of_ble_eq_true rfl) ⟨(Nat.le_refl 0), (Nat.le_refl 0)⟩ (am_mrecv _) (fun S19 hh => ?_)
        exact am_vret rfl dX3_doMove_65 (Nat.le_refl 0) (Nat.le_refl 0) hh
  · have hh := hb2 hc3
    refine am_aload_n dX3_doMove_6 rfl 0 rfl ?_
    refine am_iload_n dX3_doMove_7 rfl 1 rfl ?_
    refine am_iload_n dX3_doMove_8 rfl 2 rfl ?_
    refine am_rVv (n := 2) hh dX3_doMove_9 (lw_V q1584 q1586 qs56 q96 q1587) rfl ⟨⟨by decide, by decide, by decide +kernel⟩, ⟨Nat.le_of_ble_eq_true rfl, Nat.le_of_ble_eq_true rfl⟩⟩ ⟨rfl, rfl⟩ rfl rfl (Nat.le_of_ble_eq_true rfl) ⟨(Nat.le_refl 0), (Nat.le_refl 0)⟩ (am_mrecv _) (fun S20 hh => ?_)
    refine am_aload_n dX3_doMove_12 rfl 0 rfl ?_
    refine am_mgeta 0 (by decide) q1403 dX3_doMove_13 ?_
    refine am_bipush dX3_doMove_16 (by decide) ?_
    refine am_iload_n dX3_doMove_18 rfl 1 rfl ?_
    refine am_imul dX3_doMove_19 ?_
    refine am_bipush dX3_doMove_20 (by decide) ?_
    refine am_iadd dX3_doMove_22 ?_
    refine am_iload_n dX3_doMove_23 rfl 2 rfl ?_
    refine am_iadd dX3_doMove_24 ?_
    refine am_iload_n dX3_doMove_25 rfl 3 rfl ?_
    refine am_bipush dX3_doMove_26 (by decide) ?_
    refine am_isub dX3_doMove_28 ?_
    obtain ⟨o21, hh⟩ := hh
    refine am_miast 0 (by decide) (by decide) o21.1 o21.2 dX3_doMove_29 ?_
    refine am_goto (tgt := 65) dX3_doMove_30 (by decide) ?_
    exact am_vret rfl dX3_doMove_65 (Nat.le_refl 0) (Nat.le_refl 0) hh
/-! TableArmsModel.isPut(IIII)Z -/
abbrev VX3_isPut (l : Launch) (Q : Option am_W → am_M → Prop) (pc : Nat) (lv : List (Nat × am_W)) (st : List am_W) (S : am_M) : Prop := am_V am_mr l RX3 cX3_isPut 6 (some .boolean) "isPut" (am_rm 7 0 0) (am_E1 am_mr 0 0 Q) pc lv st S 0 0
abbrev kX3_isPut (l : Launch) (as : List am_W) (S : am_M) (Q : Option am_W → am_M → Prop) : Prop := am_C am_mr l yX3_isPut (ws_ yX3_isPut cX3_isPut 6 (some .boolean)) (am_rm 7 0 0) 0 0 as S Q
set_option maxHeartbeats 4000000 in
set_option maxRecDepth 100000 in
theorem bX3_isPut {l : Launch} {Q : Option am_W → am_M → Prop} {S : am_M} (v1 : Int) (h1 : am_r v1) (v2 : Int) (h2 : am_r v2) (v3 : Int) (h3 : am_r v3) (v4 : Int) (h4 : am_r v4)
    (hh : kX3_whereTo l [am_R 0, am_I v1, am_I v2, am_I v3, am_I v4] S (am_qi fun r2 S1 =>
        ((r2 = (-1000000)) →
          Q (some (am_I (am_b false))) S1) ∧
        ((¬ r2 = (-1000000)) →
          kX3_canMove l [am_R 0, am_I v1, am_I v2, am_I r2] S1 (am_qz fun b8 S7 =>
            ((b8 = true) →
              kX3_doMove l [am_R 0, am_I v1, am_I v2, am_I r2] S7 (am_qv fun S12 =>
                Q (some (am_I (am_b true))) S12)) ∧
            ((b8 = false) →
              Q (some (am_I (am_b false))) S7))))) : kX3_isPut l [am_R 0, am_I v1, am_I v2, am_I v3, am_I v4] S Q := by
  refine am_entry (lv := [(0, am_R 0), (1, am_I v1), (2, am_I v2), (3, am_I v3), (4, am_I v4)]) rfl rfl rfl (fun _ => rfl) (fun _ => Nat.le_of_ble_eq_true rfl) ?_
  refine am_aload_n dX3_isPut_0 rfl 0 rfl ?_
  refine am_iload_n dX3_isPut_1 rfl 1 rfl ?_
  refine am_iload_n dX3_isPut_2 rfl 2 rfl ?_
  refine am_iload_n dX3_isPut_3 rfl 3 rfl ?_
  refine am_iload dX3_isPut_4 4 rfl ?_
  refine am_rVi (n := 4) hh dX3_isPut_6 (lw_V q1556 q1558 qs49 q96 q1559) rfl ⟨⟨by decide, by decide, by decide +kernel⟩, ⟨Nat.le_of_ble_eq_true rfl, Nat.le_of_ble_eq_true rfl⟩⟩ ⟨rfl, rfl⟩ rfl rfl (Nat.le_of_ble_eq_true rfl) ⟨(Nat.le_refl 0), (Nat.le_refl 0)⟩ (am_mrecv _) (fun r2 S1 hr3 hh => ?_)
  refine am_istore dX3_isPut_9 (by decide) rfl ?_
  refine am_iload dX3_isPut_11 0 rfl ?_
  refine am_ldc (z := -1000000) q1544 (by decide) dX3_isPut_13 ?_
  obtain ⟨ha4, hb5⟩ := hh
  refine am_icmp_eq (tgt := 29) dX3_isPut_15 (by decide) hr3 (⟨by decide, by decide⟩) (fun hc6 => ?_) (fun hc6 => ?_)
  · have hh := ha4 hc6
    refine am_iconst dX3_isPut_29 ?_
    exact am_zret (b := false) rfl dX3_isPut_30 (Nat.le_refl 0) (Nat.le_refl 0) hh
  · have hh := hb5 hc6
    refine am_aload_n dX3_isPut_18 rfl 1 rfl ?_
    refine am_iload_n dX3_isPut_19 rfl 2 rfl ?_
    refine am_iload_n dX3_isPut_20 rfl 3 rfl ?_
    refine am_iload dX3_isPut_21 0 rfl ?_
    refine am_rVz (n := 3) hh dX3_isPut_23 (lw_V q1568 q1570 qs52 q96 q1571) rfl ⟨⟨by decide, by decide, by decide +kernel⟩, ⟨Nat.le_of_ble_eq_true rfl, Nat.le_of_ble_eq_true rfl⟩⟩ ⟨rfl, rfl⟩ rfl rfl (Nat.le_of_ble_eq_true rfl) ⟨(Nat.le_refl 0), (Nat.le_refl 0)⟩ (am_mrecv _) (fun b8 S7 hh => ?_)
    obtain ⟨ha9, hb10⟩ := hh
    refine am_ifB_ne (tgt := 31) dX3_isPut_26 (by decide) (fun hc11 => ?_) (fun hc11 => ?_)
    · have hh := ha9 hc11
      refine am_aload_n dX3_isPut_31 rfl 1 rfl ?_
      refine am_iload_n dX3_isPut_32 rfl 2 rfl ?_
      refine am_iload_n dX3_isPut_33 rfl 3 rfl ?_
      refine am_iload dX3_isPut_34 0 rfl ?_
      refine am_rVv (n := 3) hh dX3_isPut_36 (lw_V q1580 q1582 qs55 q96 q1583) rfl ⟨⟨by decide, by decide, by decide +kernel⟩, ⟨Nat.le_of_ble_eq_true rfl, Nat.le_of_ble_eq_true rfl⟩⟩ ⟨rfl, rfl⟩ rfl rfl (Nat.le_of_ble_eq_true rfl) ⟨(Nat.le_refl 0), (Nat.le_refl 0)⟩ (am_mrecv _) (fun S12 hh => ?_)
      refine am_iconst dX3_isPut_39 ?_
      exact am_zret (b := true) rfl dX3_isPut_40 (Nat.le_refl 0) (Nat.le_refl 0) hh
    · have hh := hb10 hc11
      refine am_iconst dX3_isPut_29 ?_
      exact am_zret (b := false) rfl dX3_isPut_30 (Nat.le_refl 0) (Nat.le_refl 0) hh
/-! TableArmsModel.doOrder(II)I -/
abbrev VX3_doOrder (l : Launch) (Q : Option am_W → am_M → Prop) (pc : Nat) (lv : List (Nat × am_W)) (st : List am_W) (S : am_M) : Prop := am_V am_mr l RX3 cX3_doOrder 9 (some .int) "doOrder" (am_rm 8 0 0) (am_E1 am_mr 0 0 Q) pc lv st S 0 0
abbrev kX3_doOrder (l : Launch) (as : List am_W) (S : am_M) (Q : Option am_W → am_M → Prop) : Prop := am_C am_mr l yX3_doOrder (ws_ yX3_doOrder cX3_doOrder 9 (some .int)) (am_rm 8 0 0) 0 0 as S Q
set_option maxHeartbeats 4000000 in
set_option maxRecDepth 100000 in
theorem bX3_doOrder {l : Launch} {Q : Option am_W → am_M → Prop} {S : am_M} (v1 : Int) (h1 : am_r v1) (v2 : Int) (h2 : am_r v2)
    (hh : (0 ≤ v2) ∧
      (0 ≤ (v2 / 2)) ∧
      (0 ≤ (v2 / 8)) ∧
      VX3_doOrder l Q 29 [(0, am_R 0), (1, am_I v1), (2, am_I v2), (3, am_I ((v2 / 2) % 4)), (4, am_I ((v2 / 8) % 3)), (5, am_I (v2 / 24)), (6, am_I 0), (7, am_I 0), (8, am_I 0)] [] S) : kX3_doOrder l [am_R 0, am_I v1, am_I v2] S Q := by
  refine am_entry (lv := [(0, am_R 0), (1, am_I v1), (2, am_I v2)]) rfl rfl rfl (fun _ => rfl) (fun _ => Nat.le_of_ble_eq_true rfl) ?_
  refine am_iload_n dX3_doOrder_0 rfl 2 rfl ?_
  refine am_iconst dX3_doOrder_1 ?_
  obtain ⟨o1, hh⟩ := hh
  refine am_idiv dX3_doOrder_2 o1 (h2).2 (by decide) (by decide) ?_
  refine am_iconst dX3_doOrder_3 ?_
  obtain ⟨o2, hh⟩ := hh
  refine am_irem dX3_doOrder_4 o2 ((am_r_div o1 (h2).2 (by decide) : am_r (v2 / 2))).2 (by decide) (by decide) ?_
  refine am_istore_n dX3_doOrder_5 rfl (by decide) rfl ?_
  refine am_iload_n dX3_doOrder_6 rfl 3 rfl ?_
  refine am_bipush dX3_doOrder_7 (by decide) ?_
  refine am_idiv dX3_doOrder_9 o1 (h2).2 (by decide) (by decide) ?_
  refine am_iconst dX3_doOrder_10 ?_
  obtain ⟨o3, hh⟩ := hh
  refine am_irem dX3_doOrder_11 o3 ((am_r_div o1 (h2).2 (by decide) : am_r (v2 / 8))).2 (by decide) (by decide) ?_
  refine am_istore dX3_doOrder_12 (by decide) rfl ?_
  refine am_iload_n dX3_doOrder_14 rfl 4 rfl ?_
  refine am_bipush dX3_doOrder_15 (by decide) ?_
  refine am_idiv dX3_doOrder_17 o1 (h2).2 (by decide) (by decide) ?_
  refine am_istore dX3_doOrder_18 (by decide) rfl ?_
  refine am_iconst dX3_doOrder_20 ?_
  refine am_istore dX3_doOrder_21 (by decide) rfl ?_
  refine am_iconst dX3_doOrder_23 ?_
  refine am_istore dX3_doOrder_24 (by decide) rfl ?_
  refine am_iconst dX3_doOrder_26 ?_
  refine am_istore dX3_doOrder_27 (by decide) rfl ?_
  refine am_keep [6, 7, 8, 5, 4, 3, 2, 1, 0] rfl ?_
  exact hh
set_option maxHeartbeats 4000000 in
set_option maxRecDepth 100000 in
theorem bX3_doOrder_29 {l : Launch} {Q : Option am_W → am_M → Prop} {S : am_M} (v1 : Int) (h1 : am_r v1) (v2 : Int) (h2 : am_r v2) (v3 : Int) (h3 : am_r v3) (v4 : Int) (h4 : am_r v4) (v5 : Int) (h5 : am_r v5) (v6 : Int) (h6 : am_r v6) (v7 : Int) (h7 : am_r v7) (v8 : Int) (h8 : am_r v8)
    (hh : ((((S.1 2).toInt) ≤ v8) →
        (0 ≤ v2) ∧
        (((v2 % 2) = 0) →
          Q (some (am_I (-1000000))) S) ∧
        ((¬ (v2 % 2) = 0) →
          ((v7 ≤ 0) →
            Q (some (am_I v6)) S) ∧
          ((¬ v7 ≤ 0) →
            ((¬ v6 = 0) →
              Q (some (am_I v6)) S) ∧
            ((v6 = 0) →
              Q (some (am_I (-1000000))) S)))) ∧
      ((¬ ((S.1 2).toInt) ≤ v8) →
        (0 ≤ v8 ∧ v8 < 6) ∧
        ((¬ ((S.2 1 v8.toNat).toInt) = v3) →
          VX3_doOrder l Q 29 [(0, am_R 0), (1, am_I v1), (2, am_I v2), (3, am_I v3), (4, am_I v4), (5, am_I v5), (6, am_I v6), (7, am_I v7), (8, am_I (v8 + 1))] [] S) ∧
        ((((S.2 1 v8.toNat).toInt) = v3) →
          kX3_isAsTold l [am_R 0, am_I v1, am_I v8, am_I v4, am_I v5] S (am_qz fun b19 S18 =>
            ((b19 = true) →
              VX3_doOrder l Q 29 [(0, am_R 0), (1, am_I v1), (2, am_I v2), (3, am_I v3), (4, am_I v4), (5, am_I v5), (6, am_I v6), (7, am_I v7), (8, am_I (v8 + 1))] [] S18) ∧
            ((b19 = false) →
              (0 ≤ v2) ∧
              ((¬ (v2 % 2) = 1) →
                kX3_isLoose l [am_R 0, am_I v1, am_I v8] S18 (am_qz fun b28 S27 =>
                  ((b28 = false) →
                    VX3_doOrder l Q 29 [(0, am_R 0), (1, am_I v1), (2, am_I v2), (3, am_I v3), (4, am_I v4), (5, am_I v5), (6, am_I v6), (7, am_I v7), (8, am_I (v8 + 1))] [] S27) ∧
                  ((b28 = true) →
                    kX3_isPut l [am_R 0, am_I v1, am_I v8, am_I v4, am_I v5] S27 (am_qz fun b33 S32 =>
                      ((b33 = false) →
                        Q (some (am_I (-1000000))) S32) ∧
                      ((b33 = true) →
                        Q (some (am_I 1)) S32))))) ∧
              (((v2 % 2) = 1) →
                kX3_isPut l [am_R 0, am_I v1, am_I v8, am_I v4, am_I v5] S18 (am_qz fun b38 S37 =>
                  ((b38 = false) →
                    VX3_doOrder l Q 29 [(0, am_R 0), (1, am_I v1), (2, am_I v2), (3, am_I v3), (4, am_I v4), (5, am_I v5), (6, am_I (v6 + 0)), (7, am_I (v7 + 1)), (8, am_I (v8 + 1))] [] S37) ∧
                  ((b38 = true) →
                    VX3_doOrder l Q 29 [(0, am_R 0), (1, am_I v1), (2, am_I v2), (3, am_I v3), (4, am_I v4), (5, am_I v5), (6, am_I (v6 + 1)), (7, am_I (v7 + 1)), (8, am_I (v8 + 1))] [] S37)))))))) : VX3_doOrder l Q 29 [(0, am_R 0), (1, am_I v1), (2, am_I v2), (3, am_I v3), (4, am_I v4), (5, am_I v5), (6, am_I v6), (7, am_I v7), (8, am_I v8)] [] S := by
  refine am_iload dX3_doOrder_29 8 rfl ?_
  refine am_aload_n dX3_doOrder_31 rfl 0 rfl ?_
  refine am_mgeti 2 (by decide) (v := (S.1 2).toInt) rfl q1404 dX3_doOrder_32 ?_
  obtain ⟨ha1, hb2⟩ := hh
  refine am_icmp_ge (tgt := 137) dX3_doOrder_35 (by decide) h8 (am_rt _) (fun hc3 => ?_) (fun hc3 => ?_)
  · have hh := ha1 hc3
    refine am_iload_n dX3_doOrder_137 rfl 2 rfl ?_
    refine am_iconst dX3_doOrder_138 ?_
    obtain ⟨o4, hh⟩ := hh
    refine am_irem dX3_doOrder_139 o4 (h2).2 (by decide) (by decide) ?_
    obtain ⟨ha5, hb6⟩ := hh
    refine am_if_eq (tgt := 153) dX3_doOrder_140 (by decide) (am_r_rem o4 (h2).2 (by decide) : am_r (v2 % 2)) (fun hc7 => ?_) (fun hc7 => ?_)
    · have hh := ha5 hc7
      refine am_ldc (z := -1000000) q1544 (by decide) dX3_doOrder_153 ?_
      refine am_goto (tgt := 160) dX3_doOrder_155 (by decide) ?_
      exact am_iret rfl dX3_doOrder_160 (Nat.le_refl 0) (Nat.le_refl 0) hh
    · have hh := hb6 hc7
      refine am_iload dX3_doOrder_143 7 rfl ?_
      obtain ⟨ha8, hb9⟩ := hh
      refine am_if_le (tgt := 158) dX3_doOrder_145 (by decide) h7 (fun hc10 => ?_) (fun hc10 => ?_)
      · have hh := ha8 hc10
        refine am_iload dX3_doOrder_158 6 rfl ?_
        exact am_iret rfl dX3_doOrder_160 (Nat.le_refl 0) (Nat.le_refl 0) hh
      · have hh := hb9 hc10
        refine am_iload dX3_doOrder_148 6 rfl ?_
        obtain ⟨ha11, hb12⟩ := hh
        refine am_if_ne (tgt := 158) dX3_doOrder_150 (by decide) h6 (fun hc13 => ?_) (fun hc13 => ?_)
        · have hh := ha11 hc13
          refine am_iload dX3_doOrder_158 6 rfl ?_
          exact am_iret rfl dX3_doOrder_160 (Nat.le_refl 0) (Nat.le_refl 0) hh
        · have hh := hb12 hc13
          refine am_ldc (z := -1000000) q1544 (by decide) dX3_doOrder_153 ?_
          refine am_goto (tgt := 160) dX3_doOrder_155 (by decide) ?_
          exact am_iret rfl dX3_doOrder_160 (Nat.le_refl 0) (Nat.le_refl 0) hh
  · have hh := hb2 hc3
    refine am_aload_n dX3_doOrder_38 rfl 0 rfl ?_
    refine am_mgeta 1 (by decide) q1405 dX3_doOrder_39 ?_
    refine am_iload dX3_doOrder_42 8 rfl ?_
    obtain ⟨o14, hh⟩ := hh
    refine am_miald 1 (by decide) (by decide) (v := (S.2 1 v8.toNat).toInt) rfl o14.1 o14.2 dX3_doOrder_44 ?_
    refine am_iload_n dX3_doOrder_45 rfl 3 rfl ?_
    obtain ⟨ha15, hb16⟩ := hh
    refine am_icmp_ne (tgt := 131) dX3_doOrder_46 (by decide) (am_rt _) h3 (fun hc17 => ?_) (fun hc17 => ?_)
    · have hh := ha15 hc17
      refine am_iinc (n := 8) dX3_doOrder_131 rfl (by decide) rfl ?_
      refine am_goto (tgt := 29) dX3_doOrder_134 (by decide) ?_
      refine am_keep [1, 2, 3, 4, 5, 6, 7, 8, 0] rfl ?_
      exact hh
    · have hh := hb16 hc17
      refine am_aload_n dX3_doOrder_49 rfl 0 rfl ?_
      refine am_iload_n dX3_doOrder_50 rfl 1 rfl ?_
      refine am_iload dX3_doOrder_51 8 rfl ?_
      refine am_iload dX3_doOrder_53 4 rfl ?_
      refine am_iload dX3_doOrder_55 5 rfl ?_
      refine am_rVz (n := 4) hh dX3_doOrder_57 (lw_V q1524 q1526 qs42 q96 q1527) rfl ⟨⟨by decide, by decide, by decide +kernel⟩, ⟨Nat.le_of_ble_eq_true rfl, Nat.le_of_ble_eq_true rfl⟩⟩ ⟨rfl, rfl⟩ rfl rfl (Nat.le_of_ble_eq_true rfl) ⟨(Nat.le_refl 0), (Nat.le_refl 0)⟩ (am_mrecv _) (fun b19 S18 hh => ?_)
      obtain ⟨ha20, hb21⟩ := hh
      refine am_ifB_ne (tgt := 131) dX3_doOrder_60 (by decide) (fun hc22 => ?_) (fun hc22 => ?_)
      · have hh := ha20 hc22
        refine am_iinc (n := 8) dX3_doOrder_131 rfl (by decide) rfl ?_
        refine am_goto (tgt := 29) dX3_doOrder_134 (by decide) ?_
        refine am_keep [1, 2, 3, 4, 5, 6, 7, 8, 0] rfl ?_
        exact hh
      · have hh := hb21 hc22
        refine am_iload_n dX3_doOrder_63 rfl 2 rfl ?_
        refine am_iconst dX3_doOrder_64 ?_
        obtain ⟨o23, hh⟩ := hh
        refine am_irem dX3_doOrder_65 o23 (h2).2 (by decide) (by decide) ?_
        refine am_iconst dX3_doOrder_66 ?_
        obtain ⟨ha24, hb25⟩ := hh
        refine am_icmp_ne (tgt := 100) dX3_doOrder_67 (by decide) (am_r_rem o23 (h2).2 (by decide) : am_r (v2 % 2)) (⟨by decide, by decide⟩) (fun hc26 => ?_) (fun hc26 => ?_)
        · have hh := ha24 hc26
          refine am_aload_n dX3_doOrder_100 rfl 0 rfl ?_
          refine am_iload_n dX3_doOrder_101 rfl 1 rfl ?_
          refine am_iload dX3_doOrder_102 8 rfl ?_
          refine am_rVz (n := 2) hh dX3_doOrder_104 (lw_V q1572 q1574 qs53 q96 q1575) rfl ⟨⟨by decide, by decide, by decide +kernel⟩, ⟨Nat.le_of_ble_eq_true rfl, Nat.le_of_ble_eq_true rfl⟩⟩ ⟨rfl, rfl⟩ rfl rfl (Nat.le_of_ble_eq_true rfl) ⟨(Nat.le_refl 0), (Nat.le_refl 0)⟩ (am_mrecv _) (fun b28 S27 hh => ?_)
          obtain ⟨ha29, hb30⟩ := hh
          refine am_ifB_eq (tgt := 131) dX3_doOrder_107 (by decide) (fun hc31 => ?_) (fun hc31 => ?_)
          · have hh := ha29 hc31
            refine am_iinc (n := 8) dX3_doOrder_131 rfl (by decide) rfl ?_
            refine am_goto (tgt := 29) dX3_doOrder_134 (by decide) ?_
            refine am_keep [1, 2, 3, 4, 5, 6, 7, 8, 0] rfl ?_
            exact hh
          · have hh := hb30 hc31
            refine am_aload_n dX3_doOrder_110 rfl 0 rfl ?_
            refine am_iload_n dX3_doOrder_111 rfl 1 rfl ?_
            refine am_iload dX3_doOrder_112 8 rfl ?_
            refine am_iload dX3_doOrder_114 4 rfl ?_
            refine am_iload dX3_doOrder_116 5 rfl ?_
            refine am_rVz (n := 4) hh dX3_doOrder_118 (lw_V q1552 q1554 qs48 q96 q1555) rfl ⟨⟨by decide, by decide, by decide +kernel⟩, ⟨Nat.le_of_ble_eq_true rfl, Nat.le_of_ble_eq_true rfl⟩⟩ ⟨rfl, rfl⟩ rfl rfl (Nat.le_of_ble_eq_true rfl) ⟨(Nat.le_refl 0), (Nat.le_refl 0)⟩ (am_mrecv _) (fun b33 S32 hh => ?_)
            obtain ⟨ha34, hb35⟩ := hh
            refine am_ifB_eq (tgt := 128) dX3_doOrder_121 (by decide) (fun hc36 => ?_) (fun hc36 => ?_)
            · have hh := ha34 hc36
              refine am_ldc (z := -1000000) q1544 (by decide) dX3_doOrder_128 ?_
              exact am_iret rfl dX3_doOrder_130 (Nat.le_refl 0) (Nat.le_refl 0) hh
            · have hh := hb35 hc36
              refine am_iconst dX3_doOrder_124 ?_
              refine am_goto (tgt := 130) dX3_doOrder_125 (by decide) ?_
              exact am_iret rfl dX3_doOrder_130 (Nat.le_refl 0) (Nat.le_refl 0) hh
        · have hh := hb25 hc26
          refine am_iinc (n := 7) dX3_doOrder_70 rfl (by decide) rfl ?_
          refine am_iload dX3_doOrder_73 7 rfl ?_
          refine am_aload_n dX3_doOrder_75 rfl 1 rfl ?_
          refine am_iload_n dX3_doOrder_76 rfl 2 rfl ?_
          refine am_iload dX3_doOrder_77 8 rfl ?_
          refine am_iload dX3_doOrder_79 5 rfl ?_
          refine am_iload dX3_doOrder_81 6 rfl ?_
          refine am_rVz (n := 4) hh dX3_doOrder_83 (lw_V q1552 q1554 qs48 q96 q1555) rfl ⟨⟨by decide, by decide, by decide +kernel⟩, ⟨Nat.le_of_ble_eq_true rfl, Nat.le_of_ble_eq_true rfl⟩⟩ ⟨rfl, rfl⟩ rfl rfl (Nat.le_of_ble_eq_true rfl) ⟨(Nat.le_refl 0), (Nat.le_refl 0)⟩ (am_mrecv _) (fun b38 S37 hh => ?_)
          obtain ⟨ha39, hb40⟩ := hh
          refine am_ifB_eq (tgt := 93) dX3_doOrder_86 (by decide) (fun hc41 => ?_) (fun hc41 => ?_)
          · have hh := ha39 hc41
            refine am_iconst dX3_doOrder_93 ?_
            refine am_iadd dX3_doOrder_94 ?_
            refine am_istore dX3_doOrder_95 (by decide) rfl ?_
            refine am_goto (tgt := 131) dX3_doOrder_97 (by decide) ?_
            refine am_iinc (n := 8) dX3_doOrder_131 rfl (by decide) rfl ?_
            refine am_goto (tgt := 29) dX3_doOrder_134 (by decide) ?_
            refine am_keep [3, 4, 5, 6, 7, 8, 1, 2, 0] rfl ?_
            exact hh
          · have hh := hb40 hc41
            refine am_iconst dX3_doOrder_89 ?_
            refine am_goto (tgt := 94) dX3_doOrder_90 (by decide) ?_
            refine am_iadd dX3_doOrder_94 ?_
            refine am_istore dX3_doOrder_95 (by decide) rfl ?_
            refine am_goto (tgt := 131) dX3_doOrder_97 (by decide) ?_
            refine am_iinc (n := 8) dX3_doOrder_131 rfl (by decide) rfl ?_
            refine am_goto (tgt := 29) dX3_doOrder_134 (by decide) ?_
            refine am_keep [3, 4, 5, 6, 7, 8, 1, 2, 0] rfl ?_
            exact hh
/-! TableArmsModel.order(I)I -/
abbrev VX3_order (l : Launch) (Q : Option am_W → am_M → Prop) (pc : Nat) (lv : List (Nat × am_W)) (st : List am_W) (S : am_M) : Prop := am_V am_mr l RX3 cX3_order 3 (some .int) "order" (am_rm 9 0 0) (am_E1 am_mr 0 0 Q) pc lv st S 0 0
abbrev kX3_order (l : Launch) (as : List am_W) (S : am_M) (Q : Option am_W → am_M → Prop) : Prop := am_C am_mr l yX3_order (ws_ yX3_order cX3_order 3 (some .int)) (am_rm 9 0 0) 0 0 as S Q
set_option maxHeartbeats 4000000 in
set_option maxRecDepth 100000 in
theorem bX3_order {l : Launch} {Q : Option am_W → am_M → Prop} {S : am_M} (v1 : Int) (h1 : am_r v1)
    (hh : kX3_isOrder l [am_I v1] (am_sv S 0 0) (am_qz fun b2 S1 =>
        ((b2 = true) →
          kX3_copyTable l [am_R 0, am_I 0, am_I 9] S1 (am_qv fun S6 =>
            kX3_doOrder l [am_R 0, am_I 9, am_I v1] S6 (am_qi fun r8 S7 =>
              ((¬ r8 = (-1000000)) →
                kX3_copyTable l [am_R 0, am_I 9, am_I 0] S7 (am_qv fun S13 =>
                  Q (some (am_I r8)) S13)) ∧
              ((r8 = (-1000000)) →
                Q (some (am_I (-1000002))) S7)))) ∧
        ((b2 = false) →
          Q (some (am_I (-1000001))) S1))) : kX3_order l [am_R 0, am_I v1] S Q := by
  refine am_entry (lv := [(0, am_R 0), (1, am_I v1)]) rfl rfl rfl (fun _ => rfl) (fun _ => Nat.le_of_ble_eq_true rfl) ?_
  refine am_aload_n dX3_order_0 rfl 0 rfl ?_
  refine am_iconst dX3_order_1 ?_
  refine am_mput 0 (by decide) q1401 dX3_order_2 ?_
  refine am_iload_n dX3_order_5 rfl 1 rfl ?_
  refine am_rSz (n := 1) hh dX3_order_6 (lw_S q1508 q1509 q96 q1510) ⟨⟨by decide, by decide, by decide +kernel⟩, ⟨Nat.le_of_ble_eq_true rfl, Nat.le_of_ble_eq_true rfl⟩⟩ ⟨rfl, rfl⟩ rfl rfl (Nat.le_of_ble_eq_true rfl) ⟨(Nat.le_refl 0), (Nat.le_refl 0)⟩ (fun b2 S1 hh => ?_)
  obtain ⟨ha3, hb4⟩ := hh
  refine am_ifB_ne (tgt := 15) dX3_order_9 (by decide) (fun hc5 => ?_) (fun hc5 => ?_)
  · have hh := ha3 hc5
    refine am_aload_n dX3_order_15 rfl 0 rfl ?_
    refine am_iconst dX3_order_16 ?_
    refine am_bipush dX3_order_17 (by decide) ?_
    refine am_rVv (n := 2) hh dX3_order_19 (lw_V q1516 q1518 qs40 q96 q1519) rfl ⟨⟨by decide, by decide, by decide +kernel⟩, ⟨Nat.le_of_ble_eq_true rfl, Nat.le_of_ble_eq_true rfl⟩⟩ ⟨rfl, rfl⟩ rfl rfl (Nat.le_of_ble_eq_true rfl) ⟨(Nat.le_refl 0), (Nat.le_refl 0)⟩ (am_mrecv _) (fun S6 hh => ?_)
    refine am_aload_n dX3_order_22 rfl 0 rfl ?_
    refine am_bipush dX3_order_23 (by decide) ?_
    refine am_iload_n dX3_order_25 rfl 1 rfl ?_
    refine am_rVi (n := 2) hh dX3_order_26 (lw_V q1520 q1522 qs41 q96 q1523) rfl ⟨⟨by decide, by decide, by decide +kernel⟩, ⟨Nat.le_of_ble_eq_true rfl, Nat.le_of_ble_eq_true rfl⟩⟩ ⟨rfl, rfl⟩ rfl rfl (Nat.le_of_ble_eq_true rfl) ⟨(Nat.le_refl 0), (Nat.le_refl 0)⟩ (am_mrecv _) (fun r8 S7 hr9 hh => ?_)
    refine am_istore_n dX3_order_29 rfl (by decide) rfl ?_
    refine am_iload_n dX3_order_30 rfl 0 rfl ?_
    refine am_ldc (z := -1000000) q1544 (by decide) dX3_order_31 ?_
    obtain ⟨ha10, hb11⟩ := hh
    refine am_icmp_ne (tgt := 39) dX3_order_33 (by decide) hr9 (⟨by decide, by decide⟩) (fun hc12 => ?_) (fun hc12 => ?_)
    · have hh := ha10 hc12
      refine am_aload_n dX3_order_39 rfl 1 rfl ?_
      refine am_bipush dX3_order_40 (by decide) ?_
      refine am_iconst dX3_order_42 ?_
      refine am_rVv (n := 2) hh dX3_order_43 (lw_V q1516 q1518 qs40 q96 q1519) rfl ⟨⟨by decide, by decide, by decide +kernel⟩, ⟨Nat.le_of_ble_eq_true rfl, Nat.le_of_ble_eq_true rfl⟩⟩ ⟨rfl, rfl⟩ rfl rfl (Nat.le_of_ble_eq_true rfl) ⟨(Nat.le_refl 0), (Nat.le_refl 0)⟩ (am_mrecv _) (fun S13 hh => ?_)
      refine am_iload_n dX3_order_46 rfl 0 rfl ?_
      exact am_iret rfl dX3_order_47 (Nat.le_refl 0) (Nat.le_refl 0) hh
    · have hh := hb11 hc12
      refine am_ldc (z := -1000002) q1592 (by decide) dX3_order_36 ?_
      exact am_iret rfl dX3_order_38 (Nat.le_refl 0) (Nat.le_refl 0) hh
  · have hh := hb4 hc5
    refine am_ldc (z := -1000001) q1515 (by decide) dX3_order_12 ?_
    exact am_iret rfl dX3_order_14 (Nat.le_refl 0) (Nat.le_refl 0) hh
/-! TableArmsModel.isCell(I)Z -/
abbrev VX3_isCell (l : Launch) (Q : Option am_W → am_M → Prop) (pc : Nat) (lv : List (Nat × am_W)) (st : List am_W) (S : am_M) : Prop := am_V am_mr l RX3 cX3_isCell 1 (some .boolean) "isCell" (am_rm 2 0 0) (am_E1 am_mr 0 0 Q) pc lv st S 0 0
abbrev kX3_isCell (l : Launch) (as : List am_W) (S : am_M) (Q : Option am_W → am_M → Prop) : Prop := am_C am_mr l yX3_isCell (ws_ yX3_isCell cX3_isCell 1 (some .boolean)) (am_rm 2 0 0) 0 0 as S Q
set_option maxHeartbeats 4000000 in
set_option maxRecDepth 100000 in
theorem bX3_isCell {l : Launch} {Q : Option am_W → am_M → Prop} {S : am_M} (v0 : Int) (h0 : am_r v0)
    (hh : kX3_in l [am_J v0, am_J 0, am_J 7] S (am_qz fun b2 S1 =>
        Q (some (am_I (am_b b2))) S1)) : kX3_isCell l [am_I v0] S Q := by
  refine am_entry (lv := [(0, am_I v0)]) rfl rfl rfl (fun _ => rfl) (fun _ => Nat.le_of_ble_eq_true rfl) ?_
  refine am_iload_n dX3_isCell_0 rfl 0 rfl ?_
  refine am_i2l_ h0 dX3_isCell_1 ?_
  refine am_lconst (z := 0) dX3_isCell_2 (by decide) ?_
  refine am_ldc2 (z := 7) q1602 (by decide) dX3_isCell_3 ?_
  refine am_rSz (n := 3) hh dX3_isCell_6 (lw_S q1512 q1513 q96 q1514) ⟨⟨by decide, by decide, by decide +kernel⟩, ⟨Nat.le_of_ble_eq_true rfl, Nat.le_of_ble_eq_true rfl⟩⟩ ⟨rfl, rfl⟩ rfl rfl (Nat.le_of_ble_eq_true rfl) ⟨(Nat.le_refl 0), (Nat.le_refl 0)⟩ (fun b2 S1 hh => ?_)
  exact am_zret (b := b2) rfl dX3_isCell_9 (Nat.le_refl 0) (Nat.le_refl 0) hh
/-! TableArmsModel.thing(III)I -/
abbrev VX3_thing (l : Launch) (Q : Option am_W → am_M → Prop) (pc : Nat) (lv : List (Nat × am_W)) (st : List am_W) (S : am_M) : Prop := am_V am_mr l RX3 cX3_thing 5 (some .int) "thing" (am_rm 3 0 0) (am_E1 am_mr 0 0 Q) pc lv st S 0 0
abbrev kX3_thing (l : Launch) (as : List am_W) (S : am_M) (Q : Option am_W → am_M → Prop) : Prop := am_C am_mr l yX3_thing (ws_ yX3_thing cX3_thing 5 (some .int)) (am_rm 3 0 0) 0 0 as S Q
set_option maxHeartbeats 4000000 in
set_option maxRecDepth 100000 in
theorem bX3_thing {l : Launch} {Q : Option am_W → am_M → Prop} {S : am_M} (v1 : Int) (h1 : am_r v1) (v2 : Int) (h2 : am_r v2) (v3 : Int) (h3 : am_r v3)
    (hh : kX3_in l [am_J v1, am_J 0, am_J 3] (am_sv S 0 0) (am_qz fun b2 S1 =>
        ((b2 = false) →
          Q (some (am_I (-1000001))) S1) ∧
        ((b2 = true) →
          kX3_in l [am_J v2, am_J 1, am_J 20] S1 (am_qz fun b7 S6 =>
            ((b7 = false) →
              Q (some (am_I (-1000001))) S6) ∧
            ((b7 = true) →
              kX3_isCell l [am_I v3] S6 (am_qz fun b12 S11 =>
                ((b12 = true) →
                  ((¬ ((S11.1 2).toInt) = 6) →
                    (0 ≤ (S11.1 2).toInt ∧ (S11.1 2).toInt < 6) ∧
                    VX3_thing l Q 74 [(0, am_R 0), (3, am_I v3), (4, am_I 0)] [] (am_sa (am_sa S11 1 ((S11.1 2).toInt) v1) 2 ((S11.1 2).toInt) v2)) ∧
                  ((((S11.1 2).toInt) = 6) →
                    Q (some (am_I (-1000003))) S11)) ∧
                ((b12 = false) →
                  Q (some (am_I (-1000001))) S11))))))) : kX3_thing l [am_R 0, am_I v1, am_I v2, am_I v3] S Q := by
  refine am_entry (lv := [(0, am_R 0), (1, am_I v1), (2, am_I v2), (3, am_I v3)]) rfl rfl rfl (fun _ => rfl) (fun _ => Nat.le_of_ble_eq_true rfl) ?_
  refine am_aload_n dX3_thing_0 rfl 0 rfl ?_
  refine am_iconst dX3_thing_1 ?_
  refine am_mput 0 (by decide) q1401 dX3_thing_2 ?_
  refine am_iload_n dX3_thing_5 rfl 1 rfl ?_
  refine am_i2l_ h1 dX3_thing_6 ?_
  refine am_lconst (z := 0) dX3_thing_7 (by decide) ?_
  refine am_ldc2 (z := 3) q1597 (by decide) dX3_thing_8 ?_
  refine am_rSz (n := 3) hh dX3_thing_11 (lw_S q1512 q1513 q96 q1514) ⟨⟨by decide, by decide, by decide +kernel⟩, ⟨Nat.le_of_ble_eq_true rfl, Nat.le_of_ble_eq_true rfl⟩⟩ ⟨rfl, rfl⟩ rfl rfl (Nat.le_of_ble_eq_true rfl) ⟨(Nat.le_refl 0), (Nat.le_refl 0)⟩ (fun b2 S1 hh => ?_)
  obtain ⟨ha3, hb4⟩ := hh
  refine am_ifB_eq (tgt := 36) dX3_thing_14 (by decide) (fun hc5 => ?_) (fun hc5 => ?_)
  · have hh := ha3 hc5
    refine am_ldc (z := -1000001) q1515 (by decide) dX3_thing_36 ?_
    exact am_iret rfl dX3_thing_38 (Nat.le_refl 0) (Nat.le_refl 0) hh
  · have hh := hb4 hc5
    refine am_iload_n dX3_thing_17 rfl 2 rfl ?_
    refine am_i2l_ h2 dX3_thing_18 ?_
    refine am_lconst (z := 1) dX3_thing_19 (by decide) ?_
    refine am_ldc2 (z := 20) q1598 (by decide) dX3_thing_20 ?_
    refine am_rSz (n := 3) hh dX3_thing_23 (lw_S q1512 q1513 q96 q1514) ⟨⟨by decide, by decide, by decide +kernel⟩, ⟨Nat.le_of_ble_eq_true rfl, Nat.le_of_ble_eq_true rfl⟩⟩ ⟨rfl, rfl⟩ rfl rfl (Nat.le_of_ble_eq_true rfl) ⟨(Nat.le_refl 0), (Nat.le_refl 0)⟩ (fun b7 S6 hh => ?_)
    obtain ⟨ha8, hb9⟩ := hh
    refine am_ifB_eq (tgt := 36) dX3_thing_26 (by decide) (fun hc10 => ?_) (fun hc10 => ?_)
    · have hh := ha8 hc10
      refine am_ldc (z := -1000001) q1515 (by decide) dX3_thing_36 ?_
      exact am_iret rfl dX3_thing_38 (Nat.le_refl 0) (Nat.le_refl 0) hh
    · have hh := hb9 hc10
      refine am_iload_n dX3_thing_29 rfl 3 rfl ?_
      refine am_rSz (n := 1) hh dX3_thing_30 (lw_S q1599 q1600 q96 q1601) ⟨⟨by decide, by decide, by decide +kernel⟩, ⟨Nat.le_of_ble_eq_true rfl, Nat.le_of_ble_eq_true rfl⟩⟩ ⟨rfl, rfl⟩ rfl rfl (Nat.le_of_ble_eq_true rfl) ⟨(Nat.le_refl 0), (Nat.le_refl 0)⟩ (fun b12 S11 hh => ?_)
      obtain ⟨ha13, hb14⟩ := hh
      refine am_ifB_ne (tgt := 39) dX3_thing_33 (by decide) (fun hc15 => ?_) (fun hc15 => ?_)
      · have hh := ha13 hc15
        refine am_aload_n dX3_thing_39 rfl 0 rfl ?_
        refine am_mgeti 2 (by decide) (v := (S11.1 2).toInt) rfl q1404 dX3_thing_40 ?_
        refine am_bipush dX3_thing_43 (by decide) ?_
        obtain ⟨ha16, hb17⟩ := hh
        refine am_icmp_ne (tgt := 51) dX3_thing_45 (by decide) (am_rt _) (⟨by decide, by decide⟩) (fun hc18 => ?_) (fun hc18 => ?_)
        · have hh := ha16 hc18
          refine am_aload_n dX3_thing_51 rfl 0 rfl ?_
          refine am_mgeta 1 (by decide) q1405 dX3_thing_52 ?_
          refine am_aload_n dX3_thing_55 rfl 0 rfl ?_
          refine am_mgeti 2 (by decide) (v := (S11.1 2).toInt) rfl q1404 dX3_thing_56 ?_
          refine am_iload_n dX3_thing_59 rfl 1 rfl ?_
          obtain ⟨o19, hh⟩ := hh
          refine am_miast 1 (by decide) (by decide) o19.1 o19.2 dX3_thing_60 ?_
          refine am_aload_n dX3_thing_61 rfl 0 rfl ?_
          refine am_mgeta 2 (by decide) q1406 dX3_thing_62 ?_
          refine am_aload_n dX3_thing_65 rfl 0 rfl ?_
          refine am_mgeti 2 (by decide) (v := (S11.1 2).toInt) rfl q1404 dX3_thing_66 ?_
          refine am_iload_n dX3_thing_69 rfl 2 rfl ?_
          refine am_miast 2 (by decide) (by decide) o19.1 o19.2 dX3_thing_70 ?_
          refine am_iconst dX3_thing_71 ?_
          refine am_istore dX3_thing_72 (by decide) rfl ?_
          refine am_keep [1, 4, 0] rfl ?_
          exact hh
        · have hh := hb17 hc18
          refine am_ldc (z := -1000003) q1603 (by decide) dX3_thing_48 ?_
          exact am_iret rfl dX3_thing_50 (Nat.le_refl 0) (Nat.le_refl 0) hh
      · have hh := hb14 hc15
        refine am_ldc (z := -1000001) q1515 (by decide) dX3_thing_36 ?_
        exact am_iret rfl dX3_thing_38 (Nat.le_refl 0) (Nat.le_refl 0) hh
set_option maxHeartbeats 4000000 in
set_option maxRecDepth 100000 in
theorem bX3_thing_74 {l : Launch} {Q : Option am_W → am_M → Prop} {S : am_M} (v3 : Int) (h3 : am_r v3) (v4 : Int) (h4 : am_r v4)
    (hh : ((((S.1 3).toInt) < v4) →
        Q (some (am_I ((Int32.ofInt ((S.1 2).toInt + 1)).toInt - 1))) (am_sv S 2 ((S.1 2).toInt + 1))) ∧
      ((¬ ((S.1 3).toInt) < v4) →
        kX3_putOn l [am_R 0, am_I v4, am_I (S.1 2).toInt, am_I v3] S (am_qv fun S4 =>
          VX3_thing l Q 74 [(0, am_R 0), (3, am_I v3), (4, am_I (v4 + 1))] [] S4))) : VX3_thing l Q 74 [(0, am_R 0), (3, am_I v3), (4, am_I v4)] [] S := by
  refine am_iload dX3_thing_74 2 rfl ?_
  refine am_aload_n dX3_thing_76 rfl 0 rfl ?_
  refine am_mgeti 3 (by decide) (v := (S.1 3).toInt) rfl q1407 dX3_thing_77 ?_
  obtain ⟨ha1, hb2⟩ := hh
  refine am_icmp_gt (tgt := 100) dX3_thing_80 (by decide) h4 (am_rt _) (fun hc3 => ?_) (fun hc3 => ?_)
  · have hh := ha1 hc3
    refine am_aload_n dX3_thing_100 rfl 0 rfl ?_
    refine am_dup dX3_thing_101 rfl ?_
    refine am_mgeti 2 (by decide) (v := (S.1 2).toInt) rfl q1404 dX3_thing_102 ?_
    refine am_iconst dX3_thing_105 ?_
    refine am_iadd dX3_thing_106 ?_
    refine am_mput 2 (by decide) q1404 dX3_thing_107 ?_
    refine am_aload_n dX3_thing_110 rfl 0 rfl ?_
    refine am_mgeti 2 (by decide) (v := (Int32.ofInt ((S.1 2).toInt + 1)).toInt) rfl q1404 dX3_thing_111 ?_
    refine am_iconst dX3_thing_114 ?_
    refine am_isub dX3_thing_115 ?_
    exact am_iret rfl dX3_thing_116 (Nat.le_refl 0) (Nat.le_refl 0) hh
  · have hh := hb2 hc3
    refine am_aload_n dX3_thing_83 rfl 0 rfl ?_
    refine am_iload dX3_thing_84 2 rfl ?_
    refine am_aload_n dX3_thing_86 rfl 0 rfl ?_
    refine am_mgeti 2 (by decide) (v := (S.1 2).toInt) rfl q1404 dX3_thing_87 ?_
    refine am_iload_n dX3_thing_90 rfl 1 rfl ?_
    refine am_rVv (n := 3) hh dX3_thing_91 (lw_V q1588 q1590 qs57 q96 q1591) rfl ⟨⟨by decide, by decide, by decide +kernel⟩, ⟨Nat.le_of_ble_eq_true rfl, Nat.le_of_ble_eq_true rfl⟩⟩ ⟨rfl, rfl⟩ rfl rfl (Nat.le_of_ble_eq_true rfl) ⟨(Nat.le_refl 0), (Nat.le_refl 0)⟩ (am_mrecv _) (fun S4 hh => ?_)
    refine am_iinc (n := 2) dX3_thing_94 rfl (by decide) rfl ?_
    refine am_goto (tgt := 74) dX3_thing_97 (by decide) ?_
    refine am_keep [1, 2, 0] rfl ?_
    exact hh
/-! TableArmsModel.isThing(I)Z -/
abbrev VX3_isThing (l : Launch) (Q : Option am_W → am_M → Prop) (pc : Nat) (lv : List (Nat × am_W)) (st : List am_W) (S : am_M) : Prop := am_V am_mr l RX3 cX3_isThing 2 (some .boolean) "isThing" (am_rm 2 0 0) (am_E1 am_mr 0 0 Q) pc lv st S 0 0
abbrev kX3_isThing (l : Launch) (as : List am_W) (S : am_M) (Q : Option am_W → am_M → Prop) : Prop := am_C am_mr l yX3_isThing (ws_ yX3_isThing cX3_isThing 2 (some .boolean)) (am_rm 2 0 0) 0 0 as S Q
set_option maxHeartbeats 4000000 in
set_option maxRecDepth 100000 in
theorem bX3_isThing {l : Launch} {Q : Option am_W → am_M → Prop} {S : am_M} (v1 : Int) (h1 : am_r v1)
    (hh : (am_r ((S.1 2).toInt - 1)) ∧
      kX3_in l [am_J v1, am_J 0, am_J ((S.1 2).toInt - 1)] S (am_qz fun b3 S2 =>
        Q (some (am_I (am_b b3))) S2)) : kX3_isThing l [am_R 0, am_I v1] S Q := by
  refine am_entry (lv := [(0, am_R 0), (1, am_I v1)]) rfl rfl rfl (fun _ => rfl) (fun _ => Nat.le_of_ble_eq_true rfl) ?_
  refine am_iload_n dX3_isThing_0 rfl 1 rfl ?_
  refine am_i2l_ h1 dX3_isThing_1 ?_
  refine am_lconst (z := 0) dX3_isThing_2 (by decide) ?_
  refine am_aload_n dX3_isThing_3 rfl 0 rfl ?_
  refine am_mgeti 2 (by decide) (v := (S.1 2).toInt) rfl q1404 dX3_isThing_4 ?_
  refine am_iconst dX3_isThing_7 ?_
  refine am_isub dX3_isThing_8 ?_
  obtain ⟨o1, hh⟩ := hh
  refine am_i2l_ o1 dX3_isThing_9 ?_
  refine am_rSz (n := 3) hh dX3_isThing_10 (lw_S q1512 q1513 q96 q1514) ⟨⟨by decide, by decide, by decide +kernel⟩, ⟨Nat.le_of_ble_eq_true rfl, Nat.le_of_ble_eq_true rfl⟩⟩ ⟨rfl, rfl⟩ rfl rfl (Nat.le_of_ble_eq_true rfl) ⟨(Nat.le_refl 0), (Nat.le_refl 0)⟩ (fun b3 S2 hh => ?_)
  exact am_zret (b := b3) rfl dX3_isThing_13 (Nat.le_refl 0) (Nat.le_refl 0) hh
/-! TableArmsModel.where(II)I -/
abbrev VX3_where (l : Launch) (Q : Option am_W → am_M → Prop) (pc : Nat) (lv : List (Nat × am_W)) (st : List am_W) (S : am_M) : Prop := am_V am_mr l RX3 cX3_where 4 (some .int) "where" (am_rm 4 0 0) (am_E1 am_mr 0 0 Q) pc lv st S 0 0
abbrev kX3_where (l : Launch) (as : List am_W) (S : am_M) (Q : Option am_W → am_M → Prop) : Prop := am_C am_mr l yX3_where (ws_ yX3_where cX3_where 4 (some .int)) (am_rm 4 0 0) 0 0 as S Q
set_option maxHeartbeats 4000000 in
set_option maxRecDepth 100000 in
theorem bX3_where {l : Launch} {Q : Option am_W → am_M → Prop} {S : am_M} (v1 : Int) (h1 : am_r v1) (v2 : Int) (h2 : am_r v2)
    (hh : kX3_isThing l [am_R 0, am_I v1] (am_sv S 0 0) (am_qz fun b2 S1 =>
        ((b2 = false) →
          Q (some (am_I (-1000001))) S1) ∧
        ((b2 = true) →
          kX3_in l [am_J v2, am_J 0, am_J 6] S1 (am_qz fun b7 S6 =>
            ((b7 = true) →
              kX3_boxOf l [am_R 0, am_I 0, am_I v1] S6 (am_qi fun r12 S11 =>
                ((r12 < 0) →
                  ((v2 = 0) →
                    (0 ≤ v1 ∧ v1 < 6) ∧
                    Q (some (am_I (S11.2 1 v1.toNat).toInt)) S11) ∧
                  ((v2 = 1) →
                    (0 ≤ v1 ∧ v1 < 6) ∧
                    Q (some (am_I (S11.2 2 v1.toNat).toInt)) S11) ∧
                  ((v2 = 2) →
                    kX3_cellOf l [am_R 0, am_I 0, am_I v1] S11 (am_qi fun r37 S36 =>
                      Q (some (am_I r37)) S36)) ∧
                  ((v2 = 3) →
                    kX3_below l [am_R 0, am_I 0, am_I v1] S11 (am_qi fun r43 S42 =>
                      Q (some (am_I r43)) S42)) ∧
                  ((v2 = 4) →
                    Q (some (am_I (-1000000))) S11) ∧
                  ((v2 = 5) →
                    kX3_isClear l [am_R 0, am_I 0, am_I v1] S11 (am_qz fun b49 S48 =>
                      ((b49 = false) →
                        Q (some (am_I 0)) S48) ∧
                      ((b49 = true) →
                        Q (some (am_I 1)) S48))) ∧
                  ((v2 < 0 ∨ 5 < v2) →
                    kX3_insideOf l [am_R 0, am_I 0, am_I v1] S11 (am_qi fun r26 S25 =>
                      ((0 ≤ r26) →
                        kX3_insideOf l [am_R 0, am_I 0, am_I v1] S25 (am_qi fun r32 S31 =>
                          Q (some (am_I r32)) S31)) ∧
                      ((¬ 0 ≤ r26) →
                        Q (some (am_I (-1000000))) S25)))) ∧
                ((¬ r12 < 0) →
                  ((v2 = 0) →
                    (0 ≤ v1 ∧ v1 < 6) ∧
                    Q (some (am_I (S11.2 1 v1.toNat).toInt)) S11) ∧
                  ((v2 = 1) →
                    (0 ≤ v1 ∧ v1 < 6) ∧
                    Q (some (am_I (S11.2 2 v1.toNat).toInt)) S11) ∧
                  ((v2 = 2) →
                    kX3_cellOf l [am_R 0, am_I 0, am_I v1] S11 (am_qi fun r73 S72 =>
                      Q (some (am_I r73)) S72)) ∧
                  ((v2 = 3) →
                    Q (some (am_I (-1000000))) S11) ∧
                  ((v2 = 4) →
                    kX3_boxOf l [am_R 0, am_I 0, am_I v1] S11 (am_qi fun r82 S81 =>
                      Q (some (am_I r82)) S81)) ∧
                  ((v2 = 5) →
                    kX3_isClear l [am_R 0, am_I 0, am_I v1] S11 (am_qz fun b85 S84 =>
                      ((b85 = false) →
                        Q (some (am_I 0)) S84) ∧
                      ((b85 = true) →
                        Q (some (am_I 1)) S84))) ∧
                  ((v2 < 0 ∨ 5 < v2) →
                    kX3_insideOf l [am_R 0, am_I 0, am_I v1] S11 (am_qi fun r62 S61 =>
                      ((0 ≤ r62) →
                        kX3_insideOf l [am_R 0, am_I 0, am_I v1] S61 (am_qi fun r68 S67 =>
                          Q (some (am_I r68)) S67)) ∧
                      ((¬ 0 ≤ r62) →
                        Q (some (am_I (-1000000))) S61)))))) ∧
            ((b7 = false) →
              Q (some (am_I (-1000001))) S6))))) : kX3_where l [am_R 0, am_I v1, am_I v2] S Q := by
  refine am_entry (lv := [(0, am_R 0), (1, am_I v1), (2, am_I v2)]) rfl rfl rfl (fun _ => rfl) (fun _ => Nat.le_of_ble_eq_true rfl) ?_
  refine am_aload_n dX3_where_0 rfl 0 rfl ?_
  refine am_iconst dX3_where_1 ?_
  refine am_mput 0 (by decide) q1401 dX3_where_2 ?_
  refine am_aload_n dX3_where_5 rfl 0 rfl ?_
  refine am_iload_n dX3_where_6 rfl 1 rfl ?_
  refine am_rVz (n := 1) hh dX3_where_7 (lw_V q1608 q1610 qs58 q96 q1611) rfl ⟨⟨by decide, by decide, by decide +kernel⟩, ⟨Nat.le_of_ble_eq_true rfl, Nat.le_of_ble_eq_true rfl⟩⟩ ⟨rfl, rfl⟩ rfl rfl (Nat.le_of_ble_eq_true rfl) ⟨(Nat.le_refl 0), (Nat.le_refl 0)⟩ (am_mrecv _) (fun b2 S1 hh => ?_)
  obtain ⟨ha3, hb4⟩ := hh
  refine am_ifB_eq (tgt := 25) dX3_where_10 (by decide) (fun hc5 => ?_) (fun hc5 => ?_)
  · have hh := ha3 hc5
    refine am_ldc (z := -1000001) q1515 (by decide) dX3_where_25 ?_
    exact am_iret rfl dX3_where_27 (Nat.le_refl 0) (Nat.le_refl 0) hh
  · have hh := hb4 hc5
    refine am_iload_n dX3_where_13 rfl 2 rfl ?_
    refine am_i2l_ h2 dX3_where_14 ?_
    refine am_lconst (z := 0) dX3_where_15 (by decide) ?_
    refine am_ldc2 (z := 6) q1612 (by decide) dX3_where_16 ?_
    refine am_rSz (n := 3) hh dX3_where_19 (lw_S q1512 q1513 q96 q1514) ⟨⟨by decide, by decide, by decide +kernel⟩, ⟨Nat.le_of_ble_eq_true rfl, Nat.le_of_ble_eq_true rfl⟩⟩ ⟨rfl, rfl⟩ rfl rfl (Nat.le_of_ble_eq_true rfl) ⟨(Nat.le_refl 0), (Nat.le_refl 0)⟩ (fun b7 S6 hh => ?_)
    obtain ⟨ha8, hb9⟩ := hh
    refine am_ifB_ne (tgt := 28) dX3_where_22 (by decide) (fun hc10 => ?_) (fun hc10 => ?_)
    · have hh := ha8 hc10
      refine am_aload_n dX3_where_28 rfl 0 rfl ?_
      refine am_iconst dX3_where_29 ?_
      refine am_iload_n dX3_where_30 rfl 1 rfl ?_
      refine am_rVi (n := 2) hh dX3_where_31 (lw_V q1528 q1530 qs43 q96 q1531) rfl ⟨⟨by decide, by decide, by decide +kernel⟩, ⟨Nat.le_of_ble_eq_true rfl, Nat.le_of_ble_eq_true rfl⟩⟩ ⟨rfl, rfl⟩ rfl rfl (Nat.le_of_ble_eq_true rfl) ⟨(Nat.le_refl 0), (Nat.le_refl 0)⟩ (am_mrecv _) (fun r12 S11 hr13 hh => ?_)
      obtain ⟨ha14, hb15⟩ := hh
      refine am_if_lt (tgt := 41) dX3_where_34 (by decide) hr13 (fun hc16 => ?_) (fun hc16 => ?_)
      · have hh := ha14 hc16
        refine am_iconst dX3_where_41 ?_
        refine am_istore_n dX3_where_42 rfl (by decide) rfl ?_
        refine am_iload_n dX3_where_43 rfl 3 rfl ?_
        obtain ⟨ha17, ha18, ha19, ha20, ha21, ha22, ha23⟩ := hh
        by_cases hc24 : v2 < 0 ∨ 5 < v2
        · have hh := ha23 hc24
          refine am_tabOut (tgt := 152) dX3_where_44 h2 hc24 (by decide) ?_
          refine am_aload_n dX3_where_152 rfl 1 rfl ?_
          refine am_iconst dX3_where_153 ?_
          refine am_iload_n dX3_where_154 rfl 2 rfl ?_
          refine am_rVi (n := 2) hh dX3_where_155 (lw_V q1564 q1566 qs51 q96 q1567) rfl ⟨⟨by decide, by decide, by decide +kernel⟩, ⟨Nat.le_of_ble_eq_true rfl, Nat.le_of_ble_eq_true rfl⟩⟩ ⟨rfl, rfl⟩ rfl rfl (Nat.le_of_ble_eq_true rfl) ⟨(Nat.le_refl 0), (Nat.le_refl 0)⟩ (am_mrecv _) (fun r26 S25 hr27 hh => ?_)
          obtain ⟨ha28, hb29⟩ := hh
          refine am_if_ge (tgt := 166) dX3_where_158 (by decide) hr27 (fun hc30 => ?_) (fun hc30 => ?_)
          · have hh := ha28 hc30
            refine am_aload_n dX3_where_166 rfl 1 rfl ?_
            refine am_iconst dX3_where_167 ?_
            refine am_iload_n dX3_where_168 rfl 2 rfl ?_
            refine am_rVi (n := 2) hh dX3_where_169 (lw_V q1564 q1566 qs51 q96 q1567) rfl ⟨⟨by decide, by decide, by decide +kernel⟩, ⟨Nat.le_of_ble_eq_true rfl, Nat.le_of_ble_eq_true rfl⟩⟩ ⟨rfl, rfl⟩ rfl rfl (Nat.le_of_ble_eq_true rfl) ⟨(Nat.le_refl 0), (Nat.le_refl 0)⟩ (am_mrecv _) (fun r32 S31 hr33 hh => ?_)
            exact am_iret rfl dX3_where_172 (Nat.le_refl 0) (Nat.le_refl 0) hh
          · have hh := hb29 hc30
            refine am_ldc (z := -1000000) q1544 (by decide) dX3_where_161 ?_
            refine am_goto (tgt := 172) dX3_where_163 (by decide) ?_
            exact am_iret rfl dX3_where_172 (Nat.le_refl 0) (Nat.le_refl 0) hh
        have hc24 : v2 = 0 ∨ v2 = 1 ∨ v2 = 2 ∨ v2 = 3 ∨ v2 = 4 ∨ v2 = 5 := by omega
        rcases hc24 with hc24 | hc24 | hc24 | hc24 | hc24 | hc24
        · have hh := ha17 hc24
          refine am_tabIn (tgt := 84) 0 dX3_where_44 h2 hc24 (by decide) (by decide) rfl (by decide) ?_
          refine am_aload_n dX3_where_84 rfl 1 rfl ?_
          refine am_mgeta 1 (by decide) q1405 dX3_where_85 ?_
          refine am_iload_n dX3_where_88 rfl 2 rfl ?_
          obtain ⟨o34, hh⟩ := hh
          refine am_miald 1 (by decide) (by decide) (v := (S11.2 1 v1.toNat).toInt) rfl o34.1 o34.2 dX3_where_89 ?_
          exact am_iret rfl dX3_where_90 (Nat.le_refl 0) (Nat.le_refl 0) hh
        · have hh := ha18 hc24
          refine am_tabIn (tgt := 91) 1 dX3_where_44 h2 hc24 (by decide) (by decide) rfl (by decide) ?_
          refine am_aload_n dX3_where_91 rfl 1 rfl ?_
          refine am_mgeta 2 (by decide) q1406 dX3_where_92 ?_
          refine am_iload_n dX3_where_95 rfl 2 rfl ?_
          obtain ⟨o35, hh⟩ := hh
          refine am_miald 2 (by decide) (by decide) (v := (S11.2 2 v1.toNat).toInt) rfl o35.1 o35.2 dX3_where_96 ?_
          exact am_iret rfl dX3_where_97 (Nat.le_refl 0) (Nat.le_refl 0) hh
        · have hh := ha19 hc24
          refine am_tabIn (tgt := 98) 2 dX3_where_44 h2 hc24 (by decide) (by decide) rfl (by decide) ?_
          refine am_aload_n dX3_where_98 rfl 1 rfl ?_
          refine am_iconst dX3_where_99 ?_
          refine am_iload_n dX3_where_100 rfl 2 rfl ?_
          refine am_rVi (n := 2) hh dX3_where_101 (lw_V q1532 q1534 qs44 q96 q1535) rfl ⟨⟨by decide, by decide, by decide +kernel⟩, ⟨Nat.le_of_ble_eq_true rfl, Nat.le_of_ble_eq_true rfl⟩⟩ ⟨rfl, rfl⟩ rfl rfl (Nat.le_of_ble_eq_true rfl) ⟨(Nat.le_refl 0), (Nat.le_refl 0)⟩ (am_mrecv _) (fun r37 S36 hr38 hh => ?_)
          exact am_iret rfl dX3_where_104 (Nat.le_refl 0) (Nat.le_refl 0) hh
        · have hh := ha20 hc24
          refine am_tabIn (tgt := 105) 3 dX3_where_44 h2 hc24 (by decide) (by decide) rfl (by decide) ?_
          refine am_iload_n dX3_where_105 rfl 0 rfl ?_
          refine am_if_eq (tgt := 114) dX3_where_106 (by decide) (⟨by decide, by decide⟩) (fun hc41 => ?_) (fun hc41 => ?_)
          rotate_left
          · exact absurd hc41 (by decide)
          refine am_aload_n dX3_where_114 rfl 1 rfl ?_
          refine am_iconst dX3_where_115 ?_
          refine am_iload_n dX3_where_116 rfl 2 rfl ?_
          refine am_rVi (n := 2) hh dX3_where_117 (lw_V q1545 q1547 qs47 q96 q1548) rfl ⟨⟨by decide, by decide, by decide +kernel⟩, ⟨Nat.le_of_ble_eq_true rfl, Nat.le_of_ble_eq_true rfl⟩⟩ ⟨rfl, rfl⟩ rfl rfl (Nat.le_of_ble_eq_true rfl) ⟨(Nat.le_refl 0), (Nat.le_refl 0)⟩ (am_mrecv _) (fun r43 S42 hr44 hh => ?_)
          exact am_iret rfl dX3_where_120 (Nat.le_refl 0) (Nat.le_refl 0) hh
        · have hh := ha21 hc24
          refine am_tabIn (tgt := 121) 4 dX3_where_44 h2 hc24 (by decide) (by decide) rfl (by decide) ?_
          refine am_iload_n dX3_where_121 rfl 0 rfl ?_
          refine am_if_eq (tgt := 134) dX3_where_122 (by decide) (⟨by decide, by decide⟩) (fun hc47 => ?_) (fun hc47 => ?_)
          rotate_left
          · exact absurd hc47 (by decide)
          refine am_ldc (z := -1000000) q1544 (by decide) dX3_where_134 ?_
          exact am_iret rfl dX3_where_136 (Nat.le_refl 0) (Nat.le_refl 0) hh
        · have hh := ha22 hc24
          refine am_tabIn (tgt := 137) 5 dX3_where_44 h2 hc24 (by decide) (by decide) rfl (by decide) ?_
          refine am_aload_n dX3_where_137 rfl 1 rfl ?_
          refine am_iconst dX3_where_138 ?_
          refine am_iload_n dX3_where_139 rfl 2 rfl ?_
          refine am_rVz (n := 2) hh dX3_where_140 (lw_V q1560 q1562 qs50 q96 q1563) rfl ⟨⟨by decide, by decide, by decide +kernel⟩, ⟨Nat.le_of_ble_eq_true rfl, Nat.le_of_ble_eq_true rfl⟩⟩ ⟨rfl, rfl⟩ rfl rfl (Nat.le_of_ble_eq_true rfl) ⟨(Nat.le_refl 0), (Nat.le_refl 0)⟩ (am_mrecv _) (fun b49 S48 hh => ?_)
          obtain ⟨ha50, hb51⟩ := hh
          refine am_ifB_eq (tgt := 150) dX3_where_143 (by decide) (fun hc52 => ?_) (fun hc52 => ?_)
          · have hh := ha50 hc52
            refine am_iconst dX3_where_150 ?_
            exact am_iret rfl dX3_where_151 (Nat.le_refl 0) (Nat.le_refl 0) hh
          · have hh := hb51 hc52
            refine am_iconst dX3_where_146 ?_
            refine am_goto (tgt := 151) dX3_where_147 (by decide) ?_
            exact am_iret rfl dX3_where_151 (Nat.le_refl 0) (Nat.le_refl 0) hh
      · have hh := hb15 hc16
        refine am_iconst dX3_where_37 ?_
        refine am_goto (tgt := 42) dX3_where_38 (by decide) ?_
        refine am_istore_n dX3_where_42 rfl (by decide) rfl ?_
        refine am_iload_n dX3_where_43 rfl 3 rfl ?_
        obtain ⟨ha53, ha54, ha55, ha56, ha57, ha58, ha59⟩ := hh
        by_cases hc60 : v2 < 0 ∨ 5 < v2
        · have hh := ha59 hc60
          refine am_tabOut (tgt := 152) dX3_where_44 h2 hc60 (by decide) ?_
          refine am_aload_n dX3_where_152 rfl 1 rfl ?_
          refine am_iconst dX3_where_153 ?_
          refine am_iload_n dX3_where_154 rfl 2 rfl ?_
          refine am_rVi (n := 2) hh dX3_where_155 (lw_V q1564 q1566 qs51 q96 q1567) rfl ⟨⟨by decide, by decide, by decide +kernel⟩, ⟨Nat.le_of_ble_eq_true rfl, Nat.le_of_ble_eq_true rfl⟩⟩ ⟨rfl, rfl⟩ rfl rfl (Nat.le_of_ble_eq_true rfl) ⟨(Nat.le_refl 0), (Nat.le_refl 0)⟩ (am_mrecv _) (fun r62 S61 hr63 hh => ?_)
          obtain ⟨ha64, hb65⟩ := hh
          refine am_if_ge (tgt := 166) dX3_where_158 (by decide) hr63 (fun hc66 => ?_) (fun hc66 => ?_)
          · have hh := ha64 hc66
            refine am_aload_n dX3_where_166 rfl 1 rfl ?_
            refine am_iconst dX3_where_167 ?_
            refine am_iload_n dX3_where_168 rfl 2 rfl ?_
            refine am_rVi (n := 2) hh dX3_where_169 (lw_V q1564 q1566 qs51 q96 q1567) rfl ⟨⟨by decide, by decide, by decide +kernel⟩, ⟨Nat.le_of_ble_eq_true rfl, Nat.le_of_ble_eq_true rfl⟩⟩ ⟨rfl, rfl⟩ rfl rfl (Nat.le_of_ble_eq_true rfl) ⟨(Nat.le_refl 0), (Nat.le_refl 0)⟩ (am_mrecv _) (fun r68 S67 hr69 hh => ?_)
            exact am_iret rfl dX3_where_172 (Nat.le_refl 0) (Nat.le_refl 0) hh
          · have hh := hb65 hc66
            refine am_ldc (z := -1000000) q1544 (by decide) dX3_where_161 ?_
            refine am_goto (tgt := 172) dX3_where_163 (by decide) ?_
            exact am_iret rfl dX3_where_172 (Nat.le_refl 0) (Nat.le_refl 0) hh
        have hc60 : v2 = 0 ∨ v2 = 1 ∨ v2 = 2 ∨ v2 = 3 ∨ v2 = 4 ∨ v2 = 5 := by omega
        rcases hc60 with hc60 | hc60 | hc60 | hc60 | hc60 | hc60
        · have hh := ha53 hc60
          refine am_tabIn (tgt := 84) 0 dX3_where_44 h2 hc60 (by decide) (by decide) rfl (by decide) ?_
          refine am_aload_n dX3_where_84 rfl 1 rfl ?_
          refine am_mgeta 1 (by decide) q1405 dX3_where_85 ?_
          refine am_iload_n dX3_where_88 rfl 2 rfl ?_
          obtain ⟨o70, hh⟩ := hh
          refine am_miald 1 (by decide) (by decide) (v := (S11.2 1 v1.toNat).toInt) rfl o70.1 o70.2 dX3_where_89 ?_
          exact am_iret rfl dX3_where_90 (Nat.le_refl 0) (Nat.le_refl 0) hh
        · have hh := ha54 hc60
          refine am_tabIn (tgt := 91) 1 dX3_where_44 h2 hc60 (by decide) (by decide) rfl (by decide) ?_
          refine am_aload_n dX3_where_91 rfl 1 rfl ?_
          refine am_mgeta 2 (by decide) q1406 dX3_where_92 ?_
          refine am_iload_n dX3_where_95 rfl 2 rfl ?_
          obtain ⟨o71, hh⟩ := hh
          refine am_miald 2 (by decide) (by decide) (v := (S11.2 2 v1.toNat).toInt) rfl o71.1 o71.2 dX3_where_96 ?_
          exact am_iret rfl dX3_where_97 (Nat.le_refl 0) (Nat.le_refl 0) hh
        · have hh := ha55 hc60
          refine am_tabIn (tgt := 98) 2 dX3_where_44 h2 hc60 (by decide) (by decide) rfl (by decide) ?_
          refine am_aload_n dX3_where_98 rfl 1 rfl ?_
          refine am_iconst dX3_where_99 ?_
          refine am_iload_n dX3_where_100 rfl 2 rfl ?_
          refine am_rVi (n := 2) hh dX3_where_101 (lw_V q1532 q1534 qs44 q96 q1535) rfl ⟨⟨by decide, by decide, by decide +kernel⟩, ⟨Nat.le_of_ble_eq_true rfl, Nat.le_of_ble_eq_true rfl⟩⟩ ⟨rfl, rfl⟩ rfl rfl (Nat.le_of_ble_eq_true rfl) ⟨(Nat.le_refl 0), (Nat.le_refl 0)⟩ (am_mrecv _) (fun r73 S72 hr74 hh => ?_)
          exact am_iret rfl dX3_where_104 (Nat.le_refl 0) (Nat.le_refl 0) hh
        · have hh := ha56 hc60
          refine am_tabIn (tgt := 105) 3 dX3_where_44 h2 hc60 (by decide) (by decide) rfl (by decide) ?_
          refine am_iload_n dX3_where_105 rfl 0 rfl ?_
          refine am_if_eq (tgt := 114) dX3_where_106 (by decide) (⟨by decide, by decide⟩) (fun hc77 => ?_) (fun hc77 => ?_)
          · exact absurd hc77 (by decide)
          refine am_ldc (z := -1000000) q1544 (by decide) dX3_where_109 ?_
          refine am_goto (tgt := 120) dX3_where_111 (by decide) ?_
          exact am_iret rfl dX3_where_120 (Nat.le_refl 0) (Nat.le_refl 0) hh
        · have hh := ha57 hc60
          refine am_tabIn (tgt := 121) 4 dX3_where_44 h2 hc60 (by decide) (by decide) rfl (by decide) ?_
          refine am_iload_n dX3_where_121 rfl 0 rfl ?_
          refine am_if_eq (tgt := 134) dX3_where_122 (by decide) (⟨by decide, by decide⟩) (fun hc80 => ?_) (fun hc80 => ?_)
          · exact absurd hc80 (by decide)
          refine am_aload_n dX3_where_125 rfl 1 rfl ?_
          refine am_iconst dX3_where_126 ?_
          refine am_iload_n dX3_where_127 rfl 2 rfl ?_
          refine am_rVi (n := 2) hh dX3_where_128 (lw_V q1528 q1530 qs43 q96 q1531) rfl ⟨⟨by decide, by decide, by decide +kernel⟩, ⟨Nat.le_of_ble_eq_true rfl, Nat.le_of_ble_eq_true rfl⟩⟩ ⟨rfl, rfl⟩ rfl rfl (Nat.le_of_ble_eq_true rfl) ⟨(Nat.le_refl 0), (Nat.le_refl 0)⟩ (am_mrecv _) (fun r82 S81 hr83 hh => ?_)
          refine am_goto (tgt := 136) dX3_where_131 (by decide) ?_
          exact am_iret rfl dX3_where_136 (Nat.le_refl 0) (Nat.le_refl 0) hh
        · have hh := ha58 hc60
          refine am_tabIn (tgt := 137) 5 dX3_where_44 h2 hc60 (by decide) (by decide) rfl (by decide) ?_
          refine am_aload_n dX3_where_137 rfl 1 rfl ?_
          refine am_iconst dX3_where_138 ?_
          refine am_iload_n dX3_where_139 rfl 2 rfl ?_
          refine am_rVz (n := 2) hh dX3_where_140 (lw_V q1560 q1562 qs50 q96 q1563) rfl ⟨⟨by decide, by decide, by decide +kernel⟩, ⟨Nat.le_of_ble_eq_true rfl, Nat.le_of_ble_eq_true rfl⟩⟩ ⟨rfl, rfl⟩ rfl rfl (Nat.le_of_ble_eq_true rfl) ⟨(Nat.le_refl 0), (Nat.le_refl 0)⟩ (am_mrecv _) (fun b85 S84 hh => ?_)
          obtain ⟨ha86, hb87⟩ := hh
          refine am_ifB_eq (tgt := 150) dX3_where_143 (by decide) (fun hc88 => ?_) (fun hc88 => ?_)
          · have hh := ha86 hc88
            refine am_iconst dX3_where_150 ?_
            exact am_iret rfl dX3_where_151 (Nat.le_refl 0) (Nat.le_refl 0) hh
          · have hh := hb87 hc88
            refine am_iconst dX3_where_146 ?_
            refine am_goto (tgt := 151) dX3_where_147 (by decide) ?_
            exact am_iret rfl dX3_where_151 (Nat.le_refl 0) (Nat.le_refl 0) hh
    · have hh := hb9 hc10
      refine am_ldc (z := -1000001) q1515 (by decide) dX3_where_25 ?_
      exact am_iret rfl dX3_where_27 (Nat.le_refl 0) (Nat.le_refl 0) hh
