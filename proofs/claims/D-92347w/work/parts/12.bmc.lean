/-! TableArmsModel.barred(II)I -/
abbrev VX3_barred (l : Launch) (Q : Option am_W → am_M → Prop) (pc : Nat) (lv : List (Nat × am_W)) (st : List am_W) (S : am_M) : Prop := am_V am_mr l RX3 cX3_barred 4 (some .int) "barred" (am_rm 11 0 0) (am_E1 am_mr 0 0 Q) pc lv st S 0 0
abbrev kX3_barred (l : Launch) (as : List am_W) (S : am_M) (Q : Option am_W → am_M → Prop) : Prop := am_C am_mr l yX3_barred (ws_ yX3_barred cX3_barred 4 (some .int)) (am_rm 11 0 0) 0 0 as S Q
set_option maxHeartbeats 4000000 in
set_option maxRecDepth 100000 in
theorem bX3_barred {l : Launch} {Q : Option am_W → am_M → Prop} {S : am_M} (v1 : Int) (h1 : am_r v1) (v2 : Int) (h2 : am_r v2)
    (hh : kX3_isOrder l [am_I v1] (am_sv S 0 0) (am_qz fun b2 S1 =>
        ((b2 = false) →
          Q (some (am_I (-1000001))) S1) ∧
        ((b2 = true) →
          kX3_in l [am_J v2, am_J 0, am_J 1] S1 (am_qz fun b7 S6 =>
            ((b7 = true) →
              kX3_standing l [am_R 0] S6 (am_qi fun r12 S11 =>
                kX3_barredBy l [am_R 0, am_I v1, am_I r12] S11 (am_qi fun r15 S14 =>
                  ((¬ r15 = (-1000000)) →
                    ((¬ v2 = 0) →
                      (0 ≤ r15 ∧ r15 < 8) ∧
                      Q (some (am_I (S14.2 7 r15.toNat).toInt)) S14) ∧
                    ((v2 = 0) →
                      Q (some (am_I r15)) S14)) ∧
                  ((r15 = (-1000000)) →
                    Q (some (am_I (-1000000))) S14)))) ∧
            ((b7 = false) →
              Q (some (am_I (-1000001))) S6))))) : kX3_barred l [am_R 0, am_I v1, am_I v2] S Q := by
  refine am_entry (lv := [(0, am_R 0), (1, am_I v1), (2, am_I v2)]) rfl rfl rfl (fun _ => rfl) (fun _ => Nat.le_of_ble_eq_true rfl) ?_
  refine am_aload_n dX3_barred_0 rfl 0 rfl ?_
  refine am_iconst dX3_barred_1 ?_
  refine am_mput 0 (by decide) q1401 dX3_barred_2 ?_
  refine am_iload_n dX3_barred_5 rfl 1 rfl ?_
  refine am_rSz (n := 1) hh dX3_barred_6 (lw_S q1508 q1509 q96 q1510) ⟨⟨by decide, by decide, by decide +kernel⟩, ⟨Nat.le_of_ble_eq_true rfl, Nat.le_of_ble_eq_true rfl⟩⟩ ⟨rfl, rfl⟩ rfl rfl (Nat.le_of_ble_eq_true rfl) ⟨(Nat.le_refl 0), (Nat.le_refl 0)⟩ (fun b2 S1 hh => ?_)
  obtain ⟨ha3, hb4⟩ := hh
  refine am_ifB_eq (tgt := 22) dX3_barred_9 (by decide) (fun hc5 => ?_) (fun hc5 => ?_)
  · have hh := ha3 hc5
    refine am_ldc (z := -1000001) q1515 (by decide) dX3_barred_22 ?_
    exact am_iret rfl dX3_barred_24 (Nat.le_refl 0) (Nat.le_refl 0) hh
  · have hh := hb4 hc5
    refine am_iload_n dX3_barred_12 rfl 2 rfl ?_
    refine am_i2l_ h2 dX3_barred_13 ?_
    refine am_lconst (z := 0) dX3_barred_14 (by decide) ?_
    refine am_lconst (z := 1) dX3_barred_15 (by decide) ?_
    refine am_rSz (n := 3) hh dX3_barred_16 (lw_S q1512 q1513 q96 q1514) ⟨⟨by decide, by decide, by decide +kernel⟩, ⟨Nat.le_of_ble_eq_true rfl, Nat.le_of_ble_eq_true rfl⟩⟩ ⟨rfl, rfl⟩ rfl rfl (Nat.le_of_ble_eq_true rfl) ⟨(Nat.le_refl 0), (Nat.le_refl 0)⟩ (fun b7 S6 hh => ?_)
    obtain ⟨ha8, hb9⟩ := hh
    refine am_ifB_ne (tgt := 25) dX3_barred_19 (by decide) (fun hc10 => ?_) (fun hc10 => ?_)
    · have hh := ha8 hc10
      refine am_aload_n dX3_barred_25 rfl 0 rfl ?_
      refine am_iload_n dX3_barred_26 rfl 1 rfl ?_
      refine am_aload_n dX3_barred_27 rfl 0 rfl ?_
      refine am_rVi (n := 0) hh dX3_barred_28 (lw_V q1693 q1695 qs66 q96 q1696) rfl ⟨⟨by decide, by decide, by decide +kernel⟩, ⟨Nat.le_of_ble_eq_true rfl, Nat.le_of_ble_eq_true rfl⟩⟩ ⟨rfl, rfl⟩ rfl rfl (Nat.le_of_ble_eq_true rfl) ⟨(Nat.le_refl 0), (Nat.le_refl 0)⟩ (am_mrecv _) (fun r12 S11 hr13 hh => ?_)
      refine am_rVi (n := 2) hh dX3_barred_31 (lw_V q1697 q1699 qs67 q96 q1700) rfl ⟨⟨by decide, by decide, by decide +kernel⟩, ⟨Nat.le_of_ble_eq_true rfl, Nat.le_of_ble_eq_true rfl⟩⟩ ⟨rfl, rfl⟩ rfl rfl (Nat.le_of_ble_eq_true rfl) ⟨(Nat.le_refl 0), (Nat.le_refl 0)⟩ (am_mrecv _) (fun r15 S14 hr16 hh => ?_)
      refine am_istore_n dX3_barred_34 rfl (by decide) rfl ?_
      refine am_iload_n dX3_barred_35 rfl 0 rfl ?_
      refine am_ldc (z := -1000000) q1544 (by decide) dX3_barred_36 ?_
      obtain ⟨ha17, hb18⟩ := hh
      refine am_icmp_ne (tgt := 46) dX3_barred_38 (by decide) hr16 (⟨by decide, by decide⟩) (fun hc19 => ?_) (fun hc19 => ?_)
      · have hh := ha17 hc19
        refine am_iload_n dX3_barred_46 rfl 3 rfl ?_
        obtain ⟨ha20, hb21⟩ := hh
        refine am_if_ne (tgt := 54) dX3_barred_47 (by decide) h2 (fun hc22 => ?_) (fun hc22 => ?_)
        · have hh := ha20 hc22
          refine am_aload_n dX3_barred_54 rfl 1 rfl ?_
          refine am_mgeta 7 (by decide) q1413 dX3_barred_55 ?_
          refine am_iload_n dX3_barred_58 rfl 0 rfl ?_
          obtain ⟨o23, hh⟩ := hh
          refine am_miald 7 (by decide) (by decide) (v := (S14.2 7 r15.toNat).toInt) rfl o23.1 o23.2 dX3_barred_59 ?_
          exact am_iret rfl dX3_barred_60 (Nat.le_refl 0) (Nat.le_refl 0) hh
        · have hh := hb21 hc22
          refine am_iload_n dX3_barred_50 rfl 0 rfl ?_
          refine am_goto (tgt := 60) dX3_barred_51 (by decide) ?_
          exact am_iret rfl dX3_barred_60 (Nat.le_refl 0) (Nat.le_refl 0) hh
      · have hh := hb18 hc19
        refine am_ldc (z := -1000000) q1544 (by decide) dX3_barred_41 ?_
        refine am_goto (tgt := 60) dX3_barred_43 (by decide) ?_
        exact am_iret rfl dX3_barred_60 (Nat.le_refl 0) (Nat.le_refl 0) hh
    · have hh := hb9 hc10
      refine am_ldc (z := -1000001) q1515 (by decide) dX3_barred_22 ?_
      exact am_iret rfl dX3_barred_24 (Nat.le_refl 0) (Nat.le_refl 0) hh
/-! TableArmsModel.unlike(I)I -/
abbrev VX3_unlike (l : Launch) (Q : Option am_W → am_M → Prop) (pc : Nat) (lv : List (Nat × am_W)) (st : List am_W) (S : am_M) : Prop := am_V am_mr l RX3 cX3_unlike 7 (some .int) "unlike" (am_rm 11 0 0) (am_E1 am_mr 0 0 Q) pc lv st S 0 0
abbrev kX3_unlike (l : Launch) (as : List am_W) (S : am_M) (Q : Option am_W → am_M → Prop) : Prop := am_C am_mr l yX3_unlike (ws_ yX3_unlike cX3_unlike 7 (some .int)) (am_rm 11 0 0) 0 0 as S Q
set_option maxHeartbeats 4000000 in
set_option maxRecDepth 100000 in
theorem bX3_unlike {l : Launch} {Q : Option am_W → am_M → Prop} {S : am_M} (v1 : Int) (h1 : am_r v1)
    (hh : VX3_unlike l Q 7 [(0, am_R 0), (1, am_I v1), (2, am_I 0), (3, am_I 0), (4, am_I 0)] [] S) : kX3_unlike l [am_R 0, am_I v1] S Q := by
  refine am_entry (lv := [(0, am_R 0), (1, am_I v1)]) rfl rfl rfl (fun _ => rfl) (fun _ => Nat.le_of_ble_eq_true rfl) ?_
  refine am_iconst dX3_unlike_0 ?_
  refine am_istore_n dX3_unlike_1 rfl (by decide) rfl ?_
  refine am_iconst dX3_unlike_2 ?_
  refine am_istore_n dX3_unlike_3 rfl (by decide) rfl ?_
  refine am_iconst dX3_unlike_4 ?_
  refine am_istore dX3_unlike_5 (by decide) rfl ?_
  refine am_keep [3, 4, 2, 1, 0] rfl ?_
  exact hh
set_option maxHeartbeats 4000000 in
set_option maxRecDepth 100000 in
theorem bX3_unlike_7 {l : Launch} {Q : Option am_W → am_M → Prop} {S : am_M} (v1 : Int) (h1 : am_r v1) (v2 : Int) (h2 : am_r v2) (v3 : Int) (h3 : am_r v3) (v4 : Int) (h4 : am_r v4)
    (hh : ((96 ≤ v4) →
        Q (some (am_I (v2 + v3))) S) ∧
      ((¬ 96 ≤ v4) →
        kX3_standing l [am_R 0] S (am_qi fun r5 S4 =>
          kX3_barredBy l [am_R 0, am_I v4, am_I r5] S4 (am_qi fun r8 S7 =>
            ((¬ r8 = (-1000000)) →
              VX3_unlike l Q 7 [(0, am_R 0), (1, am_I v1), (2, am_I v2), (3, am_I v3), (4, am_I (v4 + 1))] [] S7) ∧
            ((r8 = (-1000000)) →
              kX3_copyTable l [am_R 0, am_I (v1 + 1), am_I (12 + v2)] S7 (am_qv fun S13 =>
                kX3_doOrder l [am_R 0, am_I (12 + v2), am_I v4] S13 (am_qi fun r15 S14 =>
                  ((¬ r15 = (-1000000)) →
                    VX3_unlike l Q 66 [(0, am_R 0), (1, am_I v1), (2, am_I v2), (3, am_I v3), (4, am_I v4), (5, am_I 0), (6, am_I 0)] [] S14) ∧
                  ((r15 = (-1000000)) →
                    VX3_unlike l Q 7 [(0, am_R 0), (1, am_I v1), (2, am_I v2), (3, am_I 1), (4, am_I (v4 + 1))] [] S14)))))))) : VX3_unlike l Q 7 [(0, am_R 0), (1, am_I v1), (2, am_I v2), (3, am_I v3), (4, am_I v4)] [] S := by
  refine am_iload dX3_unlike_7 4 rfl ?_
  refine am_bipush dX3_unlike_9 (by decide) ?_
  obtain ⟨ha1, hb2⟩ := hh
  refine am_icmp_ge (tgt := 117) dX3_unlike_11 (by decide) h4 (⟨by decide, by decide⟩) (fun hc3 => ?_) (fun hc3 => ?_)
  · have hh := ha1 hc3
    refine am_iload_n dX3_unlike_117 rfl 2 rfl ?_
    refine am_iload_n dX3_unlike_118 rfl 3 rfl ?_
    refine am_iadd dX3_unlike_119 ?_
    exact am_iret rfl dX3_unlike_120 (Nat.le_refl 0) (Nat.le_refl 0) hh
  · have hh := hb2 hc3
    refine am_aload_n dX3_unlike_14 rfl 0 rfl ?_
    refine am_iload dX3_unlike_15 4 rfl ?_
    refine am_aload_n dX3_unlike_17 rfl 0 rfl ?_
    refine am_rVi (n := 0) hh dX3_unlike_18 (lw_V q1693 q1695 qs66 q96 q1696) rfl ⟨⟨by decide, by decide, by decide +kernel⟩, ⟨Nat.le_of_ble_eq_true rfl, Nat.le_of_ble_eq_true rfl⟩⟩ ⟨rfl, rfl⟩ rfl rfl (Nat.le_of_ble_eq_true rfl) ⟨(Nat.le_refl 0), (Nat.le_refl 0)⟩ (am_mrecv _) (fun r5 S4 hr6 hh => ?_)
    refine am_rVi (n := 2) hh dX3_unlike_21 (lw_V q1697 q1699 qs67 q96 q1700) rfl ⟨⟨by decide, by decide, by decide +kernel⟩, ⟨Nat.le_of_ble_eq_true rfl, Nat.le_of_ble_eq_true rfl⟩⟩ ⟨rfl, rfl⟩ rfl rfl (Nat.le_of_ble_eq_true rfl) ⟨(Nat.le_refl 0), (Nat.le_refl 0)⟩ (am_mrecv _) (fun r8 S7 hr9 hh => ?_)
    refine am_ldc (z := -1000000) q1544 (by decide) dX3_unlike_24 ?_
    obtain ⟨ha10, hb11⟩ := hh
    refine am_icmp_ne (tgt := 111) dX3_unlike_26 (by decide) hr9 (⟨by decide, by decide⟩) (fun hc12 => ?_) (fun hc12 => ?_)
    · have hh := ha10 hc12
      refine am_iinc (n := 4) dX3_unlike_111 rfl (by decide) rfl ?_
      refine am_goto (tgt := 7) dX3_unlike_114 (by decide) ?_
      refine am_keep [1, 2, 3, 4, 0] rfl ?_
      exact hh
    · have hh := hb11 hc12
      refine am_aload_n dX3_unlike_29 rfl 0 rfl ?_
      refine am_iload_n dX3_unlike_30 rfl 1 rfl ?_
      refine am_iconst dX3_unlike_31 ?_
      refine am_iadd dX3_unlike_32 ?_
      refine am_bipush dX3_unlike_33 (by decide) ?_
      refine am_iload_n dX3_unlike_35 rfl 2 rfl ?_
      refine am_iadd dX3_unlike_36 ?_
      refine am_rVv (n := 2) hh dX3_unlike_37 (lw_V q1516 q1518 qs40 q96 q1519) rfl ⟨⟨by decide, by decide, by decide +kernel⟩, ⟨Nat.le_of_ble_eq_true rfl, Nat.le_of_ble_eq_true rfl⟩⟩ ⟨rfl, rfl⟩ rfl rfl (Nat.le_of_ble_eq_true rfl) ⟨(Nat.le_refl 0), (Nat.le_refl 0)⟩ (am_mrecv _) (fun S13 hh => ?_)
      refine am_aload_n dX3_unlike_40 rfl 0 rfl ?_
      refine am_bipush dX3_unlike_41 (by decide) ?_
      refine am_iload_n dX3_unlike_43 rfl 2 rfl ?_
      refine am_iadd dX3_unlike_44 ?_
      refine am_iload dX3_unlike_45 4 rfl ?_
      refine am_rVi (n := 2) hh dX3_unlike_47 (lw_V q1520 q1522 qs41 q96 q1523) rfl ⟨⟨by decide, by decide, by decide +kernel⟩, ⟨Nat.le_of_ble_eq_true rfl, Nat.le_of_ble_eq_true rfl⟩⟩ ⟨rfl, rfl⟩ rfl rfl (Nat.le_of_ble_eq_true rfl) ⟨(Nat.le_refl 0), (Nat.le_refl 0)⟩ (am_mrecv _) (fun r15 S14 hr16 hh => ?_)
      refine am_ldc (z := -1000000) q1544 (by decide) dX3_unlike_50 ?_
      obtain ⟨ha17, hb18⟩ := hh
      refine am_icmp_ne (tgt := 60) dX3_unlike_52 (by decide) hr16 (⟨by decide, by decide⟩) (fun hc19 => ?_) (fun hc19 => ?_)
      · have hh := ha17 hc19
        refine am_iconst dX3_unlike_60 ?_
        refine am_istore dX3_unlike_61 (by decide) rfl ?_
        refine am_iconst dX3_unlike_63 ?_
        refine am_istore dX3_unlike_64 (by decide) rfl ?_
        refine am_keep [2, 3, 4, 5, 6, 1, 0] rfl ?_
        exact hh
      · have hh := hb18 hc19
        refine am_iconst dX3_unlike_55 ?_
        refine am_istore_n dX3_unlike_56 rfl (by decide) rfl ?_
        refine am_goto (tgt := 111) dX3_unlike_57 (by decide) ?_
        refine am_iinc (n := 4) dX3_unlike_111 rfl (by decide) rfl ?_
        refine am_goto (tgt := 7) dX3_unlike_114 (by decide) ?_
        refine am_keep [2, 3, 4, 1, 0] rfl ?_
        exact hh
set_option maxHeartbeats 4000000 in
set_option maxRecDepth 100000 in
theorem bX3_unlike_66 {l : Launch} {Q : Option am_W → am_M → Prop} {S : am_M} (v1 : Int) (h1 : am_r v1) (v2 : Int) (h2 : am_r v2) (v3 : Int) (h3 : am_r v3) (v4 : Int) (h4 : am_r v4) (v5 : Int) (h5 : am_r v5) (v6 : Int) (h6 : am_r v6)
    (hh : ((v2 ≤ v6) →
        ((v5 = 0) →
          VX3_unlike l Q 7 [(0, am_R 0), (1, am_I v1), (2, am_I (v2 + 1)), (3, am_I v3), (4, am_I (v4 + 1))] [] S) ∧
        ((¬ v5 = 0) →
          VX3_unlike l Q 7 [(0, am_R 0), (1, am_I v1), (2, am_I (v2 + 0)), (3, am_I v3), (4, am_I (v4 + 1))] [] S)) ∧
      ((¬ v2 ≤ v6) →
        ((¬ v5 = 0) →
          ((v5 = 0) →
            VX3_unlike l Q 7 [(0, am_R 0), (1, am_I v1), (2, am_I (v2 + 1)), (3, am_I v3), (4, am_I (v4 + 1))] [] S) ∧
          ((¬ v5 = 0) →
            VX3_unlike l Q 7 [(0, am_R 0), (1, am_I v1), (2, am_I (v2 + 0)), (3, am_I v3), (4, am_I (v4 + 1))] [] S)) ∧
        ((v5 = 0) →
          kX3_isSame l [am_R 0, am_I (12 + v6), am_I (12 + v2)] S (am_qz fun b14 S13 =>
            VX3_unlike l Q 66 [(0, am_R 0), (1, am_I v1), (2, am_I v2), (3, am_I v3), (4, am_I v4), (5, am_I (am_b b14)), (6, am_I (v6 + 1))] [] S13)))) : VX3_unlike l Q 66 [(0, am_R 0), (1, am_I v1), (2, am_I v2), (3, am_I v3), (4, am_I v4), (5, am_I v5), (6, am_I v6)] [] S := by
  refine am_iload dX3_unlike_66 6 rfl ?_
  refine am_iload_n dX3_unlike_68 rfl 2 rfl ?_
  obtain ⟨ha1, hb2⟩ := hh
  refine am_icmp_ge (tgt := 98) dX3_unlike_69 (by decide) h6 h2 (fun hc3 => ?_) (fun hc3 => ?_)
  · have hh := ha1 hc3
    refine am_iload_n dX3_unlike_98 rfl 2 rfl ?_
    refine am_iload dX3_unlike_99 5 rfl ?_
    obtain ⟨ha4, hb5⟩ := hh
    refine am_if_eq (tgt := 108) dX3_unlike_101 (by decide) h5 (fun hc6 => ?_) (fun hc6 => ?_)
    · have hh := ha4 hc6
      refine am_iconst dX3_unlike_108 ?_
      refine am_iadd dX3_unlike_109 ?_
      refine am_istore_n dX3_unlike_110 rfl (by decide) rfl ?_
      refine am_iinc (n := 4) dX3_unlike_111 rfl (by decide) rfl ?_
      refine am_goto (tgt := 7) dX3_unlike_114 (by decide) ?_
      refine am_keep [2, 3, 1, 4, 0] rfl ?_
      exact hh
    · have hh := hb5 hc6
      refine am_iconst dX3_unlike_104 ?_
      refine am_goto (tgt := 109) dX3_unlike_105 (by decide) ?_
      refine am_iadd dX3_unlike_109 ?_
      refine am_istore_n dX3_unlike_110 rfl (by decide) rfl ?_
      refine am_iinc (n := 4) dX3_unlike_111 rfl (by decide) rfl ?_
      refine am_goto (tgt := 7) dX3_unlike_114 (by decide) ?_
      refine am_keep [2, 3, 1, 4, 0] rfl ?_
      exact hh
  · have hh := hb2 hc3
    refine am_iload dX3_unlike_72 5 rfl ?_
    obtain ⟨ha7, hb8⟩ := hh
    refine am_if_ne (tgt := 98) dX3_unlike_74 (by decide) h5 (fun hc9 => ?_) (fun hc9 => ?_)
    · have hh := ha7 hc9
      refine am_iload_n dX3_unlike_98 rfl 2 rfl ?_
      refine am_iload dX3_unlike_99 5 rfl ?_
      obtain ⟨ha10, hb11⟩ := hh
      refine am_if_eq (tgt := 108) dX3_unlike_101 (by decide) h5 (fun hc12 => ?_) (fun hc12 => ?_)
      · have hh := ha10 hc12
        refine am_iconst dX3_unlike_108 ?_
        refine am_iadd dX3_unlike_109 ?_
        refine am_istore_n dX3_unlike_110 rfl (by decide) rfl ?_
        refine am_iinc (n := 4) dX3_unlike_111 rfl (by decide) rfl ?_
        refine am_goto (tgt := 7) dX3_unlike_114 (by decide) ?_
        refine am_keep [2, 3, 1, 4, 0] rfl ?_
        exact hh
      · have hh := hb11 hc12
        refine am_iconst dX3_unlike_104 ?_
        refine am_goto (tgt := 109) dX3_unlike_105 (by decide) ?_
        refine am_iadd dX3_unlike_109 ?_
        refine am_istore_n dX3_unlike_110 rfl (by decide) rfl ?_
        refine am_iinc (n := 4) dX3_unlike_111 rfl (by decide) rfl ?_
        refine am_goto (tgt := 7) dX3_unlike_114 (by decide) ?_
        refine am_keep [2, 3, 1, 4, 0] rfl ?_
        exact hh
    · have hh := hb8 hc9
      refine am_aload_n dX3_unlike_77 rfl 0 rfl ?_
      refine am_bipush dX3_unlike_78 (by decide) ?_
      refine am_iload dX3_unlike_80 6 rfl ?_
      refine am_iadd dX3_unlike_82 ?_
      refine am_bipush dX3_unlike_83 (by decide) ?_
      refine am_iload_n dX3_unlike_85 rfl 2 rfl ?_
      refine am_iadd dX3_unlike_86 ?_
      refine am_rVz (n := 2) hh dX3_unlike_87 (lw_V q1655 q1657 qs62 q96 q1658) rfl ⟨⟨by decide, by decide, by decide +kernel⟩, ⟨Nat.le_of_ble_eq_true rfl, Nat.le_of_ble_eq_true rfl⟩⟩ ⟨rfl, rfl⟩ rfl rfl (Nat.le_of_ble_eq_true rfl) ⟨(Nat.le_refl 0), (Nat.le_refl 0)⟩ (am_mrecv _) (fun b14 S13 hh => ?_)
      refine am_istore dX3_unlike_90 (by decide) rfl ?_
      refine am_iinc (n := 6) dX3_unlike_92 rfl (by decide) rfl ?_
      refine am_goto (tgt := 66) dX3_unlike_95 (by decide) ?_
      refine am_keep [2, 3, 4, 5, 6, 1, 0] rfl ?_
      exact hh
/-! TableArmsModel.question(I)I -/
abbrev VX3_question (l : Launch) (Q : Option am_W → am_M → Prop) (pc : Nat) (lv : List (Nat × am_W)) (st : List am_W) (S : am_M) : Prop := am_V am_mr l RX3 cX3_question 6 (some .int) "question" (am_rm 12 0 0) (am_E1 am_mr 0 0 Q) pc lv st S 0 0
abbrev kX3_question (l : Launch) (as : List am_W) (S : am_M) (Q : Option am_W → am_M → Prop) : Prop := am_C am_mr l yX3_question (ws_ yX3_question cX3_question 6 (some .int)) (am_rm 12 0 0) 0 0 as S Q
set_option maxHeartbeats 4000000 in
set_option maxRecDepth 100000 in
theorem bX3_question {l : Launch} {Q : Option am_W → am_M → Prop} {S : am_M} (v1 : Int) (h1 : am_r v1)
    (hh : kX3_in l [am_J v1, am_J 0, am_J 1] (am_sv S 0 0) (am_qz fun b2 S1 =>
        ((b2 = true) →
          VX3_question l Q 26 [(0, am_R 0), (1, am_I v1), (2, am_I (-1000000)), (3, am_I 0), (4, am_I 0)] [] S1) ∧
        ((b2 = false) →
          Q (some (am_I (-1000001))) S1))) : kX3_question l [am_R 0, am_I v1] S Q := by
  refine am_entry (lv := [(0, am_R 0), (1, am_I v1)]) rfl rfl rfl (fun _ => rfl) (fun _ => Nat.le_of_ble_eq_true rfl) ?_
  refine am_aload_n dX3_question_0 rfl 0 rfl ?_
  refine am_iconst dX3_question_1 ?_
  refine am_mput 0 (by decide) q1401 dX3_question_2 ?_
  refine am_iload_n dX3_question_5 rfl 1 rfl ?_
  refine am_i2l_ h1 dX3_question_6 ?_
  refine am_lconst (z := 0) dX3_question_7 (by decide) ?_
  refine am_lconst (z := 1) dX3_question_8 (by decide) ?_
  refine am_rSz (n := 3) hh dX3_question_9 (lw_S q1512 q1513 q96 q1514) ⟨⟨by decide, by decide, by decide +kernel⟩, ⟨Nat.le_of_ble_eq_true rfl, Nat.le_of_ble_eq_true rfl⟩⟩ ⟨rfl, rfl⟩ rfl rfl (Nat.le_of_ble_eq_true rfl) ⟨(Nat.le_refl 0), (Nat.le_refl 0)⟩ (fun b2 S1 hh => ?_)
  obtain ⟨ha3, hb4⟩ := hh
  refine am_ifB_ne (tgt := 18) dX3_question_12 (by decide) (fun hc5 => ?_) (fun hc5 => ?_)
  · have hh := ha3 hc5
    refine am_ldc (z := -1000000) q1544 (by decide) dX3_question_18 ?_
    refine am_istore_n dX3_question_20 rfl (by decide) rfl ?_
    refine am_iconst dX3_question_21 ?_
    refine am_istore_n dX3_question_22 rfl (by decide) rfl ?_
    refine am_iconst dX3_question_23 ?_
    refine am_istore dX3_question_24 (by decide) rfl ?_
    refine am_keep [3, 4, 2, 1, 0] rfl ?_
    exact hh
  · have hh := hb4 hc5
    refine am_ldc (z := -1000001) q1515 (by decide) dX3_question_15 ?_
    exact am_iret rfl dX3_question_17 (Nat.le_refl 0) (Nat.le_refl 0) hh
set_option maxHeartbeats 4000000 in
set_option maxRecDepth 100000 in
theorem bX3_question_26 {l : Launch} {Q : Option am_W → am_M → Prop} {S : am_M} (v1 : Int) (h1 : am_r v1) (v2 : Int) (h2 : am_r v2) (v3 : Int) (h3 : am_r v3) (v4 : Int) (h4 : am_r v4)
    (hh : ((((S.1 3).toInt) ≤ v4) →
        ((¬ v1 = 0) →
          Q (some (am_I v3)) S) ∧
        ((v1 = 0) →
          Q (some (am_I v2)) S)) ∧
      ((¬ ((S.1 3).toInt) ≤ v4) →
        kX3_unlike l [am_R 0, am_I v4] S (am_qi fun r8 S7 =>
          ((v2 = (-1000000)) →
            VX3_question l Q 26 [(0, am_R 0), (1, am_I v1), (2, am_I v4), (3, am_I r8), (4, am_I (v4 + 1))] [] S7) ∧
          ((¬ v2 = (-1000000)) →
            ((r8 ≤ v3) →
              VX3_question l Q 26 [(0, am_R 0), (1, am_I v1), (2, am_I v2), (3, am_I v3), (4, am_I (v4 + 1))] [] S7) ∧
            ((¬ r8 ≤ v3) →
              VX3_question l Q 26 [(0, am_R 0), (1, am_I v1), (2, am_I v4), (3, am_I r8), (4, am_I (v4 + 1))] [] S7))))) : VX3_question l Q 26 [(0, am_R 0), (1, am_I v1), (2, am_I v2), (3, am_I v3), (4, am_I v4)] [] S := by
  refine am_iload dX3_question_26 4 rfl ?_
  refine am_aload_n dX3_question_28 rfl 0 rfl ?_
  refine am_mgeti 3 (by decide) (v := (S.1 3).toInt) rfl q1407 dX3_question_29 ?_
  obtain ⟨ha1, hb2⟩ := hh
  refine am_icmp_ge (tgt := 67) dX3_question_32 (by decide) h4 (am_rt _) (fun hc3 => ?_) (fun hc3 => ?_)
  · have hh := ha1 hc3
    refine am_iload_n dX3_question_67 rfl 1 rfl ?_
    obtain ⟨ha4, hb5⟩ := hh
    refine am_if_ne (tgt := 75) dX3_question_68 (by decide) h1 (fun hc6 => ?_) (fun hc6 => ?_)
    · have hh := ha4 hc6
      refine am_iload_n dX3_question_75 rfl 3 rfl ?_
      exact am_iret rfl dX3_question_76 (Nat.le_refl 0) (Nat.le_refl 0) hh
    · have hh := hb5 hc6
      refine am_iload_n dX3_question_71 rfl 2 rfl ?_
      refine am_goto (tgt := 76) dX3_question_72 (by decide) ?_
      exact am_iret rfl dX3_question_76 (Nat.le_refl 0) (Nat.le_refl 0) hh
  · have hh := hb2 hc3
    refine am_aload_n dX3_question_35 rfl 0 rfl ?_
    refine am_iload dX3_question_36 4 rfl ?_
    refine am_rVi (n := 1) hh dX3_question_38 (lw_V q1713 q1715 qs69 q96 q1716) rfl ⟨⟨by decide, by decide, by decide +kernel⟩, ⟨Nat.le_of_ble_eq_true rfl, Nat.le_of_ble_eq_true rfl⟩⟩ ⟨rfl, rfl⟩ rfl rfl (Nat.le_of_ble_eq_true rfl) ⟨(Nat.le_refl 0), (Nat.le_refl 0)⟩ (am_mrecv _) (fun r8 S7 hr9 hh => ?_)
    refine am_istore dX3_question_41 (by decide) rfl ?_
    refine am_iload_n dX3_question_43 rfl 3 rfl ?_
    refine am_ldc (z := -1000000) q1544 (by decide) dX3_question_44 ?_
    obtain ⟨ha10, hb11⟩ := hh
    refine am_icmp_eq (tgt := 55) dX3_question_46 (by decide) h2 (⟨by decide, by decide⟩) (fun hc12 => ?_) (fun hc12 => ?_)
    · have hh := ha10 hc12
      refine am_iload dX3_question_55 5 rfl ?_
      refine am_istore_n dX3_question_57 rfl (by decide) rfl ?_
      refine am_iload dX3_question_58 1 rfl ?_
      refine am_istore_n dX3_question_60 rfl (by decide) rfl ?_
      refine am_iinc (n := 5) dX3_question_61 rfl (by decide) rfl ?_
      refine am_goto (tgt := 26) dX3_question_64 (by decide) ?_
      refine am_keep [4, 5, 2, 1, 0] rfl ?_
      exact hh
    · have hh := hb11 hc12
      refine am_iload dX3_question_49 0 rfl ?_
      refine am_iload_n dX3_question_51 rfl 4 rfl ?_
      obtain ⟨ha13, hb14⟩ := hh
      refine am_icmp_le (tgt := 61) dX3_question_52 (by decide) hr9 h3 (fun hc15 => ?_) (fun hc15 => ?_)
      · have hh := ha13 hc15
        refine am_iinc (n := 5) dX3_question_61 rfl (by decide) rfl ?_
        refine am_goto (tgt := 26) dX3_question_64 (by decide) ?_
        refine am_keep [2, 3, 4, 5, 0] rfl ?_
        exact hh
      · have hh := hb14 hc15
        refine am_iload dX3_question_55 5 rfl ?_
        refine am_istore_n dX3_question_57 rfl (by decide) rfl ?_
        refine am_iload dX3_question_58 1 rfl ?_
        refine am_istore_n dX3_question_60 rfl (by decide) rfl ?_
        refine am_iinc (n := 5) dX3_question_61 rfl (by decide) rfl ?_
        refine am_goto (tgt := 26) dX3_question_64 (by decide) ?_
        refine am_keep [4, 5, 2, 1, 0] rfl ?_
        exact hh
/-! TableArmsModel.bits(I)I -/
abbrev VX3_bits (l : Launch) (Q : Option am_W → am_M → Prop) (pc : Nat) (lv : List (Nat × am_W)) (st : List am_W) (S : am_M) : Prop := am_V am_mr l RX3 cX3_bits 3 (some .int) "bits" (am_rm 1 0 0) (am_E1 am_mr 0 0 Q) pc lv st S 0 0
abbrev kX3_bits (l : Launch) (as : List am_W) (S : am_M) (Q : Option am_W → am_M → Prop) : Prop := am_C am_mr l yX3_bits (ws_ yX3_bits cX3_bits 3 (some .int)) (am_rm 1 0 0) 0 0 as S Q
set_option maxHeartbeats 4000000 in
set_option maxRecDepth 100000 in
theorem bX3_bits {l : Launch} {Q : Option am_W → am_M → Prop} {S : am_M} (v0 : Int) (h0 : am_r v0)
    (hh : VX3_bits l Q 4 [(0, am_I v0), (1, am_I 0), (2, am_I 0)] [] S) : kX3_bits l [am_I v0] S Q := by
  refine am_entry (lv := [(0, am_I v0)]) rfl rfl rfl (fun _ => rfl) (fun _ => Nat.le_of_ble_eq_true rfl) ?_
  refine am_iconst dX3_bits_0 ?_
  refine am_istore_n dX3_bits_1 rfl (by decide) rfl ?_
  refine am_iconst dX3_bits_2 ?_
  refine am_istore_n dX3_bits_3 rfl (by decide) rfl ?_
  refine am_keep [2, 1, 0] rfl ?_
  exact hh
set_option maxHeartbeats 4000000 in
set_option maxRecDepth 100000 in
theorem bX3_bits_4 {l : Launch} {Q : Option am_W → am_M → Prop} {S : am_M} (v0 : Int) (h0 : am_r v0) (v1 : Int) (h1 : am_r v1) (v2 : Int) (h2 : am_r v2)
    (hh : ((8 ≤ v2) →
        Q (some (am_I v1)) S) ∧
      ((¬ 8 ≤ v2) →
        VX3_bits l Q 4 [(0, am_I v0), (1, am_I (v1 + (am_and (am_shr v0 v2) 1))), (2, am_I (v2 + 1))] [] S)) : VX3_bits l Q 4 [(0, am_I v0), (1, am_I v1), (2, am_I v2)] [] S := by
  refine am_iload_n dX3_bits_4 rfl 2 rfl ?_
  refine am_bipush dX3_bits_5 (by decide) ?_
  obtain ⟨ha1, hb2⟩ := hh
  refine am_icmp_ge (tgt := 24) dX3_bits_7 (by decide) h2 (⟨by decide, by decide⟩) (fun hc3 => ?_) (fun hc3 => ?_)
  · have hh := ha1 hc3
    refine am_iload_n dX3_bits_24 rfl 1 rfl ?_
    exact am_iret rfl dX3_bits_25 (Nat.le_refl 0) (Nat.le_refl 0) hh
  · have hh := hb2 hc3
    refine am_iload_n dX3_bits_10 rfl 1 rfl ?_
    refine am_iload_n dX3_bits_11 rfl 0 rfl ?_
    refine am_iload_n dX3_bits_12 rfl 2 rfl ?_
    refine am_ishr dX3_bits_13 ?_
    refine am_iconst dX3_bits_14 ?_
    refine am_iand dX3_bits_15 ?_
    refine am_iadd dX3_bits_16 ?_
    refine am_istore_n dX3_bits_17 rfl (by decide) rfl ?_
    refine am_iinc (n := 2) dX3_bits_18 rfl (by decide) rfl ?_
    refine am_goto (tgt := 4) dX3_bits_21 (by decide) ?_
    refine am_keep [2, 1, 0] rfl ?_
    exact hh
/-! TableArmsModel.quarrel()I -/
abbrev VX3_quarrel (l : Launch) (Q : Option am_W → am_M → Prop) (pc : Nat) (lv : List (Nat × am_W)) (st : List am_W) (S : am_M) : Prop := am_V am_mr l RX3 cX3_quarrel 6 (some .int) "quarrel" (am_rm 10 0 0) (am_E1 am_mr 0 0 Q) pc lv st S 0 0
abbrev kX3_quarrel (l : Launch) (as : List am_W) (S : am_M) (Q : Option am_W → am_M → Prop) : Prop := am_C am_mr l yX3_quarrel (ws_ yX3_quarrel cX3_quarrel 6 (some .int)) (am_rm 10 0 0) 0 0 as S Q
set_option maxHeartbeats 4000000 in
set_option maxRecDepth 100000 in
theorem bX3_quarrel {l : Launch} {Q : Option am_W → am_M → Prop} {S : am_M} 
    (hh : kX3_standing l [am_R 0] (am_sv S 0 0) (am_qi fun r2 S1 =>
        VX3_quarrel l Q 14 [(0, am_R 0), (1, am_I r2), (2, am_I r2), (3, am_I 0)] [] S1)) : kX3_quarrel l [am_R 0] S Q := by
  refine am_entry (lv := [(0, am_R 0)]) rfl rfl rfl (fun _ => rfl) (fun _ => Nat.le_of_ble_eq_true rfl) ?_
  refine am_aload_n dX3_quarrel_0 rfl 0 rfl ?_
  refine am_iconst dX3_quarrel_1 ?_
  refine am_mput 0 (by decide) q1401 dX3_quarrel_2 ?_
  refine am_aload_n dX3_quarrel_5 rfl 0 rfl ?_
  refine am_rVi (n := 0) hh dX3_quarrel_6 (lw_V q1693 q1695 qs66 q96 q1696) rfl ⟨⟨by decide, by decide, by decide +kernel⟩, ⟨Nat.le_of_ble_eq_true rfl, Nat.le_of_ble_eq_true rfl⟩⟩ ⟨rfl, rfl⟩ rfl rfl (Nat.le_of_ble_eq_true rfl) ⟨(Nat.le_refl 0), (Nat.le_refl 0)⟩ (am_mrecv _) (fun r2 S1 hr3 hh => ?_)
  refine am_istore_n dX3_quarrel_9 rfl (by decide) rfl ?_
  refine am_iload_n dX3_quarrel_10 rfl 0 rfl ?_
  refine am_istore_n dX3_quarrel_11 rfl (by decide) rfl ?_
  refine am_iconst dX3_quarrel_12 ?_
  refine am_istore_n dX3_quarrel_13 rfl (by decide) rfl ?_
  refine am_keep [3, 2, 1, 0] rfl ?_
  exact hh
set_option maxHeartbeats 4000000 in
set_option maxRecDepth 100000 in
theorem bX3_quarrel_14 {l : Launch} {Q : Option am_W → am_M → Prop} {S : am_M} (v1 : Int) (h1 : am_r v1) (v2 : Int) (h2 : am_r v2) (v3 : Int) (h3 : am_r v3)
    (hh : ((96 ≤ v3) →
        Q (some (am_I v2)) S) ∧
      ((¬ 96 ≤ v3) →
        VX3_quarrel l Q 26 [(0, am_R 0), (1, am_I v1), (2, am_I v2), (3, am_I v3), (4, am_I 0), (5, am_I 0)] [] S)) : VX3_quarrel l Q 14 [(0, am_R 0), (1, am_I v1), (2, am_I v2), (3, am_I v3)] [] S := by
  refine am_iload_n dX3_quarrel_14 rfl 3 rfl ?_
  refine am_bipush dX3_quarrel_15 (by decide) ?_
  obtain ⟨ha1, hb2⟩ := hh
  refine am_icmp_ge (tgt := 117) dX3_quarrel_17 (by decide) h3 (⟨by decide, by decide⟩) (fun hc3 => ?_) (fun hc3 => ?_)
  · have hh := ha1 hc3
    refine am_iload_n dX3_quarrel_117 rfl 2 rfl ?_
    exact am_iret rfl dX3_quarrel_118 (Nat.le_refl 0) (Nat.le_refl 0) hh
  · have hh := hb2 hc3
    refine am_iconst dX3_quarrel_20 ?_
    refine am_istore dX3_quarrel_21 (by decide) rfl ?_
    refine am_iconst dX3_quarrel_23 ?_
    refine am_istore dX3_quarrel_24 (by decide) rfl ?_
    refine am_keep [2, 3, 4, 5, 1, 0] rfl ?_
    exact hh
set_option maxHeartbeats 4000000 in
set_option maxRecDepth 100000 in
theorem bX3_quarrel_26 {l : Launch} {Q : Option am_W → am_M → Prop} {S : am_M} (v1 : Int) (h1 : am_r v1) (v2 : Int) (h2 : am_r v2) (v3 : Int) (h3 : am_r v3) (v4 : Int) (h4 : am_r v4) (v5 : Int) (h5 : am_r v5)
    (hh : ((((S.1 4).toInt) ≤ v5) →
        kX3_bits l [am_I v4] S (am_qi fun r5 S4 =>
          kX3_bits l [am_I v2] S4 (am_qi fun r8 S7 =>
            ((r5 < r8) →
              VX3_quarrel l Q 14 [(0, am_R 0), (1, am_I v1), (2, am_I v4), (3, am_I (v3 + 1))] [] S7) ∧
            ((¬ r5 < r8) →
              kX3_bits l [am_I v4] S7 (am_qi fun r14 S13 =>
                kX3_bits l [am_I v2] S13 (am_qi fun r17 S16 =>
                  ((¬ r14 = r17) →
                    VX3_quarrel l Q 14 [(0, am_R 0), (1, am_I v1), (2, am_I v2), (3, am_I (v3 + 1))] [] S16) ∧
                  ((r14 = r17) →
                    ((v2 ≤ v4) →
                      VX3_quarrel l Q 14 [(0, am_R 0), (1, am_I v1), (2, am_I v2), (3, am_I (v3 + 1))] [] S16) ∧
                    ((¬ v2 ≤ v4) →
                      VX3_quarrel l Q 14 [(0, am_R 0), (1, am_I v1), (2, am_I v4), (3, am_I (v3 + 1))] [] S16)))))))) ∧
      ((¬ ((S.1 4).toInt) ≤ v5) →
        ((¬ (am_and (am_shr v1 v5) 1) = 1) →
          VX3_quarrel l Q 26 [(0, am_R 0), (1, am_I v1), (2, am_I v2), (3, am_I v3), (4, am_I (am_or v4 0)), (5, am_I (v5 + 1))] [] S) ∧
        (((am_and (am_shr v1 v5) 1) = 1) →
          kX3_isBarring l [am_R 0, am_I v5, am_I v3] S (am_qz fun b29 S28 =>
            ((b29 = false) →
              VX3_quarrel l Q 26 [(0, am_R 0), (1, am_I v1), (2, am_I v2), (3, am_I v3), (4, am_I (am_or v4 0)), (5, am_I (v5 + 1))] [] S28) ∧
            ((b29 = true) →
              VX3_quarrel l Q 26 [(0, am_R 0), (1, am_I v1), (2, am_I v2), (3, am_I v3), (4, am_I (am_or v4 (am_shl 1 v5))), (5, am_I (v5 + 1))] [] S28))))) : VX3_quarrel l Q 26 [(0, am_R 0), (1, am_I v1), (2, am_I v2), (3, am_I v3), (4, am_I v4), (5, am_I v5)] [] S := by
  refine am_iload dX3_quarrel_26 5 rfl ?_
  refine am_aload_n dX3_quarrel_28 rfl 0 rfl ?_
  refine am_mgeti 4 (by decide) (v := (S.1 4).toInt) rfl q1409 dX3_quarrel_29 ?_
  obtain ⟨ha1, hb2⟩ := hh
  refine am_icmp_ge (tgt := 74) dX3_quarrel_32 (by decide) h5 (am_rt _) (fun hc3 => ?_) (fun hc3 => ?_)
  · have hh := ha1 hc3
    refine am_iload dX3_quarrel_74 4 rfl ?_
    refine am_rSi (n := 1) hh dX3_quarrel_76 (lw_S q1721 q1722 q96 q1723) ⟨⟨by decide, by decide, by decide +kernel⟩, ⟨Nat.le_of_ble_eq_true rfl, Nat.le_of_ble_eq_true rfl⟩⟩ ⟨rfl, rfl⟩ rfl rfl (Nat.le_of_ble_eq_true rfl) ⟨(Nat.le_refl 0), (Nat.le_refl 0)⟩ (fun r5 S4 hr6 hh => ?_)
    refine am_iload_n dX3_quarrel_79 rfl 2 rfl ?_
    refine am_rSi (n := 1) hh dX3_quarrel_80 (lw_S q1721 q1722 q96 q1723) ⟨⟨by decide, by decide, by decide +kernel⟩, ⟨Nat.le_of_ble_eq_true rfl, Nat.le_of_ble_eq_true rfl⟩⟩ ⟨rfl, rfl⟩ rfl rfl (Nat.le_of_ble_eq_true rfl) ⟨(Nat.le_refl 0), (Nat.le_refl 0)⟩ (fun r8 S7 hr9 hh => ?_)
    obtain ⟨ha10, hb11⟩ := hh
    refine am_icmp_lt (tgt := 104) dX3_quarrel_83 (by decide) hr6 hr9 (fun hc12 => ?_) (fun hc12 => ?_)
    · have hh := ha10 hc12
      refine am_iload dX3_quarrel_104 4 rfl ?_
      refine am_goto (tgt := 110) dX3_quarrel_106 (by decide) ?_
      refine am_istore_n dX3_quarrel_110 rfl (by decide) rfl ?_
      refine am_iinc (n := 3) dX3_quarrel_111 rfl (by decide) rfl ?_
      refine am_goto (tgt := 14) dX3_quarrel_114 (by decide) ?_
      refine am_keep [2, 3, 1, 0] rfl ?_
      exact hh
    · have hh := hb11 hc12
      refine am_iload dX3_quarrel_86 4 rfl ?_
      refine am_rSi (n := 1) hh dX3_quarrel_88 (lw_S q1721 q1722 q96 q1723) ⟨⟨by decide, by decide, by decide +kernel⟩, ⟨Nat.le_of_ble_eq_true rfl, Nat.le_of_ble_eq_true rfl⟩⟩ ⟨rfl, rfl⟩ rfl rfl (Nat.le_of_ble_eq_true rfl) ⟨(Nat.le_refl 0), (Nat.le_refl 0)⟩ (fun r14 S13 hr15 hh => ?_)
      refine am_iload_n dX3_quarrel_91 rfl 2 rfl ?_
      refine am_rSi (n := 1) hh dX3_quarrel_92 (lw_S q1721 q1722 q96 q1723) ⟨⟨by decide, by decide, by decide +kernel⟩, ⟨Nat.le_of_ble_eq_true rfl, Nat.le_of_ble_eq_true rfl⟩⟩ ⟨rfl, rfl⟩ rfl rfl (Nat.le_of_ble_eq_true rfl) ⟨(Nat.le_refl 0), (Nat.le_refl 0)⟩ (fun r17 S16 hr18 hh => ?_)
      obtain ⟨ha19, hb20⟩ := hh
      refine am_icmp_ne (tgt := 109) dX3_quarrel_95 (by decide) hr15 hr18 (fun hc21 => ?_) (fun hc21 => ?_)
      · have hh := ha19 hc21
        refine am_iload_n dX3_quarrel_109 rfl 2 rfl ?_
        refine am_istore_n dX3_quarrel_110 rfl (by decide) rfl ?_
        refine am_iinc (n := 3) dX3_quarrel_111 rfl (by decide) rfl ?_
        refine am_goto (tgt := 14) dX3_quarrel_114 (by decide) ?_
        refine am_keep [2, 3, 1, 0] rfl ?_
        exact hh
      · have hh := hb20 hc21
        refine am_iload dX3_quarrel_98 4 rfl ?_
        refine am_iload_n dX3_quarrel_100 rfl 2 rfl ?_
        obtain ⟨ha22, hb23⟩ := hh
        refine am_icmp_ge (tgt := 109) dX3_quarrel_101 (by decide) h4 h2 (fun hc24 => ?_) (fun hc24 => ?_)
        · have hh := ha22 hc24
          refine am_iload_n dX3_quarrel_109 rfl 2 rfl ?_
          refine am_istore_n dX3_quarrel_110 rfl (by decide) rfl ?_
          refine am_iinc (n := 3) dX3_quarrel_111 rfl (by decide) rfl ?_
          refine am_goto (tgt := 14) dX3_quarrel_114 (by decide) ?_
          refine am_keep [2, 3, 1, 0] rfl ?_
          exact hh
        · have hh := hb23 hc24
          refine am_iload dX3_quarrel_104 4 rfl ?_
          refine am_goto (tgt := 110) dX3_quarrel_106 (by decide) ?_
          refine am_istore_n dX3_quarrel_110 rfl (by decide) rfl ?_
          refine am_iinc (n := 3) dX3_quarrel_111 rfl (by decide) rfl ?_
          refine am_goto (tgt := 14) dX3_quarrel_114 (by decide) ?_
          refine am_keep [2, 3, 1, 0] rfl ?_
          exact hh
  · have hh := hb2 hc3
    refine am_iload dX3_quarrel_35 4 rfl ?_
    refine am_iload_n dX3_quarrel_37 rfl 1 rfl ?_
    refine am_iload dX3_quarrel_38 5 rfl ?_
    refine am_ishr dX3_quarrel_40 ?_
    refine am_iconst dX3_quarrel_41 ?_
    refine am_iand dX3_quarrel_42 ?_
    refine am_iconst dX3_quarrel_43 ?_
    obtain ⟨ha25, hb26⟩ := hh
    refine am_icmp_ne (tgt := 64) dX3_quarrel_44 (by decide) (am_rt _) (⟨by decide, by decide⟩) (fun hc27 => ?_) (fun hc27 => ?_)
    · have hh := ha25 hc27
      refine am_iconst dX3_quarrel_64 ?_
      refine am_ior dX3_quarrel_65 ?_
      refine am_istore dX3_quarrel_66 (by decide) rfl ?_
      refine am_iinc (n := 5) dX3_quarrel_68 rfl (by decide) rfl ?_
      refine am_goto (tgt := 26) dX3_quarrel_71 (by decide) ?_
      refine am_keep [2, 3, 4, 5, 1, 0] rfl ?_
      exact hh
    · have hh := hb26 hc27
      refine am_aload_n dX3_quarrel_47 rfl 0 rfl ?_
      refine am_iload dX3_quarrel_48 5 rfl ?_
      refine am_iload_n dX3_quarrel_50 rfl 3 rfl ?_
      refine am_rVz (n := 2) hh dX3_quarrel_51 (lw_V q1701 q1703 qs68 q96 q1704) rfl ⟨⟨by decide, by decide, by decide +kernel⟩, ⟨Nat.le_of_ble_eq_true rfl, Nat.le_of_ble_eq_true rfl⟩⟩ ⟨rfl, rfl⟩ rfl rfl (Nat.le_of_ble_eq_true rfl) ⟨(Nat.le_refl 0), (Nat.le_refl 0)⟩ (am_mrecv _) (fun b29 S28 hh => ?_)
      obtain ⟨ha30, hb31⟩ := hh
      refine am_ifB_eq (tgt := 64) dX3_quarrel_54 (by decide) (fun hc32 => ?_) (fun hc32 => ?_)
      · have hh := ha30 hc32
        refine am_iconst dX3_quarrel_64 ?_
        refine am_ior dX3_quarrel_65 ?_
        refine am_istore dX3_quarrel_66 (by decide) rfl ?_
        refine am_iinc (n := 5) dX3_quarrel_68 rfl (by decide) rfl ?_
        refine am_goto (tgt := 26) dX3_quarrel_71 (by decide) ?_
        refine am_keep [2, 3, 4, 5, 1, 0] rfl ?_
        exact hh
      · have hh := hb31 hc32
        refine am_iconst dX3_quarrel_57 ?_
        refine am_iload dX3_quarrel_58 5 rfl ?_
        refine am_ishl dX3_quarrel_60 ?_
        refine am_goto (tgt := 65) dX3_quarrel_61 (by decide) ?_
        refine am_ior dX3_quarrel_65 ?_
        refine am_istore dX3_quarrel_66 (by decide) rfl ?_
        refine am_iinc (n := 5) dX3_quarrel_68 rfl (by decide) rfl ?_
        refine am_goto (tgt := 26) dX3_quarrel_71 (by decide) ?_
        refine am_keep [2, 3, 4, 5, 1, 0] rfl ?_
        exact hh
/-! TableArmsModel.isEnd(II)Z -/
abbrev VX3_isEnd (l : Launch) (Q : Option am_W → am_M → Prop) (pc : Nat) (lv : List (Nat × am_W)) (st : List am_W) (S : am_M) : Prop := am_V am_mr l RX3 cX3_isEnd 7 (some .boolean) "isEnd" (am_rm 5 0 0) (am_E1 am_mr 0 0 Q) pc lv st S 0 0
abbrev kX3_isEnd (l : Launch) (as : List am_W) (S : am_M) (Q : Option am_W → am_M → Prop) : Prop := am_C am_mr l yX3_isEnd (ws_ yX3_isEnd cX3_isEnd 7 (some .boolean)) (am_rm 5 0 0) 0 0 as S Q
set_option maxHeartbeats 4000000 in
set_option maxRecDepth 100000 in
theorem bX3_isEnd {l : Launch} {Q : Option am_W → am_M → Prop} {S : am_M} (v1 : Int) (h1 : am_r v1) (v2 : Int) (h2 : am_r v2)
    (hh : (0 ≤ v2) ∧
      (0 ≤ (v2 / 2)) ∧
      VX3_isEnd l Q 15 [(0, am_R 0), (1, am_I v1), (2, am_I v2), (3, am_I ((v2 / 2) % 4)), (4, am_I 0), (5, am_I 0), (6, am_I 0)] [] S) : kX3_isEnd l [am_R 0, am_I v1, am_I v2] S Q := by
  refine am_entry (lv := [(0, am_R 0), (1, am_I v1), (2, am_I v2)]) rfl rfl rfl (fun _ => rfl) (fun _ => Nat.le_of_ble_eq_true rfl) ?_
  refine am_iload_n dX3_isEnd_0 rfl 2 rfl ?_
  refine am_iconst dX3_isEnd_1 ?_
  obtain ⟨o1, hh⟩ := hh
  refine am_idiv dX3_isEnd_2 o1 (h2).2 (by decide) (by decide) ?_
  refine am_iconst dX3_isEnd_3 ?_
  obtain ⟨o2, hh⟩ := hh
  refine am_irem dX3_isEnd_4 o2 ((am_r_div o1 (h2).2 (by decide) : am_r (v2 / 2))).2 (by decide) (by decide) ?_
  refine am_istore_n dX3_isEnd_5 rfl (by decide) rfl ?_
  refine am_iconst dX3_isEnd_6 ?_
  refine am_istore dX3_isEnd_7 (by decide) rfl ?_
  refine am_iconst dX3_isEnd_9 ?_
  refine am_istore dX3_isEnd_10 (by decide) rfl ?_
  refine am_iconst dX3_isEnd_12 ?_
  refine am_istore dX3_isEnd_13 (by decide) rfl ?_
  refine am_keep [4, 5, 6, 3, 2, 1, 0] rfl ?_
  exact hh
set_option maxHeartbeats 4000000 in
set_option maxRecDepth 100000 in
theorem bX3_isEnd_15 {l : Launch} {Q : Option am_W → am_M → Prop} {S : am_M} (v1 : Int) (h1 : am_r v1) (v2 : Int) (h2 : am_r v2) (v3 : Int) (h3 : am_r v3) (v4 : Int) (h4 : am_r v4) (v5 : Int) (h5 : am_r v5) (v6 : Int) (h6 : am_r v6)
    (hh : ((((S.1 2).toInt) ≤ v6) →
        (0 ≤ v2) ∧
        ((¬ (v2 % 2) = 0) →
          ((v5 ≤ 0) →
            Q (some (am_I (am_b false))) S) ∧
          ((¬ v5 ≤ 0) →
            ((¬ v4 = v5) →
              Q (some (am_I (am_b false))) S) ∧
            ((v4 = v5) →
              Q (some (am_I (am_b true))) S))) ∧
        (((v2 % 2) = 0) →
          ((v4 ≤ 0) →
            Q (some (am_I (am_b false))) S) ∧
          ((¬ v4 ≤ 0) →
            Q (some (am_I (am_b true))) S))) ∧
      ((¬ ((S.1 2).toInt) ≤ v6) →
        (0 ≤ v6 ∧ v6 < 6) ∧
        ((¬ ((S.2 1 v6.toNat).toInt) = v3) →
          VX3_isEnd l Q 15 [(0, am_R 0), (1, am_I v1), (2, am_I v2), (3, am_I v3), (4, am_I v4), (5, am_I v5), (6, am_I (v6 + 1))] [] S) ∧
        ((((S.2 1 v6.toNat).toInt) = v3) →
          (0 ≤ v2) ∧
          (0 ≤ (v2 / 8)) ∧
          kX3_isAsTold l [am_R 0, am_I v1, am_I v6, am_I ((v2 / 8) % 3), am_I (v2 / 24)] S (am_qz fun b24 S23 =>
            ((b24 = false) →
              VX3_isEnd l Q 15 [(0, am_R 0), (1, am_I v1), (2, am_I v2), (3, am_I v3), (4, am_I (v4 + 0)), (5, am_I (v5 + 1)), (6, am_I (v6 + 1))] [] S23) ∧
            ((b24 = true) →
              VX3_isEnd l Q 15 [(0, am_R 0), (1, am_I v1), (2, am_I v2), (3, am_I v3), (4, am_I (v4 + 1)), (5, am_I (v5 + 1)), (6, am_I (v6 + 1))] [] S23))))) : VX3_isEnd l Q 15 [(0, am_R 0), (1, am_I v1), (2, am_I v2), (3, am_I v3), (4, am_I v4), (5, am_I v5), (6, am_I v6)] [] S := by
  refine am_iload dX3_isEnd_15 6 rfl ?_
  refine am_aload_n dX3_isEnd_17 rfl 0 rfl ?_
  refine am_mgeti 2 (by decide) (v := (S.1 2).toInt) rfl q1404 dX3_isEnd_18 ?_
  obtain ⟨ha1, hb2⟩ := hh
  refine am_icmp_ge (tgt := 74) dX3_isEnd_21 (by decide) h6 (am_rt _) (fun hc3 => ?_) (fun hc3 => ?_)
  · have hh := ha1 hc3
    refine am_iload_n dX3_isEnd_74 rfl 2 rfl ?_
    refine am_iconst dX3_isEnd_75 ?_
    obtain ⟨o4, hh⟩ := hh
    refine am_irem dX3_isEnd_76 o4 (h2).2 (by decide) (by decide) ?_
    obtain ⟨ha5, hb6⟩ := hh
    refine am_if_ne (tgt := 93) dX3_isEnd_77 (by decide) (am_r_rem o4 (h2).2 (by decide) : am_r (v2 % 2)) (fun hc7 => ?_) (fun hc7 => ?_)
    · have hh := ha5 hc7
      refine am_iload dX3_isEnd_93 5 rfl ?_
      obtain ⟨ha8, hb9⟩ := hh
      refine am_if_le (tgt := 109) dX3_isEnd_95 (by decide) h5 (fun hc10 => ?_) (fun hc10 => ?_)
      · have hh := ha8 hc10
        refine am_iconst dX3_isEnd_109 ?_
        exact am_zret (b := false) rfl dX3_isEnd_110 (Nat.le_refl 0) (Nat.le_refl 0) hh
      · have hh := hb9 hc10
        refine am_iload dX3_isEnd_98 4 rfl ?_
        refine am_iload dX3_isEnd_100 5 rfl ?_
        obtain ⟨ha11, hb12⟩ := hh
        refine am_icmp_ne (tgt := 109) dX3_isEnd_102 (by decide) h4 h5 (fun hc13 => ?_) (fun hc13 => ?_)
        · have hh := ha11 hc13
          refine am_iconst dX3_isEnd_109 ?_
          exact am_zret (b := false) rfl dX3_isEnd_110 (Nat.le_refl 0) (Nat.le_refl 0) hh
        · have hh := hb12 hc13
          refine am_iconst dX3_isEnd_105 ?_
          refine am_goto (tgt := 110) dX3_isEnd_106 (by decide) ?_
          exact am_zret (b := true) rfl dX3_isEnd_110 (Nat.le_refl 0) (Nat.le_refl 0) hh
    · have hh := hb6 hc7
      refine am_iload dX3_isEnd_80 4 rfl ?_
      obtain ⟨ha14, hb15⟩ := hh
      refine am_if_le (tgt := 89) dX3_isEnd_82 (by decide) h4 (fun hc16 => ?_) (fun hc16 => ?_)
      · have hh := ha14 hc16
        refine am_iconst dX3_isEnd_89 ?_
        refine am_goto (tgt := 110) dX3_isEnd_90 (by decide) ?_
        exact am_zret (b := false) rfl dX3_isEnd_110 (Nat.le_refl 0) (Nat.le_refl 0) hh
      · have hh := hb15 hc16
        refine am_iconst dX3_isEnd_85 ?_
        refine am_goto (tgt := 110) dX3_isEnd_86 (by decide) ?_
        exact am_zret (b := true) rfl dX3_isEnd_110 (Nat.le_refl 0) (Nat.le_refl 0) hh
  · have hh := hb2 hc3
    refine am_aload_n dX3_isEnd_24 rfl 0 rfl ?_
    refine am_mgeta 1 (by decide) q1405 dX3_isEnd_25 ?_
    refine am_iload dX3_isEnd_28 6 rfl ?_
    obtain ⟨o17, hh⟩ := hh
    refine am_miald 1 (by decide) (by decide) (v := (S.2 1 v6.toNat).toInt) rfl o17.1 o17.2 dX3_isEnd_30 ?_
    refine am_iload_n dX3_isEnd_31 rfl 3 rfl ?_
    obtain ⟨ha18, hb19⟩ := hh
    refine am_icmp_ne (tgt := 68) dX3_isEnd_32 (by decide) (am_rt _) h3 (fun hc20 => ?_) (fun hc20 => ?_)
    · have hh := ha18 hc20
      refine am_iinc (n := 6) dX3_isEnd_68 rfl (by decide) rfl ?_
      refine am_goto (tgt := 15) dX3_isEnd_71 (by decide) ?_
      refine am_keep [1, 2, 3, 4, 5, 6, 0] rfl ?_
      exact hh
    · have hh := hb19 hc20
      refine am_iinc (n := 5) dX3_isEnd_35 rfl (by decide) rfl ?_
      refine am_iload dX3_isEnd_38 5 rfl ?_
      refine am_aload_n dX3_isEnd_40 rfl 1 rfl ?_
      refine am_iload_n dX3_isEnd_41 rfl 2 rfl ?_
      refine am_iload dX3_isEnd_42 6 rfl ?_
      refine am_iload_n dX3_isEnd_44 rfl 3 rfl ?_
      refine am_bipush dX3_isEnd_45 (by decide) ?_
      obtain ⟨o21, hh⟩ := hh
      refine am_idiv dX3_isEnd_47 o21 (h2).2 (by decide) (by decide) ?_
      refine am_iconst dX3_isEnd_48 ?_
      obtain ⟨o22, hh⟩ := hh
      refine am_irem dX3_isEnd_49 o22 ((am_r_div o21 (h2).2 (by decide) : am_r (v2 / 8))).2 (by decide) (by decide) ?_
      refine am_iload_n dX3_isEnd_50 rfl 3 rfl ?_
      refine am_bipush dX3_isEnd_51 (by decide) ?_
      refine am_idiv dX3_isEnd_53 o21 (h2).2 (by decide) (by decide) ?_
      refine am_rVz (n := 4) hh dX3_isEnd_54 (lw_V q1524 q1526 qs42 q96 q1527) rfl ⟨⟨by decide, by decide, by decide +kernel⟩, ⟨Nat.le_of_ble_eq_true rfl, Nat.le_of_ble_eq_true rfl⟩⟩ ⟨rfl, rfl⟩ rfl rfl (Nat.le_of_ble_eq_true rfl) ⟨(Nat.le_refl 0), (Nat.le_refl 0)⟩ (am_mrecv _) (fun b24 S23 hh => ?_)
      obtain ⟨ha25, hb26⟩ := hh
      refine am_ifB_eq (tgt := 64) dX3_isEnd_57 (by decide) (fun hc27 => ?_) (fun hc27 => ?_)
      · have hh := ha25 hc27
        refine am_iconst dX3_isEnd_64 ?_
        refine am_iadd dX3_isEnd_65 ?_
        refine am_istore dX3_isEnd_66 (by decide) rfl ?_
        refine am_iinc (n := 6) dX3_isEnd_68 rfl (by decide) rfl ?_
        refine am_goto (tgt := 15) dX3_isEnd_71 (by decide) ?_
        refine am_keep [3, 4, 5, 6, 1, 2, 0] rfl ?_
        exact hh
      · have hh := hb26 hc27
        refine am_iconst dX3_isEnd_60 ?_
        refine am_goto (tgt := 65) dX3_isEnd_61 (by decide) ?_
        refine am_iadd dX3_isEnd_65 ?_
        refine am_istore dX3_isEnd_66 (by decide) rfl ?_
        refine am_iinc (n := 6) dX3_isEnd_68 rfl (by decide) rfl ?_
        refine am_goto (tgt := 15) dX3_isEnd_71 (by decide) ?_
        refine am_keep [3, 4, 5, 6, 1, 2, 0] rfl ?_
        exact hh
/-! TableArmsModel.canBySome(III)Z -/
abbrev VX3_canBySome (l : Launch) (Q : Option am_W → am_M → Prop) (pc : Nat) (lv : List (Nat × am_W)) (st : List am_W) (S : am_M) : Prop := am_V am_mr l RX3 cX3_canBySome 4 (some .boolean) "canBySome" (am_rm 7 0 0) (am_E1 am_mr 0 0 Q) pc lv st S 0 0
abbrev kX3_canBySome (l : Launch) (as : List am_W) (S : am_M) (Q : Option am_W → am_M → Prop) : Prop := am_C am_mr l yX3_canBySome (ws_ yX3_canBySome cX3_canBySome 4 (some .boolean)) (am_rm 7 0 0) 0 0 as S Q
set_option maxHeartbeats 4000000 in
set_option maxRecDepth 100000 in
theorem bX3_canBySome {l : Launch} {Q : Option am_W → am_M → Prop} {S : am_M} (v1 : Int) (h1 : am_r v1) (v2 : Int) (h2 : am_r v2) (v3 : Int) (h3 : am_r v3)
    (hh : kX3_isTo l [am_R 0, am_I v3] S (am_qz fun b2 S1 =>
        ((b2 = false) →
          Q (some (am_I (am_b false))) S1) ∧
        ((b2 = true) →
          kX3_canMove l [am_R 0, am_I v1, am_I v2, am_I v3] S1 (am_qz fun b7 S6 =>
            ((b7 = false) →
              Q (some (am_I (am_b false))) S6) ∧
            ((b7 = true) →
              kX3_doesReach l [am_R 0, am_I v1, am_I 0, am_I v2, am_I v3] S6 (am_qz fun b12 S11 =>
                ((b12 = true) →
                  Q (some (am_I (am_b true))) S11) ∧
                ((b12 = false) →
                  kX3_doesReach l [am_R 0, am_I v1, am_I 1, am_I v2, am_I v3] S11 (am_qz fun b17 S16 =>
                    ((b17 = false) →
                      Q (some (am_I (am_b false))) S16) ∧
                    ((b17 = true) →
                      Q (some (am_I (am_b true))) S16))))))))) : kX3_canBySome l [am_R 0, am_I v1, am_I v2, am_I v3] S Q := by
  refine am_entry (lv := [(0, am_R 0), (1, am_I v1), (2, am_I v2), (3, am_I v3)]) rfl rfl rfl (fun _ => rfl) (fun _ => Nat.le_of_ble_eq_true rfl) ?_
  refine am_aload_n dX3_canBySome_0 rfl 0 rfl ?_
  refine am_iload_n dX3_canBySome_1 rfl 3 rfl ?_
  refine am_rVz (n := 1) hh dX3_canBySome_2 (lw_V q1629 q1631 qs59 q96 q1632) rfl ⟨⟨by decide, by decide, by decide +kernel⟩, ⟨Nat.le_of_ble_eq_true rfl, Nat.le_of_ble_eq_true rfl⟩⟩ ⟨rfl, rfl⟩ rfl rfl (Nat.le_of_ble_eq_true rfl) ⟨(Nat.le_refl 0), (Nat.le_refl 0)⟩ (am_mrecv _) (fun b2 S1 hh => ?_)
  obtain ⟨ha3, hb4⟩ := hh
  refine am_ifB_eq (tgt := 44) dX3_canBySome_5 (by decide) (fun hc5 => ?_) (fun hc5 => ?_)
  · have hh := ha3 hc5
    refine am_iconst dX3_canBySome_44 ?_
    exact am_zret (b := false) rfl dX3_canBySome_45 (Nat.le_refl 0) (Nat.le_refl 0) hh
  · have hh := hb4 hc5
    refine am_aload_n dX3_canBySome_8 rfl 0 rfl ?_
    refine am_iload_n dX3_canBySome_9 rfl 1 rfl ?_
    refine am_iload_n dX3_canBySome_10 rfl 2 rfl ?_
    refine am_iload_n dX3_canBySome_11 rfl 3 rfl ?_
    refine am_rVz (n := 3) hh dX3_canBySome_12 (lw_V q1568 q1570 qs52 q96 q1571) rfl ⟨⟨by decide, by decide, by decide +kernel⟩, ⟨Nat.le_of_ble_eq_true rfl, Nat.le_of_ble_eq_true rfl⟩⟩ ⟨rfl, rfl⟩ rfl rfl (Nat.le_of_ble_eq_true rfl) ⟨(Nat.le_refl 0), (Nat.le_refl 0)⟩ (am_mrecv _) (fun b7 S6 hh => ?_)
    obtain ⟨ha8, hb9⟩ := hh
    refine am_ifB_eq (tgt := 44) dX3_canBySome_15 (by decide) (fun hc10 => ?_) (fun hc10 => ?_)
    · have hh := ha8 hc10
      refine am_iconst dX3_canBySome_44 ?_
      exact am_zret (b := false) rfl dX3_canBySome_45 (Nat.le_refl 0) (Nat.le_refl 0) hh
    · have hh := hb9 hc10
      refine am_aload_n dX3_canBySome_18 rfl 0 rfl ?_
      refine am_iload_n dX3_canBySome_19 rfl 1 rfl ?_
      refine am_iconst dX3_canBySome_20 ?_
      refine am_iload_n dX3_canBySome_21 rfl 2 rfl ?_
      refine am_iload_n dX3_canBySome_22 rfl 3 rfl ?_
      refine am_rVz (n := 4) hh dX3_canBySome_23 (lw_V q1635 q1637 qs60 q96 q1638) rfl ⟨⟨by decide, by decide, by decide +kernel⟩, ⟨Nat.le_of_ble_eq_true rfl, Nat.le_of_ble_eq_true rfl⟩⟩ ⟨rfl, rfl⟩ rfl rfl (Nat.le_of_ble_eq_true rfl) ⟨(Nat.le_refl 0), (Nat.le_refl 0)⟩ (am_mrecv _) (fun b12 S11 hh => ?_)
      obtain ⟨ha13, hb14⟩ := hh
      refine am_ifB_ne (tgt := 40) dX3_canBySome_26 (by decide) (fun hc15 => ?_) (fun hc15 => ?_)
      · have hh := ha13 hc15
        refine am_iconst dX3_canBySome_40 ?_
        refine am_goto (tgt := 45) dX3_canBySome_41 (by decide) ?_
        exact am_zret (b := true) rfl dX3_canBySome_45 (Nat.le_refl 0) (Nat.le_refl 0) hh
      · have hh := hb14 hc15
        refine am_aload_n dX3_canBySome_29 rfl 0 rfl ?_
        refine am_iload_n dX3_canBySome_30 rfl 1 rfl ?_
        refine am_iconst dX3_canBySome_31 ?_
        refine am_iload_n dX3_canBySome_32 rfl 2 rfl ?_
        refine am_iload_n dX3_canBySome_33 rfl 3 rfl ?_
        refine am_rVz (n := 4) hh dX3_canBySome_34 (lw_V q1635 q1637 qs60 q96 q1638) rfl ⟨⟨by decide, by decide, by decide +kernel⟩, ⟨Nat.le_of_ble_eq_true rfl, Nat.le_of_ble_eq_true rfl⟩⟩ ⟨rfl, rfl⟩ rfl rfl (Nat.le_of_ble_eq_true rfl) ⟨(Nat.le_refl 0), (Nat.le_refl 0)⟩ (am_mrecv _) (fun b17 S16 hh => ?_)
        obtain ⟨ha18, hb19⟩ := hh
        refine am_ifB_eq (tgt := 44) dX3_canBySome_37 (by decide) (fun hc20 => ?_) (fun hc20 => ?_)
        · have hh := ha18 hc20
          refine am_iconst dX3_canBySome_44 ?_
          exact am_zret (b := false) rfl dX3_canBySome_45 (Nat.le_refl 0) (Nat.le_refl 0) hh
        · have hh := hb19 hc20
          refine am_iconst dX3_canBySome_40 ?_
          refine am_goto (tgt := 45) dX3_canBySome_41 (by decide) ?_
          exact am_zret (b := true) rfl dX3_canBySome_45 (Nat.le_refl 0) (Nat.le_refl 0) hh
/-! TableArmsModel.endsByOne(II)Z -/
abbrev VX3_endsByOne (l : Launch) (Q : Option am_W → am_M → Prop) (pc : Nat) (lv : List (Nat × am_W)) (st : List am_W) (S : am_M) : Prop := am_V am_mr l RX3 cX3_endsByOne 5 (some .boolean) "endsByOne" (am_rm 8 0 0) (am_E1 am_mr 0 0 Q) pc lv st S 0 0
abbrev kX3_endsByOne (l : Launch) (as : List am_W) (S : am_M) (Q : Option am_W → am_M → Prop) : Prop := am_C am_mr l yX3_endsByOne (ws_ yX3_endsByOne cX3_endsByOne 5 (some .boolean)) (am_rm 8 0 0) 0 0 as S Q
set_option maxHeartbeats 4000000 in
set_option maxRecDepth 100000 in
theorem bX3_endsByOne {l : Launch} {Q : Option am_W → am_M → Prop} {S : am_M} (v1 : Int) (h1 : am_r v1) (v2 : Int) (h2 : am_r v2)
    (hh : VX3_endsByOne l Q 2 [(0, am_R 0), (1, am_I v1), (2, am_I v2), (3, am_I 0)] [] S) : kX3_endsByOne l [am_R 0, am_I v1, am_I v2] S Q := by
  refine am_entry (lv := [(0, am_R 0), (1, am_I v1), (2, am_I v2)]) rfl rfl rfl (fun _ => rfl) (fun _ => Nat.le_of_ble_eq_true rfl) ?_
  refine am_iconst dX3_endsByOne_0 ?_
  refine am_istore_n dX3_endsByOne_1 rfl (by decide) rfl ?_
  refine am_keep [1, 2, 3, 0] rfl ?_
  exact hh
set_option maxHeartbeats 4000000 in
set_option maxRecDepth 100000 in
theorem bX3_endsByOne_2 {l : Launch} {Q : Option am_W → am_M → Prop} {S : am_M} (v1 : Int) (h1 : am_r v1) (v2 : Int) (h2 : am_r v2) (v3 : Int) (h3 : am_r v3)
    (hh : ((((S.1 2).toInt) ≤ v3) →
        Q (some (am_I (am_b false))) S) ∧
      ((¬ ((S.1 2).toInt) ≤ v3) →
        VX3_endsByOne l Q 13 [(0, am_R 0), (1, am_I v1), (2, am_I v2), (3, am_I v3), (4, am_I 0)] [] S)) : VX3_endsByOne l Q 2 [(0, am_R 0), (1, am_I v1), (2, am_I v2), (3, am_I v3)] [] S := by
  refine am_iload_n dX3_endsByOne_2 rfl 3 rfl ?_
  refine am_aload_n dX3_endsByOne_3 rfl 0 rfl ?_
  refine am_mgeti 2 (by decide) (v := (S.1 2).toInt) rfl q1404 dX3_endsByOne_4 ?_
  obtain ⟨ha1, hb2⟩ := hh
  refine am_icmp_ge (tgt := 71) dX3_endsByOne_7 (by decide) h3 (am_rt _) (fun hc3 => ?_) (fun hc3 => ?_)
  · have hh := ha1 hc3
    refine am_iconst dX3_endsByOne_71 ?_
    exact am_zret (b := false) rfl dX3_endsByOne_72 (Nat.le_refl 0) (Nat.le_refl 0) hh
  · have hh := hb2 hc3
    refine am_iconst dX3_endsByOne_10 ?_
    refine am_istore dX3_endsByOne_11 (by decide) rfl ?_
    refine am_keep [1, 2, 3, 4, 0] rfl ?_
    exact hh
set_option maxHeartbeats 4000000 in
set_option maxRecDepth 100000 in
theorem bX3_endsByOne_13 {l : Launch} {Q : Option am_W → am_M → Prop} {S : am_M} (v1 : Int) (h1 : am_r v1) (v2 : Int) (h2 : am_r v2) (v3 : Int) (h3 : am_r v3) (v4 : Int) (h4 : am_r v4)
    (hh : ((14 ≤ v4) →
        VX3_endsByOne l Q 2 [(0, am_R 0), (1, am_I v1), (2, am_I v2), (3, am_I (v3 + 1))] [] S) ∧
      ((¬ 14 ≤ v4) →
        kX3_canBySome l [am_R 0, am_I v1, am_I v3, am_I v4] S (am_qz fun b5 S4 =>
          ((b5 = false) →
            VX3_endsByOne l Q 13 [(0, am_R 0), (1, am_I v1), (2, am_I v2), (3, am_I v3), (4, am_I (v4 + 1))] [] S4) ∧
          ((b5 = true) →
            kX3_copyTable l [am_R 0, am_I v1, am_I 10] S4 (am_qv fun S9 =>
              kX3_doMove l [am_R 0, am_I 10, am_I v3, am_I v4] S9 (am_qv fun S10 =>
                kX3_isEnd l [am_R 0, am_I 10, am_I v2] S10 (am_qz fun b12 S11 =>
                  ((b12 = false) →
                    VX3_endsByOne l Q 13 [(0, am_R 0), (1, am_I v1), (2, am_I v2), (3, am_I v3), (4, am_I (v4 + 1))] [] S11) ∧
                  ((b12 = true) →
                    Q (some (am_I (am_b true))) S11)))))))) : VX3_endsByOne l Q 13 [(0, am_R 0), (1, am_I v1), (2, am_I v2), (3, am_I v3), (4, am_I v4)] [] S := by
  refine am_iload dX3_endsByOne_13 4 rfl ?_
  refine am_bipush dX3_endsByOne_15 (by decide) ?_
  obtain ⟨ha1, hb2⟩ := hh
  refine am_icmp_ge (tgt := 65) dX3_endsByOne_17 (by decide) h4 (⟨by decide, by decide⟩) (fun hc3 => ?_) (fun hc3 => ?_)
  · have hh := ha1 hc3
    refine am_iinc (n := 3) dX3_endsByOne_65 rfl (by decide) rfl ?_
    refine am_goto (tgt := 2) dX3_endsByOne_68 (by decide) ?_
    refine am_keep [1, 2, 3, 0] rfl ?_
    exact hh
  · have hh := hb2 hc3
    refine am_aload_n dX3_endsByOne_20 rfl 0 rfl ?_
    refine am_iload_n dX3_endsByOne_21 rfl 1 rfl ?_
    refine am_iload_n dX3_endsByOne_22 rfl 3 rfl ?_
    refine am_iload dX3_endsByOne_23 4 rfl ?_
    refine am_rVz (n := 3) hh dX3_endsByOne_25 (lw_V q1732 q1734 qs71 q96 q1735) rfl ⟨⟨by decide, by decide, by decide +kernel⟩, ⟨Nat.le_of_ble_eq_true rfl, Nat.le_of_ble_eq_true rfl⟩⟩ ⟨rfl, rfl⟩ rfl rfl (Nat.le_of_ble_eq_true rfl) ⟨(Nat.le_refl 0), (Nat.le_refl 0)⟩ (am_mrecv _) (fun b5 S4 hh => ?_)
    obtain ⟨ha6, hb7⟩ := hh
    refine am_ifB_eq (tgt := 59) dX3_endsByOne_28 (by decide) (fun hc8 => ?_) (fun hc8 => ?_)
    · have hh := ha6 hc8
      refine am_iinc (n := 4) dX3_endsByOne_59 rfl (by decide) rfl ?_
      refine am_goto (tgt := 13) dX3_endsByOne_62 (by decide) ?_
      refine am_keep [1, 2, 3, 4, 0] rfl ?_
      exact hh
    · have hh := hb7 hc8
      refine am_aload_n dX3_endsByOne_31 rfl 0 rfl ?_
      refine am_iload_n dX3_endsByOne_32 rfl 1 rfl ?_
      refine am_bipush dX3_endsByOne_33 (by decide) ?_
      refine am_rVv (n := 2) hh dX3_endsByOne_35 (lw_V q1516 q1518 qs40 q96 q1519) rfl ⟨⟨by decide, by decide, by decide +kernel⟩, ⟨Nat.le_of_ble_eq_true rfl, Nat.le_of_ble_eq_true rfl⟩⟩ ⟨rfl, rfl⟩ rfl rfl (Nat.le_of_ble_eq_true rfl) ⟨(Nat.le_refl 0), (Nat.le_refl 0)⟩ (am_mrecv _) (fun S9 hh => ?_)
      refine am_aload_n dX3_endsByOne_38 rfl 0 rfl ?_
      refine am_bipush dX3_endsByOne_39 (by decide) ?_
      refine am_iload_n dX3_endsByOne_41 rfl 3 rfl ?_
      refine am_iload dX3_endsByOne_42 4 rfl ?_
      refine am_rVv (n := 3) hh dX3_endsByOne_44 (lw_V q1580 q1582 qs55 q96 q1583) rfl ⟨⟨by decide, by decide, by decide +kernel⟩, ⟨Nat.le_of_ble_eq_true rfl, Nat.le_of_ble_eq_true rfl⟩⟩ ⟨rfl, rfl⟩ rfl rfl (Nat.le_of_ble_eq_true rfl) ⟨(Nat.le_refl 0), (Nat.le_refl 0)⟩ (am_mrecv _) (fun S10 hh => ?_)
      refine am_aload_n dX3_endsByOne_47 rfl 0 rfl ?_
      refine am_bipush dX3_endsByOne_48 (by decide) ?_
      refine am_iload_n dX3_endsByOne_50 rfl 2 rfl ?_
      refine am_rVz (n := 2) hh dX3_endsByOne_51 (lw_V q1728 q1730 qs70 q96 q1731) rfl ⟨⟨by decide, by decide, by decide +kernel⟩, ⟨Nat.le_of_ble_eq_true rfl, Nat.le_of_ble_eq_true rfl⟩⟩ ⟨rfl, rfl⟩ rfl rfl (Nat.le_of_ble_eq_true rfl) ⟨(Nat.le_refl 0), (Nat.le_refl 0)⟩ (am_mrecv _) (fun b12 S11 hh => ?_)
      obtain ⟨ha13, hb14⟩ := hh
      refine am_ifB_eq (tgt := 59) dX3_endsByOne_54 (by decide) (fun hc15 => ?_) (fun hc15 => ?_)
      · have hh := ha13 hc15
        refine am_iinc (n := 4) dX3_endsByOne_59 rfl (by decide) rfl ?_
        refine am_goto (tgt := 13) dX3_endsByOne_62 (by decide) ?_
        refine am_keep [1, 2, 3, 4, 0] rfl ?_
        exact hh
      · have hh := hb14 hc15
        refine am_iconst dX3_endsByOne_57 ?_
        exact am_zret (b := true) rfl dX3_endsByOne_58 (Nat.le_refl 0) (Nat.le_refl 0) hh
/-! TableArmsModel.plan(II)I -/
abbrev VX3_plan (l : Launch) (Q : Option am_W → am_M → Prop) (pc : Nat) (lv : List (Nat × am_W)) (st : List am_W) (S : am_M) : Prop := am_V am_mr l RX3 cX3_plan 6 (some .int) "plan" (am_rm 9 0 0) (am_E1 am_mr 0 0 Q) pc lv st S 0 0
abbrev kX3_plan (l : Launch) (as : List am_W) (S : am_M) (Q : Option am_W → am_M → Prop) : Prop := am_C am_mr l yX3_plan (ws_ yX3_plan cX3_plan 6 (some .int)) (am_rm 9 0 0) 0 0 as S Q
set_option maxHeartbeats 4000000 in
set_option maxRecDepth 100000 in
theorem bX3_plan {l : Launch} {Q : Option am_W → am_M → Prop} {S : am_M} (v1 : Int) (h1 : am_r v1) (v2 : Int) (h2 : am_r v2)
    (hh : kX3_isOrder l [am_I v1] (am_sv S 0 0) (am_qz fun b2 S1 =>
        ((b2 = false) →
          Q (some (am_I (-1000001))) S1) ∧
        ((b2 = true) →
          kX3_in l [am_J v2, am_J 0, am_J 1] S1 (am_qz fun b7 S6 =>
            ((b7 = true) →
              kX3_isEnd l [am_R 0, am_I 0, am_I v1] S6 (am_qz fun b12 S11 =>
                ((b12 = false) →
                  VX3_plan l Q 47 [(0, am_R 0), (1, am_I v1), (2, am_I v2), (3, am_I 1)] [] S11) ∧
                ((b12 = true) →
                  ((¬ v2 = 0) →
                    Q (some (am_I (-1000000))) S11) ∧
                  ((v2 = 0) →
                    Q (some (am_I 0)) S11)))) ∧
            ((b7 = false) →
              Q (some (am_I (-1000001))) S6))))) : kX3_plan l [am_R 0, am_I v1, am_I v2] S Q := by
  refine am_entry (lv := [(0, am_R 0), (1, am_I v1), (2, am_I v2)]) rfl rfl rfl (fun _ => rfl) (fun _ => Nat.le_of_ble_eq_true rfl) ?_
  refine am_aload_n dX3_plan_0 rfl 0 rfl ?_
  refine am_iconst dX3_plan_1 ?_
  refine am_mput 0 (by decide) q1401 dX3_plan_2 ?_
  refine am_iload_n dX3_plan_5 rfl 1 rfl ?_
  refine am_rSz (n := 1) hh dX3_plan_6 (lw_S q1508 q1509 q96 q1510) ⟨⟨by decide, by decide, by decide +kernel⟩, ⟨Nat.le_of_ble_eq_true rfl, Nat.le_of_ble_eq_true rfl⟩⟩ ⟨rfl, rfl⟩ rfl rfl (Nat.le_of_ble_eq_true rfl) ⟨(Nat.le_refl 0), (Nat.le_refl 0)⟩ (fun b2 S1 hh => ?_)
  obtain ⟨ha3, hb4⟩ := hh
  refine am_ifB_eq (tgt := 22) dX3_plan_9 (by decide) (fun hc5 => ?_) (fun hc5 => ?_)
  · have hh := ha3 hc5
    refine am_ldc (z := -1000001) q1515 (by decide) dX3_plan_22 ?_
    exact am_iret rfl dX3_plan_24 (Nat.le_refl 0) (Nat.le_refl 0) hh
  · have hh := hb4 hc5
    refine am_iload_n dX3_plan_12 rfl 2 rfl ?_
    refine am_i2l_ h2 dX3_plan_13 ?_
    refine am_lconst (z := 0) dX3_plan_14 (by decide) ?_
    refine am_lconst (z := 1) dX3_plan_15 (by decide) ?_
    refine am_rSz (n := 3) hh dX3_plan_16 (lw_S q1512 q1513 q96 q1514) ⟨⟨by decide, by decide, by decide +kernel⟩, ⟨Nat.le_of_ble_eq_true rfl, Nat.le_of_ble_eq_true rfl⟩⟩ ⟨rfl, rfl⟩ rfl rfl (Nat.le_of_ble_eq_true rfl) ⟨(Nat.le_refl 0), (Nat.le_refl 0)⟩ (fun b7 S6 hh => ?_)
    obtain ⟨ha8, hb9⟩ := hh
    refine am_ifB_ne (tgt := 25) dX3_plan_19 (by decide) (fun hc10 => ?_) (fun hc10 => ?_)
    · have hh := ha8 hc10
      refine am_aload_n dX3_plan_25 rfl 0 rfl ?_
      refine am_iconst dX3_plan_26 ?_
      refine am_iload_n dX3_plan_27 rfl 1 rfl ?_
      refine am_rVz (n := 2) hh dX3_plan_28 (lw_V q1728 q1730 qs70 q96 q1731) rfl ⟨⟨by decide, by decide, by decide +kernel⟩, ⟨Nat.le_of_ble_eq_true rfl, Nat.le_of_ble_eq_true rfl⟩⟩ ⟨rfl, rfl⟩ rfl rfl (Nat.le_of_ble_eq_true rfl) ⟨(Nat.le_refl 0), (Nat.le_refl 0)⟩ (am_mrecv _) (fun b12 S11 hh => ?_)
      obtain ⟨ha13, hb14⟩ := hh
      refine am_ifB_eq (tgt := 45) dX3_plan_31 (by decide) (fun hc15 => ?_) (fun hc15 => ?_)
      · have hh := ha13 hc15
        refine am_iconst dX3_plan_45 ?_
        refine am_istore_n dX3_plan_46 rfl (by decide) rfl ?_
        refine am_keep [1, 2, 3, 0] rfl ?_
        exact hh
      · have hh := hb14 hc15
        refine am_iload_n dX3_plan_34 rfl 2 rfl ?_
        obtain ⟨ha16, hb17⟩ := hh
        refine am_if_ne (tgt := 42) dX3_plan_35 (by decide) h2 (fun hc18 => ?_) (fun hc18 => ?_)
        · have hh := ha16 hc18
          refine am_ldc (z := -1000000) q1544 (by decide) dX3_plan_42 ?_
          exact am_iret rfl dX3_plan_44 (Nat.le_refl 0) (Nat.le_refl 0) hh
        · have hh := hb17 hc18
          refine am_iconst dX3_plan_38 ?_
          refine am_goto (tgt := 44) dX3_plan_39 (by decide) ?_
          exact am_iret rfl dX3_plan_44 (Nat.le_refl 0) (Nat.le_refl 0) hh
    · have hh := hb9 hc10
      refine am_ldc (z := -1000001) q1515 (by decide) dX3_plan_22 ?_
      exact am_iret rfl dX3_plan_24 (Nat.le_refl 0) (Nat.le_refl 0) hh
set_option maxHeartbeats 4000000 in
set_option maxRecDepth 100000 in
theorem bX3_plan_47 {l : Launch} {Q : Option am_W → am_M → Prop} {S : am_M} (v1 : Int) (h1 : am_r v1) (v2 : Int) (h2 : am_r v2) (v3 : Int) (h3 : am_r v3)
    (hh : ((3 ≤ v3) →
        Q (some (am_I (-1000000))) S) ∧
      ((¬ 3 ≤ v3) →
        VX3_plan l Q 55 [(0, am_R 0), (1, am_I v1), (2, am_I v2), (3, am_I v3), (4, am_I 0)] [] S)) : VX3_plan l Q 47 [(0, am_R 0), (1, am_I v1), (2, am_I v2), (3, am_I v3)] [] S := by
  refine am_iload_n dX3_plan_47 rfl 3 rfl ?_
  refine am_iconst dX3_plan_48 ?_
  obtain ⟨ha1, hb2⟩ := hh
  refine am_icmp_ge (tgt := 166) dX3_plan_49 (by decide) h3 (⟨by decide, by decide⟩) (fun hc3 => ?_) (fun hc3 => ?_)
  · have hh := ha1 hc3
    refine am_ldc (z := -1000000) q1544 (by decide) dX3_plan_166 ?_
    exact am_iret rfl dX3_plan_168 (Nat.le_refl 0) (Nat.le_refl 0) hh
  · have hh := hb2 hc3
    refine am_iconst dX3_plan_52 ?_
    refine am_istore dX3_plan_53 (by decide) rfl ?_
    refine am_keep [1, 2, 3, 4, 0] rfl ?_
    exact hh
set_option maxHeartbeats 4000000 in
set_option maxRecDepth 100000 in
theorem bX3_plan_55 {l : Launch} {Q : Option am_W → am_M → Prop} {S : am_M} (v1 : Int) (h1 : am_r v1) (v2 : Int) (h2 : am_r v2) (v3 : Int) (h3 : am_r v3) (v4 : Int) (h4 : am_r v4)
    (hh : ((((S.1 2).toInt) ≤ v4) →
        VX3_plan l Q 47 [(0, am_R 0), (1, am_I v1), (2, am_I v2), (3, am_I (v3 + 1))] [] S) ∧
      ((¬ ((S.1 2).toInt) ≤ v4) →
        VX3_plan l Q 67 [(0, am_R 0), (1, am_I v1), (2, am_I v2), (3, am_I v3), (4, am_I v4), (5, am_I 0)] [] S)) : VX3_plan l Q 55 [(0, am_R 0), (1, am_I v1), (2, am_I v2), (3, am_I v3), (4, am_I v4)] [] S := by
  refine am_iload dX3_plan_55 4 rfl ?_
  refine am_aload_n dX3_plan_57 rfl 0 rfl ?_
  refine am_mgeti 2 (by decide) (v := (S.1 2).toInt) rfl q1404 dX3_plan_58 ?_
  obtain ⟨ha1, hb2⟩ := hh
  refine am_icmp_ge (tgt := 160) dX3_plan_61 (by decide) h4 (am_rt _) (fun hc3 => ?_) (fun hc3 => ?_)
  · have hh := ha1 hc3
    refine am_iinc (n := 3) dX3_plan_160 rfl (by decide) rfl ?_
    refine am_goto (tgt := 47) dX3_plan_163 (by decide) ?_
    refine am_keep [1, 2, 3, 0] rfl ?_
    exact hh
  · have hh := hb2 hc3
    refine am_iconst dX3_plan_64 ?_
    refine am_istore dX3_plan_65 (by decide) rfl ?_
    refine am_keep [1, 2, 3, 4, 5, 0] rfl ?_
    exact hh
set_option maxHeartbeats 4000000 in
set_option maxRecDepth 100000 in
theorem bX3_plan_67 {l : Launch} {Q : Option am_W → am_M → Prop} {S : am_M} (v1 : Int) (h1 : am_r v1) (v2 : Int) (h2 : am_r v2) (v3 : Int) (h3 : am_r v3) (v4 : Int) (h4 : am_r v4) (v5 : Int) (h5 : am_r v5)
    (hh : ((14 ≤ v5) →
        VX3_plan l Q 55 [(0, am_R 0), (1, am_I v1), (2, am_I v2), (3, am_I v3), (4, am_I (v4 + 1))] [] S) ∧
      ((¬ 14 ≤ v5) →
        kX3_canBySome l [am_R 0, am_I 0, am_I v4, am_I v5] S (am_qz fun b5 S4 =>
          ((b5 = false) →
            VX3_plan l Q 67 [(0, am_R 0), (1, am_I v1), (2, am_I v2), (3, am_I v3), (4, am_I v4), (5, am_I (v5 + 1))] [] S4) ∧
          ((b5 = true) →
            kX3_copyTable l [am_R 0, am_I 0, am_I 9] S4 (am_qv fun S9 =>
              kX3_doMove l [am_R 0, am_I 9, am_I v4, am_I v5] S9 (am_qv fun S10 =>
                ((¬ v3 = 1) →
                  kX3_endsByOne l [am_R 0, am_I 9, am_I v1] S10 (am_qz fun b15 S14 =>
                    ((b15 = false) →
                      VX3_plan l Q 67 [(0, am_R 0), (1, am_I v1), (2, am_I v2), (3, am_I v3), (4, am_I v4), (5, am_I (v5 + 1))] [] S14) ∧
                    ((b15 = true) →
                      ((¬ v2 = 0) →
                        Q (some (am_I ((16 * v4) + v5))) S14) ∧
                      ((v2 = 0) →
                        Q (some (am_I v3)) S14)))) ∧
                ((v3 = 1) →
                  kX3_isEnd l [am_R 0, am_I 9, am_I v1] S10 (am_qz fun b23 S22 =>
                    ((b23 = false) →
                      VX3_plan l Q 67 [(0, am_R 0), (1, am_I v1), (2, am_I v2), (3, am_I v3), (4, am_I v4), (5, am_I (v5 + 1))] [] S22) ∧
                    ((b23 = true) →
                      ((¬ v2 = 0) →
                        Q (some (am_I ((16 * v4) + v5))) S22) ∧
                      ((v2 = 0) →
                        Q (some (am_I v3)) S22)))))))))) : VX3_plan l Q 67 [(0, am_R 0), (1, am_I v1), (2, am_I v2), (3, am_I v3), (4, am_I v4), (5, am_I v5)] [] S := by
  refine am_iload dX3_plan_67 5 rfl ?_
  refine am_bipush dX3_plan_69 (by decide) ?_
  obtain ⟨ha1, hb2⟩ := hh
  refine am_icmp_ge (tgt := 154) dX3_plan_71 (by decide) h5 (⟨by decide, by decide⟩) (fun hc3 => ?_) (fun hc3 => ?_)
  · have hh := ha1 hc3
    refine am_iinc (n := 4) dX3_plan_154 rfl (by decide) rfl ?_
    refine am_goto (tgt := 55) dX3_plan_157 (by decide) ?_
    refine am_keep [1, 2, 3, 4, 0] rfl ?_
    exact hh
  · have hh := hb2 hc3
    refine am_aload_n dX3_plan_74 rfl 0 rfl ?_
    refine am_iconst dX3_plan_75 ?_
    refine am_iload dX3_plan_76 4 rfl ?_
    refine am_iload dX3_plan_78 5 rfl ?_
    refine am_rVz (n := 3) hh dX3_plan_80 (lw_V q1732 q1734 qs71 q96 q1735) rfl ⟨⟨by decide, by decide, by decide +kernel⟩, ⟨Nat.le_of_ble_eq_true rfl, Nat.le_of_ble_eq_true rfl⟩⟩ ⟨rfl, rfl⟩ rfl rfl (Nat.le_of_ble_eq_true rfl) ⟨(Nat.le_refl 0), (Nat.le_refl 0)⟩ (am_mrecv _) (fun b5 S4 hh => ?_)
    obtain ⟨ha6, hb7⟩ := hh
    refine am_ifB_eq (tgt := 148) dX3_plan_83 (by decide) (fun hc8 => ?_) (fun hc8 => ?_)
    · have hh := ha6 hc8
      refine am_iinc (n := 5) dX3_plan_148 rfl (by decide) rfl ?_
      refine am_goto (tgt := 67) dX3_plan_151 (by decide) ?_
      refine am_keep [1, 2, 3, 4, 5, 0] rfl ?_
      exact hh
    · have hh := hb7 hc8
      refine am_aload_n dX3_plan_86 rfl 0 rfl ?_
      refine am_iconst dX3_plan_87 ?_
      refine am_bipush dX3_plan_88 (by decide) ?_
      refine am_rVv (n := 2) hh dX3_plan_90 (lw_V q1516 q1518 qs40 q96 q1519) rfl ⟨⟨by decide, by decide, by decide +kernel⟩, ⟨Nat.le_of_ble_eq_true rfl, Nat.le_of_ble_eq_true rfl⟩⟩ ⟨rfl, rfl⟩ rfl rfl (Nat.le_of_ble_eq_true rfl) ⟨(Nat.le_refl 0), (Nat.le_refl 0)⟩ (am_mrecv _) (fun S9 hh => ?_)
      refine am_aload_n dX3_plan_93 rfl 0 rfl ?_
      refine am_bipush dX3_plan_94 (by decide) ?_
      refine am_iload dX3_plan_96 4 rfl ?_
      refine am_iload dX3_plan_98 5 rfl ?_
      refine am_rVv (n := 3) hh dX3_plan_100 (lw_V q1580 q1582 qs55 q96 q1583) rfl ⟨⟨by decide, by decide, by decide +kernel⟩, ⟨Nat.le_of_ble_eq_true rfl, Nat.le_of_ble_eq_true rfl⟩⟩ ⟨rfl, rfl⟩ rfl rfl (Nat.le_of_ble_eq_true rfl) ⟨(Nat.le_refl 0), (Nat.le_refl 0)⟩ (am_mrecv _) (fun S10 hh => ?_)
      refine am_iload_n dX3_plan_103 rfl 3 rfl ?_
      refine am_iconst dX3_plan_104 ?_
      obtain ⟨ha11, hb12⟩ := hh
      refine am_icmp_ne (tgt := 121) dX3_plan_105 (by decide) h3 (⟨by decide, by decide⟩) (fun hc13 => ?_) (fun hc13 => ?_)
      · have hh := ha11 hc13
        refine am_aload_n dX3_plan_121 rfl 0 rfl ?_
        refine am_bipush dX3_plan_122 (by decide) ?_
        refine am_iload_n dX3_plan_124 rfl 1 rfl ?_
        refine am_rVz (n := 2) hh dX3_plan_125 (lw_V q1736 q1738 qs72 q96 q1739) rfl ⟨⟨by decide, by decide, by decide +kernel⟩, ⟨Nat.le_of_ble_eq_true rfl, Nat.le_of_ble_eq_true rfl⟩⟩ ⟨rfl, rfl⟩ rfl rfl (Nat.le_of_ble_eq_true rfl) ⟨(Nat.le_refl 0), (Nat.le_refl 0)⟩ (am_mrecv _) (fun b15 S14 hh => ?_)
        obtain ⟨ha16, hb17⟩ := hh
        refine am_ifB_eq (tgt := 148) dX3_plan_128 (by decide) (fun hc18 => ?_) (fun hc18 => ?_)
        · have hh := ha16 hc18
          refine am_iinc (n := 5) dX3_plan_148 rfl (by decide) rfl ?_
          refine am_goto (tgt := 67) dX3_plan_151 (by decide) ?_
          refine am_keep [1, 2, 3, 4, 5, 0] rfl ?_
          exact hh
        · have hh := hb17 hc18
          refine am_iload_n dX3_plan_131 rfl 2 rfl ?_
          obtain ⟨ha19, hb20⟩ := hh
          refine am_if_ne (tgt := 139) dX3_plan_132 (by decide) h2 (fun hc21 => ?_) (fun hc21 => ?_)
          · have hh := ha19 hc21
            refine am_bipush dX3_plan_139 (by decide) ?_
            refine am_iload dX3_plan_141 4 rfl ?_
            refine am_imul dX3_plan_143 ?_
            refine am_iload dX3_plan_144 5 rfl ?_
            refine am_iadd dX3_plan_146 ?_
            exact am_iret rfl dX3_plan_147 (Nat.le_refl 0) (Nat.le_refl 0) hh
          · have hh := hb20 hc21
            refine am_iload_n dX3_plan_135 rfl 3 rfl ?_
            refine am_goto (tgt := 147) dX3_plan_136 (by decide) ?_
            exact am_iret rfl dX3_plan_147 (Nat.le_refl 0) (Nat.le_refl 0) hh
      · have hh := hb12 hc13
        refine am_aload_n dX3_plan_108 rfl 0 rfl ?_
        refine am_bipush dX3_plan_109 (by decide) ?_
        refine am_iload_n dX3_plan_111 rfl 1 rfl ?_
        refine am_rVz (n := 2) hh dX3_plan_112 (lw_V q1728 q1730 qs70 q96 q1731) rfl ⟨⟨by decide, by decide, by decide +kernel⟩, ⟨Nat.le_of_ble_eq_true rfl, Nat.le_of_ble_eq_true rfl⟩⟩ ⟨rfl, rfl⟩ rfl rfl (Nat.le_of_ble_eq_true rfl) ⟨(Nat.le_refl 0), (Nat.le_refl 0)⟩ (am_mrecv _) (fun b23 S22 hh => ?_)
        obtain ⟨ha24, hb25⟩ := hh
        refine am_ifB_eq (tgt := 148) dX3_plan_115 (by decide) (fun hc26 => ?_) (fun hc26 => ?_)
        · have hh := ha24 hc26
          refine am_iinc (n := 5) dX3_plan_148 rfl (by decide) rfl ?_
          refine am_goto (tgt := 67) dX3_plan_151 (by decide) ?_
          refine am_keep [1, 2, 3, 4, 5, 0] rfl ?_
          exact hh
        · have hh := hb25 hc26
          refine am_goto (tgt := 131) dX3_plan_118 (by decide) ?_
          refine am_iload_n dX3_plan_131 rfl 2 rfl ?_
          obtain ⟨ha27, hb28⟩ := hh
          refine am_if_ne (tgt := 139) dX3_plan_132 (by decide) h2 (fun hc29 => ?_) (fun hc29 => ?_)
          · have hh := ha27 hc29
            refine am_bipush dX3_plan_139 (by decide) ?_
            refine am_iload dX3_plan_141 4 rfl ?_
            refine am_imul dX3_plan_143 ?_
            refine am_iload dX3_plan_144 5 rfl ?_
            refine am_iadd dX3_plan_146 ?_
            exact am_iret rfl dX3_plan_147 (Nat.le_refl 0) (Nat.le_refl 0) hh
          · have hh := hb28 hc29
            refine am_iload_n dX3_plan_135 rfl 3 rfl ?_
            refine am_goto (tgt := 147) dX3_plan_136 (by decide) ?_
            exact am_iret rfl dX3_plan_147 (Nat.le_refl 0) (Nat.le_refl 0) hh
/-! TableArmsModel.sheet(III)I -/
abbrev VX3_sheet (l : Launch) (Q : Option am_W → am_M → Prop) (pc : Nat) (lv : List (Nat × am_W)) (st : List am_W) (S : am_M) : Prop := am_V am_mr l RX3 cX3_sheet 5 (some .int) "sheet" (am_rm 3 0 0) (am_E1 am_mr 0 0 Q) pc lv st S 0 0
abbrev kX3_sheet (l : Launch) (as : List am_W) (S : am_M) (Q : Option am_W → am_M → Prop) : Prop := am_C am_mr l yX3_sheet (ws_ yX3_sheet cX3_sheet 5 (some .int)) (am_rm 3 0 0) 0 0 as S Q
set_option maxHeartbeats 4000000 in
set_option maxRecDepth 100000 in
theorem bX3_sheet {l : Launch} {Q : Option am_W → am_M → Prop} {S : am_M} (v1 : Int) (h1 : am_r v1) (v2 : Int) (h2 : am_r v2) (v3 : Int) (h3 : am_r v3)
    (hh : kX3_isSheet l [am_I v1] (am_sv S 0 0) (am_qz fun b2 S1 =>
        ((b2 = false) →
          Q (some (am_I (-1000001))) S1) ∧
        ((b2 = true) →
          kX3_in l [am_J v2, am_J 0, am_J 2] S1 (am_qz fun b7 S6 =>
            ((b7 = false) →
              Q (some (am_I (-1000001))) S6) ∧
            ((b7 = true) →
              ((v3 ≤ 40) →
                ((0 ≤ v3) →
                  (0 ≤ v1 ∧ v1 < 8) ∧
                  VX3_sheet l Q 65 [(0, am_R 0), (1, am_I v1), (3, am_I v3), (4, am_I 0)] [] (am_sa (am_sa (am_sv S6 1 0) 9 v1 v2) 10 v1 v3)) ∧
                ((¬ 0 ≤ v3) →
                  kX3_finding l [am_R 0, am_I 4] (am_sv S6 1 0) (am_qi fun r19 S18 =>
                    Q (some (am_I r19)) S18))) ∧
              ((¬ v3 ≤ 40) →
                Q (some (am_I (-1000001))) S6)))))) : kX3_sheet l [am_R 0, am_I v1, am_I v2, am_I v3] S Q := by
  refine am_entry (lv := [(0, am_R 0), (1, am_I v1), (2, am_I v2), (3, am_I v3)]) rfl rfl rfl (fun _ => rfl) (fun _ => Nat.le_of_ble_eq_true rfl) ?_
  refine am_aload_n dX3_sheet_0 rfl 0 rfl ?_
  refine am_iconst dX3_sheet_1 ?_
  refine am_mput 0 (by decide) q1401 dX3_sheet_2 ?_
  refine am_iload_n dX3_sheet_5 rfl 1 rfl ?_
  refine am_rSz (n := 1) hh dX3_sheet_6 (lw_S q1672 q1673 q96 q1674) ⟨⟨by decide, by decide, by decide +kernel⟩, ⟨Nat.le_of_ble_eq_true rfl, Nat.le_of_ble_eq_true rfl⟩⟩ ⟨rfl, rfl⟩ rfl rfl (Nat.le_of_ble_eq_true rfl) ⟨(Nat.le_refl 0), (Nat.le_refl 0)⟩ (fun b2 S1 hh => ?_)
  obtain ⟨ha3, hb4⟩ := hh
  refine am_ifB_eq (tgt := 30) dX3_sheet_9 (by decide) (fun hc5 => ?_) (fun hc5 => ?_)
  · have hh := ha3 hc5
    refine am_ldc (z := -1000001) q1515 (by decide) dX3_sheet_30 ?_
    exact am_iret rfl dX3_sheet_32 (Nat.le_refl 0) (Nat.le_refl 0) hh
  · have hh := hb4 hc5
    refine am_iload_n dX3_sheet_12 rfl 2 rfl ?_
    refine am_i2l_ h2 dX3_sheet_13 ?_
    refine am_lconst (z := 0) dX3_sheet_14 (by decide) ?_
    refine am_ldc2 (z := 2) q1744 (by decide) dX3_sheet_15 ?_
    refine am_rSz (n := 3) hh dX3_sheet_18 (lw_S q1512 q1513 q96 q1514) ⟨⟨by decide, by decide, by decide +kernel⟩, ⟨Nat.le_of_ble_eq_true rfl, Nat.le_of_ble_eq_true rfl⟩⟩ ⟨rfl, rfl⟩ rfl rfl (Nat.le_of_ble_eq_true rfl) ⟨(Nat.le_refl 0), (Nat.le_refl 0)⟩ (fun b7 S6 hh => ?_)
    obtain ⟨ha8, hb9⟩ := hh
    refine am_ifB_eq (tgt := 30) dX3_sheet_21 (by decide) (fun hc10 => ?_) (fun hc10 => ?_)
    · have hh := ha8 hc10
      refine am_ldc (z := -1000001) q1515 (by decide) dX3_sheet_30 ?_
      exact am_iret rfl dX3_sheet_32 (Nat.le_refl 0) (Nat.le_refl 0) hh
    · have hh := hb9 hc10
      refine am_iload_n dX3_sheet_24 rfl 3 rfl ?_
      refine am_bipush dX3_sheet_25 (by decide) ?_
      obtain ⟨ha11, hb12⟩ := hh
      refine am_icmp_le (tgt := 33) dX3_sheet_27 (by decide) h3 (⟨by decide, by decide⟩) (fun hc13 => ?_) (fun hc13 => ?_)
      · have hh := ha11 hc13
        refine am_aload_n dX3_sheet_33 rfl 0 rfl ?_
        refine am_iconst dX3_sheet_34 ?_
        refine am_mput 1 (by decide) q1402 dX3_sheet_35 ?_
        refine am_iload_n dX3_sheet_38 rfl 3 rfl ?_
        obtain ⟨ha14, hb15⟩ := hh
        refine am_if_ge (tgt := 48) dX3_sheet_39 (by decide) h3 (fun hc16 => ?_) (fun hc16 => ?_)
        · have hh := ha14 hc16
          refine am_aload_n dX3_sheet_48 rfl 0 rfl ?_
          refine am_mgeta 9 (by decide) q1415 dX3_sheet_49 ?_
          refine am_iload_n dX3_sheet_52 rfl 1 rfl ?_
          refine am_iload_n dX3_sheet_53 rfl 2 rfl ?_
          obtain ⟨o17, hh⟩ := hh
          refine am_miast 9 (by decide) (by decide) o17.1 o17.2 dX3_sheet_54 ?_
          refine am_aload_n dX3_sheet_55 rfl 0 rfl ?_
          refine am_mgeta 10 (by decide) q1416 dX3_sheet_56 ?_
          refine am_iload_n dX3_sheet_59 rfl 1 rfl ?_
          refine am_iload_n dX3_sheet_60 rfl 3 rfl ?_
          refine am_miast 10 (by decide) (by decide) o17.1 o17.2 dX3_sheet_61 ?_
          refine am_iconst dX3_sheet_62 ?_
          refine am_istore dX3_sheet_63 (by decide) rfl ?_
          refine am_keep [1, 2, 4, 0] rfl ?_
          exact hh
        · have hh := hb15 hc16
          refine am_aload_n dX3_sheet_42 rfl 0 rfl ?_
          refine am_iconst dX3_sheet_43 ?_
          refine am_rVi (n := 1) hh dX3_sheet_44 (lw_V q1680 q1682 qs65 q96 q1683) rfl ⟨⟨by decide, by decide, by decide +kernel⟩, ⟨Nat.le_of_ble_eq_true rfl, Nat.le_of_ble_eq_true rfl⟩⟩ ⟨rfl, rfl⟩ rfl rfl (Nat.le_of_ble_eq_true rfl) ⟨(Nat.le_refl 0), (Nat.le_refl 0)⟩ (am_mrecv _) (fun r19 S18 hr20 hh => ?_)
          exact am_iret rfl dX3_sheet_47 (Nat.le_refl 0) (Nat.le_refl 0) hh
      · have hh := hb12 hc13
        refine am_ldc (z := -1000001) q1515 (by decide) dX3_sheet_30 ?_
        exact am_iret rfl dX3_sheet_32 (Nat.le_refl 0) (Nat.le_refl 0) hh
set_option maxHeartbeats 4000000 in
set_option maxRecDepth 100000 in
theorem bX3_sheet_65 {l : Launch} {Q : Option am_W → am_M → Prop} {S : am_M} (v1 : Int) (h1 : am_r v1) (v3 : Int) (h3 : am_r v3) (v4 : Int) (h4 : am_r v4)
    (hh : ((40 ≤ v4) →
        Q (some (am_I v3)) S) ∧
      ((¬ 40 ≤ v4) →
        (0 ≤ ((40 * v1) + v4) ∧ ((40 * v1) + v4) < 320) ∧
        VX3_sheet l Q 65 [(0, am_R 0), (1, am_I v1), (3, am_I v3), (4, am_I (v4 + 1))] [] (am_sa S 11 ((40 * v1) + v4) 0))) : VX3_sheet l Q 65 [(0, am_R 0), (1, am_I v1), (3, am_I v3), (4, am_I v4)] [] S := by
  refine am_iload dX3_sheet_65 3 rfl ?_
  refine am_bipush dX3_sheet_67 (by decide) ?_
  obtain ⟨ha1, hb2⟩ := hh
  refine am_icmp_ge (tgt := 91) dX3_sheet_69 (by decide) h4 (⟨by decide, by decide⟩) (fun hc3 => ?_) (fun hc3 => ?_)
  · have hh := ha1 hc3
    refine am_iload_n dX3_sheet_91 rfl 2 rfl ?_
    exact am_iret rfl dX3_sheet_92 (Nat.le_refl 0) (Nat.le_refl 0) hh
  · have hh := hb2 hc3
    refine am_aload_n dX3_sheet_72 rfl 0 rfl ?_
    refine am_mgeta 11 (by decide) q1417 dX3_sheet_73 ?_
    refine am_bipush dX3_sheet_76 (by decide) ?_
    refine am_iload_n dX3_sheet_78 rfl 1 rfl ?_
    refine am_imul dX3_sheet_79 ?_
    refine am_iload dX3_sheet_80 3 rfl ?_
    refine am_iadd dX3_sheet_82 ?_
    refine am_iconst dX3_sheet_83 ?_
    obtain ⟨o4, hh⟩ := hh
    refine am_miast 11 (by decide) (by decide) o4.1 o4.2 dX3_sheet_84 ?_
    refine am_iinc (n := 3) dX3_sheet_85 rfl (by decide) rfl ?_
    refine am_goto (tgt := 65) dX3_sheet_88 (by decide) ?_
    refine am_keep [1, 2, 3, 0] rfl ?_
    exact hh
/-! TableArmsModel.set(III)I -/
abbrev VX3_set (l : Launch) (Q : Option am_W → am_M → Prop) (pc : Nat) (lv : List (Nat × am_W)) (st : List am_W) (S : am_M) : Prop := am_V am_mr l RX3 cX3_set 4 (some .int) "set" (am_rm 3 0 0) (am_E1 am_mr 0 0 Q) pc lv st S 0 0
abbrev kX3_set (l : Launch) (as : List am_W) (S : am_M) (Q : Option am_W → am_M → Prop) : Prop := am_C am_mr l yX3_set (ws_ yX3_set cX3_set 4 (some .int)) (am_rm 3 0 0) 0 0 as S Q
set_option maxHeartbeats 4000000 in
set_option maxRecDepth 100000 in
theorem bX3_set {l : Launch} {Q : Option am_W → am_M → Prop} {S : am_M} (v1 : Int) (h1 : am_r v1) (v2 : Int) (h2 : am_r v2) (v3 : Int) (h3 : am_r v3)
    (hh : kX3_isSheet l [am_I v1] (am_sv S 0 0) (am_qz fun b2 S1 =>
        ((b2 = true) →
          (0 ≤ v1 ∧ v1 < 8) ∧
          ((0 ≤ ((S1.2 9 v1.toNat).toInt)) →
            (am_r ((S1.2 10 v1.toNat).toInt - 1)) ∧
            kX3_in l [am_J v2, am_J 0, am_J ((S1.2 10 v1.toNat).toInt - 1)] (am_sv S1 1 0) (am_qz fun b12 S11 =>
              ((b12 = true) →
                ((¬ ((S11.2 9 v1.toNat).toInt) = 0) →
                  ((¬ ((S11.2 9 v1.toNat).toInt) = 1) →
                    (0 ≤ ((40 * v1) + v2) ∧ ((40 * v1) + v2) < 320) ∧
                    Q (some (am_I ((am_sa S11 11 ((40 * v1) + v2) v3).2 11 ((40 * v1) + v2).toNat).toInt)) (am_sa S11 11 ((40 * v1) + v2) v3)) ∧
                  ((((S11.2 9 v1.toNat).toInt) = 1) →
                    (0 ≤ ((40 * v1) + v2) ∧ ((40 * v1) + v2) < 320) ∧
                    Q (some (am_I ((am_sa S11 11 ((40 * v1) + v2) (am_i2s v3)).2 11 ((40 * v1) + v2).toNat).toInt)) (am_sa S11 11 ((40 * v1) + v2) (am_i2s v3)))) ∧
                ((((S11.2 9 v1.toNat).toInt) = 0) →
                  (0 ≤ ((40 * v1) + v2) ∧ ((40 * v1) + v2) < 320) ∧
                  Q (some (am_I ((am_sa S11 11 ((40 * v1) + v2) (am_i2b v3)).2 11 ((40 * v1) + v2).toNat).toInt)) (am_sa S11 11 ((40 * v1) + v2) (am_i2b v3)))) ∧
              ((b12 = false) →
                kX3_finding l [am_R 0, am_I 2] S11 (am_qi fun r26 S25 =>
                  Q (some (am_I r26)) S25)))) ∧
          ((¬ 0 ≤ ((S1.2 9 v1.toNat).toInt)) →
            kX3_finding l [am_R 0, am_I 1] (am_sv S1 1 0) (am_qi fun r29 S28 =>
              Q (some (am_I r29)) S28))) ∧
        ((b2 = false) →
          Q (some (am_I (-1000001))) S1))) : kX3_set l [am_R 0, am_I v1, am_I v2, am_I v3] S Q := by
  refine am_entry (lv := [(0, am_R 0), (1, am_I v1), (2, am_I v2), (3, am_I v3)]) rfl rfl rfl (fun _ => rfl) (fun _ => Nat.le_of_ble_eq_true rfl) ?_
  refine am_aload_n dX3_set_0 rfl 0 rfl ?_
  refine am_iconst dX3_set_1 ?_
  refine am_mput 0 (by decide) q1401 dX3_set_2 ?_
  refine am_iload_n dX3_set_5 rfl 1 rfl ?_
  refine am_rSz (n := 1) hh dX3_set_6 (lw_S q1672 q1673 q96 q1674) ⟨⟨by decide, by decide, by decide +kernel⟩, ⟨Nat.le_of_ble_eq_true rfl, Nat.le_of_ble_eq_true rfl⟩⟩ ⟨rfl, rfl⟩ rfl rfl (Nat.le_of_ble_eq_true rfl) ⟨(Nat.le_refl 0), (Nat.le_refl 0)⟩ (fun b2 S1 hh => ?_)
  obtain ⟨ha3, hb4⟩ := hh
  refine am_ifB_ne (tgt := 15) dX3_set_9 (by decide) (fun hc5 => ?_) (fun hc5 => ?_)
  · have hh := ha3 hc5
    refine am_aload_n dX3_set_15 rfl 0 rfl ?_
    refine am_iconst dX3_set_16 ?_
    refine am_mput 1 (by decide) q1402 dX3_set_17 ?_
    refine am_aload_n dX3_set_20 rfl 0 rfl ?_
    refine am_mgeta 9 (by decide) q1415 dX3_set_21 ?_
    refine am_iload_n dX3_set_24 rfl 1 rfl ?_
    obtain ⟨o6, hh⟩ := hh
    refine am_miald 9 (by decide) (by decide) (v := (S1.2 9 v1.toNat).toInt) rfl o6.1 o6.2 dX3_set_25 ?_
    obtain ⟨ha7, hb8⟩ := hh
    refine am_if_ge (tgt := 35) dX3_set_26 (by decide) (am_rt _) (fun hc9 => ?_) (fun hc9 => ?_)
    · have hh := ha7 hc9
      refine am_iload_n dX3_set_35 rfl 2 rfl ?_
      refine am_i2l_ h2 dX3_set_36 ?_
      refine am_lconst (z := 0) dX3_set_37 (by decide) ?_
      refine am_aload_n dX3_set_38 rfl 0 rfl ?_
      refine am_mgeta 10 (by decide) q1416 dX3_set_39 ?_
      refine am_iload_n dX3_set_42 rfl 1 rfl ?_
      refine am_miald 10 (by decide) (by decide) (v := (S1.2 10 v1.toNat).toInt) rfl o6.1 o6.2 dX3_set_43 ?_
      refine am_iconst dX3_set_44 ?_
      refine am_isub dX3_set_45 ?_
      obtain ⟨o10, hh⟩ := hh
      refine am_i2l_ o10 dX3_set_46 ?_
      refine am_rSz (n := 3) hh dX3_set_47 (lw_S q1512 q1513 q96 q1514) ⟨⟨by decide, by decide, by decide +kernel⟩, ⟨Nat.le_of_ble_eq_true rfl, Nat.le_of_ble_eq_true rfl⟩⟩ ⟨rfl, rfl⟩ rfl rfl (Nat.le_of_ble_eq_true rfl) ⟨(Nat.le_refl 0), (Nat.le_refl 0)⟩ (fun b12 S11 hh => ?_)
      obtain ⟨ha13, hb14⟩ := hh
      refine am_ifB_ne (tgt := 59) dX3_set_50 (by decide) (fun hc15 => ?_) (fun hc15 => ?_)
      · have hh := ha13 hc15
        refine am_aload_n dX3_set_59 rfl 0 rfl ?_
        refine am_mgeta 11 (by decide) q1417 dX3_set_60 ?_
        refine am_bipush dX3_set_63 (by decide) ?_
        refine am_iload_n dX3_set_65 rfl 1 rfl ?_
        refine am_imul dX3_set_66 ?_
        refine am_iload_n dX3_set_67 rfl 2 rfl ?_
        refine am_iadd dX3_set_68 ?_
        refine am_aload_n dX3_set_69 rfl 0 rfl ?_
        refine am_mgeta 9 (by decide) q1415 dX3_set_70 ?_
        refine am_iload_n dX3_set_73 rfl 1 rfl ?_
        refine am_miald 9 (by decide) (by decide) (v := (S11.2 9 v1.toNat).toInt) rfl o6.1 o6.2 dX3_set_74 ?_
        obtain ⟨ha16, hb17⟩ := hh
        refine am_if_ne (tgt := 83) dX3_set_75 (by decide) (am_rt _) (fun hc18 => ?_) (fun hc18 => ?_)
        · have hh := ha16 hc18
          refine am_aload_n dX3_set_83 rfl 0 rfl ?_
          refine am_mgeta 9 (by decide) q1415 dX3_set_84 ?_
          refine am_iload_n dX3_set_87 rfl 1 rfl ?_
          refine am_miald 9 (by decide) (by decide) (v := (S11.2 9 v1.toNat).toInt) rfl o6.1 o6.2 dX3_set_88 ?_
          refine am_iconst dX3_set_89 ?_
          obtain ⟨ha19, hb20⟩ := hh
          refine am_icmp_ne (tgt := 98) dX3_set_90 (by decide) (am_rt _) (⟨by decide, by decide⟩) (fun hc21 => ?_) (fun hc21 => ?_)
          · have hh := ha19 hc21
            refine am_iload_n dX3_set_98 rfl 3 rfl ?_
            obtain ⟨o22, hh⟩ := hh
            refine am_miast 11 (by decide) (by decide) o22.1 o22.2 dX3_set_99 ?_
            refine am_aload_n dX3_set_100 rfl 0 rfl ?_
            refine am_mgeta 11 (by decide) q1417 dX3_set_101 ?_
            refine am_bipush dX3_set_104 (by decide) ?_
            refine am_iload_n dX3_set_106 rfl 1 rfl ?_
            refine am_imul dX3_set_107 ?_
            refine am_iload_n dX3_set_108 rfl 2 rfl ?_
            refine am_iadd dX3_set_109 ?_
            refine am_miald 11 (by decide) (by decide) (v := ((am_sa S11 11 ((40 * v1) + v2) v3).2 11 ((40 * v1) + v2).toNat).toInt) rfl o22.1 o22.2 dX3_set_110 ?_
            exact am_iret rfl dX3_set_111 (Nat.le_refl 0) (Nat.le_refl 0) hh
          · have hh := hb20 hc21
            refine am_iload_n dX3_set_93 rfl 3 rfl ?_
            refine am_i2s_ dX3_set_94 ?_
            refine am_goto (tgt := 99) dX3_set_95 (by decide) ?_
            obtain ⟨o23, hh⟩ := hh
            refine am_miast 11 (by decide) (by decide) o23.1 o23.2 dX3_set_99 ?_
            refine am_aload_n dX3_set_100 rfl 0 rfl ?_
            refine am_mgeta 11 (by decide) q1417 dX3_set_101 ?_
            refine am_bipush dX3_set_104 (by decide) ?_
            refine am_iload_n dX3_set_106 rfl 1 rfl ?_
            refine am_imul dX3_set_107 ?_
            refine am_iload_n dX3_set_108 rfl 2 rfl ?_
            refine am_iadd dX3_set_109 ?_
            refine am_miald 11 (by decide) (by decide) (v := ((am_sa S11 11 ((40 * v1) + v2) (am_i2s v3)).2 11 ((40 * v1) + v2).toNat).toInt) rfl o23.1 o23.2 dX3_set_110 ?_
            exact am_iret rfl dX3_set_111 (Nat.le_refl 0) (Nat.le_refl 0) hh
        · have hh := hb17 hc18
          refine am_iload_n dX3_set_78 rfl 3 rfl ?_
          refine am_i2b_ dX3_set_79 ?_
          refine am_goto (tgt := 99) dX3_set_80 (by decide) ?_
          obtain ⟨o24, hh⟩ := hh
          refine am_miast 11 (by decide) (by decide) o24.1 o24.2 dX3_set_99 ?_
          refine am_aload_n dX3_set_100 rfl 0 rfl ?_
          refine am_mgeta 11 (by decide) q1417 dX3_set_101 ?_
          refine am_bipush dX3_set_104 (by decide) ?_
          refine am_iload_n dX3_set_106 rfl 1 rfl ?_
          refine am_imul dX3_set_107 ?_
          refine am_iload_n dX3_set_108 rfl 2 rfl ?_
          refine am_iadd dX3_set_109 ?_
          refine am_miald 11 (by decide) (by decide) (v := ((am_sa S11 11 ((40 * v1) + v2) (am_i2b v3)).2 11 ((40 * v1) + v2).toNat).toInt) rfl o24.1 o24.2 dX3_set_110 ?_
          exact am_iret rfl dX3_set_111 (Nat.le_refl 0) (Nat.le_refl 0) hh
      · have hh := hb14 hc15
        refine am_aload_n dX3_set_53 rfl 0 rfl ?_
        refine am_iconst dX3_set_54 ?_
        refine am_rVi (n := 1) hh dX3_set_55 (lw_V q1680 q1682 qs65 q96 q1683) rfl ⟨⟨by decide, by decide, by decide +kernel⟩, ⟨Nat.le_of_ble_eq_true rfl, Nat.le_of_ble_eq_true rfl⟩⟩ ⟨rfl, rfl⟩ rfl rfl (Nat.le_of_ble_eq_true rfl) ⟨(Nat.le_refl 0), (Nat.le_refl 0)⟩ (am_mrecv _) (fun r26 S25 hr27 hh => ?_)
        exact am_iret rfl dX3_set_58 (Nat.le_refl 0) (Nat.le_refl 0) hh
    · have hh := hb8 hc9
      refine am_aload_n dX3_set_29 rfl 0 rfl ?_
      refine am_iconst dX3_set_30 ?_
      refine am_rVi (n := 1) hh dX3_set_31 (lw_V q1680 q1682 qs65 q96 q1683) rfl ⟨⟨by decide, by decide, by decide +kernel⟩, ⟨Nat.le_of_ble_eq_true rfl, Nat.le_of_ble_eq_true rfl⟩⟩ ⟨rfl, rfl⟩ rfl rfl (Nat.le_of_ble_eq_true rfl) ⟨(Nat.le_refl 0), (Nat.le_refl 0)⟩ (am_mrecv _) (fun r29 S28 hr30 hh => ?_)
      exact am_iret rfl dX3_set_34 (Nat.le_refl 0) (Nat.le_refl 0) hh
  · have hh := hb4 hc5
    refine am_ldc (z := -1000001) q1515 (by decide) dX3_set_12 ?_
    exact am_iret rfl dX3_set_14 (Nat.le_refl 0) (Nat.le_refl 0) hh
/-! TableArmsModel.copy(IIIII)I -/
abbrev VX3_copy (l : Launch) (Q : Option am_W → am_M → Prop) (pc : Nat) (lv : List (Nat × am_W)) (st : List am_W) (S : am_M) : Prop := am_V am_mr l RX3 cX3_copy 9 (some .int) "copy" (am_rm 3 0 0) (am_E1 am_mr 0 0 Q) pc lv st S 0 0
abbrev kX3_copy (l : Launch) (as : List am_W) (S : am_M) (Q : Option am_W → am_M → Prop) : Prop := am_C am_mr l yX3_copy (ws_ yX3_copy cX3_copy 9 (some .int)) (am_rm 3 0 0) 0 0 as S Q
set_option maxHeartbeats 4000000 in
set_option maxRecDepth 100000 in
theorem bX3_copy {l : Launch} {Q : Option am_W → am_M → Prop} {S : am_M} (v1 : Int) (h1 : am_r v1) (v2 : Int) (h2 : am_r v2) (v3 : Int) (h3 : am_r v3) (v4 : Int) (h4 : am_r v4) (v5 : Int) (h5 : am_r v5)
    (hh : kX3_isSheet l [am_I v1] (am_sv S 0 0) (am_qz fun b2 S1 =>
        ((b2 = false) →
          Q (some (am_I (-1000001))) S1) ∧
        ((b2 = true) →
          kX3_isSheet l [am_I v3] S1 (am_qz fun b7 S6 =>
            ((b7 = true) →
              (0 ≤ v1 ∧ v1 < 8) ∧
              ((((S6.2 9 v1.toNat).toInt) < 0) →
                kX3_finding l [am_R 0, am_I 1] (am_sv S6 1 0) (am_qi fun r16 S15 =>
                  Q (some (am_I r16)) S15)) ∧
              ((¬ ((S6.2 9 v1.toNat).toInt) < 0) →
                (0 ≤ v3 ∧ v3 < 8) ∧
                ((0 ≤ ((S6.2 9 v3.toNat).toInt)) →
                  ((((S6.2 9 v1.toNat).toInt) = ((S6.2 9 v3.toNat).toInt)) →
                    ((v2 < 0) →
                      kX3_finding l [am_R 0, am_I 2] (am_sv S6 1 0) (am_qi fun r29 S28 =>
                        Q (some (am_I r29)) S28)) ∧
                    ((¬ v2 < 0) →
                      ((v4 < 0) →
                        kX3_finding l [am_R 0, am_I 2] (am_sv S6 1 0) (am_qi fun r35 S34 =>
                          Q (some (am_I r35)) S34)) ∧
                      ((¬ v4 < 0) →
                        ((v5 < 0) →
                          kX3_finding l [am_R 0, am_I 2] (am_sv S6 1 0) (am_qi fun r41 S40 =>
                            Q (some (am_I r41)) S40)) ∧
                        ((¬ v5 < 0) →
                          (am_r64 (v2 + v5)) ∧
                          ((((S6.2 10 v1.toNat).toInt) < (v2 + v5)) →
                            kX3_finding l [am_R 0, am_I 2] (am_sv S6 1 0) (am_qi fun r48 S47 =>
                              Q (some (am_I r48)) S47)) ∧
                          ((¬ ((S6.2 10 v1.toNat).toInt) < (v2 + v5)) →
                            (am_r64 (v4 + v5)) ∧
                            (((v4 + v5) ≤ ((S6.2 10 v3.toNat).toInt)) →
                              ((v2 < v4) →
                                VX3_copy l Q 143 [(0, am_R 0), (1, am_I v1), (2, am_I v2), (3, am_I v3), (4, am_I v4), (5, am_I v5), (6, am_I 0), (7, am_I 0)] [] (am_sv S6 1 0)) ∧
                              ((¬ v2 < v4) →
                                VX3_copy l Q 143 [(0, am_R 0), (1, am_I v1), (2, am_I v2), (3, am_I v3), (4, am_I v4), (5, am_I v5), (6, am_I 1), (7, am_I 0)] [] (am_sv S6 1 0))) ∧
                            ((¬ (v4 + v5) ≤ ((S6.2 10 v3.toNat).toInt)) →
                              kX3_finding l [am_R 0, am_I 2] (am_sv S6 1 0) (am_qi fun r58 S57 =>
                                Q (some (am_I r58)) S57))))))) ∧
                  ((¬ ((S6.2 9 v1.toNat).toInt) = ((S6.2 9 v3.toNat).toInt)) →
                    kX3_finding l [am_R 0, am_I 5] (am_sv S6 1 0) (am_qi fun r61 S60 =>
                      Q (some (am_I r61)) S60))) ∧
                ((¬ 0 ≤ ((S6.2 9 v3.toNat).toInt)) →
                  kX3_finding l [am_R 0, am_I 1] (am_sv S6 1 0) (am_qi fun r64 S63 =>
                    Q (some (am_I r64)) S63)))) ∧
            ((b7 = false) →
              Q (some (am_I (-1000001))) S6))))) : kX3_copy l [am_R 0, am_I v1, am_I v2, am_I v3, am_I v4, am_I v5] S Q := by
  refine am_entry (lv := [(0, am_R 0), (1, am_I v1), (2, am_I v2), (3, am_I v3), (4, am_I v4), (5, am_I v5)]) rfl rfl rfl (fun _ => rfl) (fun _ => Nat.le_of_ble_eq_true rfl) ?_
  refine am_aload_n dX3_copy_0 rfl 0 rfl ?_
  refine am_iconst dX3_copy_1 ?_
  refine am_mput 0 (by decide) q1401 dX3_copy_2 ?_
  refine am_iload_n dX3_copy_5 rfl 1 rfl ?_
  refine am_rSz (n := 1) hh dX3_copy_6 (lw_S q1672 q1673 q96 q1674) ⟨⟨by decide, by decide, by decide +kernel⟩, ⟨Nat.le_of_ble_eq_true rfl, Nat.le_of_ble_eq_true rfl⟩⟩ ⟨rfl, rfl⟩ rfl rfl (Nat.le_of_ble_eq_true rfl) ⟨(Nat.le_refl 0), (Nat.le_refl 0)⟩ (fun b2 S1 hh => ?_)
  obtain ⟨ha3, hb4⟩ := hh
  refine am_ifB_eq (tgt := 19) dX3_copy_9 (by decide) (fun hc5 => ?_) (fun hc5 => ?_)
  · have hh := ha3 hc5
    refine am_ldc (z := -1000001) q1515 (by decide) dX3_copy_19 ?_
    exact am_iret rfl dX3_copy_21 (Nat.le_refl 0) (Nat.le_refl 0) hh
  · have hh := hb4 hc5
    refine am_iload_n dX3_copy_12 rfl 3 rfl ?_
    refine am_rSz (n := 1) hh dX3_copy_13 (lw_S q1672 q1673 q96 q1674) ⟨⟨by decide, by decide, by decide +kernel⟩, ⟨Nat.le_of_ble_eq_true rfl, Nat.le_of_ble_eq_true rfl⟩⟩ ⟨rfl, rfl⟩ rfl rfl (Nat.le_of_ble_eq_true rfl) ⟨(Nat.le_refl 0), (Nat.le_refl 0)⟩ (fun b7 S6 hh => ?_)
    obtain ⟨ha8, hb9⟩ := hh
    refine am_ifB_ne (tgt := 22) dX3_copy_16 (by decide) (fun hc10 => ?_) (fun hc10 => ?_)
    · have hh := ha8 hc10
      refine am_aload_n dX3_copy_22 rfl 0 rfl ?_
      refine am_iconst dX3_copy_23 ?_
      refine am_mput 1 (by decide) q1402 dX3_copy_24 ?_
      refine am_aload_n dX3_copy_27 rfl 0 rfl ?_
      refine am_mgeta 9 (by decide) q1415 dX3_copy_28 ?_
      refine am_iload_n dX3_copy_31 rfl 1 rfl ?_
      obtain ⟨o11, hh⟩ := hh
      refine am_miald 9 (by decide) (by decide) (v := (S6.2 9 v1.toNat).toInt) rfl o11.1 o11.2 dX3_copy_32 ?_
      obtain ⟨ha12, hb13⟩ := hh
      refine am_if_lt (tgt := 45) dX3_copy_33 (by decide) (am_rt _) (fun hc14 => ?_) (fun hc14 => ?_)
      · have hh := ha12 hc14
        refine am_aload_n dX3_copy_45 rfl 0 rfl ?_
        refine am_iconst dX3_copy_46 ?_
        refine am_rVi (n := 1) hh dX3_copy_47 (lw_V q1680 q1682 qs65 q96 q1683) rfl ⟨⟨by decide, by decide, by decide +kernel⟩, ⟨Nat.le_of_ble_eq_true rfl, Nat.le_of_ble_eq_true rfl⟩⟩ ⟨rfl, rfl⟩ rfl rfl (Nat.le_of_ble_eq_true rfl) ⟨(Nat.le_refl 0), (Nat.le_refl 0)⟩ (am_mrecv _) (fun r16 S15 hr17 hh => ?_)
        exact am_iret rfl dX3_copy_50 (Nat.le_refl 0) (Nat.le_refl 0) hh
      · have hh := hb13 hc14
        refine am_aload_n dX3_copy_36 rfl 0 rfl ?_
        refine am_mgeta 9 (by decide) q1415 dX3_copy_37 ?_
        refine am_iload_n dX3_copy_40 rfl 3 rfl ?_
        obtain ⟨o18, hh⟩ := hh
        refine am_miald 9 (by decide) (by decide) (v := (S6.2 9 v3.toNat).toInt) rfl o18.1 o18.2 dX3_copy_41 ?_
        obtain ⟨ha19, hb20⟩ := hh
        refine am_if_ge (tgt := 51) dX3_copy_42 (by decide) (am_rt _) (fun hc21 => ?_) (fun hc21 => ?_)
        · have hh := ha19 hc21
          refine am_aload_n dX3_copy_51 rfl 0 rfl ?_
          refine am_mgeta 9 (by decide) q1415 dX3_copy_52 ?_
          refine am_iload_n dX3_copy_55 rfl 1 rfl ?_
          refine am_miald 9 (by decide) (by decide) (v := (S6.2 9 v1.toNat).toInt) rfl o11.1 o11.2 dX3_copy_56 ?_
          refine am_aload_n dX3_copy_57 rfl 0 rfl ?_
          refine am_mgeta 9 (by decide) q1415 dX3_copy_58 ?_
          refine am_iload_n dX3_copy_61 rfl 3 rfl ?_
          refine am_miald 9 (by decide) (by decide) (v := (S6.2 9 v3.toNat).toInt) rfl o18.1 o18.2 dX3_copy_62 ?_
          obtain ⟨ha22, hb23⟩ := hh
          refine am_icmp_eq (tgt := 72) dX3_copy_63 (by decide) (am_rt _) (am_rt _) (fun hc24 => ?_) (fun hc24 => ?_)
          · have hh := ha22 hc24
            refine am_iload_n dX3_copy_72 rfl 2 rfl ?_
            obtain ⟨ha25, hb26⟩ := hh
            refine am_if_lt (tgt := 121) dX3_copy_73 (by decide) h2 (fun hc27 => ?_) (fun hc27 => ?_)
            · have hh := ha25 hc27
              refine am_aload_n dX3_copy_121 rfl 0 rfl ?_
              refine am_iconst dX3_copy_122 ?_
              refine am_rVi (n := 1) hh dX3_copy_123 (lw_V q1680 q1682 qs65 q96 q1683) rfl ⟨⟨by decide, by decide, by decide +kernel⟩, ⟨Nat.le_of_ble_eq_true rfl, Nat.le_of_ble_eq_true rfl⟩⟩ ⟨rfl, rfl⟩ rfl rfl (Nat.le_of_ble_eq_true rfl) ⟨(Nat.le_refl 0), (Nat.le_refl 0)⟩ (am_mrecv _) (fun r29 S28 hr30 hh => ?_)
              exact am_iret rfl dX3_copy_126 (Nat.le_refl 0) (Nat.le_refl 0) hh
            · have hh := hb26 hc27
              refine am_iload dX3_copy_76 4 rfl ?_
              obtain ⟨ha31, hb32⟩ := hh
              refine am_if_lt (tgt := 121) dX3_copy_78 (by decide) h4 (fun hc33 => ?_) (fun hc33 => ?_)
              · have hh := ha31 hc33
                refine am_aload_n dX3_copy_121 rfl 0 rfl ?_
                refine am_iconst dX3_copy_122 ?_
                refine am_rVi (n := 1) hh dX3_copy_123 (lw_V q1680 q1682 qs65 q96 q1683) rfl ⟨⟨by decide, by decide, by decide +kernel⟩, ⟨Nat.le_of_ble_eq_true rfl, Nat.le_of_ble_eq_true rfl⟩⟩ ⟨rfl, rfl⟩ rfl rfl (Nat.le_of_ble_eq_true rfl) ⟨(Nat.le_refl 0), (Nat.le_refl 0)⟩ (am_mrecv _) (fun r35 S34 hr36 hh => ?_)
                exact am_iret rfl dX3_copy_126 (Nat.le_refl 0) (Nat.le_refl 0) hh
              · have hh := hb32 hc33
                refine am_iload dX3_copy_81 5 rfl ?_
                obtain ⟨ha37, hb38⟩ := hh
                refine am_if_lt (tgt := 121) dX3_copy_83 (by decide) h5 (fun hc39 => ?_) (fun hc39 => ?_)
                · have hh := ha37 hc39
                  refine am_aload_n dX3_copy_121 rfl 0 rfl ?_
                  refine am_iconst dX3_copy_122 ?_
                  refine am_rVi (n := 1) hh dX3_copy_123 (lw_V q1680 q1682 qs65 q96 q1683) rfl ⟨⟨by decide, by decide, by decide +kernel⟩, ⟨Nat.le_of_ble_eq_true rfl, Nat.le_of_ble_eq_true rfl⟩⟩ ⟨rfl, rfl⟩ rfl rfl (Nat.le_of_ble_eq_true rfl) ⟨(Nat.le_refl 0), (Nat.le_refl 0)⟩ (am_mrecv _) (fun r41 S40 hr42 hh => ?_)
                  exact am_iret rfl dX3_copy_126 (Nat.le_refl 0) (Nat.le_refl 0) hh
                · have hh := hb38 hc39
                  refine am_iload_n dX3_copy_86 rfl 2 rfl ?_
                  refine am_i2l_ h2 dX3_copy_87 ?_
                  refine am_iload dX3_copy_88 5 rfl ?_
                  refine am_i2l_ h5 dX3_copy_90 ?_
                  refine am_ladd dX3_copy_91 ?_
                  refine am_aload_n dX3_copy_92 rfl 0 rfl ?_
                  refine am_mgeta 10 (by decide) q1416 dX3_copy_93 ?_
                  refine am_iload_n dX3_copy_96 rfl 1 rfl ?_
                  refine am_miald 10 (by decide) (by decide) (v := (S6.2 10 v1.toNat).toInt) rfl o11.1 o11.2 dX3_copy_97 ?_
                  refine am_i2l_ (am_rt _) dX3_copy_98 ?_
                  obtain ⟨o43, hh⟩ := hh
                  refine am_lcmp o43 (am_r64_of (am_rt _)) dX3_copy_99 ?_
                  obtain ⟨ha44, hb45⟩ := hh
                  refine am_cmp_gt (tgt := 121) dX3_copy_100 (by decide) (fun hc46 => ?_) (fun hc46 => ?_)
                  · have hh := ha44 hc46
                    refine am_aload_n dX3_copy_121 rfl 0 rfl ?_
                    refine am_iconst dX3_copy_122 ?_
                    refine am_rVi (n := 1) hh dX3_copy_123 (lw_V q1680 q1682 qs65 q96 q1683) rfl ⟨⟨by decide, by decide, by decide +kernel⟩, ⟨Nat.le_of_ble_eq_true rfl, Nat.le_of_ble_eq_true rfl⟩⟩ ⟨rfl, rfl⟩ rfl rfl (Nat.le_of_ble_eq_true rfl) ⟨(Nat.le_refl 0), (Nat.le_refl 0)⟩ (am_mrecv _) (fun r48 S47 hr49 hh => ?_)
                    exact am_iret rfl dX3_copy_126 (Nat.le_refl 0) (Nat.le_refl 0) hh
                  · have hh := hb45 hc46
                    refine am_iload dX3_copy_103 4 rfl ?_
                    refine am_i2l_ h4 dX3_copy_105 ?_
                    refine am_iload dX3_copy_106 5 rfl ?_
                    refine am_i2l_ h5 dX3_copy_108 ?_
                    refine am_ladd dX3_copy_109 ?_
                    refine am_aload_n dX3_copy_110 rfl 0 rfl ?_
                    refine am_mgeta 10 (by decide) q1416 dX3_copy_111 ?_
                    refine am_iload_n dX3_copy_114 rfl 3 rfl ?_
                    refine am_miald 10 (by decide) (by decide) (v := (S6.2 10 v3.toNat).toInt) rfl o18.1 o18.2 dX3_copy_115 ?_
                    refine am_i2l_ (am_rt _) dX3_copy_116 ?_
                    obtain ⟨o50, hh⟩ := hh
                    refine am_lcmp o50 (am_r64_of (am_rt _)) dX3_copy_117 ?_
                    obtain ⟨ha51, hb52⟩ := hh
                    refine am_cmp_le (tgt := 127) dX3_copy_118 (by decide) (fun hc53 => ?_) (fun hc53 => ?_)
                    · have hh := ha51 hc53
                      refine am_iload_n dX3_copy_127 rfl 2 rfl ?_
                      refine am_iload dX3_copy_128 4 rfl ?_
                      obtain ⟨ha54, hb55⟩ := hh
                      refine am_icmp_lt (tgt := 137) dX3_copy_130 (by decide) h2 h4 (fun hc56 => ?_) (fun hc56 => ?_)
                      · have hh := ha54 hc56
                        refine am_iconst dX3_copy_137 ?_
                        refine am_istore dX3_copy_138 (by decide) rfl ?_
                        refine am_iconst dX3_copy_140 ?_
                        refine am_istore dX3_copy_141 (by decide) rfl ?_
                        refine am_keep [2, 3, 4, 5, 6, 7, 1, 0] rfl ?_
                        exact hh
                      · have hh := hb55 hc56
                        refine am_iconst dX3_copy_133 ?_
                        refine am_goto (tgt := 138) dX3_copy_134 (by decide) ?_
                        refine am_istore dX3_copy_138 (by decide) rfl ?_
                        refine am_iconst dX3_copy_140 ?_
                        refine am_istore dX3_copy_141 (by decide) rfl ?_
                        refine am_keep [2, 3, 4, 5, 6, 7, 1, 0] rfl ?_
                        exact hh
                    · have hh := hb52 hc53
                      refine am_aload_n dX3_copy_121 rfl 0 rfl ?_
                      refine am_iconst dX3_copy_122 ?_
                      refine am_rVi (n := 1) hh dX3_copy_123 (lw_V q1680 q1682 qs65 q96 q1683) rfl ⟨⟨by decide, by decide, by decide +kernel⟩, ⟨Nat.le_of_ble_eq_true rfl, Nat.le_of_ble_eq_true rfl⟩⟩ ⟨rfl, rfl⟩ rfl rfl (Nat.le_of_ble_eq_true rfl) ⟨(Nat.le_refl 0), (Nat.le_refl 0)⟩ (am_mrecv _) (fun r58 S57 hr59 hh => ?_)
                      exact am_iret rfl dX3_copy_126 (Nat.le_refl 0) (Nat.le_refl 0) hh
          · have hh := hb23 hc24
            refine am_aload_n dX3_copy_66 rfl 0 rfl ?_
            refine am_iconst dX3_copy_67 ?_
            refine am_rVi (n := 1) hh dX3_copy_68 (lw_V q1680 q1682 qs65 q96 q1683) rfl ⟨⟨by decide, by decide, by decide +kernel⟩, ⟨Nat.le_of_ble_eq_true rfl, Nat.le_of_ble_eq_true rfl⟩⟩ ⟨rfl, rfl⟩ rfl rfl (Nat.le_of_ble_eq_true rfl) ⟨(Nat.le_refl 0), (Nat.le_refl 0)⟩ (am_mrecv _) (fun r61 S60 hr62 hh => ?_)
            exact am_iret rfl dX3_copy_71 (Nat.le_refl 0) (Nat.le_refl 0) hh
        · have hh := hb20 hc21
          refine am_aload_n dX3_copy_45 rfl 0 rfl ?_
          refine am_iconst dX3_copy_46 ?_
          refine am_rVi (n := 1) hh dX3_copy_47 (lw_V q1680 q1682 qs65 q96 q1683) rfl ⟨⟨by decide, by decide, by decide +kernel⟩, ⟨Nat.le_of_ble_eq_true rfl, Nat.le_of_ble_eq_true rfl⟩⟩ ⟨rfl, rfl⟩ rfl rfl (Nat.le_of_ble_eq_true rfl) ⟨(Nat.le_refl 0), (Nat.le_refl 0)⟩ (am_mrecv _) (fun r64 S63 hr65 hh => ?_)
          exact am_iret rfl dX3_copy_50 (Nat.le_refl 0) (Nat.le_refl 0) hh
    · have hh := hb9 hc10
      refine am_ldc (z := -1000001) q1515 (by decide) dX3_copy_19 ?_
      exact am_iret rfl dX3_copy_21 (Nat.le_refl 0) (Nat.le_refl 0) hh
set_option maxHeartbeats 4000000 in
set_option maxRecDepth 100000 in
theorem bX3_copy_143 {l : Launch} {Q : Option am_W → am_M → Prop} {S : am_M} (v1 : Int) (h1 : am_r v1) (v2 : Int) (h2 : am_r v2) (v3 : Int) (h3 : am_r v3) (v4 : Int) (h4 : am_r v4) (v5 : Int) (h5 : am_r v5) (v6 : Int) (h6 : am_r v6) (v7 : Int) (h7 : am_r v7)
    (hh : ((v5 ≤ v7) →
        Q (some (am_I v5)) S) ∧
      ((¬ v5 ≤ v7) →
        ((v6 = 0) →
          (0 ≤ (((40 * v1) + v2) + ((v5 - 1) - v7)) ∧ (((40 * v1) + v2) + ((v5 - 1) - v7)) < 320) ∧
          (0 ≤ (((40 * v3) + v4) + ((v5 - 1) - v7)) ∧ (((40 * v3) + v4) + ((v5 - 1) - v7)) < 320) ∧
          VX3_copy l Q 143 [(0, am_R 0), (1, am_I v1), (2, am_I v2), (3, am_I v3), (4, am_I v4), (5, am_I v5), (6, am_I v6), (7, am_I (v7 + 1))] [] (am_sa S 11 (((40 * v3) + v4) + ((v5 - 1) - v7)) ((S.2 11 (((40 * v1) + v2) + ((v5 - 1) - v7)).toNat).toInt))) ∧
        ((¬ v6 = 0) →
          (0 ≤ (((40 * v1) + v2) + v7) ∧ (((40 * v1) + v2) + v7) < 320) ∧
          (0 ≤ (((40 * v3) + v4) + v7) ∧ (((40 * v3) + v4) + v7) < 320) ∧
          VX3_copy l Q 143 [(0, am_R 0), (1, am_I v1), (2, am_I v2), (3, am_I v3), (4, am_I v4), (5, am_I v5), (6, am_I v6), (7, am_I (v7 + 1))] [] (am_sa S 11 (((40 * v3) + v4) + v7) ((S.2 11 (((40 * v1) + v2) + v7).toNat).toInt))))) : VX3_copy l Q 143 [(0, am_R 0), (1, am_I v1), (2, am_I v2), (3, am_I v3), (4, am_I v4), (5, am_I v5), (6, am_I v6), (7, am_I v7)] [] S := by
  refine am_iload dX3_copy_143 7 rfl ?_
  refine am_iload dX3_copy_145 5 rfl ?_
  obtain ⟨ha1, hb2⟩ := hh
  refine am_icmp_ge (tgt := 204) dX3_copy_147 (by decide) h7 h5 (fun hc3 => ?_) (fun hc3 => ?_)
  · have hh := ha1 hc3
    refine am_iload dX3_copy_204 5 rfl ?_
    exact am_iret rfl dX3_copy_206 (Nat.le_refl 0) (Nat.le_refl 0) hh
  · have hh := hb2 hc3
    refine am_iload dX3_copy_150 6 rfl ?_
    obtain ⟨ha4, hb5⟩ := hh
    refine am_if_eq (tgt := 160) dX3_copy_152 (by decide) h6 (fun hc6 => ?_) (fun hc6 => ?_)
    · have hh := ha4 hc6
      refine am_iload dX3_copy_160 5 rfl ?_
      refine am_iconst dX3_copy_162 ?_
      refine am_isub dX3_copy_163 ?_
      refine am_iload dX3_copy_164 7 rfl ?_
      refine am_isub dX3_copy_166 ?_
      refine am_istore dX3_copy_167 (by decide) rfl ?_
      refine am_aload_n dX3_copy_169 rfl 1 rfl ?_
      refine am_mgeta 11 (by decide) q1417 dX3_copy_170 ?_
      refine am_bipush dX3_copy_173 (by decide) ?_
      refine am_iload_n dX3_copy_175 rfl 4 rfl ?_
      refine am_imul dX3_copy_176 ?_
      refine am_iload dX3_copy_177 5 rfl ?_
      refine am_iadd dX3_copy_179 ?_
      refine am_iload dX3_copy_180 0 rfl ?_
      refine am_iadd dX3_copy_182 ?_
      refine am_aload_n dX3_copy_183 rfl 1 rfl ?_
      refine am_mgeta 11 (by decide) q1417 dX3_copy_184 ?_
      refine am_bipush dX3_copy_187 (by decide) ?_
      refine am_iload_n dX3_copy_189 rfl 2 rfl ?_
      refine am_imul dX3_copy_190 ?_
      refine am_iload_n dX3_copy_191 rfl 3 rfl ?_
      refine am_iadd dX3_copy_192 ?_
      refine am_iload dX3_copy_193 0 rfl ?_
      refine am_iadd dX3_copy_195 ?_
      obtain ⟨o7, hh⟩ := hh
      refine am_miald 11 (by decide) (by decide) (v := (S.2 11 (((40 * v1) + v2) + ((v5 - 1) - v7)).toNat).toInt) rfl o7.1 o7.2 dX3_copy_196 ?_
      obtain ⟨o8, hh⟩ := hh
      refine am_miast 11 (by decide) (by decide) o8.1 o8.2 dX3_copy_197 ?_
      refine am_iinc (n := 8) dX3_copy_198 rfl (by decide) rfl ?_
      refine am_goto (tgt := 143) dX3_copy_201 (by decide) ?_
      refine am_keep [2, 3, 4, 5, 6, 7, 8, 0] rfl ?_
      exact hh
    · have hh := hb5 hc6
      refine am_iload dX3_copy_155 7 rfl ?_
      refine am_goto (tgt := 167) dX3_copy_157 (by decide) ?_
      refine am_istore dX3_copy_167 (by decide) rfl ?_
      refine am_aload_n dX3_copy_169 rfl 1 rfl ?_
      refine am_mgeta 11 (by decide) q1417 dX3_copy_170 ?_
      refine am_bipush dX3_copy_173 (by decide) ?_
      refine am_iload_n dX3_copy_175 rfl 4 rfl ?_
      refine am_imul dX3_copy_176 ?_
      refine am_iload dX3_copy_177 5 rfl ?_
      refine am_iadd dX3_copy_179 ?_
      refine am_iload dX3_copy_180 0 rfl ?_
      refine am_iadd dX3_copy_182 ?_
      refine am_aload_n dX3_copy_183 rfl 1 rfl ?_
      refine am_mgeta 11 (by decide) q1417 dX3_copy_184 ?_
      refine am_bipush dX3_copy_187 (by decide) ?_
      refine am_iload_n dX3_copy_189 rfl 2 rfl ?_
      refine am_imul dX3_copy_190 ?_
      refine am_iload_n dX3_copy_191 rfl 3 rfl ?_
      refine am_iadd dX3_copy_192 ?_
      refine am_iload dX3_copy_193 0 rfl ?_
      refine am_iadd dX3_copy_195 ?_
      obtain ⟨o9, hh⟩ := hh
      refine am_miald 11 (by decide) (by decide) (v := (S.2 11 (((40 * v1) + v2) + v7).toNat).toInt) rfl o9.1 o9.2 dX3_copy_196 ?_
      obtain ⟨o10, hh⟩ := hh
      refine am_miast 11 (by decide) (by decide) o10.1 o10.2 dX3_copy_197 ?_
      refine am_iinc (n := 8) dX3_copy_198 rfl (by decide) rfl ?_
      refine am_goto (tgt := 143) dX3_copy_201 (by decide) ?_
      refine am_keep [2, 3, 4, 5, 6, 7, 8, 0] rfl ?_
      exact hh
/-! TableArmsModel.drop(I)I -/
abbrev VX3_drop (l : Launch) (Q : Option am_W → am_M → Prop) (pc : Nat) (lv : List (Nat × am_W)) (st : List am_W) (S : am_M) : Prop := am_V am_mr l RX3 cX3_drop 2 (some .int) "drop" (am_rm 3 0 0) (am_E1 am_mr 0 0 Q) pc lv st S 0 0
abbrev kX3_drop (l : Launch) (as : List am_W) (S : am_M) (Q : Option am_W → am_M → Prop) : Prop := am_C am_mr l yX3_drop (ws_ yX3_drop cX3_drop 2 (some .int)) (am_rm 3 0 0) 0 0 as S Q
set_option maxHeartbeats 4000000 in
set_option maxRecDepth 100000 in
theorem bX3_drop {l : Launch} {Q : Option am_W → am_M → Prop} {S : am_M} (v1 : Int) (h1 : am_r v1)
    (hh : kX3_isSheet l [am_I v1] (am_sv S 0 0) (am_qz fun b2 S1 =>
        ((b2 = true) →
          (0 ≤ v1 ∧ v1 < 8) ∧
          ((0 ≤ ((S1.2 9 v1.toNat).toInt)) →
            Q (some (am_I (S1.2 10 v1.toNat).toInt)) (am_sa (am_sv S1 1 0) 9 v1 (-1))) ∧
          ((¬ 0 ≤ ((S1.2 9 v1.toNat).toInt)) →
            kX3_finding l [am_R 0, am_I 1] (am_sv S1 1 0) (am_qi fun r11 S10 =>
              Q (some (am_I r11)) S10))) ∧
        ((b2 = false) →
          Q (some (am_I (-1000001))) S1))) : kX3_drop l [am_R 0, am_I v1] S Q := by
  refine am_entry (lv := [(0, am_R 0), (1, am_I v1)]) rfl rfl rfl (fun _ => rfl) (fun _ => Nat.le_of_ble_eq_true rfl) ?_
  refine am_aload_n dX3_drop_0 rfl 0 rfl ?_
  refine am_iconst dX3_drop_1 ?_
  refine am_mput 0 (by decide) q1401 dX3_drop_2 ?_
  refine am_iload_n dX3_drop_5 rfl 1 rfl ?_
  refine am_rSz (n := 1) hh dX3_drop_6 (lw_S q1672 q1673 q96 q1674) ⟨⟨by decide, by decide, by decide +kernel⟩, ⟨Nat.le_of_ble_eq_true rfl, Nat.le_of_ble_eq_true rfl⟩⟩ ⟨rfl, rfl⟩ rfl rfl (Nat.le_of_ble_eq_true rfl) ⟨(Nat.le_refl 0), (Nat.le_refl 0)⟩ (fun b2 S1 hh => ?_)
  obtain ⟨ha3, hb4⟩ := hh
  refine am_ifB_ne (tgt := 15) dX3_drop_9 (by decide) (fun hc5 => ?_) (fun hc5 => ?_)
  · have hh := ha3 hc5
    refine am_aload_n dX3_drop_15 rfl 0 rfl ?_
    refine am_iconst dX3_drop_16 ?_
    refine am_mput 1 (by decide) q1402 dX3_drop_17 ?_
    refine am_aload_n dX3_drop_20 rfl 0 rfl ?_
    refine am_mgeta 9 (by decide) q1415 dX3_drop_21 ?_
    refine am_iload_n dX3_drop_24 rfl 1 rfl ?_
    obtain ⟨o6, hh⟩ := hh
    refine am_miald 9 (by decide) (by decide) (v := (S1.2 9 v1.toNat).toInt) rfl o6.1 o6.2 dX3_drop_25 ?_
    obtain ⟨ha7, hb8⟩ := hh
    refine am_if_ge (tgt := 35) dX3_drop_26 (by decide) (am_rt _) (fun hc9 => ?_) (fun hc9 => ?_)
    · have hh := ha7 hc9
      refine am_aload_n dX3_drop_35 rfl 0 rfl ?_
      refine am_mgeta 9 (by decide) q1415 dX3_drop_36 ?_
      refine am_iload_n dX3_drop_39 rfl 1 rfl ?_
      refine am_iconst dX3_drop_40 ?_
      refine am_miast 9 (by decide) (by decide) o6.1 o6.2 dX3_drop_41 ?_
      refine am_aload_n dX3_drop_42 rfl 0 rfl ?_
      refine am_mgeta 10 (by decide) q1416 dX3_drop_43 ?_
      refine am_iload_n dX3_drop_46 rfl 1 rfl ?_
      refine am_miald 10 (by decide) (by decide) (v := (S1.2 10 v1.toNat).toInt) rfl o6.1 o6.2 dX3_drop_47 ?_
      exact am_iret rfl dX3_drop_48 (Nat.le_refl 0) (Nat.le_refl 0) hh
    · have hh := hb8 hc9
      refine am_aload_n dX3_drop_29 rfl 0 rfl ?_
      refine am_iconst dX3_drop_30 ?_
      refine am_rVi (n := 1) hh dX3_drop_31 (lw_V q1680 q1682 qs65 q96 q1683) rfl ⟨⟨by decide, by decide, by decide +kernel⟩, ⟨Nat.le_of_ble_eq_true rfl, Nat.le_of_ble_eq_true rfl⟩⟩ ⟨rfl, rfl⟩ rfl rfl (Nat.le_of_ble_eq_true rfl) ⟨(Nat.le_refl 0), (Nat.le_refl 0)⟩ (am_mrecv _) (fun r11 S10 hr12 hh => ?_)
      exact am_iret rfl dX3_drop_34 (Nat.le_refl 0) (Nat.le_refl 0) hh
  · have hh := hb4 hc5
    refine am_ldc (z := -1000001) q1515 (by decide) dX3_drop_12 ?_
    exact am_iret rfl dX3_drop_14 (Nat.le_refl 0) (Nat.le_refl 0) hh
/-! TableArmsModel.feed(JI)I -/
abbrev VX3_feed (l : Launch) (Q : Option am_W → am_M → Prop) (pc : Nat) (lv : List (Nat × am_W)) (st : List am_W) (S : am_M) : Prop := am_V am_mr l RX3 cX3_feed 5 (some .int) "feed" (am_rm 2 0 0) (am_E1 am_mr 0 0 Q) pc lv st S 0 0
abbrev kX3_feed (l : Launch) (as : List am_W) (S : am_M) (Q : Option am_W → am_M → Prop) : Prop := am_C am_mr l yX3_feed (ws_ yX3_feed cX3_feed 5 (some .int)) (am_rm 2 0 0) 0 0 as S Q
set_option maxHeartbeats 4000000 in
set_option maxRecDepth 100000 in
theorem bX3_feed {l : Launch} {Q : Option am_W → am_M → Prop} {S : am_M} (v1 : Int) (h1 : am_r64 v1) (v3 : Int) (h3 : am_r v3)
    (hh : kX3_in l [am_J v3, am_J 1, am_J 8] (am_sv S 0 0) (am_qz fun b2 S1 =>
        ((b2 = true) →
          (am_r ((S1.1 7).toInt + v3)) ∧
          ((((S1.1 7).toInt + v3) ≤ 300) →
            VX3_feed l Q 40 [(0, am_R 0), (1, am_J v1), (4, am_I (v3 - 1))] [] S1) ∧
          ((¬ ((S1.1 7).toInt + v3) ≤ 300) →
            Q (some (am_I (-1000003))) S1)) ∧
        ((b2 = false) →
          Q (some (am_I (-1000001))) S1))) : kX3_feed l [am_R 0, am_J v1, am_I v3] S Q := by
  refine am_entry (lv := [(0, am_R 0), (1, am_J v1), (3, am_I v3)]) rfl rfl rfl (fun _ => rfl) (fun _ => Nat.le_of_ble_eq_true rfl) ?_
  refine am_aload_n dX3_feed_0 rfl 0 rfl ?_
  refine am_iconst dX3_feed_1 ?_
  refine am_mput 0 (by decide) q1401 dX3_feed_2 ?_
  refine am_iload_n dX3_feed_5 rfl 2 rfl ?_
  refine am_i2l_ h3 dX3_feed_6 ?_
  refine am_lconst (z := 1) dX3_feed_7 (by decide) ?_
  refine am_ldc2 (z := 8) q1633 (by decide) dX3_feed_8 ?_
  refine am_rSz (n := 3) hh dX3_feed_11 (lw_S q1512 q1513 q96 q1514) ⟨⟨by decide, by decide, by decide +kernel⟩, ⟨Nat.le_of_ble_eq_true rfl, Nat.le_of_ble_eq_true rfl⟩⟩ ⟨rfl, rfl⟩ rfl rfl (Nat.le_of_ble_eq_true rfl) ⟨(Nat.le_refl 0), (Nat.le_refl 0)⟩ (fun b2 S1 hh => ?_)
  obtain ⟨ha3, hb4⟩ := hh
  refine am_ifB_ne (tgt := 20) dX3_feed_14 (by decide) (fun hc5 => ?_) (fun hc5 => ?_)
  · have hh := ha3 hc5
    refine am_aload_n dX3_feed_20 rfl 0 rfl ?_
    refine am_mgeti 7 (by decide) (v := (S1.1 7).toInt) rfl q1422 dX3_feed_21 ?_
    refine am_iload_n dX3_feed_24 rfl 2 rfl ?_
    refine am_iadd dX3_feed_25 ?_
    refine am_sipush dX3_feed_26 (by decide) ?_
    obtain ⟨o6, hh⟩ := hh
    obtain ⟨ha7, hb8⟩ := hh
    refine am_icmp_le (tgt := 35) dX3_feed_29 (by decide) o6 (⟨by decide, by decide⟩) (fun hc9 => ?_) (fun hc9 => ?_)
    · have hh := ha7 hc9
      refine am_iload_n dX3_feed_35 rfl 2 rfl ?_
      refine am_iconst dX3_feed_36 ?_
      refine am_isub dX3_feed_37 ?_
      refine am_istore dX3_feed_38 (by decide) rfl ?_
      refine am_keep [1, 2, 0] rfl ?_
      exact hh
    · have hh := hb8 hc9
      refine am_ldc (z := -1000003) q1603 (by decide) dX3_feed_32 ?_
      exact am_iret rfl dX3_feed_34 (Nat.le_refl 0) (Nat.le_refl 0) hh
  · have hh := hb4 hc5
    refine am_ldc (z := -1000001) q1515 (by decide) dX3_feed_17 ?_
    exact am_iret rfl dX3_feed_19 (Nat.le_refl 0) (Nat.le_refl 0) hh
set_option maxHeartbeats 4000000 in
set_option maxRecDepth 100000 in
theorem bX3_feed_40 {l : Launch} {Q : Option am_W → am_M → Prop} {S : am_M} (v1 : Int) (h1 : am_r64 v1) (v4 : Int) (h4 : am_r v4)
    (hh : ((v4 < 0) →
        Q (some (am_I (S.1 7).toInt)) S) ∧
      ((¬ v4 < 0) →
        (0 ≤ (S.1 7).toInt ∧ (S.1 7).toInt < 300) ∧
        VX3_feed l Q 40 [(0, am_R 0), (1, am_J v1), (4, am_I (v4 + (-1)))] [] (am_sv (am_sa S 13 ((S.1 7).toInt) (am_l2i (am_landL (am_lshr v1 (8 * v4)) 255))) 7 ((S.1 7).toInt + 1)))) : VX3_feed l Q 40 [(0, am_R 0), (1, am_J v1), (4, am_I v4)] [] S := by
  refine am_iload dX3_feed_40 2 rfl ?_
  obtain ⟨ha1, hb2⟩ := hh
  refine am_if_lt (tgt := 82) dX3_feed_42 (by decide) h4 (fun hc3 => ?_) (fun hc3 => ?_)
  · have hh := ha1 hc3
    refine am_aload_n dX3_feed_82 rfl 0 rfl ?_
    refine am_mgeti 7 (by decide) (v := (S.1 7).toInt) rfl q1422 dX3_feed_83 ?_
    exact am_iret rfl dX3_feed_86 (Nat.le_refl 0) (Nat.le_refl 0) hh
  · have hh := hb2 hc3
    refine am_aload_n dX3_feed_45 rfl 0 rfl ?_
    refine am_mgeta 13 (by decide) q1421 dX3_feed_46 ?_
    refine am_aload_n dX3_feed_49 rfl 0 rfl ?_
    refine am_mgeti 7 (by decide) (v := (S.1 7).toInt) rfl q1422 dX3_feed_50 ?_
    refine am_lload_n dX3_feed_53 rfl 1 rfl ?_
    refine am_bipush dX3_feed_54 (by decide) ?_
    refine am_iload dX3_feed_56 2 rfl ?_
    refine am_imul dX3_feed_58 ?_
    refine am_lshr_ dX3_feed_59 ?_
    refine am_ldc2 (z := 255) q1624 (by decide) dX3_feed_60 ?_
    refine am_land dX3_feed_63 ?_
    refine am_l2i_ dX3_feed_64 ?_
    obtain ⟨o4, hh⟩ := hh
    refine am_miast 13 (by decide) (by decide) o4.1 o4.2 dX3_feed_65 ?_
    refine am_aload_n dX3_feed_66 rfl 0 rfl ?_
    refine am_dup dX3_feed_67 rfl ?_
    refine am_mgeti 7 (by decide) (v := (S.1 7).toInt) rfl q1422 dX3_feed_68 ?_
    refine am_iconst dX3_feed_71 ?_
    refine am_iadd dX3_feed_72 ?_
    refine am_mput 7 (by decide) q1422 dX3_feed_73 ?_
    refine am_iinc (n := 2) dX3_feed_76 rfl (by decide) rfl ?_
    refine am_goto (tgt := 40) dX3_feed_79 (by decide) ?_
    refine am_keep [1, 2, 0] rfl ?_
    exact hh
/-! TableArmsModel.byteAt(I)I -/
abbrev VX3_byteAt (l : Launch) (Q : Option am_W → am_M → Prop) (pc : Nat) (lv : List (Nat × am_W)) (st : List am_W) (S : am_M) : Prop := am_V am_mr l RX3 cX3_byteAt 2 (some .int) "byteAt" (am_rm 1 0 0) (am_E1 am_mr 0 0 Q) pc lv st S 0 0
abbrev kX3_byteAt (l : Launch) (as : List am_W) (S : am_M) (Q : Option am_W → am_M → Prop) : Prop := am_C am_mr l yX3_byteAt (ws_ yX3_byteAt cX3_byteAt 2 (some .int)) (am_rm 1 0 0) 0 0 as S Q
set_option maxHeartbeats 4000000 in
set_option maxRecDepth 100000 in
theorem bX3_byteAt {l : Launch} {Q : Option am_W → am_M → Prop} {S : am_M} (v1 : Int) (h1 : am_r v1)
    (hh : ((((S.1 9).toInt) ≤ v1) →
        Q (some (am_I (-1000000))) S) ∧
      ((¬ ((S.1 9).toInt) ≤ v1) →
        (0 ≤ v1 ∧ v1 < 300) ∧
        Q (some (am_I (S.2 13 v1.toNat).toInt)) S)) : kX3_byteAt l [am_R 0, am_I v1] S Q := by
  refine am_entry (lv := [(0, am_R 0), (1, am_I v1)]) rfl rfl rfl (fun _ => rfl) (fun _ => Nat.le_of_ble_eq_true rfl) ?_
  refine am_iload_n dX3_byteAt_0 rfl 1 rfl ?_
  refine am_aload_n dX3_byteAt_1 rfl 0 rfl ?_
  refine am_mgeti 9 (by decide) (v := (S.1 9).toInt) rfl q1424 dX3_byteAt_2 ?_
  obtain ⟨ha1, hb2⟩ := hh
  refine am_icmp_ge (tgt := 17) dX3_byteAt_5 (by decide) h1 (am_rt _) (fun hc3 => ?_) (fun hc3 => ?_)
  · have hh := ha1 hc3
    refine am_ldc (z := -1000000) q1544 (by decide) dX3_byteAt_17 ?_
    exact am_iret rfl dX3_byteAt_19 (Nat.le_refl 0) (Nat.le_refl 0) hh
  · have hh := hb2 hc3
    refine am_aload_n dX3_byteAt_8 rfl 0 rfl ?_
    refine am_mgeta 13 (by decide) q1421 dX3_byteAt_9 ?_
    refine am_iload_n dX3_byteAt_12 rfl 1 rfl ?_
    obtain ⟨o4, hh⟩ := hh
    refine am_miald 13 (by decide) (by decide) (v := (S.2 13 v1.toNat).toInt) rfl o4.1 o4.2 dX3_byteAt_13 ?_
    refine am_goto (tgt := 19) dX3_byteAt_14 (by decide) ?_
    exact am_iret rfl dX3_byteAt_19 (Nat.le_refl 0) (Nat.le_refl 0) hh
