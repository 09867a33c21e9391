/-! TableArmsModel.ways(IIII)I -/
abbrev VX3_ways (l : Launch) (Q : Option am_W → am_M → Prop) (pc : Nat) (lv : List (Nat × am_W)) (st : List am_W) (S : am_M) : Prop := am_V am_mr l RX3 cX3_ways 13 (some .int) "ways" (am_rm 3 0 0) (am_E1 am_mr 0 0 Q) pc lv st S 0 0
abbrev kX3_ways (l : Launch) (as : List am_W) (S : am_M) (Q : Option am_W → am_M → Prop) : Prop := am_C am_mr l yX3_ways (ws_ yX3_ways cX3_ways 13 (some .int)) (am_rm 3 0 0) 0 0 as S Q
set_option maxHeartbeats 4000000 in
set_option maxRecDepth 100000 in
theorem bX3_ways {l : Launch} {Q : Option am_W → am_M → Prop} {S : am_M} (v1 : Int) (h1 : am_r v1) (v2 : Int) (h2 : am_r v2) (v3 : Int) (h3 : am_r v3) (v4 : Int) (h4 : am_r v4)
    (hh : kX3_isSheet l [am_I v1] (am_sv S 0 0) (am_qz fun b2 S1 =>
        ((b2 = false) →
          Q (some (am_I (-1000001))) S1) ∧
        ((b2 = true) →
          kX3_in l [am_J v3, am_J 1, am_J 12] S1 (am_qz fun b7 S6 =>
            ((b7 = false) →
              Q (some (am_I (-1000001))) S6) ∧
            ((b7 = true) →
              kX3_in l [am_J v4, am_J 1, am_J 12] S6 (am_qz fun b12 S11 =>
                ((b12 = true) →
                  kX3_lookItems l [am_R 0, am_I v1, am_I v2, am_I (v3 + v4)] S11 (am_qi fun r17 S16 =>
                    ((0 ≤ r17) →
                      VX3_ways l Q 71 [(0, am_R 0), (3, am_I v3), (4, am_I v4), (6, am_I ((40 * v1) + v2)), (7, am_I 0)] [] S16) ∧
                    ((¬ 0 ≤ r17) →
                      Q (some (am_I r17)) S16))) ∧
                ((b12 = false) →
                  Q (some (am_I (-1000001))) S11))))))) : kX3_ways l [am_R 0, am_I v1, am_I v2, am_I v3, am_I v4] S Q := by
  refine am_entry (lv := [(0, am_R 0), (1, am_I v1), (2, am_I v2), (3, am_I v3), (4, am_I v4)]) rfl rfl rfl (fun _ => rfl) (fun _ => Nat.le_of_ble_eq_true rfl) ?_
  refine am_aload_n dX3_ways_0 rfl 0 rfl ?_
  refine am_iconst dX3_ways_1 ?_
  refine am_mput 0 (by decide) q1401 dX3_ways_2 ?_
  refine am_iload_n dX3_ways_5 rfl 1 rfl ?_
  refine am_rSz (n := 1) hh dX3_ways_6 (lw_S q1672 q1673 q96 q1674) ⟨⟨by decide, by decide, by decide +kernel⟩, ⟨Nat.le_of_ble_eq_true rfl, Nat.le_of_ble_eq_true rfl⟩⟩ ⟨rfl, rfl⟩ rfl rfl (Nat.le_of_ble_eq_true rfl) ⟨(Nat.le_refl 0), (Nat.le_refl 0)⟩ (fun b2 S1 hh => ?_)
  obtain ⟨ha3, hb4⟩ := hh
  refine am_ifB_eq (tgt := 37) dX3_ways_9 (by decide) (fun hc5 => ?_) (fun hc5 => ?_)
  · have hh := ha3 hc5
    refine am_ldc (z := -1000001) q1515 (by decide) dX3_ways_37 ?_
    exact am_iret rfl dX3_ways_39 (Nat.le_refl 0) (Nat.le_refl 0) hh
  · have hh := hb4 hc5
    refine am_iload_n dX3_ways_12 rfl 3 rfl ?_
    refine am_i2l_ h3 dX3_ways_13 ?_
    refine am_lconst (z := 1) dX3_ways_14 (by decide) ?_
    refine am_ldc2 (z := 12) q1842 (by decide) dX3_ways_15 ?_
    refine am_rSz (n := 3) hh dX3_ways_18 (lw_S q1512 q1513 q96 q1514) ⟨⟨by decide, by decide, by decide +kernel⟩, ⟨Nat.le_of_ble_eq_true rfl, Nat.le_of_ble_eq_true rfl⟩⟩ ⟨rfl, rfl⟩ rfl rfl (Nat.le_of_ble_eq_true rfl) ⟨(Nat.le_refl 0), (Nat.le_refl 0)⟩ (fun b7 S6 hh => ?_)
    obtain ⟨ha8, hb9⟩ := hh
    refine am_ifB_eq (tgt := 37) dX3_ways_21 (by decide) (fun hc10 => ?_) (fun hc10 => ?_)
    · have hh := ha8 hc10
      refine am_ldc (z := -1000001) q1515 (by decide) dX3_ways_37 ?_
      exact am_iret rfl dX3_ways_39 (Nat.le_refl 0) (Nat.le_refl 0) hh
    · have hh := hb9 hc10
      refine am_iload dX3_ways_24 4 rfl ?_
      refine am_i2l_ h4 dX3_ways_26 ?_
      refine am_lconst (z := 1) dX3_ways_27 (by decide) ?_
      refine am_ldc2 (z := 12) q1842 (by decide) dX3_ways_28 ?_
      refine am_rSz (n := 3) hh dX3_ways_31 (lw_S q1512 q1513 q96 q1514) ⟨⟨by decide, by decide, by decide +kernel⟩, ⟨Nat.le_of_ble_eq_true rfl, Nat.le_of_ble_eq_true rfl⟩⟩ ⟨rfl, rfl⟩ rfl rfl (Nat.le_of_ble_eq_true rfl) ⟨(Nat.le_refl 0), (Nat.le_refl 0)⟩ (fun b12 S11 hh => ?_)
      obtain ⟨ha13, hb14⟩ := hh
      refine am_ifB_ne (tgt := 40) dX3_ways_34 (by decide) (fun hc15 => ?_) (fun hc15 => ?_)
      · have hh := ha13 hc15
        refine am_aload_n dX3_ways_40 rfl 0 rfl ?_
        refine am_iload_n dX3_ways_41 rfl 1 rfl ?_
        refine am_iload_n dX3_ways_42 rfl 2 rfl ?_
        refine am_iload_n dX3_ways_43 rfl 3 rfl ?_
        refine am_iload dX3_ways_44 4 rfl ?_
        refine am_iadd dX3_ways_46 ?_
        refine am_rVi (n := 3) hh dX3_ways_47 (lw_V q1676 q1678 qs64 q96 q1679) rfl ⟨⟨by decide, by decide, by decide +kernel⟩, ⟨Nat.le_of_ble_eq_true rfl, Nat.le_of_ble_eq_true rfl⟩⟩ ⟨rfl, rfl⟩ rfl rfl (Nat.le_of_ble_eq_true rfl) ⟨(Nat.le_refl 0), (Nat.le_refl 0)⟩ (am_mrecv _) (fun r17 S16 hr18 hh => ?_)
        refine am_istore dX3_ways_50 (by decide) rfl ?_
        refine am_iload dX3_ways_52 0 rfl ?_
        obtain ⟨ha19, hb20⟩ := hh
        refine am_if_ge (tgt := 60) dX3_ways_54 (by decide) hr18 (fun hc21 => ?_) (fun hc21 => ?_)
        · have hh := ha19 hc21
          refine am_bipush dX3_ways_60 (by decide) ?_
          refine am_iload_n dX3_ways_62 rfl 2 rfl ?_
          refine am_imul dX3_ways_63 ?_
          refine am_iload_n dX3_ways_64 rfl 3 rfl ?_
          refine am_iadd dX3_ways_65 ?_
          refine am_istore dX3_ways_66 (by decide) rfl ?_
          refine am_iconst dX3_ways_68 ?_
          refine am_istore dX3_ways_69 (by decide) rfl ?_
          refine am_keep [3, 6, 7, 1, 0] rfl ?_
          exact hh
        · have hh := hb20 hc21
          refine am_iload dX3_ways_57 0 rfl ?_
          exact am_iret rfl dX3_ways_59 (Nat.le_refl 0) (Nat.le_refl 0) hh
      · have hh := hb14 hc15
        refine am_ldc (z := -1000001) q1515 (by decide) dX3_ways_37 ?_
        exact am_iret rfl dX3_ways_39 (Nat.le_refl 0) (Nat.le_refl 0) hh
set_option maxHeartbeats 4000000 in
set_option maxRecDepth 100000 in
theorem bX3_ways_71 {l : Launch} {Q : Option am_W → am_M → Prop} {S : am_M} (v3 : Int) (h3 : am_r v3) (v4 : Int) (h4 : am_r v4) (v6 : Int) (h6 : am_r v6) (v7 : Int) (h7 : am_r v7)
    (hh : (am_r (v3 + v4)) ∧
      (((v3 + v4) ≤ v7) →
        VX3_ways l Q 177 [(0, am_R 0), (3, am_I v3), (4, am_I v4), (6, am_I v6), (7, am_I 0)] [] (am_sv S 1 0)) ∧
      ((¬ (v3 + v4) ≤ v7) →
        (0 ≤ (v6 + v7) ∧ (v6 + v7) < 320) ∧
        kX3_isCell l [am_I (S.2 11 (v6 + v7).toNat).toInt] S (am_qz fun b7 S6 =>
          ((b7 = false) →
            Q (some (am_I (-1000001))) S6) ∧
          ((b7 = true) →
            ((v7 ≤ 0) →
              VX3_ways l Q 71 [(0, am_R 0), (3, am_I v3), (4, am_I v4), (6, am_I v6), (7, am_I (v7 + 1))] [] S6) ∧
            ((¬ v7 ≤ 0) →
              ((v7 = v3) →
                VX3_ways l Q 71 [(0, am_R 0), (3, am_I v3), (4, am_I v4), (6, am_I v6), (7, am_I (v7 + 1))] [] S6) ∧
              ((¬ v7 = v3) →
                (0 ≤ ((v6 + v7) - 1) ∧ ((v6 + v7) - 1) < 320) ∧
                ((((S6.2 11 (v6 + v7).toNat).toInt) = ((S6.2 11 ((v6 + v7) - 1).toNat).toInt)) →
                  VX3_ways l Q 71 [(0, am_R 0), (3, am_I v3), (4, am_I v4), (6, am_I v6), (7, am_I (v7 + 1))] [] S6) ∧
                ((¬ ((S6.2 11 (v6 + v7).toNat).toInt) = ((S6.2 11 ((v6 + v7) - 1).toNat).toInt)) →
                  kX3_isNeighbour l [am_I (S6.2 11 (v6 + v7).toNat).toInt, am_I (S6.2 11 ((v6 + v7) - 1).toNat).toInt] S6 (am_qz fun b22 S21 =>
                    ((b22 = true) →
                      VX3_ways l Q 71 [(0, am_R 0), (3, am_I v3), (4, am_I v4), (6, am_I v6), (7, am_I (v7 + 1))] [] S21) ∧
                    ((b22 = false) →
                      Q (some (am_I (-1000001))) S21))))))))) : VX3_ways l Q 71 [(0, am_R 0), (3, am_I v3), (4, am_I v4), (6, am_I v6), (7, am_I v7)] [] S := by
  refine am_iload dX3_ways_71 4 rfl ?_
  refine am_iload_n dX3_ways_73 rfl 1 rfl ?_
  refine am_iload dX3_ways_74 2 rfl ?_
  refine am_iadd dX3_ways_76 ?_
  obtain ⟨o1, hh⟩ := hh
  obtain ⟨ha2, hb3⟩ := hh
  refine am_icmp_ge (tgt := 169) dX3_ways_77 (by decide) h7 o1 (fun hc4 => ?_) (fun hc4 => ?_)
  · have hh := ha2 hc4
    refine am_aload_n dX3_ways_169 rfl 0 rfl ?_
    refine am_iconst dX3_ways_170 ?_
    refine am_mput 1 (by decide) q1402 dX3_ways_171 ?_
    refine am_iconst dX3_ways_174 ?_
    refine am_istore dX3_ways_175 (by decide) rfl ?_
    refine am_keep [1, 2, 3, 4, 0] rfl ?_
    exact hh
  · have hh := hb3 hc4
    refine am_aload_n dX3_ways_80 rfl 0 rfl ?_
    refine am_mgeta 11 (by decide) q1417 dX3_ways_81 ?_
    refine am_iload dX3_ways_84 3 rfl ?_
    refine am_iload dX3_ways_86 4 rfl ?_
    refine am_iadd dX3_ways_88 ?_
    obtain ⟨o5, hh⟩ := hh
    refine am_miald 11 (by decide) (by decide) (v := (S.2 11 (v6 + v7).toNat).toInt) rfl o5.1 o5.2 dX3_ways_89 ?_
    refine am_rSz (n := 1) hh dX3_ways_90 (lw_S q1599 q1600 q96 q1601) ⟨⟨by decide, by decide, by decide +kernel⟩, ⟨Nat.le_of_ble_eq_true rfl, Nat.le_of_ble_eq_true rfl⟩⟩ ⟨rfl, rfl⟩ rfl rfl (Nat.le_of_ble_eq_true rfl) ⟨(Nat.le_refl 0), (Nat.le_refl 0)⟩ (fun b7 S6 hh => ?_)
    obtain ⟨ha8, hb9⟩ := hh
    refine am_ifB_eq (tgt := 160) dX3_ways_93 (by decide) (fun hc10 => ?_) (fun hc10 => ?_)
    · have hh := ha8 hc10
      refine am_ldc (z := -1000001) q1515 (by decide) dX3_ways_160 ?_
      exact am_iret rfl dX3_ways_162 (Nat.le_refl 0) (Nat.le_refl 0) hh
    · have hh := hb9 hc10
      refine am_iload dX3_ways_96 4 rfl ?_
      obtain ⟨ha11, hb12⟩ := hh
      refine am_if_le (tgt := 163) dX3_ways_98 (by decide) h7 (fun hc13 => ?_) (fun hc13 => ?_)
      · have hh := ha11 hc13
        refine am_iinc (n := 4) dX3_ways_163 rfl (by decide) rfl ?_
        refine am_goto (tgt := 71) dX3_ways_166 (by decide) ?_
        refine am_keep [1, 2, 3, 4, 0] rfl ?_
        exact hh
      · have hh := hb12 hc13
        refine am_iload dX3_ways_101 4 rfl ?_
        refine am_iload_n dX3_ways_103 rfl 1 rfl ?_
        obtain ⟨ha14, hb15⟩ := hh
        refine am_icmp_eq (tgt := 163) dX3_ways_104 (by decide) h7 h3 (fun hc16 => ?_) (fun hc16 => ?_)
        · have hh := ha14 hc16
          refine am_iinc (n := 4) dX3_ways_163 rfl (by decide) rfl ?_
          refine am_goto (tgt := 71) dX3_ways_166 (by decide) ?_
          refine am_keep [1, 2, 3, 4, 0] rfl ?_
          exact hh
        · have hh := hb15 hc16
          refine am_aload_n dX3_ways_107 rfl 0 rfl ?_
          refine am_mgeta 11 (by decide) q1417 dX3_ways_108 ?_
          refine am_iload dX3_ways_111 3 rfl ?_
          refine am_iload dX3_ways_113 4 rfl ?_
          refine am_iadd dX3_ways_115 ?_
          refine am_miald 11 (by decide) (by decide) (v := (S6.2 11 (v6 + v7).toNat).toInt) rfl o5.1 o5.2 dX3_ways_116 ?_
          refine am_aload_n dX3_ways_117 rfl 0 rfl ?_
          refine am_mgeta 11 (by decide) q1417 dX3_ways_118 ?_
          refine am_iload dX3_ways_121 3 rfl ?_
          refine am_iload dX3_ways_123 4 rfl ?_
          refine am_iadd dX3_ways_125 ?_
          refine am_iconst dX3_ways_126 ?_
          refine am_isub dX3_ways_127 ?_
          obtain ⟨o17, hh⟩ := hh
          refine am_miald 11 (by decide) (by decide) (v := (S6.2 11 ((v6 + v7) - 1).toNat).toInt) rfl o17.1 o17.2 dX3_ways_128 ?_
          obtain ⟨ha18, hb19⟩ := hh
          refine am_icmp_eq (tgt := 163) dX3_ways_129 (by decide) (am_rt _) (am_rt _) (fun hc20 => ?_) (fun hc20 => ?_)
          · have hh := ha18 hc20
            refine am_iinc (n := 4) dX3_ways_163 rfl (by decide) rfl ?_
            refine am_goto (tgt := 71) dX3_ways_166 (by decide) ?_
            refine am_keep [1, 2, 3, 4, 0] rfl ?_
            exact hh
          · have hh := hb19 hc20
            refine am_aload_n dX3_ways_132 rfl 0 rfl ?_
            refine am_mgeta 11 (by decide) q1417 dX3_ways_133 ?_
            refine am_iload dX3_ways_136 3 rfl ?_
            refine am_iload dX3_ways_138 4 rfl ?_
            refine am_iadd dX3_ways_140 ?_
            refine am_miald 11 (by decide) (by decide) (v := (S6.2 11 (v6 + v7).toNat).toInt) rfl o5.1 o5.2 dX3_ways_141 ?_
            refine am_aload_n dX3_ways_142 rfl 0 rfl ?_
            refine am_mgeta 11 (by decide) q1417 dX3_ways_143 ?_
            refine am_iload dX3_ways_146 3 rfl ?_
            refine am_iload dX3_ways_148 4 rfl ?_
            refine am_iadd dX3_ways_150 ?_
            refine am_iconst dX3_ways_151 ?_
            refine am_isub dX3_ways_152 ?_
            refine am_miald 11 (by decide) (by decide) (v := (S6.2 11 ((v6 + v7) - 1).toNat).toInt) rfl o17.1 o17.2 dX3_ways_153 ?_
            refine am_rSz (n := 2) hh dX3_ways_154 (lw_S q1549 q1550 q96 q1551) ⟨⟨by decide, by decide, by decide +kernel⟩, ⟨Nat.le_of_ble_eq_true rfl, Nat.le_of_ble_eq_true rfl⟩⟩ ⟨rfl, rfl⟩ rfl rfl (Nat.le_of_ble_eq_true rfl) ⟨(Nat.le_refl 0), (Nat.le_refl 0)⟩ (fun b22 S21 hh => ?_)
            obtain ⟨ha23, hb24⟩ := hh
            refine am_ifB_ne (tgt := 163) dX3_ways_157 (by decide) (fun hc25 => ?_) (fun hc25 => ?_)
            · have hh := ha23 hc25
              refine am_iinc (n := 4) dX3_ways_163 rfl (by decide) rfl ?_
              refine am_goto (tgt := 71) dX3_ways_166 (by decide) ?_
              refine am_keep [1, 2, 3, 4, 0] rfl ?_
              exact hh
            · have hh := hb24 hc25
              refine am_ldc (z := -1000001) q1515 (by decide) dX3_ways_160 ?_
              exact am_iret rfl dX3_ways_162 (Nat.le_refl 0) (Nat.le_refl 0) hh
set_option maxHeartbeats 4000000 in
set_option maxRecDepth 100000 in
theorem bX3_ways_177 {l : Launch} {Q : Option am_W → am_M → Prop} {S : am_M} (v3 : Int) (h3 : am_r v3) (v4 : Int) (h4 : am_r v4) (v6 : Int) (h6 : am_r v6) (v7 : Int) (h7 : am_r v7)
    (hh : ((144 ≤ v7) →
        (0 ≤ v6 ∧ v6 < 320) ∧
        (0 ≤ (v6 + v3) ∧ (v6 + v3) < 320) ∧
        ((((S.2 11 v6.toNat).toInt) = ((S.2 11 (v6 + v3).toNat).toInt)) →
          VX3_ways l Q 232 [(0, am_R 0), (3, am_I v3), (4, am_I v4), (6, am_I v6), (7, am_I 0)] [] (am_sa S 14 0 (am_b false))) ∧
        ((¬ ((S.2 11 v6.toNat).toInt) = ((S.2 11 (v6 + v3).toNat).toInt)) →
          VX3_ways l Q 232 [(0, am_R 0), (3, am_I v3), (4, am_I v4), (6, am_I v6), (7, am_I 0)] [] (am_sa S 14 0 (am_b true)))) ∧
      ((¬ 144 ≤ v7) →
        (0 ≤ v7 ∧ v7 < 144) ∧
        VX3_ways l Q 177 [(0, am_R 0), (3, am_I v3), (4, am_I v4), (6, am_I v6), (7, am_I (v7 + 1))] [] (am_sa S 14 v7 (am_b false)))) : VX3_ways l Q 177 [(0, am_R 0), (3, am_I v3), (4, am_I v4), (6, am_I v6), (7, am_I v7)] [] S := by
  refine am_iload dX3_ways_177 4 rfl ?_
  refine am_sipush dX3_ways_179 (by decide) ?_
  obtain ⟨ha1, hb2⟩ := hh
  refine am_icmp_ge (tgt := 199) dX3_ways_182 (by decide) h7 (⟨by decide, by decide⟩) (fun hc3 => ?_) (fun hc3 => ?_)
  · have hh := ha1 hc3
    refine am_aload_n dX3_ways_199 rfl 0 rfl ?_
    refine am_mgeta 14 (by decide) q1431 dX3_ways_200 ?_
    refine am_iconst dX3_ways_203 ?_
    refine am_aload_n dX3_ways_204 rfl 0 rfl ?_
    refine am_mgeta 11 (by decide) q1417 dX3_ways_205 ?_
    refine am_iload dX3_ways_208 3 rfl ?_
    obtain ⟨o4, hh⟩ := hh
    refine am_miald 11 (by decide) (by decide) (v := (S.2 11 v6.toNat).toInt) rfl o4.1 o4.2 dX3_ways_210 ?_
    refine am_aload_n dX3_ways_211 rfl 0 rfl ?_
    refine am_mgeta 11 (by decide) q1417 dX3_ways_212 ?_
    refine am_iload dX3_ways_215 3 rfl ?_
    refine am_iload_n dX3_ways_217 rfl 1 rfl ?_
    refine am_iadd dX3_ways_218 ?_
    obtain ⟨o5, hh⟩ := hh
    refine am_miald 11 (by decide) (by decide) (v := (S.2 11 (v6 + v3).toNat).toInt) rfl o5.1 o5.2 dX3_ways_219 ?_
    obtain ⟨ha6, hb7⟩ := hh
    refine am_icmp_eq (tgt := 227) dX3_ways_220 (by decide) (am_rt _) (am_rt _) (fun hc8 => ?_) (fun hc8 => ?_)
    · have hh := ha6 hc8
      refine am_iconst dX3_ways_227 ?_
      refine am_mzast (b := false) 14 (by decide) (by decide) (by decide) (by decide) dX3_ways_228 ?_
      refine am_iconst dX3_ways_229 ?_
      refine am_istore dX3_ways_230 (by decide) rfl ?_
      refine am_keep [1, 2, 3, 4, 0] rfl ?_
      exact hh
    · have hh := hb7 hc8
      refine am_iconst dX3_ways_223 ?_
      refine am_goto (tgt := 228) dX3_ways_224 (by decide) ?_
      refine am_mzast (b := true) 14 (by decide) (by decide) (by decide) (by decide) dX3_ways_228 ?_
      refine am_iconst dX3_ways_229 ?_
      refine am_istore dX3_ways_230 (by decide) rfl ?_
      refine am_keep [1, 2, 3, 4, 0] rfl ?_
      exact hh
  · have hh := hb2 hc3
    refine am_aload_n dX3_ways_185 rfl 0 rfl ?_
    refine am_mgeta 14 (by decide) q1431 dX3_ways_186 ?_
    refine am_iload dX3_ways_189 4 rfl ?_
    refine am_iconst dX3_ways_191 ?_
    obtain ⟨o9, hh⟩ := hh
    refine am_mzast (b := false) 14 (by decide) (by decide) o9.1 o9.2 dX3_ways_192 ?_
    refine am_iinc (n := 4) dX3_ways_193 rfl (by decide) rfl ?_
    refine am_goto (tgt := 177) dX3_ways_196 (by decide) ?_
    refine am_keep [1, 2, 3, 4, 0] rfl ?_
    exact hh
set_option maxHeartbeats 4000000 in
set_option maxRecDepth 100000 in
theorem bX3_ways_232 {l : Launch} {Q : Option am_W → am_M → Prop} {S : am_M} (v3 : Int) (h3 : am_r v3) (v4 : Int) (h4 : am_r v4) (v6 : Int) (h6 : am_r v6) (v7 : Int) (h7 : am_r v7)
    (hh : ((150 ≤ v7) →
        Q (some (am_I (-1000000))) S) ∧
      ((¬ 150 ≤ v7) →
        (0 ≤ (((12 * (v3 - 1)) + v4) - 1) ∧ (((12 * (v3 - 1)) + v4) - 1) < 144) ∧
        ((((S.2 14 (((12 * (v3 - 1)) + v4) - 1).toNat).toInt) = 0) →
          VX3_ways l Q 265 [(0, am_R 0), (3, am_I v3), (4, am_I v4), (6, am_I v6), (7, am_I v7), (8, am_I 0)] [] S) ∧
        ((¬ ((S.2 14 (((12 * (v3 - 1)) + v4) - 1).toNat).toInt) = 0) →
          Q (some (am_I v7)) S))) : VX3_ways l Q 232 [(0, am_R 0), (3, am_I v3), (4, am_I v4), (6, am_I v6), (7, am_I v7)] [] S := by
  refine am_iload dX3_ways_232 4 rfl ?_
  refine am_sipush dX3_ways_234 (by decide) ?_
  obtain ⟨ha1, hb2⟩ := hh
  refine am_icmp_ge (tgt := 524) dX3_ways_237 (by decide) h7 (⟨by decide, by decide⟩) (fun hc3 => ?_) (fun hc3 => ?_)
  · have hh := ha1 hc3
    refine am_ldc (z := -1000000) q1544 (by decide) dX3_ways_524 ?_
    exact am_iret rfl dX3_ways_526 (Nat.le_refl 0) (Nat.le_refl 0) hh
  · have hh := hb2 hc3
    refine am_aload_n dX3_ways_240 rfl 0 rfl ?_
    refine am_mgeta 14 (by decide) q1431 dX3_ways_241 ?_
    refine am_bipush dX3_ways_244 (by decide) ?_
    refine am_iload_n dX3_ways_246 rfl 1 rfl ?_
    refine am_iconst dX3_ways_247 ?_
    refine am_isub dX3_ways_248 ?_
    refine am_imul dX3_ways_249 ?_
    refine am_iload dX3_ways_250 2 rfl ?_
    refine am_iadd dX3_ways_252 ?_
    refine am_iconst dX3_ways_253 ?_
    refine am_isub dX3_ways_254 ?_
    obtain ⟨o4, hh⟩ := hh
    refine am_mzald 14 (by decide) (by decide) (v := (S.2 14 (((12 * (v3 - 1)) + v4) - 1).toNat).toInt) rfl o4.1 o4.2 dX3_ways_255 ?_
    obtain ⟨ha5, hb6⟩ := hh
    refine am_if_eq (tgt := 262) dX3_ways_256 (by decide) (am_rt _) (fun hc7 => ?_) (fun hc7 => ?_)
    · have hh := ha5 hc7
      refine am_iconst dX3_ways_262 ?_
      refine am_istore dX3_ways_263 (by decide) rfl ?_
      refine am_keep [1, 2, 3, 4, 5, 0] rfl ?_
      exact hh
    · have hh := hb6 hc7
      refine am_iload dX3_ways_259 4 rfl ?_
      exact am_iret rfl dX3_ways_261 (Nat.le_refl 0) (Nat.le_refl 0) hh
set_option maxHeartbeats 4000000 in
set_option maxRecDepth 100000 in
theorem bX3_ways_265 {l : Launch} {Q : Option am_W → am_M → Prop} {S : am_M} (v3 : Int) (h3 : am_r v3) (v4 : Int) (h4 : am_r v4) (v6 : Int) (h6 : am_r v6) (v7 : Int) (h7 : am_r v7) (v8 : Int) (h8 : am_r v8)
    (hh : ((144 ≤ v8) →
        VX3_ways l Q 290 [(0, am_R 0), (3, am_I v3), (4, am_I v4), (6, am_I v6), (7, am_I v7), (8, am_I 0)] [] S) ∧
      ((¬ 144 ≤ v8) →
        (0 ≤ v8 ∧ v8 < 144) ∧
        VX3_ways l Q 265 [(0, am_R 0), (3, am_I v3), (4, am_I v4), (6, am_I v6), (7, am_I v7), (8, am_I (v8 + 1))] [] (am_sa S 15 v8 (am_b false)))) : VX3_ways l Q 265 [(0, am_R 0), (3, am_I v3), (4, am_I v4), (6, am_I v6), (7, am_I v7), (8, am_I v8)] [] S := by
  refine am_iload dX3_ways_265 5 rfl ?_
  refine am_sipush dX3_ways_267 (by decide) ?_
  obtain ⟨ha1, hb2⟩ := hh
  refine am_icmp_ge (tgt := 287) dX3_ways_270 (by decide) h8 (⟨by decide, by decide⟩) (fun hc3 => ?_) (fun hc3 => ?_)
  · have hh := ha1 hc3
    refine am_iconst dX3_ways_287 ?_
    refine am_istore dX3_ways_288 (by decide) rfl ?_
    refine am_keep [1, 2, 3, 4, 5, 0] rfl ?_
    exact hh
  · have hh := hb2 hc3
    refine am_aload_n dX3_ways_273 rfl 0 rfl ?_
    refine am_mgeta 15 (by decide) q1432 dX3_ways_274 ?_
    refine am_iload dX3_ways_277 5 rfl ?_
    refine am_iconst dX3_ways_279 ?_
    obtain ⟨o4, hh⟩ := hh
    refine am_mzast (b := false) 15 (by decide) (by decide) o4.1 o4.2 dX3_ways_280 ?_
    refine am_iinc (n := 5) dX3_ways_281 rfl (by decide) rfl ?_
    refine am_goto (tgt := 265) dX3_ways_284 (by decide) ?_
    refine am_keep [1, 2, 3, 4, 5, 0] rfl ?_
    exact hh
set_option maxHeartbeats 4000000 in
set_option maxRecDepth 100000 in
theorem bX3_ways_290 {l : Launch} {Q : Option am_W → am_M → Prop} {S : am_M} (v3 : Int) (h3 : am_r v3) (v4 : Int) (h4 : am_r v4) (v6 : Int) (h6 : am_r v6) (v7 : Int) (h7 : am_r v7) (v8 : Int) (h8 : am_r v8)
    (hh : ((v3 ≤ v8) →
        VX3_ways l Q 472 [(0, am_R 0), (3, am_I v3), (4, am_I v4), (6, am_I v6), (7, am_I v7), (8, am_I 0)] [] S) ∧
      ((¬ v3 ≤ v8) →
        VX3_ways l Q 299 [(0, am_R 0), (3, am_I v3), (4, am_I v4), (6, am_I v6), (7, am_I v7), (8, am_I v8), (9, am_I 0)] [] S)) : VX3_ways l Q 290 [(0, am_R 0), (3, am_I v3), (4, am_I v4), (6, am_I v6), (7, am_I v7), (8, am_I v8)] [] S := by
  refine am_iload dX3_ways_290 5 rfl ?_
  refine am_iload_n dX3_ways_292 rfl 1 rfl ?_
  obtain ⟨ha1, hb2⟩ := hh
  refine am_icmp_ge (tgt := 469) dX3_ways_293 (by decide) h8 h3 (fun hc3 => ?_) (fun hc3 => ?_)
  · have hh := ha1 hc3
    refine am_iconst dX3_ways_469 ?_
    refine am_istore dX3_ways_470 (by decide) rfl ?_
    refine am_keep [1, 2, 3, 4, 5, 0] rfl ?_
    exact hh
  · have hh := hb2 hc3
    refine am_iconst dX3_ways_296 ?_
    refine am_istore dX3_ways_297 (by decide) rfl ?_
    refine am_keep [1, 2, 3, 4, 5, 6, 0] rfl ?_
    exact hh
set_option maxHeartbeats 4000000 in
set_option maxRecDepth 100000 in
theorem bX3_ways_299 {l : Launch} {Q : Option am_W → am_M → Prop} {S : am_M} (v3 : Int) (h3 : am_r v3) (v4 : Int) (h4 : am_r v4) (v6 : Int) (h6 : am_r v6) (v7 : Int) (h7 : am_r v7) (v8 : Int) (h8 : am_r v8) (v9 : Int) (h9 : am_r v9)
    (hh : ((v4 ≤ v9) →
        VX3_ways l Q 290 [(0, am_R 0), (3, am_I v3), (4, am_I v4), (6, am_I v6), (7, am_I v7), (8, am_I (v8 + 1))] [] S) ∧
      ((¬ v4 ≤ v9) →
        VX3_ways l Q 309 [(0, am_R 0), (3, am_I v3), (4, am_I v4), (6, am_I v6), (7, am_I v7), (8, am_I v8), (9, am_I v9), (10, am_I 0)] [] S)) : VX3_ways l Q 299 [(0, am_R 0), (3, am_I v3), (4, am_I v4), (6, am_I v6), (7, am_I v7), (8, am_I v8), (9, am_I v9)] [] S := by
  refine am_iload dX3_ways_299 6 rfl ?_
  refine am_iload dX3_ways_301 2 rfl ?_
  obtain ⟨ha1, hb2⟩ := hh
  refine am_icmp_ge (tgt := 463) dX3_ways_303 (by decide) h9 h4 (fun hc3 => ?_) (fun hc3 => ?_)
  · have hh := ha1 hc3
    refine am_iinc (n := 5) dX3_ways_463 rfl (by decide) rfl ?_
    refine am_goto (tgt := 290) dX3_ways_466 (by decide) ?_
    refine am_keep [1, 2, 3, 4, 5, 0] rfl ?_
    exact hh
  · have hh := hb2 hc3
    refine am_iconst dX3_ways_306 ?_
    refine am_istore dX3_ways_307 (by decide) rfl ?_
    refine am_keep [1, 2, 3, 4, 5, 6, 7, 0] rfl ?_
    exact hh
set_option maxHeartbeats 4000000 in
set_option maxRecDepth 100000 in
theorem bX3_ways_309 {l : Launch} {Q : Option am_W → am_M → Prop} {S : am_M} (v3 : Int) (h3 : am_r v3) (v4 : Int) (h4 : am_r v4) (v6 : Int) (h6 : am_r v6) (v7 : Int) (h7 : am_r v7) (v8 : Int) (h8 : am_r v8) (v9 : Int) (h9 : am_r v9) (v10 : Int) (h10 : am_r v10)
    (hh : ((4 ≤ v10) →
        VX3_ways l Q 299 [(0, am_R 0), (3, am_I v3), (4, am_I v4), (6, am_I v6), (7, am_I v7), (8, am_I v8), (9, am_I (v9 + 1))] [] S) ∧
      ((¬ 4 ≤ v10) →
        (0 ≤ ((12 * v8) + v9) ∧ ((12 * v8) + v9) < 144) ∧
        ((((S.2 14 ((12 * v8) + v9).toNat).toInt) = 0) →
          VX3_ways l Q 299 [(0, am_R 0), (3, am_I v3), (4, am_I v4), (6, am_I v6), (7, am_I v7), (8, am_I v8), (9, am_I (v9 + 1))] [] S) ∧
        ((¬ ((S.2 14 ((12 * v8) + v9).toNat).toInt) = 0) →
          (0 ≤ v10) ∧
          (am_r (v8 + (v10 % 2))) ∧
          ((v3 ≤ (v8 + (v10 % 2))) →
            VX3_ways l Q 309 [(0, am_R 0), (3, am_I v3), (4, am_I v4), (6, am_I v6), (7, am_I v7), (8, am_I v8), (9, am_I v9), (10, am_I (v10 + 1))] [] S) ∧
          ((¬ v3 ≤ (v8 + (v10 % 2))) →
            (am_r (v9 + (v10 / 2))) ∧
            ((v4 ≤ (v9 + (v10 / 2))) →
              VX3_ways l Q 309 [(0, am_R 0), (3, am_I v3), (4, am_I v4), (6, am_I v6), (7, am_I v7), (8, am_I v8), (9, am_I v9), (10, am_I (v10 + 1))] [] S) ∧
            ((¬ v4 ≤ (v9 + (v10 / 2))) →
              (0 ≤ (v6 + (v8 + (v10 % 2))) ∧ (v6 + (v8 + (v10 % 2))) < 320) ∧
              (0 ≤ ((v6 + v3) + (v9 + (v10 / 2))) ∧ ((v6 + v3) + (v9 + (v10 / 2))) < 320) ∧
              ((((S.2 11 (v6 + (v8 + (v10 % 2))).toNat).toInt) = ((S.2 11 ((v6 + v3) + (v9 + (v10 / 2))).toNat).toInt)) →
                VX3_ways l Q 309 [(0, am_R 0), (3, am_I v3), (4, am_I v4), (6, am_I v6), (7, am_I v7), (8, am_I v8), (9, am_I v9), (10, am_I (v10 + 1))] [] S) ∧
              ((¬ ((S.2 11 (v6 + (v8 + (v10 % 2))).toNat).toInt) = ((S.2 11 ((v6 + v3) + (v9 + (v10 / 2))).toNat).toInt)) →
                (0 ≤ ((v6 + v3) + v9) ∧ ((v6 + v3) + v9) < 320) ∧
                ((¬ ((S.2 11 (v6 + (v8 + (v10 % 2))).toNat).toInt) = ((S.2 11 ((v6 + v3) + v9).toNat).toInt)) →
                  (0 ≤ ((12 * (v8 + (v10 % 2))) + (v9 + (v10 / 2))) ∧ ((12 * (v8 + (v10 % 2))) + (v9 + (v10 / 2))) < 144) ∧
                  VX3_ways l Q 309 [(0, am_R 0), (3, am_I v3), (4, am_I v4), (6, am_I v6), (7, am_I v7), (8, am_I v8), (9, am_I v9), (10, am_I (v10 + 1))] [] (am_sa S 15 ((12 * (v8 + (v10 % 2))) + (v9 + (v10 / 2))) (am_b true))) ∧
                ((((S.2 11 (v6 + (v8 + (v10 % 2))).toNat).toInt) = ((S.2 11 ((v6 + v3) + v9).toNat).toInt)) →
                  (0 ≤ (v6 + v8) ∧ (v6 + v8) < 320) ∧
                  ((((S.2 11 ((v6 + v3) + (v9 + (v10 / 2))).toNat).toInt) = ((S.2 11 (v6 + v8).toNat).toInt)) →
                    VX3_ways l Q 309 [(0, am_R 0), (3, am_I v3), (4, am_I v4), (6, am_I v6), (7, am_I v7), (8, am_I v8), (9, am_I v9), (10, am_I (v10 + 1))] [] S) ∧
                  ((¬ ((S.2 11 ((v6 + v3) + (v9 + (v10 / 2))).toNat).toInt) = ((S.2 11 (v6 + v8).toNat).toInt)) →
                    (0 ≤ ((12 * (v8 + (v10 % 2))) + (v9 + (v10 / 2))) ∧ ((12 * (v8 + (v10 % 2))) + (v9 + (v10 / 2))) < 144) ∧
                    VX3_ways l Q 309 [(0, am_R 0), (3, am_I v3), (4, am_I v4), (6, am_I v6), (7, am_I v7), (8, am_I v8), (9, am_I v9), (10, am_I (v10 + 1))] [] (am_sa S 15 ((12 * (v8 + (v10 % 2))) + (v9 + (v10 / 2))) (am_b true)))))))))) : VX3_ways l Q 309 [(0, am_R 0), (3, am_I v3), (4, am_I v4), (6, am_I v6), (7, am_I v7), (8, am_I v8), (9, am_I v9), (10, am_I v10)] [] S := by
  refine am_iload dX3_ways_309 7 rfl ?_
  refine am_iconst dX3_ways_311 ?_
  obtain ⟨ha1, hb2⟩ := hh
  refine am_icmp_ge (tgt := 457) dX3_ways_312 (by decide) h10 (⟨by decide, by decide⟩) (fun hc3 => ?_) (fun hc3 => ?_)
  · have hh := ha1 hc3
    refine am_iinc (n := 6) dX3_ways_457 rfl (by decide) rfl ?_
    refine am_goto (tgt := 299) dX3_ways_460 (by decide) ?_
    refine am_keep [1, 2, 3, 4, 5, 6, 0] rfl ?_
    exact hh
  · have hh := hb2 hc3
    refine am_aload_n dX3_ways_315 rfl 0 rfl ?_
    refine am_mgeta 14 (by decide) q1431 dX3_ways_316 ?_
    refine am_bipush dX3_ways_319 (by decide) ?_
    refine am_iload dX3_ways_321 5 rfl ?_
    refine am_imul dX3_ways_323 ?_
    refine am_iload dX3_ways_324 6 rfl ?_
    refine am_iadd dX3_ways_326 ?_
    obtain ⟨o4, hh⟩ := hh
    refine am_mzald 14 (by decide) (by decide) (v := (S.2 14 ((12 * v8) + v9).toNat).toInt) rfl o4.1 o4.2 dX3_ways_327 ?_
    obtain ⟨ha5, hb6⟩ := hh
    refine am_if_eq (tgt := 457) dX3_ways_328 (by decide) (am_rt _) (fun hc7 => ?_) (fun hc7 => ?_)
    · have hh := ha5 hc7
      refine am_iinc (n := 6) dX3_ways_457 rfl (by decide) rfl ?_
      refine am_goto (tgt := 299) dX3_ways_460 (by decide) ?_
      refine am_keep [1, 2, 3, 4, 5, 6, 0] rfl ?_
      exact hh
    · have hh := hb6 hc7
      refine am_iload dX3_ways_331 5 rfl ?_
      refine am_iload dX3_ways_333 7 rfl ?_
      refine am_iconst dX3_ways_335 ?_
      obtain ⟨o8, hh⟩ := hh
      refine am_irem dX3_ways_336 o8 (h10).2 (by decide) (by decide) ?_
      refine am_iadd dX3_ways_337 ?_
      refine am_istore dX3_ways_338 (by decide) rfl ?_
      refine am_iload dX3_ways_340 7 rfl ?_
      refine am_iload dX3_ways_342 8 rfl ?_
      refine am_iconst dX3_ways_344 ?_
      refine am_idiv dX3_ways_345 o8 (h10).2 (by decide) (by decide) ?_
      refine am_iadd dX3_ways_346 ?_
      refine am_istore dX3_ways_347 (by decide) rfl ?_
      refine am_iload dX3_ways_349 1 rfl ?_
      refine am_iload_n dX3_ways_351 rfl 3 rfl ?_
      obtain ⟨o9, hh⟩ := hh
      obtain ⟨ha10, hb11⟩ := hh
      refine am_icmp_ge (tgt := 451) dX3_ways_352 (by decide) o9 h3 (fun hc12 => ?_) (fun hc12 => ?_)
      · have hh := ha10 hc12
        refine am_iinc (n := 9) dX3_ways_451 rfl (by decide) rfl ?_
        refine am_goto (tgt := 309) dX3_ways_454 (by decide) ?_
        refine am_keep [3, 4, 5, 6, 7, 8, 9, 0] rfl ?_
        exact hh
      · have hh := hb11 hc12
        refine am_iload dX3_ways_355 0 rfl ?_
        refine am_iload dX3_ways_357 4 rfl ?_
        obtain ⟨o13, hh⟩ := hh
        obtain ⟨ha14, hb15⟩ := hh
        refine am_icmp_ge (tgt := 451) dX3_ways_359 (by decide) o13 h4 (fun hc16 => ?_) (fun hc16 => ?_)
        · have hh := ha14 hc16
          refine am_iinc (n := 9) dX3_ways_451 rfl (by decide) rfl ?_
          refine am_goto (tgt := 309) dX3_ways_454 (by decide) ?_
          refine am_keep [3, 4, 5, 6, 7, 8, 9, 0] rfl ?_
          exact hh
        · have hh := hb15 hc16
          refine am_aload_n dX3_ways_362 rfl 2 rfl ?_
          refine am_mgeta 11 (by decide) q1417 dX3_ways_363 ?_
          refine am_iload dX3_ways_366 5 rfl ?_
          refine am_iload dX3_ways_368 1 rfl ?_
          refine am_iadd dX3_ways_370 ?_
          obtain ⟨o17, hh⟩ := hh
          refine am_miald 11 (by decide) (by decide) (v := (S.2 11 (v6 + (v8 + (v10 % 2))).toNat).toInt) rfl o17.1 o17.2 dX3_ways_371 ?_
          refine am_aload_n dX3_ways_372 rfl 2 rfl ?_
          refine am_mgeta 11 (by decide) q1417 dX3_ways_373 ?_
          refine am_iload dX3_ways_376 5 rfl ?_
          refine am_iload_n dX3_ways_378 rfl 3 rfl ?_
          refine am_iadd dX3_ways_379 ?_
          refine am_iload dX3_ways_380 0 rfl ?_
          refine am_iadd dX3_ways_382 ?_
          obtain ⟨o18, hh⟩ := hh
          refine am_miald 11 (by decide) (by decide) (v := (S.2 11 ((v6 + v3) + (v9 + (v10 / 2))).toNat).toInt) rfl o18.1 o18.2 dX3_ways_383 ?_
          obtain ⟨ha19, hb20⟩ := hh
          refine am_icmp_eq (tgt := 451) dX3_ways_384 (by decide) (am_rt _) (am_rt _) (fun hc21 => ?_) (fun hc21 => ?_)
          · have hh := ha19 hc21
            refine am_iinc (n := 9) dX3_ways_451 rfl (by decide) rfl ?_
            refine am_goto (tgt := 309) dX3_ways_454 (by decide) ?_
            refine am_keep [3, 4, 5, 6, 7, 8, 9, 0] rfl ?_
            exact hh
          · have hh := hb20 hc21
            refine am_aload_n dX3_ways_387 rfl 2 rfl ?_
            refine am_mgeta 11 (by decide) q1417 dX3_ways_388 ?_
            refine am_iload dX3_ways_391 5 rfl ?_
            refine am_iload dX3_ways_393 1 rfl ?_
            refine am_iadd dX3_ways_395 ?_
            refine am_miald 11 (by decide) (by decide) (v := (S.2 11 (v6 + (v8 + (v10 % 2))).toNat).toInt) rfl o17.1 o17.2 dX3_ways_396 ?_
            refine am_aload_n dX3_ways_397 rfl 2 rfl ?_
            refine am_mgeta 11 (by decide) q1417 dX3_ways_398 ?_
            refine am_iload dX3_ways_401 5 rfl ?_
            refine am_iload_n dX3_ways_403 rfl 3 rfl ?_
            refine am_iadd dX3_ways_404 ?_
            refine am_iload dX3_ways_405 8 rfl ?_
            refine am_iadd dX3_ways_407 ?_
            obtain ⟨o22, hh⟩ := hh
            refine am_miald 11 (by decide) (by decide) (v := (S.2 11 ((v6 + v3) + v9).toNat).toInt) rfl o22.1 o22.2 dX3_ways_408 ?_
            obtain ⟨ha23, hb24⟩ := hh
            refine am_icmp_ne (tgt := 437) dX3_ways_409 (by decide) (am_rt _) (am_rt _) (fun hc25 => ?_) (fun hc25 => ?_)
            · have hh := ha23 hc25
              refine am_aload_n dX3_ways_437 rfl 2 rfl ?_
              refine am_mgeta 15 (by decide) q1432 dX3_ways_438 ?_
              refine am_bipush dX3_ways_441 (by decide) ?_
              refine am_iload dX3_ways_443 1 rfl ?_
              refine am_imul dX3_ways_445 ?_
              refine am_iload dX3_ways_446 0 rfl ?_
              refine am_iadd dX3_ways_448 ?_
              refine am_iconst dX3_ways_449 ?_
              obtain ⟨o26, hh⟩ := hh
              refine am_mzast (b := true) 15 (by decide) (by decide) o26.1 o26.2 dX3_ways_450 ?_
              refine am_iinc (n := 9) dX3_ways_451 rfl (by decide) rfl ?_
              refine am_goto (tgt := 309) dX3_ways_454 (by decide) ?_
              refine am_keep [3, 4, 5, 6, 7, 8, 9, 0] rfl ?_
              exact hh
            · have hh := hb24 hc25
              refine am_aload_n dX3_ways_412 rfl 2 rfl ?_
              refine am_mgeta 11 (by decide) q1417 dX3_ways_413 ?_
              refine am_iload dX3_ways_416 5 rfl ?_
              refine am_iload_n dX3_ways_418 rfl 3 rfl ?_
              refine am_iadd dX3_ways_419 ?_
              refine am_iload dX3_ways_420 0 rfl ?_
              refine am_iadd dX3_ways_422 ?_
              refine am_miald 11 (by decide) (by decide) (v := (S.2 11 ((v6 + v3) + (v9 + (v10 / 2))).toNat).toInt) rfl o18.1 o18.2 dX3_ways_423 ?_
              refine am_aload_n dX3_ways_424 rfl 2 rfl ?_
              refine am_mgeta 11 (by decide) q1417 dX3_ways_425 ?_
              refine am_iload dX3_ways_428 5 rfl ?_
              refine am_iload dX3_ways_430 7 rfl ?_
              refine am_iadd dX3_ways_432 ?_
              obtain ⟨o27, hh⟩ := hh
              refine am_miald 11 (by decide) (by decide) (v := (S.2 11 (v6 + v8).toNat).toInt) rfl o27.1 o27.2 dX3_ways_433 ?_
              obtain ⟨ha28, hb29⟩ := hh
              refine am_icmp_eq (tgt := 451) dX3_ways_434 (by decide) (am_rt _) (am_rt _) (fun hc30 => ?_) (fun hc30 => ?_)
              · have hh := ha28 hc30
                refine am_iinc (n := 9) dX3_ways_451 rfl (by decide) rfl ?_
                refine am_goto (tgt := 309) dX3_ways_454 (by decide) ?_
                refine am_keep [3, 4, 5, 6, 7, 8, 9, 0] rfl ?_
                exact hh
              · have hh := hb29 hc30
                refine am_aload_n dX3_ways_437 rfl 2 rfl ?_
                refine am_mgeta 15 (by decide) q1432 dX3_ways_438 ?_
                refine am_bipush dX3_ways_441 (by decide) ?_
                refine am_iload dX3_ways_443 1 rfl ?_
                refine am_imul dX3_ways_445 ?_
                refine am_iload dX3_ways_446 0 rfl ?_
                refine am_iadd dX3_ways_448 ?_
                refine am_iconst dX3_ways_449 ?_
                obtain ⟨o31, hh⟩ := hh
                refine am_mzast (b := true) 15 (by decide) (by decide) o31.1 o31.2 dX3_ways_450 ?_
                refine am_iinc (n := 9) dX3_ways_451 rfl (by decide) rfl ?_
                refine am_goto (tgt := 309) dX3_ways_454 (by decide) ?_
                refine am_keep [3, 4, 5, 6, 7, 8, 9, 0] rfl ?_
                exact hh
set_option maxHeartbeats 4000000 in
set_option maxRecDepth 100000 in
theorem bX3_ways_472 {l : Launch} {Q : Option am_W → am_M → Prop} {S : am_M} (v3 : Int) (h3 : am_r v3) (v4 : Int) (h4 : am_r v4) (v6 : Int) (h6 : am_r v6) (v7 : Int) (h7 : am_r v7) (v8 : Int) (h8 : am_r v8)
    (hh : ((144 ≤ v8) →
        VX3_ways l Q 232 [(0, am_R 0), (3, am_I v3), (4, am_I v4), (6, am_I v6), (7, am_I (v7 + 1))] [] S) ∧
      ((¬ 144 ≤ v8) →
        (0 ≤ v8 ∧ v8 < 144) ∧
        ((¬ ((S.2 14 v8.toNat).toInt) = 0) →
          VX3_ways l Q 472 [(0, am_R 0), (3, am_I v3), (4, am_I v4), (6, am_I v6), (7, am_I v7), (8, am_I (v8 + 1))] [] (am_sa S 14 v8 (am_b true))) ∧
        ((((S.2 14 v8.toNat).toInt) = 0) →
          ((((S.2 15 v8.toNat).toInt) = 0) →
            VX3_ways l Q 472 [(0, am_R 0), (3, am_I v3), (4, am_I v4), (6, am_I v6), (7, am_I v7), (8, am_I (v8 + 1))] [] (am_sa S 14 v8 (am_b false))) ∧
          ((¬ ((S.2 15 v8.toNat).toInt) = 0) →
            VX3_ways l Q 472 [(0, am_R 0), (3, am_I v3), (4, am_I v4), (6, am_I v6), (7, am_I v7), (8, am_I (v8 + 1))] [] (am_sa S 14 v8 (am_b true)))))) : VX3_ways l Q 472 [(0, am_R 0), (3, am_I v3), (4, am_I v4), (6, am_I v6), (7, am_I v7), (8, am_I v8)] [] S := by
  refine am_iload dX3_ways_472 5 rfl ?_
  refine am_sipush dX3_ways_474 (by decide) ?_
  obtain ⟨ha1, hb2⟩ := hh
  refine am_icmp_ge (tgt := 518) dX3_ways_477 (by decide) h8 (⟨by decide, by decide⟩) (fun hc3 => ?_) (fun hc3 => ?_)
  · have hh := ha1 hc3
    refine am_iinc (n := 4) dX3_ways_518 rfl (by decide) rfl ?_
    refine am_goto (tgt := 232) dX3_ways_521 (by decide) ?_
    refine am_keep [1, 2, 3, 4, 0] rfl ?_
    exact hh
  · have hh := hb2 hc3
    refine am_aload_n dX3_ways_480 rfl 0 rfl ?_
    refine am_mgeta 14 (by decide) q1431 dX3_ways_481 ?_
    refine am_iload dX3_ways_484 5 rfl ?_
    refine am_aload_n dX3_ways_486 rfl 0 rfl ?_
    refine am_mgeta 14 (by decide) q1431 dX3_ways_487 ?_
    refine am_iload dX3_ways_490 5 rfl ?_
    obtain ⟨o4, hh⟩ := hh
    refine am_mzald 14 (by decide) (by decide) (v := (S.2 14 v8.toNat).toInt) rfl o4.1 o4.2 dX3_ways_492 ?_
    obtain ⟨ha5, hb6⟩ := hh
    refine am_if_ne (tgt := 506) dX3_ways_493 (by decide) (am_rt _) (fun hc7 => ?_) (fun hc7 => ?_)
    · have hh := ha5 hc7
      refine am_iconst dX3_ways_506 ?_
      refine am_goto (tgt := 511) dX3_ways_507 (by decide) ?_
      refine am_mzast (b := true) 14 (by decide) (by decide) o4.1 o4.2 dX3_ways_511 ?_
      refine am_iinc (n := 5) dX3_ways_512 rfl (by decide) rfl ?_
      refine am_goto (tgt := 472) dX3_ways_515 (by decide) ?_
      refine am_keep [1, 2, 3, 4, 5, 0] rfl ?_
      exact hh
    · have hh := hb6 hc7
      refine am_aload_n dX3_ways_496 rfl 0 rfl ?_
      refine am_mgeta 15 (by decide) q1432 dX3_ways_497 ?_
      refine am_iload dX3_ways_500 5 rfl ?_
      refine am_mzald 15 (by decide) (by decide) (v := (S.2 15 v8.toNat).toInt) rfl o4.1 o4.2 dX3_ways_502 ?_
      obtain ⟨ha8, hb9⟩ := hh
      refine am_if_eq (tgt := 510) dX3_ways_503 (by decide) (am_rt _) (fun hc10 => ?_) (fun hc10 => ?_)
      · have hh := ha8 hc10
        refine am_iconst dX3_ways_510 ?_
        refine am_mzast (b := false) 14 (by decide) (by decide) o4.1 o4.2 dX3_ways_511 ?_
        refine am_iinc (n := 5) dX3_ways_512 rfl (by decide) rfl ?_
        refine am_goto (tgt := 472) dX3_ways_515 (by decide) ?_
        refine am_keep [1, 2, 3, 4, 5, 0] rfl ?_
        exact hh
      · have hh := hb9 hc10
        refine am_iconst dX3_ways_506 ?_
        refine am_goto (tgt := 511) dX3_ways_507 (by decide) ?_
        refine am_mzast (b := true) 14 (by decide) (by decide) o4.1 o4.2 dX3_ways_511 ?_
        refine am_iinc (n := 5) dX3_ways_512 rfl (by decide) rfl ?_
        refine am_goto (tgt := 472) dX3_ways_515 (by decide) ?_
        refine am_keep [1, 2, 3, 4, 5, 0] rfl ?_
        exact hh
/-! TableArmsModel.kindOf(I)I -/
abbrev VX3_kindOf (l : Launch) (Q : Option am_W → am_M → Prop) (pc : Nat) (lv : List (Nat × am_W)) (st : List am_W) (S : am_M) : Prop := am_V am_mr l RX3 cX3_kindOf 4 (some .int) "kindOf" (am_rm 4 0 0) (am_E1 am_mr 0 0 Q) pc lv st S 0 0
abbrev kX3_kindOf (l : Launch) (as : List am_W) (S : am_M) (Q : Option am_W → am_M → Prop) : Prop := am_C am_mr l yX3_kindOf (ws_ yX3_kindOf cX3_kindOf 4 (some .int)) (am_rm 4 0 0) 0 0 as S Q
set_option maxHeartbeats 4000000 in
set_option maxRecDepth 100000 in
theorem bX3_kindOf {l : Launch} {Q : Option am_W → am_M → Prop} {S : am_M} (v1 : Int) (h1 : am_r v1)
    (hh : (0 ≤ v1 ∧ v1 < 6) ∧
      ((((S.2 1 v1.toNat).toInt) = 2) →
        kX3_cellOf l [am_R 0, am_I 0, am_I v1] S (am_qi fun r6 S5 =>
          kX3_below l [am_R 0, am_I 0, am_I v1] S5 (am_qi fun r9 S8 =>
            kX3_sizeOf l [am_R 0, am_I 0, am_I r6] S8 (am_qi fun r12 S11 =>
              (am_r (r9 + 1)) ∧
              ((r12 ≤ (r9 + 1)) →
                Q (some (am_I 3)) S11) ∧
              ((¬ r12 ≤ (r9 + 1)) →
                kX3_thingAt l [am_R 0, am_I 0, am_I r6, am_I (r9 + 1)] S11 (am_qi fun r19 S18 =>
                  (0 ≤ r19 ∧ r19 < 6) ∧
                  ((¬ ((S18.2 1 r19.toNat).toInt) = 3) →
                    Q (some (am_I 3)) S18) ∧
                  ((((S18.2 1 r19.toNat).toInt) = 3) →
                    Q (some (am_I 4)) S18))))))) ∧
      ((¬ ((S.2 1 v1.toNat).toInt) = 2) →
        ((¬ ((S.2 1 v1.toNat).toInt) = 0) →
          ((¬ ((S.2 1 v1.toNat).toInt) = 1) →
            Q (some (am_I 5)) S) ∧
          ((((S.2 1 v1.toNat).toInt) = 1) →
            Q (some (am_I 2)) S)) ∧
        ((((S.2 1 v1.toNat).toInt) = 0) →
          Q (some (am_I 1)) S))) : kX3_kindOf l [am_R 0, am_I v1] S Q := by
  refine am_entry (lv := [(0, am_R 0), (1, am_I v1)]) rfl rfl rfl (fun _ => rfl) (fun _ => Nat.le_of_ble_eq_true rfl) ?_
  refine am_aload_n dX3_kindOf_0 rfl 0 rfl ?_
  refine am_mgeta 1 (by decide) q1405 dX3_kindOf_1 ?_
  refine am_iload_n dX3_kindOf_4 rfl 1 rfl ?_
  obtain ⟨o1, hh⟩ := hh
  refine am_miald 1 (by decide) (by decide) (v := (S.2 1 v1.toNat).toInt) rfl o1.1 o1.2 dX3_kindOf_5 ?_
  refine am_iconst dX3_kindOf_6 ?_
  obtain ⟨ha2, hb3⟩ := hh
  refine am_icmp_eq (tgt := 39) dX3_kindOf_7 (by decide) (am_rt _) (⟨by decide, by decide⟩) (fun hc4 => ?_) (fun hc4 => ?_)
  · have hh := ha2 hc4
    refine am_aload_n dX3_kindOf_39 rfl 0 rfl ?_
    refine am_iconst dX3_kindOf_40 ?_
    refine am_iload_n dX3_kindOf_41 rfl 1 rfl ?_
    refine am_rVi (n := 2) hh dX3_kindOf_42 (lw_V q1532 q1534 qs44 q96 q1535) rfl ⟨⟨by decide, by decide, by decide +kernel⟩, ⟨Nat.le_of_ble_eq_true rfl, Nat.le_of_ble_eq_true rfl⟩⟩ ⟨rfl, rfl⟩ rfl rfl (Nat.le_of_ble_eq_true rfl) ⟨(Nat.le_refl 0), (Nat.le_refl 0)⟩ (am_mrecv _) (fun r6 S5 hr7 hh => ?_)
    refine am_istore_n dX3_kindOf_45 rfl (by decide) rfl ?_
    refine am_aload_n dX3_kindOf_46 rfl 1 rfl ?_
    refine am_iconst dX3_kindOf_47 ?_
    refine am_iload_n dX3_kindOf_48 rfl 2 rfl ?_
    refine am_rVi (n := 2) hh dX3_kindOf_49 (lw_V q1545 q1547 qs47 q96 q1548) rfl ⟨⟨by decide, by decide, by decide +kernel⟩, ⟨Nat.le_of_ble_eq_true rfl, Nat.le_of_ble_eq_true rfl⟩⟩ ⟨rfl, rfl⟩ rfl rfl (Nat.le_of_ble_eq_true rfl) ⟨(Nat.le_refl 0), (Nat.le_refl 0)⟩ (am_mrecv _) (fun r9 S8 hr10 hh => ?_)
    refine am_iconst dX3_kindOf_52 ?_
    refine am_iadd dX3_kindOf_53 ?_
    refine am_istore_n dX3_kindOf_54 rfl (by decide) rfl ?_
    refine am_iload_n dX3_kindOf_55 rfl 0 rfl ?_
    refine am_aload_n dX3_kindOf_56 rfl 2 rfl ?_
    refine am_iconst dX3_kindOf_57 ?_
    refine am_iload_n dX3_kindOf_58 rfl 1 rfl ?_
    refine am_rVi (n := 2) hh dX3_kindOf_59 (lw_V q1536 q1538 qs45 q96 q1539) rfl ⟨⟨by decide, by decide, by decide +kernel⟩, ⟨Nat.le_of_ble_eq_true rfl, Nat.le_of_ble_eq_true rfl⟩⟩ ⟨rfl, rfl⟩ rfl rfl (Nat.le_of_ble_eq_true rfl) ⟨(Nat.le_refl 0), (Nat.le_refl 0)⟩ (am_mrecv _) (fun r12 S11 hr13 hh => ?_)
    obtain ⟨o14, hh⟩ := hh
    obtain ⟨ha15, hb16⟩ := hh
    refine am_icmp_ge (tgt := 85) dX3_kindOf_62 (by decide) o14 hr13 (fun hc17 => ?_) (fun hc17 => ?_)
    · have hh := ha15 hc17
      refine am_iconst dX3_kindOf_85 ?_
      exact am_iret rfl dX3_kindOf_86 (Nat.le_refl 0) (Nat.le_refl 0) hh
    · have hh := hb16 hc17
      refine am_aload_n dX3_kindOf_65 rfl 2 rfl ?_
      refine am_mgeta 1 (by decide) q1405 dX3_kindOf_66 ?_
      refine am_aload_n dX3_kindOf_69 rfl 2 rfl ?_
      refine am_iconst dX3_kindOf_70 ?_
      refine am_iload_n dX3_kindOf_71 rfl 1 rfl ?_
      refine am_iload_n dX3_kindOf_72 rfl 0 rfl ?_
      refine am_rVi (n := 3) hh dX3_kindOf_73 (lw_V q1540 q1542 qs46 q96 q1543) rfl ⟨⟨by decide, by decide, by decide +kernel⟩, ⟨Nat.le_of_ble_eq_true rfl, Nat.le_of_ble_eq_true rfl⟩⟩ ⟨rfl, rfl⟩ rfl rfl (Nat.le_of_ble_eq_true rfl) ⟨(Nat.le_refl 0), (Nat.le_refl 0)⟩ (am_mrecv _) (fun r19 S18 hr20 hh => ?_)
      obtain ⟨o21, hh⟩ := hh
      refine am_miald 1 (by decide) (by decide) (v := (S18.2 1 r19.toNat).toInt) rfl o21.1 o21.2 dX3_kindOf_76 ?_
      refine am_iconst dX3_kindOf_77 ?_
      obtain ⟨ha22, hb23⟩ := hh
      refine am_icmp_ne (tgt := 85) dX3_kindOf_78 (by decide) (am_rt _) (⟨by decide, by decide⟩) (fun hc24 => ?_) (fun hc24 => ?_)
      · have hh := ha22 hc24
        refine am_iconst dX3_kindOf_85 ?_
        exact am_iret rfl dX3_kindOf_86 (Nat.le_refl 0) (Nat.le_refl 0) hh
      · have hh := hb23 hc24
        refine am_iconst dX3_kindOf_81 ?_
        refine am_goto (tgt := 86) dX3_kindOf_82 (by decide) ?_
        exact am_iret rfl dX3_kindOf_86 (Nat.le_refl 0) (Nat.le_refl 0) hh
  · have hh := hb3 hc4
    refine am_aload_n dX3_kindOf_10 rfl 0 rfl ?_
    refine am_mgeta 1 (by decide) q1405 dX3_kindOf_11 ?_
    refine am_iload_n dX3_kindOf_14 rfl 1 rfl ?_
    refine am_miald 1 (by decide) (by decide) (v := (S.2 1 v1.toNat).toInt) rfl o1.1 o1.2 dX3_kindOf_15 ?_
    obtain ⟨ha25, hb26⟩ := hh
    refine am_if_ne (tgt := 23) dX3_kindOf_16 (by decide) (am_rt _) (fun hc27 => ?_) (fun hc27 => ?_)
    · have hh := ha25 hc27
      refine am_aload_n dX3_kindOf_23 rfl 0 rfl ?_
      refine am_mgeta 1 (by decide) q1405 dX3_kindOf_24 ?_
      refine am_iload_n dX3_kindOf_27 rfl 1 rfl ?_
      refine am_miald 1 (by decide) (by decide) (v := (S.2 1 v1.toNat).toInt) rfl o1.1 o1.2 dX3_kindOf_28 ?_
      refine am_iconst dX3_kindOf_29 ?_
      obtain ⟨ha28, hb29⟩ := hh
      refine am_icmp_ne (tgt := 37) dX3_kindOf_30 (by decide) (am_rt _) (⟨by decide, by decide⟩) (fun hc30 => ?_) (fun hc30 => ?_)
      · have hh := ha28 hc30
        refine am_iconst dX3_kindOf_37 ?_
        exact am_iret rfl dX3_kindOf_38 (Nat.le_refl 0) (Nat.le_refl 0) hh
      · have hh := hb29 hc30
        refine am_iconst dX3_kindOf_33 ?_
        refine am_goto (tgt := 38) dX3_kindOf_34 (by decide) ?_
        exact am_iret rfl dX3_kindOf_38 (Nat.le_refl 0) (Nat.le_refl 0) hh
    · have hh := hb26 hc27
      refine am_iconst dX3_kindOf_19 ?_
      refine am_goto (tgt := 38) dX3_kindOf_20 (by decide) ?_
      exact am_iret rfl dX3_kindOf_38 (Nat.le_refl 0) (Nat.le_refl 0) hh
/-! TableArmsModel.kind(I)I -/
abbrev VX3_kind (l : Launch) (Q : Option am_W → am_M → Prop) (pc : Nat) (lv : List (Nat × am_W)) (st : List am_W) (S : am_M) : Prop := am_V am_mr l RX3 cX3_kind 2 (some .int) "kind" (am_rm 5 0 0) (am_E1 am_mr 0 0 Q) pc lv st S 0 0
abbrev kX3_kind (l : Launch) (as : List am_W) (S : am_M) (Q : Option am_W → am_M → Prop) : Prop := am_C am_mr l yX3_kind (ws_ yX3_kind cX3_kind 2 (some .int)) (am_rm 5 0 0) 0 0 as S Q
set_option maxHeartbeats 4000000 in
set_option maxRecDepth 100000 in
theorem bX3_kind {l : Launch} {Q : Option am_W → am_M → Prop} {S : am_M} (v1 : Int) (h1 : am_r v1)
    (hh : kX3_isThing l [am_R 0, am_I v1] (am_sv S 0 0) (am_qz fun b2 S1 =>
        ((b2 = false) →
          Q (some (am_I (-1000001))) S1) ∧
        ((b2 = true) →
          kX3_kindOf l [am_R 0, am_I v1] S1 (am_qi fun r7 S6 =>
            Q (some (am_I r7)) S6)))) : kX3_kind l [am_R 0, am_I v1] S Q := by
  refine am_entry (lv := [(0, am_R 0), (1, am_I v1)]) rfl rfl rfl (fun _ => rfl) (fun _ => Nat.le_of_ble_eq_true rfl) ?_
  refine am_aload_n dX3_kind_0 rfl 0 rfl ?_
  refine am_iconst dX3_kind_1 ?_
  refine am_mput 0 (by decide) q1401 dX3_kind_2 ?_
  refine am_aload_n dX3_kind_5 rfl 0 rfl ?_
  refine am_iload_n dX3_kind_6 rfl 1 rfl ?_
  refine am_rVz (n := 1) hh dX3_kind_7 (lw_V q1608 q1610 qs58 q96 q1611) rfl ⟨⟨by decide, by decide, by decide +kernel⟩, ⟨Nat.le_of_ble_eq_true rfl, Nat.le_of_ble_eq_true rfl⟩⟩ ⟨rfl, rfl⟩ rfl rfl (Nat.le_of_ble_eq_true rfl) ⟨(Nat.le_refl 0), (Nat.le_refl 0)⟩ (am_mrecv _) (fun b2 S1 hh => ?_)
  obtain ⟨ha3, hb4⟩ := hh
  refine am_ifB_eq (tgt := 21) dX3_kind_10 (by decide) (fun hc5 => ?_) (fun hc5 => ?_)
  · have hh := ha3 hc5
    refine am_ldc (z := -1000001) q1515 (by decide) dX3_kind_21 ?_
    exact am_iret rfl dX3_kind_23 (Nat.le_refl 0) (Nat.le_refl 0) hh
  · have hh := hb4 hc5
    refine am_aload_n dX3_kind_13 rfl 0 rfl ?_
    refine am_iload_n dX3_kind_14 rfl 1 rfl ?_
    refine am_rVi (n := 1) hh dX3_kind_15 (lw_V q1847 q1849 qs84 q96 q1850) rfl ⟨⟨by decide, by decide, by decide +kernel⟩, ⟨Nat.le_of_ble_eq_true rfl, Nat.le_of_ble_eq_true rfl⟩⟩ ⟨rfl, rfl⟩ rfl rfl (Nat.le_of_ble_eq_true rfl) ⟨(Nat.le_refl 0), (Nat.le_refl 0)⟩ (am_mrecv _) (fun r7 S6 hr8 hh => ?_)
    refine am_goto (tgt := 23) dX3_kind_18 (by decide) ?_
    exact am_iret rfl dX3_kind_23 (Nat.le_refl 0) (Nat.le_refl 0) hh
/-! TableArmsModel.isOf(II)Z -/
abbrev VX3_isOf (l : Launch) (Q : Option am_W → am_M → Prop) (pc : Nat) (lv : List (Nat × am_W)) (st : List am_W) (S : am_M) : Prop := am_V am_mr l RX3 cX3_isOf 2 (some .boolean) "isOf" (am_rm 1 0 0) (am_E1 am_mr 0 0 Q) pc lv st S 0 0
abbrev kX3_isOf (l : Launch) (as : List am_W) (S : am_M) (Q : Option am_W → am_M → Prop) : Prop := am_C am_mr l yX3_isOf (ws_ yX3_isOf cX3_isOf 2 (some .boolean)) (am_rm 1 0 0) 0 0 as S Q
set_option maxHeartbeats 4000000 in
set_option maxRecDepth 100000 in
theorem bX3_isOf {l : Launch} {Q : Option am_W → am_M → Prop} {S : am_M} (v0 : Int) (h0 : am_r v0) (v1 : Int) (h1 : am_r v1)
    (hh : ((v1 = 0) →
        Q (some (am_I (am_b true))) S) ∧
      ((¬ v1 = 0) →
        ((v0 = v1) →
          Q (some (am_I (am_b true))) S) ∧
        ((¬ v0 = v1) →
          ((¬ v1 = 3) →
            Q (some (am_I (am_b false))) S) ∧
          ((v1 = 3) →
            ((¬ v0 = 4) →
              Q (some (am_I (am_b false))) S) ∧
            ((v0 = 4) →
              Q (some (am_I (am_b true))) S))))) : kX3_isOf l [am_I v0, am_I v1] S Q := by
  refine am_entry (lv := [(0, am_I v0), (1, am_I v1)]) rfl rfl rfl (fun _ => rfl) (fun _ => Nat.le_of_ble_eq_true rfl) ?_
  refine am_iload_n dX3_isOf_0 rfl 1 rfl ?_
  obtain ⟨ha1, hb2⟩ := hh
  refine am_if_eq (tgt := 19) dX3_isOf_1 (by decide) h1 (fun hc3 => ?_) (fun hc3 => ?_)
  · have hh := ha1 hc3
    refine am_iconst dX3_isOf_19 ?_
    refine am_goto (tgt := 24) dX3_isOf_20 (by decide) ?_
    exact am_zret (b := true) rfl dX3_isOf_24 (Nat.le_refl 0) (Nat.le_refl 0) hh
  · have hh := hb2 hc3
    refine am_iload_n dX3_isOf_4 rfl 0 rfl ?_
    refine am_iload_n dX3_isOf_5 rfl 1 rfl ?_
    obtain ⟨ha4, hb5⟩ := hh
    refine am_icmp_eq (tgt := 19) dX3_isOf_6 (by decide) h0 h1 (fun hc6 => ?_) (fun hc6 => ?_)
    · have hh := ha4 hc6
      refine am_iconst dX3_isOf_19 ?_
      refine am_goto (tgt := 24) dX3_isOf_20 (by decide) ?_
      exact am_zret (b := true) rfl dX3_isOf_24 (Nat.le_refl 0) (Nat.le_refl 0) hh
    · have hh := hb5 hc6
      refine am_iload_n dX3_isOf_9 rfl 1 rfl ?_
      refine am_iconst dX3_isOf_10 ?_
      obtain ⟨ha7, hb8⟩ := hh
      refine am_icmp_ne (tgt := 23) dX3_isOf_11 (by decide) h1 (⟨by decide, by decide⟩) (fun hc9 => ?_) (fun hc9 => ?_)
      · have hh := ha7 hc9
        refine am_iconst dX3_isOf_23 ?_
        exact am_zret (b := false) rfl dX3_isOf_24 (Nat.le_refl 0) (Nat.le_refl 0) hh
      · have hh := hb8 hc9
        refine am_iload_n dX3_isOf_14 rfl 0 rfl ?_
        refine am_iconst dX3_isOf_15 ?_
        obtain ⟨ha10, hb11⟩ := hh
        refine am_icmp_ne (tgt := 23) dX3_isOf_16 (by decide) h0 (⟨by decide, by decide⟩) (fun hc12 => ?_) (fun hc12 => ?_)
        · have hh := ha10 hc12
          refine am_iconst dX3_isOf_23 ?_
          exact am_zret (b := false) rfl dX3_isOf_24 (Nat.le_refl 0) (Nat.le_refl 0) hh
        · have hh := hb11 hc12
          refine am_iconst dX3_isOf_19 ?_
          refine am_goto (tgt := 24) dX3_isOf_20 (by decide) ?_
          exact am_zret (b := true) rfl dX3_isOf_24 (Nat.le_refl 0) (Nat.le_refl 0) hh
/-! TableArmsModel.as(II)I -/
abbrev VX3_as (l : Launch) (Q : Option am_W → am_M → Prop) (pc : Nat) (lv : List (Nat × am_W)) (st : List am_W) (S : am_M) : Prop := am_V am_mr l RX3 cX3_as 3 (some .int) "as" (am_rm 5 0 0) (am_E1 am_mr 0 0 Q) pc lv st S 0 0
abbrev kX3_as (l : Launch) (as : List am_W) (S : am_M) (Q : Option am_W → am_M → Prop) : Prop := am_C am_mr l yX3_as (ws_ yX3_as cX3_as 3 (some .int)) (am_rm 5 0 0) 0 0 as S Q
set_option maxHeartbeats 4000000 in
set_option maxRecDepth 100000 in
theorem bX3_as {l : Launch} {Q : Option am_W → am_M → Prop} {S : am_M} (v1 : Int) (h1 : am_r v1) (v2 : Int) (h2 : am_r v2)
    (hh : kX3_isThing l [am_R 0, am_I v1] (am_sv S 0 0) (am_qz fun b2 S1 =>
        ((b2 = false) →
          Q (some (am_I (-1000001))) S1) ∧
        ((b2 = true) →
          kX3_in l [am_J v2, am_J 0, am_J 5] S1 (am_qz fun b7 S6 =>
            ((b7 = true) →
              kX3_kindOf l [am_R 0, am_I v1] (am_sv S6 1 0) (am_qi fun r12 S11 =>
                kX3_isOf l [am_I r12, am_I v2] S11 (am_qz fun b15 S14 =>
                  ((b15 = false) →
                    kX3_finding l [am_R 0, am_I 3] S14 (am_qi fun r20 S19 =>
                      Q (some (am_I r20)) S19)) ∧
                  ((b15 = true) →
                    (0 ≤ v1 ∧ v1 < 6) ∧
                    Q (some (am_I (S14.2 2 v1.toNat).toInt)) S14)))) ∧
            ((b7 = false) →
              Q (some (am_I (-1000001))) S6))))) : kX3_as l [am_R 0, am_I v1, am_I v2] S Q := by
  refine am_entry (lv := [(0, am_R 0), (1, am_I v1), (2, am_I v2)]) rfl rfl rfl (fun _ => rfl) (fun _ => Nat.le_of_ble_eq_true rfl) ?_
  refine am_aload_n dX3_as_0 rfl 0 rfl ?_
  refine am_iconst dX3_as_1 ?_
  refine am_mput 0 (by decide) q1401 dX3_as_2 ?_
  refine am_aload_n dX3_as_5 rfl 0 rfl ?_
  refine am_iload_n dX3_as_6 rfl 1 rfl ?_
  refine am_rVz (n := 1) hh dX3_as_7 (lw_V q1608 q1610 qs58 q96 q1611) rfl ⟨⟨by decide, by decide, by decide +kernel⟩, ⟨Nat.le_of_ble_eq_true rfl, Nat.le_of_ble_eq_true rfl⟩⟩ ⟨rfl, rfl⟩ rfl rfl (Nat.le_of_ble_eq_true rfl) ⟨(Nat.le_refl 0), (Nat.le_refl 0)⟩ (am_mrecv _) (fun b2 S1 hh => ?_)
  obtain ⟨ha3, hb4⟩ := hh
  refine am_ifB_eq (tgt := 25) dX3_as_10 (by decide) (fun hc5 => ?_) (fun hc5 => ?_)
  · have hh := ha3 hc5
    refine am_ldc (z := -1000001) q1515 (by decide) dX3_as_25 ?_
    exact am_iret rfl dX3_as_27 (Nat.le_refl 0) (Nat.le_refl 0) hh
  · have hh := hb4 hc5
    refine am_iload_n dX3_as_13 rfl 2 rfl ?_
    refine am_i2l_ h2 dX3_as_14 ?_
    refine am_lconst (z := 0) dX3_as_15 (by decide) ?_
    refine am_ldc2 (z := 5) q1855 (by decide) dX3_as_16 ?_
    refine am_rSz (n := 3) hh dX3_as_19 (lw_S q1512 q1513 q96 q1514) ⟨⟨by decide, by decide, by decide +kernel⟩, ⟨Nat.le_of_ble_eq_true rfl, Nat.le_of_ble_eq_true rfl⟩⟩ ⟨rfl, rfl⟩ rfl rfl (Nat.le_of_ble_eq_true rfl) ⟨(Nat.le_refl 0), (Nat.le_refl 0)⟩ (fun b7 S6 hh => ?_)
    obtain ⟨ha8, hb9⟩ := hh
    refine am_ifB_ne (tgt := 28) dX3_as_22 (by decide) (fun hc10 => ?_) (fun hc10 => ?_)
    · have hh := ha8 hc10
      refine am_aload_n dX3_as_28 rfl 0 rfl ?_
      refine am_iconst dX3_as_29 ?_
      refine am_mput 1 (by decide) q1402 dX3_as_30 ?_
      refine am_aload_n dX3_as_33 rfl 0 rfl ?_
      refine am_iload_n dX3_as_34 rfl 1 rfl ?_
      refine am_rVi (n := 1) hh dX3_as_35 (lw_V q1847 q1849 qs84 q96 q1850) rfl ⟨⟨by decide, by decide, by decide +kernel⟩, ⟨Nat.le_of_ble_eq_true rfl, Nat.le_of_ble_eq_true rfl⟩⟩ ⟨rfl, rfl⟩ rfl rfl (Nat.le_of_ble_eq_true rfl) ⟨(Nat.le_refl 0), (Nat.le_refl 0)⟩ (am_mrecv _) (fun r12 S11 hr13 hh => ?_)
      refine am_iload_n dX3_as_38 rfl 2 rfl ?_
      refine am_rSz (n := 2) hh dX3_as_39 (lw_S q1856 q1857 q96 q1858) ⟨⟨by decide, by decide, by decide +kernel⟩, ⟨Nat.le_of_ble_eq_true rfl, Nat.le_of_ble_eq_true rfl⟩⟩ ⟨rfl, rfl⟩ rfl rfl (Nat.le_of_ble_eq_true rfl) ⟨(Nat.le_refl 0), (Nat.le_refl 0)⟩ (fun b15 S14 hh => ?_)
      obtain ⟨ha16, hb17⟩ := hh
      refine am_ifB_eq (tgt := 54) dX3_as_42 (by decide) (fun hc18 => ?_) (fun hc18 => ?_)
      · have hh := ha16 hc18
        refine am_aload_n dX3_as_54 rfl 0 rfl ?_
        refine am_iconst dX3_as_55 ?_
        refine am_rVi (n := 1) hh dX3_as_56 (lw_V q1680 q1682 qs65 q96 q1683) rfl ⟨⟨by decide, by decide, by decide +kernel⟩, ⟨Nat.le_of_ble_eq_true rfl, Nat.le_of_ble_eq_true rfl⟩⟩ ⟨rfl, rfl⟩ rfl rfl (Nat.le_of_ble_eq_true rfl) ⟨(Nat.le_refl 0), (Nat.le_refl 0)⟩ (am_mrecv _) (fun r20 S19 hr21 hh => ?_)
        exact am_iret rfl dX3_as_59 (Nat.le_refl 0) (Nat.le_refl 0) hh
      · have hh := hb17 hc18
        refine am_aload_n dX3_as_45 rfl 0 rfl ?_
        refine am_mgeta 2 (by decide) q1406 dX3_as_46 ?_
        refine am_iload_n dX3_as_49 rfl 1 rfl ?_
        obtain ⟨o22, hh⟩ := hh
        refine am_miald 2 (by decide) (by decide) (v := (S14.2 2 v1.toNat).toInt) rfl o22.1 o22.2 dX3_as_50 ?_
        refine am_goto (tgt := 59) dX3_as_51 (by decide) ?_
        exact am_iret rfl dX3_as_59 (Nat.le_refl 0) (Nat.le_refl 0) hh
    · have hh := hb9 hc10
      refine am_ldc (z := -1000001) q1515 (by decide) dX3_as_25 ?_
      exact am_iret rfl dX3_as_27 (Nat.le_refl 0) (Nat.le_refl 0) hh
/-! TableArmsModel.began(I)V -/
abbrev VX3_began (l : Launch) (Q : Option am_W → am_M → Prop) (pc : Nat) (lv : List (Nat × am_W)) (st : List am_W) (S : am_M) : Prop := am_V am_mr l RX3 cX3_began 2 none "began" (am_rm 1 0 0) (am_E1 am_mr 0 0 Q) pc lv st S 0 0
abbrev kX3_began (l : Launch) (as : List am_W) (S : am_M) (Q : Option am_W → am_M → Prop) : Prop := am_C am_mr l yX3_began (ws_ yX3_began cX3_began 2 none) (am_rm 1 0 0) 0 0 as S Q
set_option maxHeartbeats 4000000 in
set_option maxRecDepth 100000 in
theorem bX3_began {l : Launch} {Q : Option am_W → am_M → Prop} {S : am_M} (v1 : Int) (h1 : am_r v1)
    (hh : ((16 ≤ ((S.1 16).toInt)) →
        Q none S) ∧
      ((¬ 16 ≤ ((S.1 16).toInt)) →
        (0 ≤ (S.1 16).toInt ∧ (S.1 16).toInt < 16) ∧
        Q none (am_sv (am_sa S 16 ((S.1 16).toInt) v1) 16 ((S.1 16).toInt + 1)))) : kX3_began l [am_R 0, am_I v1] S Q := by
  refine am_entry (lv := [(0, am_R 0), (1, am_I v1)]) rfl rfl rfl (fun _ => rfl) (fun _ => Nat.le_of_ble_eq_true rfl) ?_
  refine am_aload_n dX3_began_0 rfl 0 rfl ?_
  refine am_mgeti 16 (by decide) (v := (S.1 16).toInt) rfl q1434 dX3_began_1 ?_
  refine am_bipush dX3_began_4 (by decide) ?_
  obtain ⟨ha1, hb2⟩ := hh
  refine am_icmp_ge (tgt := 29) dX3_began_6 (by decide) (am_rt _) (⟨by decide, by decide⟩) (fun hc3 => ?_) (fun hc3 => ?_)
  · have hh := ha1 hc3
    exact am_vret rfl dX3_began_29 (Nat.le_refl 0) (Nat.le_refl 0) hh
  · have hh := hb2 hc3
    refine am_aload_n dX3_began_9 rfl 0 rfl ?_
    refine am_mgeta 16 (by decide) q1433 dX3_began_10 ?_
    refine am_aload_n dX3_began_13 rfl 0 rfl ?_
    refine am_mgeti 16 (by decide) (v := (S.1 16).toInt) rfl q1434 dX3_began_14 ?_
    refine am_iload_n dX3_began_17 rfl 1 rfl ?_
    obtain ⟨o4, hh⟩ := hh
    refine am_miast 16 (by decide) (by decide) o4.1 o4.2 dX3_began_18 ?_
    refine am_aload_n dX3_began_19 rfl 0 rfl ?_
    refine am_dup dX3_began_20 rfl ?_
    refine am_mgeti 16 (by decide) (v := (S.1 16).toInt) rfl q1434 dX3_began_21 ?_
    refine am_iconst dX3_began_24 ?_
    refine am_iadd dX3_began_25 ?_
    refine am_mput 16 (by decide) q1434 dX3_began_26 ?_
    exact am_vret rfl dX3_began_29 (Nat.le_refl 0) (Nat.le_refl 0) hh
/-! TableArmsModel.boxSize(II)I -/
abbrev VX3_boxSize (l : Launch) (Q : Option am_W → am_M → Prop) (pc : Nat) (lv : List (Nat × am_W)) (st : List am_W) (S : am_M) : Prop := am_V am_mr l RX3 cX3_boxSize 5 (some .int) "boxSize" (am_rm 3 0 0) (am_E1 am_mr 0 0 Q) pc lv st S 0 0
abbrev kX3_boxSize (l : Launch) (as : List am_W) (S : am_M) (Q : Option am_W → am_M → Prop) : Prop := am_C am_mr l yX3_boxSize (ws_ yX3_boxSize cX3_boxSize 5 (some .int)) (am_rm 3 0 0) 0 0 as S Q
set_option maxHeartbeats 4000000 in
set_option maxRecDepth 100000 in
theorem bX3_boxSize {l : Launch} {Q : Option am_W → am_M → Prop} {S : am_M} (v1 : Int) (h1 : am_r v1) (v2 : Int) (h2 : am_r v2)
    (hh : ((¬ v2 = 4) →
        kX3_began l [am_R 0, am_I 12] S (am_qv fun S4 =>
          kX3_began l [am_R 0, am_I 10] S4 (am_qv fun S5 =>
            kX3_insideOf l [am_R 0, am_I 0, am_I v1] S5 (am_qi fun r7 S6 =>
              (0 ≤ v1 ∧ v1 < 6) ∧
              ((0 ≤ r7) →
                (0 ≤ r7 ∧ r7 < 6) ∧
                ((¬ v2 = 4) →
                  Q (some (am_I ((S6.2 2 v1.toNat).toInt + (S6.2 2 r7.toNat).toInt))) S6) ∧
                ((v2 = 4) →
                  Q (some (am_I (2 * ((S6.2 2 v1.toNat).toInt + (S6.2 2 r7.toNat).toInt)))) S6)) ∧
              ((¬ 0 ≤ r7) →
                ((¬ v2 = 4) →
                  Q (some (am_I ((S6.2 2 v1.toNat).toInt + 0))) S6) ∧
                ((v2 = 4) →
                  Q (some (am_I (2 * ((S6.2 2 v1.toNat).toInt + 0)))) S6)))))) ∧
      ((v2 = 4) →
        kX3_began l [am_R 0, am_I 13] S (am_qv fun S20 =>
          kX3_began l [am_R 0, am_I 12] S20 (am_qv fun S21 =>
            kX3_began l [am_R 0, am_I 10] S21 (am_qv fun S22 =>
              kX3_insideOf l [am_R 0, am_I 0, am_I v1] S22 (am_qi fun r24 S23 =>
                (0 ≤ v1 ∧ v1 < 6) ∧
                ((0 ≤ r24) →
                  (0 ≤ r24 ∧ r24 < 6) ∧
                  ((¬ v2 = 4) →
                    Q (some (am_I ((S23.2 2 v1.toNat).toInt + (S23.2 2 r24.toNat).toInt))) S23) ∧
                  ((v2 = 4) →
                    Q (some (am_I (2 * ((S23.2 2 v1.toNat).toInt + (S23.2 2 r24.toNat).toInt)))) S23)) ∧
                ((¬ 0 ≤ r24) →
                  ((¬ v2 = 4) →
                    Q (some (am_I ((S23.2 2 v1.toNat).toInt + 0))) S23) ∧
                  ((v2 = 4) →
                    Q (some (am_I (2 * ((S23.2 2 v1.toNat).toInt + 0)))) S23)))))))) : kX3_boxSize l [am_R 0, am_I v1, am_I v2] S Q := by
  refine am_entry (lv := [(0, am_R 0), (1, am_I v1), (2, am_I v2)]) rfl rfl rfl (fun _ => rfl) (fun _ => Nat.le_of_ble_eq_true rfl) ?_
  refine am_iload_n dX3_boxSize_0 rfl 2 rfl ?_
  refine am_iconst dX3_boxSize_1 ?_
  obtain ⟨ha1, hb2⟩ := hh
  refine am_icmp_ne (tgt := 11) dX3_boxSize_2 (by decide) h2 (⟨by decide, by decide⟩) (fun hc3 => ?_) (fun hc3 => ?_)
  · have hh := ha1 hc3
    refine am_aload_n dX3_boxSize_11 rfl 0 rfl ?_
    refine am_bipush dX3_boxSize_12 (by decide) ?_
    refine am_rVv (n := 1) hh dX3_boxSize_14 (lw_V q1871 q1873 qs87 q96 q1874) rfl ⟨⟨by decide, by decide, by decide +kernel⟩, ⟨Nat.le_of_ble_eq_true rfl, Nat.le_of_ble_eq_true rfl⟩⟩ ⟨rfl, rfl⟩ rfl rfl (Nat.le_of_ble_eq_true rfl) ⟨(Nat.le_refl 0), (Nat.le_refl 0)⟩ (am_mrecv _) (fun S4 hh => ?_)
    refine am_aload_n dX3_boxSize_17 rfl 0 rfl ?_
    refine am_bipush dX3_boxSize_18 (by decide) ?_
    refine am_rVv (n := 1) hh dX3_boxSize_20 (lw_V q1871 q1873 qs87 q96 q1874) rfl ⟨⟨by decide, by decide, by decide +kernel⟩, ⟨Nat.le_of_ble_eq_true rfl, Nat.le_of_ble_eq_true rfl⟩⟩ ⟨rfl, rfl⟩ rfl rfl (Nat.le_of_ble_eq_true rfl) ⟨(Nat.le_refl 0), (Nat.le_refl 0)⟩ (am_mrecv _) (fun S5 hh => ?_)
    refine am_aload_n dX3_boxSize_23 rfl 0 rfl ?_
    refine am_iconst dX3_boxSize_24 ?_
    refine am_iload_n dX3_boxSize_25 rfl 1 rfl ?_
    refine am_rVi (n := 2) hh dX3_boxSize_26 (lw_V q1564 q1566 qs51 q96 q1567) rfl ⟨⟨by decide, by decide, by decide +kernel⟩, ⟨Nat.le_of_ble_eq_true rfl, Nat.le_of_ble_eq_true rfl⟩⟩ ⟨rfl, rfl⟩ rfl rfl (Nat.le_of_ble_eq_true rfl) ⟨(Nat.le_refl 0), (Nat.le_refl 0)⟩ (am_mrecv _) (fun r7 S6 hr8 hh => ?_)
    refine am_istore_n dX3_boxSize_29 rfl (by decide) rfl ?_
    refine am_aload_n dX3_boxSize_30 rfl 1 rfl ?_
    refine am_mgeta 2 (by decide) q1406 dX3_boxSize_31 ?_
    refine am_iload_n dX3_boxSize_34 rfl 2 rfl ?_
    obtain ⟨o9, hh⟩ := hh
    refine am_miald 2 (by decide) (by decide) (v := (S6.2 2 v1.toNat).toInt) rfl o9.1 o9.2 dX3_boxSize_35 ?_
    refine am_iload_n dX3_boxSize_36 rfl 0 rfl ?_
    obtain ⟨ha10, hb11⟩ := hh
    refine am_if_ge (tgt := 44) dX3_boxSize_37 (by decide) hr8 (fun hc12 => ?_) (fun hc12 => ?_)
    · have hh := ha10 hc12
      refine am_aload_n dX3_boxSize_44 rfl 1 rfl ?_
      refine am_mgeta 2 (by decide) q1406 dX3_boxSize_45 ?_
      refine am_iload_n dX3_boxSize_48 rfl 0 rfl ?_
      obtain ⟨o13, hh⟩ := hh
      refine am_miald 2 (by decide) (by decide) (v := (S6.2 2 r7.toNat).toInt) rfl o13.1 o13.2 dX3_boxSize_49 ?_
      refine am_iadd dX3_boxSize_50 ?_
      refine am_istore dX3_boxSize_51 (by decide) rfl ?_
      refine am_iload_n dX3_boxSize_53 rfl 4 rfl ?_
      refine am_iconst dX3_boxSize_54 ?_
      obtain ⟨ha14, hb15⟩ := hh
      refine am_icmp_ne (tgt := 65) dX3_boxSize_55 (by decide) h2 (⟨by decide, by decide⟩) (fun hc16 => ?_) (fun hc16 => ?_)
      · have hh := ha14 hc16
        refine am_iload dX3_boxSize_65 0 rfl ?_
        exact am_iret rfl dX3_boxSize_67 (Nat.le_refl 0) (Nat.le_refl 0) hh
      · have hh := hb15 hc16
        refine am_iconst dX3_boxSize_58 ?_
        refine am_iload dX3_boxSize_59 0 rfl ?_
        refine am_imul dX3_boxSize_61 ?_
        refine am_goto (tgt := 67) dX3_boxSize_62 (by decide) ?_
        exact am_iret rfl dX3_boxSize_67 (Nat.le_refl 0) (Nat.le_refl 0) hh
    · have hh := hb11 hc12
      refine am_iconst dX3_boxSize_40 ?_
      refine am_goto (tgt := 50) dX3_boxSize_41 (by decide) ?_
      refine am_iadd dX3_boxSize_50 ?_
      refine am_istore dX3_boxSize_51 (by decide) rfl ?_
      refine am_iload_n dX3_boxSize_53 rfl 4 rfl ?_
      refine am_iconst dX3_boxSize_54 ?_
      obtain ⟨ha17, hb18⟩ := hh
      refine am_icmp_ne (tgt := 65) dX3_boxSize_55 (by decide) h2 (⟨by decide, by decide⟩) (fun hc19 => ?_) (fun hc19 => ?_)
      · have hh := ha17 hc19
        refine am_iload dX3_boxSize_65 0 rfl ?_
        exact am_iret rfl dX3_boxSize_67 (Nat.le_refl 0) (Nat.le_refl 0) hh
      · have hh := hb18 hc19
        refine am_iconst dX3_boxSize_58 ?_
        refine am_iload dX3_boxSize_59 0 rfl ?_
        refine am_imul dX3_boxSize_61 ?_
        refine am_goto (tgt := 67) dX3_boxSize_62 (by decide) ?_
        exact am_iret rfl dX3_boxSize_67 (Nat.le_refl 0) (Nat.le_refl 0) hh
  · have hh := hb2 hc3
    refine am_aload_n dX3_boxSize_5 rfl 0 rfl ?_
    refine am_bipush dX3_boxSize_6 (by decide) ?_
    refine am_rVv (n := 1) hh dX3_boxSize_8 (lw_V q1871 q1873 qs87 q96 q1874) rfl ⟨⟨by decide, by decide, by decide +kernel⟩, ⟨Nat.le_of_ble_eq_true rfl, Nat.le_of_ble_eq_true rfl⟩⟩ ⟨rfl, rfl⟩ rfl rfl (Nat.le_of_ble_eq_true rfl) ⟨(Nat.le_refl 0), (Nat.le_refl 0)⟩ (am_mrecv _) (fun S20 hh => ?_)
    refine am_aload_n dX3_boxSize_11 rfl 0 rfl ?_
    refine am_bipush dX3_boxSize_12 (by decide) ?_
    refine am_rVv (n := 1) hh dX3_boxSize_14 (lw_V q1871 q1873 qs87 q96 q1874) rfl ⟨⟨by decide, by decide, by decide +kernel⟩, ⟨Nat.le_of_ble_eq_true rfl, Nat.le_of_ble_eq_true rfl⟩⟩ ⟨rfl, rfl⟩ rfl rfl (Nat.le_of_ble_eq_true rfl) ⟨(Nat.le_refl 0), (Nat.le_refl 0)⟩ (am_mrecv _) (fun S21 hh => ?_)
    refine am_aload_n dX3_boxSize_17 rfl 0 rfl ?_
    refine am_bipush dX3_boxSize_18 (by decide) ?_
    refine am_rVv (n := 1) hh dX3_boxSize_20 (lw_V q1871 q1873 qs87 q96 q1874) rfl ⟨⟨by decide, by decide, by decide +kernel⟩, ⟨Nat.le_of_ble_eq_true rfl, Nat.le_of_ble_eq_true rfl⟩⟩ ⟨rfl, rfl⟩ rfl rfl (Nat.le_of_ble_eq_true rfl) ⟨(Nat.le_refl 0), (Nat.le_refl 0)⟩ (am_mrecv _) (fun S22 hh => ?_)
    refine am_aload_n dX3_boxSize_23 rfl 0 rfl ?_
    refine am_iconst dX3_boxSize_24 ?_
    refine am_iload_n dX3_boxSize_25 rfl 1 rfl ?_
    refine am_rVi (n := 2) hh dX3_boxSize_26 (lw_V q1564 q1566 qs51 q96 q1567) rfl ⟨⟨by decide, by decide, by decide +kernel⟩, ⟨Nat.le_of_ble_eq_true rfl, Nat.le_of_ble_eq_true rfl⟩⟩ ⟨rfl, rfl⟩ rfl rfl (Nat.le_of_ble_eq_true rfl) ⟨(Nat.le_refl 0), (Nat.le_refl 0)⟩ (am_mrecv _) (fun r24 S23 hr25 hh => ?_)
    refine am_istore_n dX3_boxSize_29 rfl (by decide) rfl ?_
    refine am_aload_n dX3_boxSize_30 rfl 1 rfl ?_
    refine am_mgeta 2 (by decide) q1406 dX3_boxSize_31 ?_
    refine am_iload_n dX3_boxSize_34 rfl 2 rfl ?_
    obtain ⟨o26, hh⟩ := hh
    refine am_miald 2 (by decide) (by decide) (v := (S23.2 2 v1.toNat).toInt) rfl o26.1 o26.2 dX3_boxSize_35 ?_
    refine am_iload_n dX3_boxSize_36 rfl 0 rfl ?_
    obtain ⟨ha27, hb28⟩ := hh
    refine am_if_ge (tgt := 44) dX3_boxSize_37 (by decide) hr25 (fun hc29 => ?_) (fun hc29 => ?_)
    · have hh := ha27 hc29
      refine am_aload_n dX3_boxSize_44 rfl 1 rfl ?_
      refine am_mgeta 2 (by decide) q1406 dX3_boxSize_45 ?_
      refine am_iload_n dX3_boxSize_48 rfl 0 rfl ?_
      obtain ⟨o30, hh⟩ := hh
      refine am_miald 2 (by decide) (by decide) (v := (S23.2 2 r24.toNat).toInt) rfl o30.1 o30.2 dX3_boxSize_49 ?_
      refine am_iadd dX3_boxSize_50 ?_
      refine am_istore dX3_boxSize_51 (by decide) rfl ?_
      refine am_iload_n dX3_boxSize_53 rfl 4 rfl ?_
      refine am_iconst dX3_boxSize_54 ?_
      obtain ⟨ha31, hb32⟩ := hh
      refine am_icmp_ne (tgt := 65) dX3_boxSize_55 (by decide) h2 (⟨by decide, by decide⟩) (fun hc33 => ?_) (fun hc33 => ?_)
      · have hh := ha31 hc33
        refine am_iload dX3_boxSize_65 0 rfl ?_
        exact am_iret rfl dX3_boxSize_67 (Nat.le_refl 0) (Nat.le_refl 0) hh
      · have hh := hb32 hc33
        refine am_iconst dX3_boxSize_58 ?_
        refine am_iload dX3_boxSize_59 0 rfl ?_
        refine am_imul dX3_boxSize_61 ?_
        refine am_goto (tgt := 67) dX3_boxSize_62 (by decide) ?_
        exact am_iret rfl dX3_boxSize_67 (Nat.le_refl 0) (Nat.le_refl 0) hh
    · have hh := hb28 hc29
      refine am_iconst dX3_boxSize_40 ?_
      refine am_goto (tgt := 50) dX3_boxSize_41 (by decide) ?_
      refine am_iadd dX3_boxSize_50 ?_
      refine am_istore dX3_boxSize_51 (by decide) rfl ?_
      refine am_iload_n dX3_boxSize_53 rfl 4 rfl ?_
      refine am_iconst dX3_boxSize_54 ?_
      obtain ⟨ha34, hb35⟩ := hh
      refine am_icmp_ne (tgt := 65) dX3_boxSize_55 (by decide) h2 (⟨by decide, by decide⟩) (fun hc36 => ?_) (fun hc36 => ?_)
      · have hh := ha34 hc36
        refine am_iload dX3_boxSize_65 0 rfl ?_
        exact am_iret rfl dX3_boxSize_67 (Nat.le_refl 0) (Nat.le_refl 0) hh
      · have hh := hb35 hc36
        refine am_iconst dX3_boxSize_58 ?_
        refine am_iload dX3_boxSize_59 0 rfl ?_
        refine am_imul dX3_boxSize_61 ?_
        refine am_goto (tgt := 67) dX3_boxSize_62 (by decide) ?_
        exact am_iret rfl dX3_boxSize_67 (Nat.le_refl 0) (Nat.le_refl 0) hh
/-! TableArmsModel.markOf(II)I -/
abbrev VX3_markOf (l : Launch) (Q : Option am_W → am_M → Prop) (pc : Nat) (lv : List (Nat × am_W)) (st : List am_W) (S : am_M) : Prop := am_V am_mr l RX3 cX3_markOf 3 (some .int) "markOf" (am_rm 4 0 0) (am_E1 am_mr 0 0 Q) pc lv st S 0 0
abbrev kX3_markOf (l : Launch) (as : List am_W) (S : am_M) (Q : Option am_W → am_M → Prop) : Prop := am_C am_mr l yX3_markOf (ws_ yX3_markOf cX3_markOf 3 (some .int)) (am_rm 4 0 0) 0 0 as S Q
set_option maxHeartbeats 4000000 in
set_option maxRecDepth 100000 in
theorem bX3_markOf {l : Launch} {Q : Option am_W → am_M → Prop} {S : am_M} (v1 : Int) (h1 : am_r v1) (v2 : Int) (h2 : am_r v2)
    (hh : ((v2 = 1) →
        ((¬ v2 = 1) →
          ((¬ v2 = 4) →
            kX3_began l [am_R 0, am_I 23] S (am_qv fun S10 =>
              VX3_markOf l Q 41 [(0, am_R 0), (1, am_I v1), (2, am_I v2)] [] S10)) ∧
          ((v2 = 4) →
            kX3_began l [am_R 0, am_I 22] S (am_qv fun S11 =>
              VX3_markOf l Q 41 [(0, am_R 0), (1, am_I v1), (2, am_I v2)] [] S11))) ∧
        ((v2 = 1) →
          kX3_began l [am_R 0, am_I 21] S (am_qv fun S12 =>
            VX3_markOf l Q 41 [(0, am_R 0), (1, am_I v1), (2, am_I v2)] [] S12))) ∧
      ((¬ v2 = 1) →
        ((v2 = 4) →
          ((¬ v2 = 1) →
            ((¬ v2 = 4) →
              kX3_began l [am_R 0, am_I 23] S (am_qv fun S22 =>
                VX3_markOf l Q 41 [(0, am_R 0), (1, am_I v1), (2, am_I v2)] [] S22)) ∧
            ((v2 = 4) →
              kX3_began l [am_R 0, am_I 22] S (am_qv fun S23 =>
                VX3_markOf l Q 41 [(0, am_R 0), (1, am_I v1), (2, am_I v2)] [] S23))) ∧
          ((v2 = 1) →
            kX3_began l [am_R 0, am_I 21] S (am_qv fun S24 =>
              VX3_markOf l Q 41 [(0, am_R 0), (1, am_I v1), (2, am_I v2)] [] S24))) ∧
        ((¬ v2 = 4) →
          ((¬ v2 = 2) →
            VX3_markOf l Q 41 [(0, am_R 0), (1, am_I v1), (2, am_I v2)] [] S) ∧
          ((v2 = 2) →
            ((¬ v2 = 1) →
              ((¬ v2 = 4) →
                kX3_began l [am_R 0, am_I 23] S (am_qv fun S34 =>
                  VX3_markOf l Q 41 [(0, am_R 0), (1, am_I v1), (2, am_I v2)] [] S34)) ∧
              ((v2 = 4) →
                kX3_began l [am_R 0, am_I 22] S (am_qv fun S35 =>
                  VX3_markOf l Q 41 [(0, am_R 0), (1, am_I v1), (2, am_I v2)] [] S35))) ∧
            ((v2 = 1) →
              kX3_began l [am_R 0, am_I 21] S (am_qv fun S36 =>
                VX3_markOf l Q 41 [(0, am_R 0), (1, am_I v1), (2, am_I v2)] [] S36)))))) : kX3_markOf l [am_R 0, am_I v1, am_I v2] S Q := by
  refine am_entry (lv := [(0, am_R 0), (1, am_I v1), (2, am_I v2)]) rfl rfl rfl (fun _ => rfl) (fun _ => Nat.le_of_ble_eq_true rfl) ?_
  refine am_iload_n dX3_markOf_0 rfl 2 rfl ?_
  refine am_iconst dX3_markOf_1 ?_
  obtain ⟨ha1, hb2⟩ := hh
  refine am_icmp_eq (tgt := 15) dX3_markOf_2 (by decide) h2 (⟨by decide, by decide⟩) (fun hc3 => ?_) (fun hc3 => ?_)
  · have hh := ha1 hc3
    refine am_aload_n dX3_markOf_15 rfl 0 rfl ?_
    refine am_iload_n dX3_markOf_16 rfl 2 rfl ?_
    refine am_iconst dX3_markOf_17 ?_
    obtain ⟨ha4, hb5⟩ := hh
    refine am_icmp_ne (tgt := 26) dX3_markOf_18 (by decide) h2 (⟨by decide, by decide⟩) (fun hc6 => ?_) (fun hc6 => ?_)
    · have hh := ha4 hc6
      refine am_iload_n dX3_markOf_26 rfl 2 rfl ?_
      refine am_iconst dX3_markOf_27 ?_
      obtain ⟨ha7, hb8⟩ := hh
      refine am_icmp_ne (tgt := 36) dX3_markOf_28 (by decide) h2 (⟨by decide, by decide⟩) (fun hc9 => ?_) (fun hc9 => ?_)
      · have hh := ha7 hc9
        refine am_bipush dX3_markOf_36 (by decide) ?_
        refine am_rVv (n := 1) hh dX3_markOf_38 (lw_V q1871 q1873 qs87 q96 q1874) rfl ⟨⟨by decide, by decide, by decide +kernel⟩, ⟨Nat.le_of_ble_eq_true rfl, Nat.le_of_ble_eq_true rfl⟩⟩ ⟨rfl, rfl⟩ rfl rfl (Nat.le_of_ble_eq_true rfl) ⟨(Nat.le_refl 0), (Nat.le_refl 0)⟩ (am_mrecv _) (fun S10 hh => ?_)
        exact hh
      · have hh := hb8 hc9
        refine am_bipush dX3_markOf_31 (by decide) ?_
        refine am_goto (tgt := 38) dX3_markOf_33 (by decide) ?_
        refine am_rVv (n := 1) hh dX3_markOf_38 (lw_V q1871 q1873 qs87 q96 q1874) rfl ⟨⟨by decide, by decide, by decide +kernel⟩, ⟨Nat.le_of_ble_eq_true rfl, Nat.le_of_ble_eq_true rfl⟩⟩ ⟨rfl, rfl⟩ rfl rfl (Nat.le_of_ble_eq_true rfl) ⟨(Nat.le_refl 0), (Nat.le_refl 0)⟩ (am_mrecv _) (fun S11 hh => ?_)
        exact hh
    · have hh := hb5 hc6
      refine am_bipush dX3_markOf_21 (by decide) ?_
      refine am_goto (tgt := 38) dX3_markOf_23 (by decide) ?_
      refine am_rVv (n := 1) hh dX3_markOf_38 (lw_V q1871 q1873 qs87 q96 q1874) rfl ⟨⟨by decide, by decide, by decide +kernel⟩, ⟨Nat.le_of_ble_eq_true rfl, Nat.le_of_ble_eq_true rfl⟩⟩ ⟨rfl, rfl⟩ rfl rfl (Nat.le_of_ble_eq_true rfl) ⟨(Nat.le_refl 0), (Nat.le_refl 0)⟩ (am_mrecv _) (fun S12 hh => ?_)
      exact hh
  · have hh := hb2 hc3
    refine am_iload_n dX3_markOf_5 rfl 2 rfl ?_
    refine am_iconst dX3_markOf_6 ?_
    obtain ⟨ha13, hb14⟩ := hh
    refine am_icmp_eq (tgt := 15) dX3_markOf_7 (by decide) h2 (⟨by decide, by decide⟩) (fun hc15 => ?_) (fun hc15 => ?_)
    · have hh := ha13 hc15
      refine am_aload_n dX3_markOf_15 rfl 0 rfl ?_
      refine am_iload_n dX3_markOf_16 rfl 2 rfl ?_
      refine am_iconst dX3_markOf_17 ?_
      obtain ⟨ha16, hb17⟩ := hh
      refine am_icmp_ne (tgt := 26) dX3_markOf_18 (by decide) h2 (⟨by decide, by decide⟩) (fun hc18 => ?_) (fun hc18 => ?_)
      · have hh := ha16 hc18
        refine am_iload_n dX3_markOf_26 rfl 2 rfl ?_
        refine am_iconst dX3_markOf_27 ?_
        obtain ⟨ha19, hb20⟩ := hh
        refine am_icmp_ne (tgt := 36) dX3_markOf_28 (by decide) h2 (⟨by decide, by decide⟩) (fun hc21 => ?_) (fun hc21 => ?_)
        · have hh := ha19 hc21
          refine am_bipush dX3_markOf_36 (by decide) ?_
          refine am_rVv (n := 1) hh dX3_markOf_38 (lw_V q1871 q1873 qs87 q96 q1874) rfl ⟨⟨by decide, by decide, by decide +kernel⟩, ⟨Nat.le_of_ble_eq_true rfl, Nat.le_of_ble_eq_true rfl⟩⟩ ⟨rfl, rfl⟩ rfl rfl (Nat.le_of_ble_eq_true rfl) ⟨(Nat.le_refl 0), (Nat.le_refl 0)⟩ (am_mrecv _) (fun S22 hh => ?_)
          exact hh
        · have hh := hb20 hc21
          refine am_bipush dX3_markOf_31 (by decide) ?_
          refine am_goto (tgt := 38) dX3_markOf_33 (by decide) ?_
          refine am_rVv (n := 1) hh dX3_markOf_38 (lw_V q1871 q1873 qs87 q96 q1874) rfl ⟨⟨by decide, by decide, by decide +kernel⟩, ⟨Nat.le_of_ble_eq_true rfl, Nat.le_of_ble_eq_true rfl⟩⟩ ⟨rfl, rfl⟩ rfl rfl (Nat.le_of_ble_eq_true rfl) ⟨(Nat.le_refl 0), (Nat.le_refl 0)⟩ (am_mrecv _) (fun S23 hh => ?_)
          exact hh
      · have hh := hb17 hc18
        refine am_bipush dX3_markOf_21 (by decide) ?_
        refine am_goto (tgt := 38) dX3_markOf_23 (by decide) ?_
        refine am_rVv (n := 1) hh dX3_markOf_38 (lw_V q1871 q1873 qs87 q96 q1874) rfl ⟨⟨by decide, by decide, by decide +kernel⟩, ⟨Nat.le_of_ble_eq_true rfl, Nat.le_of_ble_eq_true rfl⟩⟩ ⟨rfl, rfl⟩ rfl rfl (Nat.le_of_ble_eq_true rfl) ⟨(Nat.le_refl 0), (Nat.le_refl 0)⟩ (am_mrecv _) (fun S24 hh => ?_)
        exact hh
    · have hh := hb14 hc15
      refine am_iload_n dX3_markOf_10 rfl 2 rfl ?_
      refine am_iconst dX3_markOf_11 ?_
      obtain ⟨ha25, hb26⟩ := hh
      refine am_icmp_ne (tgt := 41) dX3_markOf_12 (by decide) h2 (⟨by decide, by decide⟩) (fun hc27 => ?_) (fun hc27 => ?_)
      · have hh := ha25 hc27
        exact hh
      · have hh := hb26 hc27
        refine am_aload_n dX3_markOf_15 rfl 0 rfl ?_
        refine am_iload_n dX3_markOf_16 rfl 2 rfl ?_
        refine am_iconst dX3_markOf_17 ?_
        obtain ⟨ha28, hb29⟩ := hh
        refine am_icmp_ne (tgt := 26) dX3_markOf_18 (by decide) h2 (⟨by decide, by decide⟩) (fun hc30 => ?_) (fun hc30 => ?_)
        · have hh := ha28 hc30
          refine am_iload_n dX3_markOf_26 rfl 2 rfl ?_
          refine am_iconst dX3_markOf_27 ?_
          obtain ⟨ha31, hb32⟩ := hh
          refine am_icmp_ne (tgt := 36) dX3_markOf_28 (by decide) h2 (⟨by decide, by decide⟩) (fun hc33 => ?_) (fun hc33 => ?_)
          · have hh := ha31 hc33
            refine am_bipush dX3_markOf_36 (by decide) ?_
            refine am_rVv (n := 1) hh dX3_markOf_38 (lw_V q1871 q1873 qs87 q96 q1874) rfl ⟨⟨by decide, by decide, by decide +kernel⟩, ⟨Nat.le_of_ble_eq_true rfl, Nat.le_of_ble_eq_true rfl⟩⟩ ⟨rfl, rfl⟩ rfl rfl (Nat.le_of_ble_eq_true rfl) ⟨(Nat.le_refl 0), (Nat.le_refl 0)⟩ (am_mrecv _) (fun S34 hh => ?_)
            exact hh
          · have hh := hb32 hc33
            refine am_bipush dX3_markOf_31 (by decide) ?_
            refine am_goto (tgt := 38) dX3_markOf_33 (by decide) ?_
            refine am_rVv (n := 1) hh dX3_markOf_38 (lw_V q1871 q1873 qs87 q96 q1874) rfl ⟨⟨by decide, by decide, by decide +kernel⟩, ⟨Nat.le_of_ble_eq_true rfl, Nat.le_of_ble_eq_true rfl⟩⟩ ⟨rfl, rfl⟩ rfl rfl (Nat.le_of_ble_eq_true rfl) ⟨(Nat.le_refl 0), (Nat.le_refl 0)⟩ (am_mrecv _) (fun S35 hh => ?_)
            exact hh
        · have hh := hb29 hc30
          refine am_bipush dX3_markOf_21 (by decide) ?_
          refine am_goto (tgt := 38) dX3_markOf_23 (by decide) ?_
          refine am_rVv (n := 1) hh dX3_markOf_38 (lw_V q1871 q1873 qs87 q96 q1874) rfl ⟨⟨by decide, by decide, by decide +kernel⟩, ⟨Nat.le_of_ble_eq_true rfl, Nat.le_of_ble_eq_true rfl⟩⟩ ⟨rfl, rfl⟩ rfl rfl (Nat.le_of_ble_eq_true rfl) ⟨(Nat.le_refl 0), (Nat.le_refl 0)⟩ (am_mrecv _) (fun S36 hh => ?_)
          exact hh
set_option maxHeartbeats 4000000 in
set_option maxRecDepth 100000 in
theorem bX3_markOf_41 {l : Launch} {Q : Option am_W → am_M → Prop} {S : am_M} (v1 : Int) (h1 : am_r v1) (v2 : Int) (h2 : am_r v2)
    (hh : kX3_began l [am_R 0, am_I 20] S (am_qv fun S1 =>
        VX3_markOf l Q 47 [(0, am_R 0), (1, am_I v1), (2, am_I v2)] [] S1)) : VX3_markOf l Q 41 [(0, am_R 0), (1, am_I v1), (2, am_I v2)] [] S := by
  refine am_aload_n dX3_markOf_41 rfl 0 rfl ?_
  refine am_bipush dX3_markOf_42 (by decide) ?_
  refine am_rVv (n := 1) hh dX3_markOf_44 (lw_V q1871 q1873 qs87 q96 q1874) rfl ⟨⟨by decide, by decide, by decide +kernel⟩, ⟨Nat.le_of_ble_eq_true rfl, Nat.le_of_ble_eq_true rfl⟩⟩ ⟨rfl, rfl⟩ rfl rfl (Nat.le_of_ble_eq_true rfl) ⟨(Nat.le_refl 0), (Nat.le_refl 0)⟩ (am_mrecv _) (fun S1 hh => ?_)
  exact hh
set_option maxHeartbeats 4000000 in
set_option maxRecDepth 100000 in
theorem bX3_markOf_47 {l : Launch} {Q : Option am_W → am_M → Prop} {S : am_M} (v1 : Int) (h1 : am_r v1) (v2 : Int) (h2 : am_r v2)
    (hh : ((¬ v2 = 1) →
        ((¬ v2 = 4) →
          ((¬ v2 = 2) →
            Q (some (am_I v1)) S) ∧
          ((v2 = 2) →
            Q (some (am_I (v1 + 1000))) S)) ∧
        ((v2 = 4) →
          kX3_boxSize l [am_R 0, am_I v1, am_I v2] S (am_qi fun r11 S10 =>
            Q (some (am_I (v1 + r11))) S10))) ∧
      ((v2 = 1) →
        kX3_isClear l [am_R 0, am_I 0, am_I v1] S (am_qz fun b14 S13 =>
          ((b14 = false) →
            ((¬ v2 = 4) →
              ((¬ v2 = 2) →
                Q (some (am_I v1)) S13) ∧
              ((v2 = 2) →
                Q (some (am_I (v1 + 1000))) S13)) ∧
            ((v2 = 4) →
              kX3_boxSize l [am_R 0, am_I v1, am_I v2] S13 (am_qi fun r25 S24 =>
                Q (some (am_I (v1 + r25))) S24))) ∧
          ((b14 = true) →
            Q (some (am_I (v1 + 100))) S13)))) : VX3_markOf l Q 47 [(0, am_R 0), (1, am_I v1), (2, am_I v2)] [] S := by
  refine am_iload_n dX3_markOf_47 rfl 2 rfl ?_
  refine am_iconst dX3_markOf_48 ?_
  obtain ⟨ha1, hb2⟩ := hh
  refine am_icmp_ne (tgt := 68) dX3_markOf_49 (by decide) h2 (⟨by decide, by decide⟩) (fun hc3 => ?_) (fun hc3 => ?_)
  · have hh := ha1 hc3
    refine am_iload_n dX3_markOf_68 rfl 2 rfl ?_
    refine am_iconst dX3_markOf_69 ?_
    obtain ⟨ha4, hb5⟩ := hh
    refine am_icmp_ne (tgt := 84) dX3_markOf_70 (by decide) h2 (⟨by decide, by decide⟩) (fun hc6 => ?_) (fun hc6 => ?_)
    · have hh := ha4 hc6
      refine am_iload_n dX3_markOf_84 rfl 2 rfl ?_
      refine am_iconst dX3_markOf_85 ?_
      obtain ⟨ha7, hb8⟩ := hh
      refine am_icmp_ne (tgt := 97) dX3_markOf_86 (by decide) h2 (⟨by decide, by decide⟩) (fun hc9 => ?_) (fun hc9 => ?_)
      · have hh := ha7 hc9
        refine am_iload_n dX3_markOf_97 rfl 1 rfl ?_
        exact am_iret rfl dX3_markOf_98 (Nat.le_refl 0) (Nat.le_refl 0) hh
      · have hh := hb8 hc9
        refine am_iload_n dX3_markOf_89 rfl 1 rfl ?_
        refine am_sipush dX3_markOf_90 (by decide) ?_
        refine am_iadd dX3_markOf_93 ?_
        refine am_goto (tgt := 98) dX3_markOf_94 (by decide) ?_
        exact am_iret rfl dX3_markOf_98 (Nat.le_refl 0) (Nat.le_refl 0) hh
    · have hh := hb5 hc6
      refine am_iload_n dX3_markOf_73 rfl 1 rfl ?_
      refine am_aload_n dX3_markOf_74 rfl 0 rfl ?_
      refine am_iload_n dX3_markOf_75 rfl 1 rfl ?_
      refine am_iload_n dX3_markOf_76 rfl 2 rfl ?_
      refine am_rVi (n := 2) hh dX3_markOf_77 (lw_V q1867 q1869 qs86 q96 q1870) rfl ⟨⟨by decide, by decide, by decide +kernel⟩, ⟨Nat.le_of_ble_eq_true rfl, Nat.le_of_ble_eq_true rfl⟩⟩ ⟨rfl, rfl⟩ rfl rfl (Nat.le_of_ble_eq_true rfl) ⟨(Nat.le_refl 0), (Nat.le_refl 0)⟩ (am_mrecv _) (fun r11 S10 hr12 hh => ?_)
      refine am_iadd dX3_markOf_80 ?_
      refine am_goto (tgt := 98) dX3_markOf_81 (by decide) ?_
      exact am_iret rfl dX3_markOf_98 (Nat.le_refl 0) (Nat.le_refl 0) hh
  · have hh := hb2 hc3
    refine am_aload_n dX3_markOf_52 rfl 0 rfl ?_
    refine am_iconst dX3_markOf_53 ?_
    refine am_iload_n dX3_markOf_54 rfl 1 rfl ?_
    refine am_rVz (n := 2) hh dX3_markOf_55 (lw_V q1560 q1562 qs50 q96 q1563) rfl ⟨⟨by decide, by decide, by decide +kernel⟩, ⟨Nat.le_of_ble_eq_true rfl, Nat.le_of_ble_eq_true rfl⟩⟩ ⟨rfl, rfl⟩ rfl rfl (Nat.le_of_ble_eq_true rfl) ⟨(Nat.le_refl 0), (Nat.le_refl 0)⟩ (am_mrecv _) (fun b14 S13 hh => ?_)
    obtain ⟨ha15, hb16⟩ := hh
    refine am_ifB_eq (tgt := 68) dX3_markOf_58 (by decide) (fun hc17 => ?_) (fun hc17 => ?_)
    · have hh := ha15 hc17
      refine am_iload_n dX3_markOf_68 rfl 2 rfl ?_
      refine am_iconst dX3_markOf_69 ?_
      obtain ⟨ha18, hb19⟩ := hh
      refine am_icmp_ne (tgt := 84) dX3_markOf_70 (by decide) h2 (⟨by decide, by decide⟩) (fun hc20 => ?_) (fun hc20 => ?_)
      · have hh := ha18 hc20
        refine am_iload_n dX3_markOf_84 rfl 2 rfl ?_
        refine am_iconst dX3_markOf_85 ?_
        obtain ⟨ha21, hb22⟩ := hh
        refine am_icmp_ne (tgt := 97) dX3_markOf_86 (by decide) h2 (⟨by decide, by decide⟩) (fun hc23 => ?_) (fun hc23 => ?_)
        · have hh := ha21 hc23
          refine am_iload_n dX3_markOf_97 rfl 1 rfl ?_
          exact am_iret rfl dX3_markOf_98 (Nat.le_refl 0) (Nat.le_refl 0) hh
        · have hh := hb22 hc23
          refine am_iload_n dX3_markOf_89 rfl 1 rfl ?_
          refine am_sipush dX3_markOf_90 (by decide) ?_
          refine am_iadd dX3_markOf_93 ?_
          refine am_goto (tgt := 98) dX3_markOf_94 (by decide) ?_
          exact am_iret rfl dX3_markOf_98 (Nat.le_refl 0) (Nat.le_refl 0) hh
      · have hh := hb19 hc20
        refine am_iload_n dX3_markOf_73 rfl 1 rfl ?_
        refine am_aload_n dX3_markOf_74 rfl 0 rfl ?_
        refine am_iload_n dX3_markOf_75 rfl 1 rfl ?_
        refine am_iload_n dX3_markOf_76 rfl 2 rfl ?_
        refine am_rVi (n := 2) hh dX3_markOf_77 (lw_V q1867 q1869 qs86 q96 q1870) rfl ⟨⟨by decide, by decide, by decide +kernel⟩, ⟨Nat.le_of_ble_eq_true rfl, Nat.le_of_ble_eq_true rfl⟩⟩ ⟨rfl, rfl⟩ rfl rfl (Nat.le_of_ble_eq_true rfl) ⟨(Nat.le_refl 0), (Nat.le_refl 0)⟩ (am_mrecv _) (fun r25 S24 hr26 hh => ?_)
        refine am_iadd dX3_markOf_80 ?_
        refine am_goto (tgt := 98) dX3_markOf_81 (by decide) ?_
        exact am_iret rfl dX3_markOf_98 (Nat.le_refl 0) (Nat.le_refl 0) hh
    · have hh := hb16 hc17
      refine am_iload_n dX3_markOf_61 rfl 1 rfl ?_
      refine am_bipush dX3_markOf_62 (by decide) ?_
      refine am_iadd dX3_markOf_64 ?_
      refine am_goto (tgt := 98) dX3_markOf_65 (by decide) ?_
      exact am_iret rfl dX3_markOf_98 (Nat.le_refl 0) (Nat.le_refl 0) hh
/-! TableArmsModel.askSize(II)I -/
abbrev VX3_askSize (l : Launch) (Q : Option am_W → am_M → Prop) (pc : Nat) (lv : List (Nat × am_W)) (st : List am_W) (S : am_M) : Prop := am_V am_mr l RX3 cX3_askSize 4 (some .int) "askSize" (am_rm 5 0 0) (am_E1 am_mr 0 0 Q) pc lv st S 0 0
abbrev kX3_askSize (l : Launch) (as : List am_W) (S : am_M) (Q : Option am_W → am_M → Prop) : Prop := am_C am_mr l yX3_askSize (ws_ yX3_askSize cX3_askSize 4 (some .int)) (am_rm 5 0 0) 0 0 as S Q
set_option maxHeartbeats 4000000 in
set_option maxRecDepth 100000 in
theorem bX3_askSize {l : Launch} {Q : Option am_W → am_M → Prop} {S : am_M} (v1 : Int) (h1 : am_r v1) (v2 : Int) (h2 : am_r v2)
    (hh : kX3_isOf l [am_I v2, am_I 3] S (am_qz fun b2 S1 =>
        ((b2 = false) →
          ((v2 = 1) →
            ((¬ v2 = 1) →
              kX3_began l [am_R 0, am_I 14] S1 (am_qv fun S12 =>
                kX3_began l [am_R 0, am_I 10] S12 (am_qv fun S13 =>
                  (0 ≤ v1 ∧ v1 < 6) ∧
                  ((¬ v2 = 1) →
                    ((¬ v2 = 5) →
                      Q (some (am_I (S13.2 2 v1.toNat).toInt)) S13) ∧
                    ((v2 = 5) →
                      kX3_boxOf l [am_R 0, am_I 0, am_I v1] S13 (am_qi fun r22 S21 =>
                        ((0 ≤ r22) →
                          Q (some (am_I (S13.2 2 v1.toNat).toInt)) S21) ∧
                        ((¬ 0 ≤ r22) →
                          kX3_below l [am_R 0, am_I 0, am_I v1] S21 (am_qi fun r28 S27 =>
                            Q (some (am_I ((S13.2 2 v1.toNat).toInt + r28))) S27))))) ∧
                  ((v2 = 1) →
                    kX3_markOf l [am_R 0, am_I v1, am_I v2] S13 (am_qi fun r31 S30 =>
                      Q (some (am_I ((S13.2 2 v1.toNat).toInt + r31))) S30))))) ∧
            ((v2 = 1) →
              kX3_began l [am_R 0, am_I 11] S1 (am_qv fun S33 =>
                kX3_began l [am_R 0, am_I 10] S33 (am_qv fun S34 =>
                  (0 ≤ v1 ∧ v1 < 6) ∧
                  ((¬ v2 = 1) →
                    ((¬ v2 = 5) →
                      Q (some (am_I (S34.2 2 v1.toNat).toInt)) S34) ∧
                    ((v2 = 5) →
                      kX3_boxOf l [am_R 0, am_I 0, am_I v1] S34 (am_qi fun r43 S42 =>
                        ((0 ≤ r43) →
                          Q (some (am_I (S34.2 2 v1.toNat).toInt)) S42) ∧
                        ((¬ 0 ≤ r43) →
                          kX3_below l [am_R 0, am_I 0, am_I v1] S42 (am_qi fun r49 S48 =>
                            Q (some (am_I ((S34.2 2 v1.toNat).toInt + r49))) S48))))) ∧
                  ((v2 = 1) →
                    kX3_markOf l [am_R 0, am_I v1, am_I v2] S34 (am_qi fun r52 S51 =>
                      Q (some (am_I ((S34.2 2 v1.toNat).toInt + r52))) S51)))))) ∧
          ((¬ v2 = 1) →
            ((¬ v2 = 5) →
              kX3_began l [am_R 0, am_I 10] S1 (am_qv fun S57 =>
                (0 ≤ v1 ∧ v1 < 6) ∧
                ((¬ v2 = 1) →
                  ((¬ v2 = 5) →
                    Q (some (am_I (S57.2 2 v1.toNat).toInt)) S57) ∧
                  ((v2 = 5) →
                    kX3_boxOf l [am_R 0, am_I 0, am_I v1] S57 (am_qi fun r66 S65 =>
                      ((0 ≤ r66) →
                        Q (some (am_I (S57.2 2 v1.toNat).toInt)) S65) ∧
                      ((¬ 0 ≤ r66) →
                        kX3_below l [am_R 0, am_I 0, am_I v1] S65 (am_qi fun r72 S71 =>
                          Q (some (am_I ((S57.2 2 v1.toNat).toInt + r72))) S71))))) ∧
                ((v2 = 1) →
                  kX3_markOf l [am_R 0, am_I v1, am_I v2] S57 (am_qi fun r75 S74 =>
                    Q (some (am_I ((S57.2 2 v1.toNat).toInt + r75))) S74)))) ∧
            ((v2 = 5) →
              ((¬ v2 = 1) →
                kX3_began l [am_R 0, am_I 14] S1 (am_qv fun S80 =>
                  kX3_began l [am_R 0, am_I 10] S80 (am_qv fun S81 =>
                    (0 ≤ v1 ∧ v1 < 6) ∧
                    ((¬ v2 = 1) →
                      ((¬ v2 = 5) →
                        Q (some (am_I (S81.2 2 v1.toNat).toInt)) S81) ∧
                      ((v2 = 5) →
                        kX3_boxOf l [am_R 0, am_I 0, am_I v1] S81 (am_qi fun r90 S89 =>
                          ((0 ≤ r90) →
                            Q (some (am_I (S81.2 2 v1.toNat).toInt)) S89) ∧
                          ((¬ 0 ≤ r90) →
                            kX3_below l [am_R 0, am_I 0, am_I v1] S89 (am_qi fun r96 S95 =>
                              Q (some (am_I ((S81.2 2 v1.toNat).toInt + r96))) S95))))) ∧
                    ((v2 = 1) →
                      kX3_markOf l [am_R 0, am_I v1, am_I v2] S81 (am_qi fun r99 S98 =>
                        Q (some (am_I ((S81.2 2 v1.toNat).toInt + r99))) S98))))) ∧
              ((v2 = 1) →
                kX3_began l [am_R 0, am_I 11] S1 (am_qv fun S101 =>
                  kX3_began l [am_R 0, am_I 10] S101 (am_qv fun S102 =>
                    (0 ≤ v1 ∧ v1 < 6) ∧
                    ((¬ v2 = 1) →
                      ((¬ v2 = 5) →
                        Q (some (am_I (S102.2 2 v1.toNat).toInt)) S102) ∧
                      ((v2 = 5) →
                        kX3_boxOf l [am_R 0, am_I 0, am_I v1] S102 (am_qi fun r111 S110 =>
                          ((0 ≤ r111) →
                            Q (some (am_I (S102.2 2 v1.toNat).toInt)) S110) ∧
                          ((¬ 0 ≤ r111) →
                            kX3_below l [am_R 0, am_I 0, am_I v1] S110 (am_qi fun r117 S116 =>
                              Q (some (am_I ((S102.2 2 v1.toNat).toInt + r117))) S116))))) ∧
                    ((v2 = 1) →
                      kX3_markOf l [am_R 0, am_I v1, am_I v2] S102 (am_qi fun r120 S119 =>
                        Q (some (am_I ((S102.2 2 v1.toNat).toInt + r120))) S119)))))))) ∧
        ((b2 = true) →
          kX3_boxSize l [am_R 0, am_I v1, am_I v2] S1 (am_qi fun r123 S122 =>
            Q (some (am_I r123)) S122)))) : kX3_askSize l [am_R 0, am_I v1, am_I v2] S Q := by
  refine am_entry (lv := [(0, am_R 0), (1, am_I v1), (2, am_I v2)]) rfl rfl rfl (fun _ => rfl) (fun _ => Nat.le_of_ble_eq_true rfl) ?_
  refine am_iload_n dX3_askSize_0 rfl 2 rfl ?_
  refine am_iconst dX3_askSize_1 ?_
  refine am_rSz (n := 2) hh dX3_askSize_2 (lw_S q1856 q1857 q96 q1858) ⟨⟨by decide, by decide, by decide +kernel⟩, ⟨Nat.le_of_ble_eq_true rfl, Nat.le_of_ble_eq_true rfl⟩⟩ ⟨rfl, rfl⟩ rfl rfl (Nat.le_of_ble_eq_true rfl) ⟨(Nat.le_refl 0), (Nat.le_refl 0)⟩ (fun b2 S1 hh => ?_)
  obtain ⟨ha3, hb4⟩ := hh
  refine am_ifB_eq (tgt := 15) dX3_askSize_5 (by decide) (fun hc5 => ?_) (fun hc5 => ?_)
  · have hh := ha3 hc5
    refine am_iload_n dX3_askSize_15 rfl 2 rfl ?_
    refine am_iconst dX3_askSize_16 ?_
    obtain ⟨ha6, hb7⟩ := hh
    refine am_icmp_eq (tgt := 25) dX3_askSize_17 (by decide) h2 (⟨by decide, by decide⟩) (fun hc8 => ?_) (fun hc8 => ?_)
    · have hh := ha6 hc8
      refine am_aload_n dX3_askSize_25 rfl 0 rfl ?_
      refine am_iload_n dX3_askSize_26 rfl 2 rfl ?_
      refine am_iconst dX3_askSize_27 ?_
      obtain ⟨ha9, hb10⟩ := hh
      refine am_icmp_ne (tgt := 36) dX3_askSize_28 (by decide) h2 (⟨by decide, by decide⟩) (fun hc11 => ?_) (fun hc11 => ?_)
      · have hh := ha9 hc11
        refine am_bipush dX3_askSize_36 (by decide) ?_
        refine am_rVv (n := 1) hh dX3_askSize_38 (lw_V q1871 q1873 qs87 q96 q1874) rfl ⟨⟨by decide, by decide, by decide +kernel⟩, ⟨Nat.le_of_ble_eq_true rfl, Nat.le_of_ble_eq_true rfl⟩⟩ ⟨rfl, rfl⟩ rfl rfl (Nat.le_of_ble_eq_true rfl) ⟨(Nat.le_refl 0), (Nat.le_refl 0)⟩ (am_mrecv _) (fun S12 hh => ?_)
        refine am_aload_n dX3_askSize_41 rfl 0 rfl ?_
        refine am_bipush dX3_askSize_42 (by decide) ?_
        refine am_rVv (n := 1) hh dX3_askSize_44 (lw_V q1871 q1873 qs87 q96 q1874) rfl ⟨⟨by decide, by decide, by decide +kernel⟩, ⟨Nat.le_of_ble_eq_true rfl, Nat.le_of_ble_eq_true rfl⟩⟩ ⟨rfl, rfl⟩ rfl rfl (Nat.le_of_ble_eq_true rfl) ⟨(Nat.le_refl 0), (Nat.le_refl 0)⟩ (am_mrecv _) (fun S13 hh => ?_)
        refine am_aload_n dX3_askSize_47 rfl 0 rfl ?_
        refine am_mgeta 2 (by decide) q1406 dX3_askSize_48 ?_
        refine am_iload_n dX3_askSize_51 rfl 1 rfl ?_
        obtain ⟨o14, hh⟩ := hh
        refine am_miald 2 (by decide) (by decide) (v := (S13.2 2 v1.toNat).toInt) rfl o14.1 o14.2 dX3_askSize_52 ?_
        refine am_istore_n dX3_askSize_53 rfl (by decide) rfl ?_
        refine am_iload_n dX3_askSize_54 rfl 3 rfl ?_
        refine am_iconst dX3_askSize_55 ?_
        obtain ⟨ha15, hb16⟩ := hh
        refine am_icmp_ne (tgt := 70) dX3_askSize_56 (by decide) h2 (⟨by decide, by decide⟩) (fun hc17 => ?_) (fun hc17 => ?_)
        · have hh := ha15 hc17
          refine am_iload_n dX3_askSize_70 rfl 3 rfl ?_
          refine am_iconst dX3_askSize_71 ?_
          obtain ⟨ha18, hb19⟩ := hh
          refine am_icmp_ne (tgt := 95) dX3_askSize_72 (by decide) h2 (⟨by decide, by decide⟩) (fun hc20 => ?_) (fun hc20 => ?_)
          · have hh := ha18 hc20
            refine am_iload_n dX3_askSize_95 rfl 0 rfl ?_
            exact am_iret rfl dX3_askSize_96 (Nat.le_refl 0) (Nat.le_refl 0) hh
          · have hh := hb19 hc20
            refine am_aload_n dX3_askSize_75 rfl 1 rfl ?_
            refine am_iconst dX3_askSize_76 ?_
            refine am_iload_n dX3_askSize_77 rfl 2 rfl ?_
            refine am_rVi (n := 2) hh dX3_askSize_78 (lw_V q1528 q1530 qs43 q96 q1531) rfl ⟨⟨by decide, by decide, by decide +kernel⟩, ⟨Nat.le_of_ble_eq_true rfl, Nat.le_of_ble_eq_true rfl⟩⟩ ⟨rfl, rfl⟩ rfl rfl (Nat.le_of_ble_eq_true rfl) ⟨(Nat.le_refl 0), (Nat.le_refl 0)⟩ (am_mrecv _) (fun r22 S21 hr23 hh => ?_)
            obtain ⟨ha24, hb25⟩ := hh
            refine am_if_ge (tgt := 95) dX3_askSize_81 (by decide) hr23 (fun hc26 => ?_) (fun hc26 => ?_)
            · have hh := ha24 hc26
              refine am_iload_n dX3_askSize_95 rfl 0 rfl ?_
              exact am_iret rfl dX3_askSize_96 (Nat.le_refl 0) (Nat.le_refl 0) hh
            · have hh := hb25 hc26
              refine am_iload_n dX3_askSize_84 rfl 0 rfl ?_
              refine am_aload_n dX3_askSize_85 rfl 1 rfl ?_
              refine am_iconst dX3_askSize_86 ?_
              refine am_iload_n dX3_askSize_87 rfl 2 rfl ?_
              refine am_rVi (n := 2) hh dX3_askSize_88 (lw_V q1545 q1547 qs47 q96 q1548) rfl ⟨⟨by decide, by decide, by decide +kernel⟩, ⟨Nat.le_of_ble_eq_true rfl, Nat.le_of_ble_eq_true rfl⟩⟩ ⟨rfl, rfl⟩ rfl rfl (Nat.le_of_ble_eq_true rfl) ⟨(Nat.le_refl 0), (Nat.le_refl 0)⟩ (am_mrecv _) (fun r28 S27 hr29 hh => ?_)
              refine am_iadd dX3_askSize_91 ?_
              refine am_goto (tgt := 96) dX3_askSize_92 (by decide) ?_
              exact am_iret rfl dX3_askSize_96 (Nat.le_refl 0) (Nat.le_refl 0) hh
        · have hh := hb16 hc17
          refine am_iload_n dX3_askSize_59 rfl 0 rfl ?_
          refine am_aload_n dX3_askSize_60 rfl 1 rfl ?_
          refine am_iload_n dX3_askSize_61 rfl 2 rfl ?_
          refine am_iload_n dX3_askSize_62 rfl 3 rfl ?_
          refine am_rVi (n := 2) hh dX3_askSize_63 (lw_V q1875 q1877 qs88 q96 q1878) rfl ⟨⟨by decide, by decide, by decide +kernel⟩, ⟨Nat.le_of_ble_eq_true rfl, Nat.le_of_ble_eq_true rfl⟩⟩ ⟨rfl, rfl⟩ rfl rfl (Nat.le_of_ble_eq_true rfl) ⟨(Nat.le_refl 0), (Nat.le_refl 0)⟩ (am_mrecv _) (fun r31 S30 hr32 hh => ?_)
          refine am_iadd dX3_askSize_66 ?_
          refine am_goto (tgt := 96) dX3_askSize_67 (by decide) ?_
          exact am_iret rfl dX3_askSize_96 (Nat.le_refl 0) (Nat.le_refl 0) hh
      · have hh := hb10 hc11
        refine am_bipush dX3_askSize_31 (by decide) ?_
        refine am_goto (tgt := 38) dX3_askSize_33 (by decide) ?_
        refine am_rVv (n := 1) hh dX3_askSize_38 (lw_V q1871 q1873 qs87 q96 q1874) rfl ⟨⟨by decide, by decide, by decide +kernel⟩, ⟨Nat.le_of_ble_eq_true rfl, Nat.le_of_ble_eq_true rfl⟩⟩ ⟨rfl, rfl⟩ rfl rfl (Nat.le_of_ble_eq_true rfl) ⟨(Nat.le_refl 0), (Nat.le_refl 0)⟩ (am_mrecv _) (fun S33 hh => ?_)
        refine am_aload_n dX3_askSize_41 rfl 0 rfl ?_
        refine am_bipush dX3_askSize_42 (by decide) ?_
        refine am_rVv (n := 1) hh dX3_askSize_44 (lw_V q1871 q1873 qs87 q96 q1874) rfl ⟨⟨by decide, by decide, by decide +kernel⟩, ⟨Nat.le_of_ble_eq_true rfl, Nat.le_of_ble_eq_true rfl⟩⟩ ⟨rfl, rfl⟩ rfl rfl (Nat.le_of_ble_eq_true rfl) ⟨(Nat.le_refl 0), (Nat.le_refl 0)⟩ (am_mrecv _) (fun S34 hh => ?_)
        refine am_aload_n dX3_askSize_47 rfl 0 rfl ?_
        refine am_mgeta 2 (by decide) q1406 dX3_askSize_48 ?_
        refine am_iload_n dX3_askSize_51 rfl 1 rfl ?_
        obtain ⟨o35, hh⟩ := hh
        refine am_miald 2 (by decide) (by decide) (v := (S34.2 2 v1.toNat).toInt) rfl o35.1 o35.2 dX3_askSize_52 ?_
        refine am_istore_n dX3_askSize_53 rfl (by decide) rfl ?_
        refine am_iload_n dX3_askSize_54 rfl 3 rfl ?_
        refine am_iconst dX3_askSize_55 ?_
        obtain ⟨ha36, hb37⟩ := hh
        refine am_icmp_ne (tgt := 70) dX3_askSize_56 (by decide) h2 (⟨by decide, by decide⟩) (fun hc38 => ?_) (fun hc38 => ?_)
        · have hh := ha36 hc38
          refine am_iload_n dX3_askSize_70 rfl 3 rfl ?_
          refine am_iconst dX3_askSize_71 ?_
          obtain ⟨ha39, hb40⟩ := hh
          refine am_icmp_ne (tgt := 95) dX3_askSize_72 (by decide) h2 (⟨by decide, by decide⟩) (fun hc41 => ?_) (fun hc41 => ?_)
          · have hh := ha39 hc41
            refine am_iload_n dX3_askSize_95 rfl 0 rfl ?_
            exact am_iret rfl dX3_askSize_96 (Nat.le_refl 0) (Nat.le_refl 0) hh
          · have hh := hb40 hc41
            refine am_aload_n dX3_askSize_75 rfl 1 rfl ?_
            refine am_iconst dX3_askSize_76 ?_
            refine am_iload_n dX3_askSize_77 rfl 2 rfl ?_
            refine am_rVi (n := 2) hh dX3_askSize_78 (lw_V q1528 q1530 qs43 q96 q1531) rfl ⟨⟨by decide, by decide, by decide +kernel⟩, ⟨Nat.le_of_ble_eq_true rfl, Nat.le_of_ble_eq_true rfl⟩⟩ ⟨rfl, rfl⟩ rfl rfl (Nat.le_of_ble_eq_true rfl) ⟨(Nat.le_refl 0), (Nat.le_refl 0)⟩ (am_mrecv _) (fun r43 S42 hr44 hh => ?_)
            obtain ⟨ha45, hb46⟩ := hh
            refine am_if_ge (tgt := 95) dX3_askSize_81 (by decide) hr44 (fun hc47 => ?_) (fun hc47 => ?_)
            · have hh := ha45 hc47
              refine am_iload_n dX3_askSize_95 rfl 0 rfl ?_
              exact am_iret rfl dX3_askSize_96 (Nat.le_refl 0) (Nat.le_refl 0) hh
            · have hh := hb46 hc47
              refine am_iload_n dX3_askSize_84 rfl 0 rfl ?_
              refine am_aload_n dX3_askSize_85 rfl 1 rfl ?_
              refine am_iconst dX3_askSize_86 ?_
              refine am_iload_n dX3_askSize_87 rfl 2 rfl ?_
              refine am_rVi (n := 2) hh dX3_askSize_88 (lw_V q1545 q1547 qs47 q96 q1548) rfl ⟨⟨by decide, by decide, by decide +kernel⟩, ⟨Nat.le_of_ble_eq_true rfl, Nat.le_of_ble_eq_true rfl⟩⟩ ⟨rfl, rfl⟩ rfl rfl (Nat.le_of_ble_eq_true rfl) ⟨(Nat.le_refl 0), (Nat.le_refl 0)⟩ (am_mrecv _) (fun r49 S48 hr50 hh => ?_)
              refine am_iadd dX3_askSize_91 ?_
              refine am_goto (tgt := 96) dX3_askSize_92 (by decide) ?_
              exact am_iret rfl dX3_askSize_96 (Nat.le_refl 0) (Nat.le_refl 0) hh
        · have hh := hb37 hc38
          refine am_iload_n dX3_askSize_59 rfl 0 rfl ?_
          refine am_aload_n dX3_askSize_60 rfl 1 rfl ?_
          refine am_iload_n dX3_askSize_61 rfl 2 rfl ?_
          refine am_iload_n dX3_askSize_62 rfl 3 rfl ?_
          refine am_rVi (n := 2) hh dX3_askSize_63 (lw_V q1875 q1877 qs88 q96 q1878) rfl ⟨⟨by decide, by decide, by decide +kernel⟩, ⟨Nat.le_of_ble_eq_true rfl, Nat.le_of_ble_eq_true rfl⟩⟩ ⟨rfl, rfl⟩ rfl rfl (Nat.le_of_ble_eq_true rfl) ⟨(Nat.le_refl 0), (Nat.le_refl 0)⟩ (am_mrecv _) (fun r52 S51 hr53 hh => ?_)
          refine am_iadd dX3_askSize_66 ?_
          refine am_goto (tgt := 96) dX3_askSize_67 (by decide) ?_
          exact am_iret rfl dX3_askSize_96 (Nat.le_refl 0) (Nat.le_refl 0) hh
    · have hh := hb7 hc8
      refine am_iload_n dX3_askSize_20 rfl 2 rfl ?_
      refine am_iconst dX3_askSize_21 ?_
      obtain ⟨ha54, hb55⟩ := hh
      refine am_icmp_ne (tgt := 41) dX3_askSize_22 (by decide) h2 (⟨by decide, by decide⟩) (fun hc56 => ?_) (fun hc56 => ?_)
      · have hh := ha54 hc56
        refine am_aload_n dX3_askSize_41 rfl 0 rfl ?_
        refine am_bipush dX3_askSize_42 (by decide) ?_
        refine am_rVv (n := 1) hh dX3_askSize_44 (lw_V q1871 q1873 qs87 q96 q1874) rfl ⟨⟨by decide, by decide, by decide +kernel⟩, ⟨Nat.le_of_ble_eq_true rfl, Nat.le_of_ble_eq_true rfl⟩⟩ ⟨rfl, rfl⟩ rfl rfl (Nat.le_of_ble_eq_true rfl) ⟨(Nat.le_refl 0), (Nat.le_refl 0)⟩ (am_mrecv _) (fun S57 hh => ?_)
        refine am_aload_n dX3_askSize_47 rfl 0 rfl ?_
        refine am_mgeta 2 (by decide) q1406 dX3_askSize_48 ?_
        refine am_iload_n dX3_askSize_51 rfl 1 rfl ?_
        obtain ⟨o58, hh⟩ := hh
        refine am_miald 2 (by decide) (by decide) (v := (S57.2 2 v1.toNat).toInt) rfl o58.1 o58.2 dX3_askSize_52 ?_
        refine am_istore_n dX3_askSize_53 rfl (by decide) rfl ?_
        refine am_iload_n dX3_askSize_54 rfl 3 rfl ?_
        refine am_iconst dX3_askSize_55 ?_
        obtain ⟨ha59, hb60⟩ := hh
        refine am_icmp_ne (tgt := 70) dX3_askSize_56 (by decide) h2 (⟨by decide, by decide⟩) (fun hc61 => ?_) (fun hc61 => ?_)
        · have hh := ha59 hc61
          refine am_iload_n dX3_askSize_70 rfl 3 rfl ?_
          refine am_iconst dX3_askSize_71 ?_
          obtain ⟨ha62, hb63⟩ := hh
          refine am_icmp_ne (tgt := 95) dX3_askSize_72 (by decide) h2 (⟨by decide, by decide⟩) (fun hc64 => ?_) (fun hc64 => ?_)
          · have hh := ha62 hc64
            refine am_iload_n dX3_askSize_95 rfl 0 rfl ?_
            exact am_iret rfl dX3_askSize_96 (Nat.le_refl 0) (Nat.le_refl 0) hh
          · have hh := hb63 hc64
            refine am_aload_n dX3_askSize_75 rfl 1 rfl ?_
            refine am_iconst dX3_askSize_76 ?_
            refine am_iload_n dX3_askSize_77 rfl 2 rfl ?_
            refine am_rVi (n := 2) hh dX3_askSize_78 (lw_V q1528 q1530 qs43 q96 q1531) rfl ⟨⟨by decide, by decide, by decide +kernel⟩, ⟨Nat.le_of_ble_eq_true rfl, Nat.le_of_ble_eq_true rfl⟩⟩ ⟨rfl, rfl⟩ rfl rfl (Nat.le_of_ble_eq_true rfl) ⟨(Nat.le_refl 0), (Nat.le_refl 0)⟩ (am_mrecv _) (fun r66 S65 hr67 hh => ?_)
            obtain ⟨ha68, hb69⟩ := hh
            refine am_if_ge (tgt := 95) dX3_askSize_81 (by decide) hr67 (fun hc70 => ?_) (fun hc70 => ?_)
            · have hh := ha68 hc70
              refine am_iload_n dX3_askSize_95 rfl 0 rfl ?_
              exact am_iret rfl dX3_askSize_96 (Nat.le_refl 0) (Nat.le_refl 0) hh
            · have hh := hb69 hc70
              refine am_iload_n dX3_askSize_84 rfl 0 rfl ?_
              refine am_aload_n dX3_askSize_85 rfl 1 rfl ?_
              refine am_iconst dX3_askSize_86 ?_
              refine am_iload_n dX3_askSize_87 rfl 2 rfl ?_
              refine am_rVi (n := 2) hh dX3_askSize_88 (lw_V q1545 q1547 qs47 q96 q1548) rfl ⟨⟨by decide, by decide, by decide +kernel⟩, ⟨Nat.le_of_ble_eq_true rfl, Nat.le_of_ble_eq_true rfl⟩⟩ ⟨rfl, rfl⟩ rfl rfl (Nat.le_of_ble_eq_true rfl) ⟨(Nat.le_refl 0), (Nat.le_refl 0)⟩ (am_mrecv _) (fun r72 S71 hr73 hh => ?_)
              refine am_iadd dX3_askSize_91 ?_
              refine am_goto (tgt := 96) dX3_askSize_92 (by decide) ?_
              exact am_iret rfl dX3_askSize_96 (Nat.le_refl 0) (Nat.le_refl 0) hh
        · have hh := hb60 hc61
          refine am_iload_n dX3_askSize_59 rfl 0 rfl ?_
          refine am_aload_n dX3_askSize_60 rfl 1 rfl ?_
          refine am_iload_n dX3_askSize_61 rfl 2 rfl ?_
          refine am_iload_n dX3_askSize_62 rfl 3 rfl ?_
          refine am_rVi (n := 2) hh dX3_askSize_63 (lw_V q1875 q1877 qs88 q96 q1878) rfl ⟨⟨by decide, by decide, by decide +kernel⟩, ⟨Nat.le_of_ble_eq_true rfl, Nat.le_of_ble_eq_true rfl⟩⟩ ⟨rfl, rfl⟩ rfl rfl (Nat.le_of_ble_eq_true rfl) ⟨(Nat.le_refl 0), (Nat.le_refl 0)⟩ (am_mrecv _) (fun r75 S74 hr76 hh => ?_)
          refine am_iadd dX3_askSize_66 ?_
          refine am_goto (tgt := 96) dX3_askSize_67 (by decide) ?_
          exact am_iret rfl dX3_askSize_96 (Nat.le_refl 0) (Nat.le_refl 0) hh
      · have hh := hb55 hc56
        refine am_aload_n dX3_askSize_25 rfl 0 rfl ?_
        refine am_iload_n dX3_askSize_26 rfl 2 rfl ?_
        refine am_iconst dX3_askSize_27 ?_
        obtain ⟨ha77, hb78⟩ := hh
        refine am_icmp_ne (tgt := 36) dX3_askSize_28 (by decide) h2 (⟨by decide, by decide⟩) (fun hc79 => ?_) (fun hc79 => ?_)
        · have hh := ha77 hc79
          refine am_bipush dX3_askSize_36 (by decide) ?_
          refine am_rVv (n := 1) hh dX3_askSize_38 (lw_V q1871 q1873 qs87 q96 q1874) rfl ⟨⟨by decide, by decide, by decide +kernel⟩, ⟨Nat.le_of_ble_eq_true rfl, Nat.le_of_ble_eq_true rfl⟩⟩ ⟨rfl, rfl⟩ rfl rfl (Nat.le_of_ble_eq_true rfl) ⟨(Nat.le_refl 0), (Nat.le_refl 0)⟩ (am_mrecv _) (fun S80 hh => ?_)
          refine am_aload_n dX3_askSize_41 rfl 0 rfl ?_
          refine am_bipush dX3_askSize_42 (by decide) ?_
          refine am_rVv (n := 1) hh dX3_askSize_44 (lw_V q1871 q1873 qs87 q96 q1874) rfl ⟨⟨by decide, by decide, by decide +kernel⟩, ⟨Nat.le_of_ble_eq_true rfl, Nat.le_of_ble_eq_true rfl⟩⟩ ⟨rfl, rfl⟩ rfl rfl (Nat.le_of_ble_eq_true rfl) ⟨(Nat.le_refl 0), (Nat.le_refl 0)⟩ (am_mrecv _) (fun S81 hh => ?_)
          refine am_aload_n dX3_askSize_47 rfl 0 rfl ?_
          refine am_mgeta 2 (by decide) q1406 dX3_askSize_48 ?_
          refine am_iload_n dX3_askSize_51 rfl 1 rfl ?_
          obtain ⟨o82, hh⟩ := hh
          refine am_miald 2 (by decide) (by decide) (v := (S81.2 2 v1.toNat).toInt) rfl o82.1 o82.2 dX3_askSize_52 ?_
          refine am_istore_n dX3_askSize_53 rfl (by decide) rfl ?_
          refine am_iload_n dX3_askSize_54 rfl 3 rfl ?_
          refine am_iconst dX3_askSize_55 ?_
          obtain ⟨ha83, hb84⟩ := hh
          refine am_icmp_ne (tgt := 70) dX3_askSize_56 (by decide) h2 (⟨by decide, by decide⟩) (fun hc85 => ?_) (fun hc85 => ?_)
          · have hh := ha83 hc85
            refine am_iload_n dX3_askSize_70 rfl 3 rfl ?_
            refine am_iconst dX3_askSize_71 ?_
            obtain ⟨ha86, hb87⟩ := hh
            refine am_icmp_ne (tgt := 95) dX3_askSize_72 (by decide) h2 (⟨by decide, by decide⟩) (fun hc88 => ?_) (fun hc88 => ?_)
            · have hh := ha86 hc88
              refine am_iload_n dX3_askSize_95 rfl 0 rfl ?_
              exact am_iret rfl dX3_askSize_96 (Nat.le_refl 0) (Nat.le_refl 0) hh
            · have hh := hb87 hc88
              refine am_aload_n dX3_askSize_75 rfl 1 rfl ?_
              refine am_iconst dX3_askSize_76 ?_
              refine am_iload_n dX3_askSize_77 rfl 2 rfl ?_
              refine am_rVi (n := 2) hh dX3_askSize_78 (lw_V q1528 q1530 qs43 q96 q1531) rfl ⟨⟨by decide, by decide, by decide +kernel⟩, ⟨Nat.le_of_ble_eq_true rfl, Nat.le_of_ble_eq_true rfl⟩⟩ ⟨rfl, rfl⟩ rfl rfl (Nat.le_of_ble_eq_true rfl) ⟨(Nat.le_refl 0), (Nat.le_refl 0)⟩ (am_mrecv _) (fun r90 S89 hr91 hh => ?_)
              obtain ⟨ha92, hb93⟩ := hh
              refine am_if_ge (tgt := 95) dX3_askSize_81 (by decide) hr91 (fun hc94 => ?_) (fun hc94 => ?_)
              · have hh := ha92 hc94
                refine am_iload_n dX3_askSize_95 rfl 0 rfl ?_
                exact am_iret rfl dX3_askSize_96 (Nat.le_refl 0) (Nat.le_refl 0) hh
              · have hh := hb93 hc94
                refine am_iload_n dX3_askSize_84 rfl 0 rfl ?_
                refine am_aload_n dX3_askSize_85 rfl 1 rfl ?_
                refine am_iconst dX3_askSize_86 ?_
                refine am_iload_n dX3_askSize_87 rfl 2 rfl ?_
                refine am_rVi (n := 2) hh dX3_askSize_88 (lw_V q1545 q1547 qs47 q96 q1548) rfl ⟨⟨by decide, by decide, by decide +kernel⟩, ⟨Nat.le_of_ble_eq_true rfl, Nat.le_of_ble_eq_true rfl⟩⟩ ⟨rfl, rfl⟩ rfl rfl (Nat.le_of_ble_eq_true rfl) ⟨(Nat.le_refl 0), (Nat.le_refl 0)⟩ (am_mrecv _) (fun r96 S95 hr97 hh => ?_)
                refine am_iadd dX3_askSize_91 ?_
                refine am_goto (tgt := 96) dX3_askSize_92 (by decide) ?_
                exact am_iret rfl dX3_askSize_96 (Nat.le_refl 0) (Nat.le_refl 0) hh
          · have hh := hb84 hc85
            refine am_iload_n dX3_askSize_59 rfl 0 rfl ?_
            refine am_aload_n dX3_askSize_60 rfl 1 rfl ?_
            refine am_iload_n dX3_askSize_61 rfl 2 rfl ?_
            refine am_iload_n dX3_askSize_62 rfl 3 rfl ?_
            refine am_rVi (n := 2) hh dX3_askSize_63 (lw_V q1875 q1877 qs88 q96 q1878) rfl ⟨⟨by decide, by decide, by decide +kernel⟩, ⟨Nat.le_of_ble_eq_true rfl, Nat.le_of_ble_eq_true rfl⟩⟩ ⟨rfl, rfl⟩ rfl rfl (Nat.le_of_ble_eq_true rfl) ⟨(Nat.le_refl 0), (Nat.le_refl 0)⟩ (am_mrecv _) (fun r99 S98 hr100 hh => ?_)
            refine am_iadd dX3_askSize_66 ?_
            refine am_goto (tgt := 96) dX3_askSize_67 (by decide) ?_
            exact am_iret rfl dX3_askSize_96 (Nat.le_refl 0) (Nat.le_refl 0) hh
        · have hh := hb78 hc79
          refine am_bipush dX3_askSize_31 (by decide) ?_
          refine am_goto (tgt := 38) dX3_askSize_33 (by decide) ?_
          refine am_rVv (n := 1) hh dX3_askSize_38 (lw_V q1871 q1873 qs87 q96 q1874) rfl ⟨⟨by decide, by decide, by decide +kernel⟩, ⟨Nat.le_of_ble_eq_true rfl, Nat.le_of_ble_eq_true rfl⟩⟩ ⟨rfl, rfl⟩ rfl rfl (Nat.le_of_ble_eq_true rfl) ⟨(Nat.le_refl 0), (Nat.le_refl 0)⟩ (am_mrecv _) (fun S101 hh => ?_)
          refine am_aload_n dX3_askSize_41 rfl 0 rfl ?_
          refine am_bipush dX3_askSize_42 (by decide) ?_
          refine am_rVv (n := 1) hh dX3_askSize_44 (lw_V q1871 q1873 qs87 q96 q1874) rfl ⟨⟨by decide, by decide, by decide +kernel⟩, ⟨Nat.le_of_ble_eq_true rfl, Nat.le_of_ble_eq_true rfl⟩⟩ ⟨rfl, rfl⟩ rfl rfl (Nat.le_of_ble_eq_true rfl) ⟨(Nat.le_refl 0), (Nat.le_refl 0)⟩ (am_mrecv _) (fun S102 hh => ?_)
          refine am_aload_n dX3_askSize_47 rfl 0 rfl ?_
          refine am_mgeta 2 (by decide) q1406 dX3_askSize_48 ?_
          refine am_iload_n dX3_askSize_51 rfl 1 rfl ?_
          obtain ⟨o103, hh⟩ := hh
          refine am_miald 2 (by decide) (by decide) (v := (S102.2 2 v1.toNat).toInt) rfl o103.1 o103.2 dX3_askSize_52 ?_
          refine am_istore_n dX3_askSize_53 rfl (by decide) rfl ?_
          refine am_iload_n dX3_askSize_54 rfl 3 rfl ?_
          refine am_iconst dX3_askSize_55 ?_
          obtain ⟨ha104, hb105⟩ := hh
          refine am_icmp_ne (tgt := 70) dX3_askSize_56 (by decide) h2 (⟨by decide, by decide⟩) (fun hc106 => ?_) (fun hc106 => ?_)
          · have hh := ha104 hc106
            refine am_iload_n dX3_askSize_70 rfl 3 rfl ?_
            refine am_iconst dX3_askSize_71 ?_
            obtain ⟨ha107, hb108⟩ := hh
            refine am_icmp_ne (tgt := 95) dX3_askSize_72 (by decide) h2 (⟨by decide, by decide⟩) (fun hc109 => ?_) (fun hc109 => ?_)
            · have hh := ha107 hc109
              refine am_iload_n dX3_askSize_95 rfl 0 rfl ?_
              exact am_iret rfl dX3_askSize_96 (Nat.le_refl 0) (Nat.le_refl 0) hh
            · have hh := hb108 hc109
              refine am_aload_n dX3_askSize_75 rfl 1 rfl ?_
              refine am_iconst dX3_askSize_76 ?_
              refine am_iload_n dX3_askSize_77 rfl 2 rfl ?_
              refine am_rVi (n := 2) hh dX3_askSize_78 (lw_V q1528 q1530 qs43 q96 q1531) rfl ⟨⟨by decide, by decide, by decide +kernel⟩, ⟨Nat.le_of_ble_eq_true rfl, Nat.le_of_ble_eq_true rfl⟩⟩ ⟨rfl, rfl⟩ rfl rfl (Nat.le_of_ble_eq_true rfl) ⟨(Nat.le_refl 0), (Nat.le_refl 0)⟩ (am_mrecv _) (fun r111 S110 hr112 hh => ?_)
              obtain ⟨ha113, hb114⟩ := hh
              refine am_if_ge (tgt := 95) dX3_askSize_81 (by decide) hr112 (fun hc115 => ?_) (fun hc115 => ?_)
              · have hh := ha113 hc115
                refine am_iload_n dX3_askSize_95 rfl 0 rfl ?_
                exact am_iret rfl dX3_askSize_96 (Nat.le_refl 0) (Nat.le_refl 0) hh
              · have hh := hb114 hc115
                refine am_iload_n dX3_askSize_84 rfl 0 rfl ?_
                refine am_aload_n dX3_askSize_85 rfl 1 rfl ?_
                refine am_iconst dX3_askSize_86 ?_
                refine am_iload_n dX3_askSize_87 rfl 2 rfl ?_
                refine am_rVi (n := 2) hh dX3_askSize_88 (lw_V q1545 q1547 qs47 q96 q1548) rfl ⟨⟨by decide, by decide, by decide +kernel⟩, ⟨Nat.le_of_ble_eq_true rfl, Nat.le_of_ble_eq_true rfl⟩⟩ ⟨rfl, rfl⟩ rfl rfl (Nat.le_of_ble_eq_true rfl) ⟨(Nat.le_refl 0), (Nat.le_refl 0)⟩ (am_mrecv _) (fun r117 S116 hr118 hh => ?_)
                refine am_iadd dX3_askSize_91 ?_
                refine am_goto (tgt := 96) dX3_askSize_92 (by decide) ?_
                exact am_iret rfl dX3_askSize_96 (Nat.le_refl 0) (Nat.le_refl 0) hh
          · have hh := hb105 hc106
            refine am_iload_n dX3_askSize_59 rfl 0 rfl ?_
            refine am_aload_n dX3_askSize_60 rfl 1 rfl ?_
            refine am_iload_n dX3_askSize_61 rfl 2 rfl ?_
            refine am_iload_n dX3_askSize_62 rfl 3 rfl ?_
            refine am_rVi (n := 2) hh dX3_askSize_63 (lw_V q1875 q1877 qs88 q96 q1878) rfl ⟨⟨by decide, by decide, by decide +kernel⟩, ⟨Nat.le_of_ble_eq_true rfl, Nat.le_of_ble_eq_true rfl⟩⟩ ⟨rfl, rfl⟩ rfl rfl (Nat.le_of_ble_eq_true rfl) ⟨(Nat.le_refl 0), (Nat.le_refl 0)⟩ (am_mrecv _) (fun r120 S119 hr121 hh => ?_)
            refine am_iadd dX3_askSize_66 ?_
            refine am_goto (tgt := 96) dX3_askSize_67 (by decide) ?_
            exact am_iret rfl dX3_askSize_96 (Nat.le_refl 0) (Nat.le_refl 0) hh
  · have hh := hb4 hc5
    refine am_aload_n dX3_askSize_8 rfl 0 rfl ?_
    refine am_iload_n dX3_askSize_9 rfl 1 rfl ?_
    refine am_iload_n dX3_askSize_10 rfl 2 rfl ?_
    refine am_rVi (n := 2) hh dX3_askSize_11 (lw_V q1867 q1869 qs86 q96 q1870) rfl ⟨⟨by decide, by decide, by decide +kernel⟩, ⟨Nat.le_of_ble_eq_true rfl, Nat.le_of_ble_eq_true rfl⟩⟩ ⟨rfl, rfl⟩ rfl rfl (Nat.le_of_ble_eq_true rfl) ⟨(Nat.le_refl 0), (Nat.le_refl 0)⟩ (am_mrecv _) (fun r123 S122 hr124 hh => ?_)
    exact am_iret rfl dX3_askSize_14 (Nat.le_refl 0) (Nat.le_refl 0) hh
/-! TableArmsModel.ask(II)I -/
abbrev VX3_ask (l : Launch) (Q : Option am_W → am_M → Prop) (pc : Nat) (lv : List (Nat × am_W)) (st : List am_W) (S : am_M) : Prop := am_V am_mr l RX3 cX3_ask 3 (some .int) "ask" (am_rm 6 0 0) (am_E1 am_mr 0 0 Q) pc lv st S 0 0
abbrev kX3_ask (l : Launch) (as : List am_W) (S : am_M) (Q : Option am_W → am_M → Prop) : Prop := am_C am_mr l yX3_ask (ws_ yX3_ask cX3_ask 3 (some .int)) (am_rm 6 0 0) 0 0 as S Q
set_option maxHeartbeats 4000000 in
set_option maxRecDepth 100000 in
theorem bX3_ask {l : Launch} {Q : Option am_W → am_M → Prop} {S : am_M} (v1 : Int) (h1 : am_r v1) (v2 : Int) (h2 : am_r v2)
    (hh : kX3_isThing l [am_R 0, am_I v1] (am_sv S 0 0) (am_qz fun b2 S1 =>
        ((b2 = false) →
          Q (some (am_I (-1000001))) S1) ∧
        ((b2 = true) →
          kX3_in l [am_J v2, am_J 0, am_J 1] S1 (am_qz fun b7 S6 =>
            ((b7 = true) →
              ((¬ v2 = 0) →
                kX3_kindOf l [am_R 0, am_I v1] (am_sv S6 16 0) (am_qi fun r15 S14 =>
                  kX3_markOf l [am_R 0, am_I v1, am_I r15] S14 (am_qi fun r18 S17 =>
                    Q (some (am_I r18)) S17))) ∧
              ((v2 = 0) →
                kX3_kindOf l [am_R 0, am_I v1] (am_sv S6 16 0) (am_qi fun r21 S20 =>
                  kX3_askSize l [am_R 0, am_I v1, am_I r21] S20 (am_qi fun r24 S23 =>
                    Q (some (am_I r24)) S23)))) ∧
            ((b7 = false) →
              Q (some (am_I (-1000001))) S6))))) : kX3_ask l [am_R 0, am_I v1, am_I v2] S Q := by
  refine am_entry (lv := [(0, am_R 0), (1, am_I v1), (2, am_I v2)]) rfl rfl rfl (fun _ => rfl) (fun _ => Nat.le_of_ble_eq_true rfl) ?_
  refine am_aload_n dX3_ask_0 rfl 0 rfl ?_
  refine am_iconst dX3_ask_1 ?_
  refine am_mput 0 (by decide) q1401 dX3_ask_2 ?_
  refine am_aload_n dX3_ask_5 rfl 0 rfl ?_
  refine am_iload_n dX3_ask_6 rfl 1 rfl ?_
  refine am_rVz (n := 1) hh dX3_ask_7 (lw_V q1608 q1610 qs58 q96 q1611) rfl ⟨⟨by decide, by decide, by decide +kernel⟩, ⟨Nat.le_of_ble_eq_true rfl, Nat.le_of_ble_eq_true rfl⟩⟩ ⟨rfl, rfl⟩ rfl rfl (Nat.le_of_ble_eq_true rfl) ⟨(Nat.le_refl 0), (Nat.le_refl 0)⟩ (am_mrecv _) (fun b2 S1 hh => ?_)
  obtain ⟨ha3, hb4⟩ := hh
  refine am_ifB_eq (tgt := 23) dX3_ask_10 (by decide) (fun hc5 => ?_) (fun hc5 => ?_)
  · have hh := ha3 hc5
    refine am_ldc (z := -1000001) q1515 (by decide) dX3_ask_23 ?_
    exact am_iret rfl dX3_ask_25 (Nat.le_refl 0) (Nat.le_refl 0) hh
  · have hh := hb4 hc5
    refine am_iload_n dX3_ask_13 rfl 2 rfl ?_
    refine am_i2l_ h2 dX3_ask_14 ?_
    refine am_lconst (z := 0) dX3_ask_15 (by decide) ?_
    refine am_lconst (z := 1) dX3_ask_16 (by decide) ?_
    refine am_rSz (n := 3) hh dX3_ask_17 (lw_S q1512 q1513 q96 q1514) ⟨⟨by decide, by decide, by decide +kernel⟩, ⟨Nat.le_of_ble_eq_true rfl, Nat.le_of_ble_eq_true rfl⟩⟩ ⟨rfl, rfl⟩ rfl rfl (Nat.le_of_ble_eq_true rfl) ⟨(Nat.le_refl 0), (Nat.le_refl 0)⟩ (fun b7 S6 hh => ?_)
    obtain ⟨ha8, hb9⟩ := hh
    refine am_ifB_ne (tgt := 26) dX3_ask_20 (by decide) (fun hc10 => ?_) (fun hc10 => ?_)
    · have hh := ha8 hc10
      refine am_aload_n dX3_ask_26 rfl 0 rfl ?_
      refine am_iconst dX3_ask_27 ?_
      refine am_mput 16 (by decide) q1434 dX3_ask_28 ?_
      refine am_iload_n dX3_ask_31 rfl 2 rfl ?_
      obtain ⟨ha11, hb12⟩ := hh
      refine am_if_ne (tgt := 48) dX3_ask_32 (by decide) h2 (fun hc13 => ?_) (fun hc13 => ?_)
      · have hh := ha11 hc13
        refine am_aload_n dX3_ask_48 rfl 0 rfl ?_
        refine am_iload_n dX3_ask_49 rfl 1 rfl ?_
        refine am_aload_n dX3_ask_50 rfl 0 rfl ?_
        refine am_iload_n dX3_ask_51 rfl 1 rfl ?_
        refine am_rVi (n := 1) hh dX3_ask_52 (lw_V q1847 q1849 qs84 q96 q1850) rfl ⟨⟨by decide, by decide, by decide +kernel⟩, ⟨Nat.le_of_ble_eq_true rfl, Nat.le_of_ble_eq_true rfl⟩⟩ ⟨rfl, rfl⟩ rfl rfl (Nat.le_of_ble_eq_true rfl) ⟨(Nat.le_refl 0), (Nat.le_refl 0)⟩ (am_mrecv _) (fun r15 S14 hr16 hh => ?_)
        refine am_rVi (n := 2) hh dX3_ask_55 (lw_V q1875 q1877 qs88 q96 q1878) rfl ⟨⟨by decide, by decide, by decide +kernel⟩, ⟨Nat.le_of_ble_eq_true rfl, Nat.le_of_ble_eq_true rfl⟩⟩ ⟨rfl, rfl⟩ rfl rfl (Nat.le_of_ble_eq_true rfl) ⟨(Nat.le_refl 0), (Nat.le_refl 0)⟩ (am_mrecv _) (fun r18 S17 hr19 hh => ?_)
        exact am_iret rfl dX3_ask_58 (Nat.le_refl 0) (Nat.le_refl 0) hh
      · have hh := hb12 hc13
        refine am_aload_n dX3_ask_35 rfl 0 rfl ?_
        refine am_iload_n dX3_ask_36 rfl 1 rfl ?_
        refine am_aload_n dX3_ask_37 rfl 0 rfl ?_
        refine am_iload_n dX3_ask_38 rfl 1 rfl ?_
        refine am_rVi (n := 1) hh dX3_ask_39 (lw_V q1847 q1849 qs84 q96 q1850) rfl ⟨⟨by decide, by decide, by decide +kernel⟩, ⟨Nat.le_of_ble_eq_true rfl, Nat.le_of_ble_eq_true rfl⟩⟩ ⟨rfl, rfl⟩ rfl rfl (Nat.le_of_ble_eq_true rfl) ⟨(Nat.le_refl 0), (Nat.le_refl 0)⟩ (am_mrecv _) (fun r21 S20 hr22 hh => ?_)
        refine am_rVi (n := 2) hh dX3_ask_42 (lw_V q1863 q1865 qs85 q96 q1866) rfl ⟨⟨by decide, by decide, by decide +kernel⟩, ⟨Nat.le_of_ble_eq_true rfl, Nat.le_of_ble_eq_true rfl⟩⟩ ⟨rfl, rfl⟩ rfl rfl (Nat.le_of_ble_eq_true rfl) ⟨(Nat.le_refl 0), (Nat.le_refl 0)⟩ (am_mrecv _) (fun r24 S23 hr25 hh => ?_)
        refine am_goto (tgt := 58) dX3_ask_45 (by decide) ?_
        exact am_iret rfl dX3_ask_58 (Nat.le_refl 0) (Nat.le_refl 0) hh
    · have hh := hb9 hc10
      refine am_ldc (z := -1000001) q1515 (by decide) dX3_ask_23 ?_
      exact am_iret rfl dX3_ask_25 (Nat.le_refl 0) (Nat.le_refl 0) hh
/-! TableArmsModel.trace(I)I -/
abbrev VX3_trace (l : Launch) (Q : Option am_W → am_M → Prop) (pc : Nat) (lv : List (Nat × am_W)) (st : List am_W) (S : am_M) : Prop := am_V am_mr l RX3 cX3_trace 2 (some .int) "trace" (am_rm 2 0 0) (am_E1 am_mr 0 0 Q) pc lv st S 0 0
abbrev kX3_trace (l : Launch) (as : List am_W) (S : am_M) (Q : Option am_W → am_M → Prop) : Prop := am_C am_mr l yX3_trace (ws_ yX3_trace cX3_trace 2 (some .int)) (am_rm 2 0 0) 0 0 as S Q
set_option maxHeartbeats 4000000 in
set_option maxRecDepth 100000 in
theorem bX3_trace {l : Launch} {Q : Option am_W → am_M → Prop} {S : am_M} (v1 : Int) (h1 : am_r v1)
    (hh : (am_r ((S.1 16).toInt - 1)) ∧
      kX3_in l [am_J v1, am_J 0, am_J ((S.1 16).toInt - 1)] (am_sv S 0 0) (am_qz fun b3 S2 =>
        ((b3 = false) →
          Q (some (am_I (-1000000))) S2) ∧
        ((b3 = true) →
          (0 ≤ v1 ∧ v1 < 16) ∧
          Q (some (am_I (S2.2 16 v1.toNat).toInt)) S2))) : kX3_trace l [am_R 0, am_I v1] S Q := by
  refine am_entry (lv := [(0, am_R 0), (1, am_I v1)]) rfl rfl rfl (fun _ => rfl) (fun _ => Nat.le_of_ble_eq_true rfl) ?_
  refine am_aload_n dX3_trace_0 rfl 0 rfl ?_
  refine am_iconst dX3_trace_1 ?_
  refine am_mput 0 (by decide) q1401 dX3_trace_2 ?_
  refine am_iload_n dX3_trace_5 rfl 1 rfl ?_
  refine am_i2l_ h1 dX3_trace_6 ?_
  refine am_lconst (z := 0) dX3_trace_7 (by decide) ?_
  refine am_aload_n dX3_trace_8 rfl 0 rfl ?_
  refine am_mgeti 16 (by decide) (v := (S.1 16).toInt) rfl q1434 dX3_trace_9 ?_
  refine am_iconst dX3_trace_12 ?_
  refine am_isub dX3_trace_13 ?_
  obtain ⟨o1, hh⟩ := hh
  refine am_i2l_ o1 dX3_trace_14 ?_
  refine am_rSz (n := 3) hh dX3_trace_15 (lw_S q1512 q1513 q96 q1514) ⟨⟨by decide, by decide, by decide +kernel⟩, ⟨Nat.le_of_ble_eq_true rfl, Nat.le_of_ble_eq_true rfl⟩⟩ ⟨rfl, rfl⟩ rfl rfl (Nat.le_of_ble_eq_true rfl) ⟨(Nat.le_refl 0), (Nat.le_refl 0)⟩ (fun b3 S2 hh => ?_)
  obtain ⟨ha4, hb5⟩ := hh
  refine am_ifB_eq (tgt := 30) dX3_trace_18 (by decide) (fun hc6 => ?_) (fun hc6 => ?_)
  · have hh := ha4 hc6
    refine am_ldc (z := -1000000) q1544 (by decide) dX3_trace_30 ?_
    exact am_iret rfl dX3_trace_32 (Nat.le_refl 0) (Nat.le_refl 0) hh
  · have hh := hb5 hc6
    refine am_aload_n dX3_trace_21 rfl 0 rfl ?_
    refine am_mgeta 16 (by decide) q1433 dX3_trace_22 ?_
    refine am_iload_n dX3_trace_25 rfl 1 rfl ?_
    obtain ⟨o7, hh⟩ := hh
    refine am_miald 16 (by decide) (by decide) (v := (S2.2 16 v1.toNat).toInt) rfl o7.1 o7.2 dX3_trace_26 ?_
    refine am_goto (tgt := 32) dX3_trace_27 (by decide) ?_
    exact am_iret rfl dX3_trace_32 (Nat.le_refl 0) (Nat.le_refl 0) hh
