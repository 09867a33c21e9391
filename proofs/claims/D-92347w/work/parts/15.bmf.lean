/-! TableArmsModel.count(I)I -/
abbrev VX3_count (l : Launch) (Q : Option am_W → am_M → Prop) (pc : Nat) (lv : List (Nat × am_W)) (st : List am_W) (S : am_M) : Prop := am_V am_mr l RX3 cX3_count 4 (some .int) "count" (am_rm 5 0 0) (am_E1 am_mr 0 0 Q) pc lv st S 0 0
abbrev kX3_count (l : Launch) (as : List am_W) (S : am_M) (Q : Option am_W → am_M → Prop) : Prop := am_C am_mr l yX3_count (ws_ yX3_count cX3_count 4 (some .int)) (am_rm 5 0 0) 0 0 as S Q
set_option maxHeartbeats 4000000 in
set_option maxRecDepth 100000 in
theorem bX3_count {l : Launch} {Q : Option am_W → am_M → Prop} {S : am_M} (v1 : Int) (h1 : am_r v1)
    (hh : ((v1 = 0) →
        VX3_count l Q 58 [(0, am_R 0), (2, am_I 0), (3, am_I 0)] [] (am_sv S 0 0)) ∧
      ((v1 = 1) →
        Q (some (am_I (S.1 2).toInt)) (am_sv S 0 0)) ∧
      ((v1 = 2) →
        Q (some (am_I (S.1 3).toInt)) (am_sv S 0 0)) ∧
      ((v1 = 3) →
        kX3_standing l [am_R 0] (am_sv S 0 0) (am_qi fun r12 S11 =>
          kX3_bits l [am_I r12] S11 (am_qi fun r15 S14 =>
            Q (some (am_I r15)) S14))) ∧
      ((v1 = 4) →
        Q (some (am_I (S.1 5).toInt)) (am_sv S 0 0)) ∧
      ((v1 = 5) →
        VX3_count l Q 114 [(0, am_R 0), (1, am_I v1), (2, am_I 0), (3, am_I 0)] [] (am_sv S 0 0)) ∧
      ((v1 = 6) →
        VX3_count l Q 114 [(0, am_R 0), (1, am_I v1), (2, am_I 0), (3, am_I 0)] [] (am_sv S 0 0)) ∧
      ((v1 = 7) →
        Q (some (am_I (S.1 7).toInt)) (am_sv S 0 0)) ∧
      ((v1 < 0 ∨ 7 < v1) →
        Q (some (am_I (-1000001))) (am_sv S 0 0))) : kX3_count l [am_R 0, am_I v1] S Q := by
  refine am_entry (lv := [(0, am_R 0), (1, am_I v1)]) rfl rfl rfl (fun _ => rfl) (fun _ => Nat.le_of_ble_eq_true rfl) ?_
  refine am_aload_n dX3_count_0 rfl 0 rfl ?_
  refine am_iconst dX3_count_1 ?_
  refine am_mput 0 (by decide) q1401 dX3_count_2 ?_
  refine am_iconst dX3_count_5 ?_
  refine am_istore_n dX3_count_6 rfl (by decide) rfl ?_
  refine am_iload_n dX3_count_7 rfl 2 rfl ?_
  obtain ⟨ha1, ha2, ha3, ha4, ha5, ha6, ha7, ha8, ha9⟩ := hh
  by_cases hc10 : v1 < 0 ∨ 7 < v1
  · have hh := ha9 hc10
    refine am_tabOut (tgt := 174) dX3_count_8 h1 hc10 (by decide) ?_
    refine am_ldc (z := -1000001) q1515 (by decide) dX3_count_174 ?_
    exact am_iret rfl dX3_count_176 (Nat.le_refl 0) (Nat.le_refl 0) hh
  have hc10 : v1 = 0 ∨ v1 = 1 ∨ v1 = 2 ∨ v1 = 3 ∨ v1 = 4 ∨ v1 = 5 ∨ v1 = 6 ∨ v1 = 7 := by omega
  rcases hc10 with hc10 | hc10 | hc10 | hc10 | hc10 | hc10 | hc10 | hc10
  · have hh := ha1 hc10
    refine am_tabIn (tgt := 56) 0 dX3_count_8 h1 hc10 (by decide) (by decide) rfl (by decide) ?_
    refine am_iconst dX3_count_56 ?_
    refine am_istore_n dX3_count_57 rfl (by decide) rfl ?_
    refine am_keep [2, 1, 0] rfl ?_
    exact hh
  · have hh := ha2 hc10
    refine am_tabIn (tgt := 89) 1 dX3_count_8 h1 hc10 (by decide) (by decide) rfl (by decide) ?_
    refine am_aload_n dX3_count_89 rfl 1 rfl ?_
    refine am_mgeti 2 (by decide) (v := (S.1 2).toInt) rfl q1404 dX3_count_90 ?_
    exact am_iret rfl dX3_count_93 (Nat.le_refl 0) (Nat.le_refl 0) hh
  · have hh := ha3 hc10
    refine am_tabIn (tgt := 94) 2 dX3_count_8 h1 hc10 (by decide) (by decide) rfl (by decide) ?_
    refine am_aload_n dX3_count_94 rfl 1 rfl ?_
    refine am_mgeti 3 (by decide) (v := (S.1 3).toInt) rfl q1407 dX3_count_95 ?_
    exact am_iret rfl dX3_count_98 (Nat.le_refl 0) (Nat.le_refl 0) hh
  · have hh := ha4 hc10
    refine am_tabIn (tgt := 99) 3 dX3_count_8 h1 hc10 (by decide) (by decide) rfl (by decide) ?_
    refine am_aload_n dX3_count_99 rfl 1 rfl ?_
    refine am_rVi (n := 0) hh dX3_count_100 (lw_V q1693 q1695 qs66 q96 q1696) rfl ⟨⟨by decide, by decide, by decide +kernel⟩, ⟨Nat.le_of_ble_eq_true rfl, Nat.le_of_ble_eq_true rfl⟩⟩ ⟨rfl, rfl⟩ rfl rfl (Nat.le_of_ble_eq_true rfl) ⟨(Nat.le_refl 0), (Nat.le_refl 0)⟩ (am_mrecv _) (fun r12 S11 hr13 hh => ?_)
    refine am_rSi (n := 1) hh dX3_count_103 (lw_S q1721 q1722 q96 q1723) ⟨⟨by decide, by decide, by decide +kernel⟩, ⟨Nat.le_of_ble_eq_true rfl, Nat.le_of_ble_eq_true rfl⟩⟩ ⟨rfl, rfl⟩ rfl rfl (Nat.le_of_ble_eq_true rfl) ⟨(Nat.le_refl 0), (Nat.le_refl 0)⟩ (fun r15 S14 hr16 hh => ?_)
    exact am_iret rfl dX3_count_106 (Nat.le_refl 0) (Nat.le_refl 0) hh
  · have hh := ha5 hc10
    refine am_tabIn (tgt := 107) 4 dX3_count_8 h1 hc10 (by decide) (by decide) rfl (by decide) ?_
    refine am_aload_n dX3_count_107 rfl 1 rfl ?_
    refine am_mgeti 5 (by decide) (v := (S.1 5).toInt) rfl q1418 dX3_count_108 ?_
    exact am_iret rfl dX3_count_111 (Nat.le_refl 0) (Nat.le_refl 0) hh
  · have hh := ha6 hc10
    refine am_tabIn (tgt := 112) 5 dX3_count_8 h1 hc10 (by decide) (by decide) rfl (by decide) ?_
    refine am_iconst dX3_count_112 ?_
    refine am_istore_n dX3_count_113 rfl (by decide) rfl ?_
    refine am_keep [2, 3, 1, 0] rfl ?_
    exact hh
  · have hh := ha7 hc10
    refine am_tabIn (tgt := 112) 6 dX3_count_8 h1 hc10 (by decide) (by decide) rfl (by decide) ?_
    refine am_iconst dX3_count_112 ?_
    refine am_istore_n dX3_count_113 rfl (by decide) rfl ?_
    refine am_keep [2, 3, 1, 0] rfl ?_
    exact hh
  · have hh := ha8 hc10
    refine am_tabIn (tgt := 169) 7 dX3_count_8 h1 hc10 (by decide) (by decide) rfl (by decide) ?_
    refine am_aload_n dX3_count_169 rfl 1 rfl ?_
    refine am_mgeti 7 (by decide) (v := (S.1 7).toInt) rfl q1422 dX3_count_170 ?_
    exact am_iret rfl dX3_count_173 (Nat.le_refl 0) (Nat.le_refl 0) hh
set_option maxHeartbeats 4000000 in
set_option maxRecDepth 100000 in
theorem bX3_count_58 {l : Launch} {Q : Option am_W → am_M → Prop} {S : am_M} (v2 : Int) (h2 : am_r v2) (v3 : Int) (h3 : am_r v3)
    (hh : ((8 ≤ v3) →
        Q (some (am_I v2)) S) ∧
      ((¬ 8 ≤ v3) →
        (0 ≤ v3 ∧ v3 < 8) ∧
        ((((S.2 9 v3.toNat).toInt) < 0) →
          VX3_count l Q 58 [(0, am_R 0), (2, am_I (v2 + 0)), (3, am_I (v3 + 1))] [] S) ∧
        ((¬ ((S.2 9 v3.toNat).toInt) < 0) →
          VX3_count l Q 58 [(0, am_R 0), (2, am_I (v2 + 1)), (3, am_I (v3 + 1))] [] S))) : VX3_count l Q 58 [(0, am_R 0), (2, am_I v2), (3, am_I v3)] [] S := by
  refine am_iload_n dX3_count_58 rfl 2 rfl ?_
  refine am_bipush dX3_count_59 (by decide) ?_
  obtain ⟨ha1, hb2⟩ := hh
  refine am_icmp_ge (tgt := 87) dX3_count_61 (by decide) h3 (⟨by decide, by decide⟩) (fun hc3 => ?_) (fun hc3 => ?_)
  · have hh := ha1 hc3
    refine am_iload_n dX3_count_87 rfl 1 rfl ?_
    exact am_iret rfl dX3_count_88 (Nat.le_refl 0) (Nat.le_refl 0) hh
  · have hh := hb2 hc3
    refine am_iload_n dX3_count_64 rfl 1 rfl ?_
    refine am_aload_n dX3_count_65 rfl 0 rfl ?_
    refine am_mgeta 9 (by decide) q1415 dX3_count_66 ?_
    refine am_iload_n dX3_count_69 rfl 2 rfl ?_
    obtain ⟨o4, hh⟩ := hh
    refine am_miald 9 (by decide) (by decide) (v := (S.2 9 v3.toNat).toInt) rfl o4.1 o4.2 dX3_count_70 ?_
    obtain ⟨ha5, hb6⟩ := hh
    refine am_if_lt (tgt := 78) dX3_count_71 (by decide) (am_rt _) (fun hc7 => ?_) (fun hc7 => ?_)
    · have hh := ha5 hc7
      refine am_iconst dX3_count_78 ?_
      refine am_iadd dX3_count_79 ?_
      refine am_istore_n dX3_count_80 rfl (by decide) rfl ?_
      refine am_iinc (n := 2) dX3_count_81 rfl (by decide) rfl ?_
      refine am_goto (tgt := 58) dX3_count_84 (by decide) ?_
      refine am_keep [2, 1, 0] rfl ?_
      exact hh
    · have hh := hb6 hc7
      refine am_iconst dX3_count_74 ?_
      refine am_goto (tgt := 79) dX3_count_75 (by decide) ?_
      refine am_iadd dX3_count_79 ?_
      refine am_istore_n dX3_count_80 rfl (by decide) rfl ?_
      refine am_iinc (n := 2) dX3_count_81 rfl (by decide) rfl ?_
      refine am_goto (tgt := 58) dX3_count_84 (by decide) ?_
      refine am_keep [2, 1, 0] rfl ?_
      exact hh
set_option maxHeartbeats 4000000 in
set_option maxRecDepth 100000 in
theorem bX3_count_114 {l : Launch} {Q : Option am_W → am_M → Prop} {S : am_M} (v1 : Int) (h1 : am_r v1) (v2 : Int) (h2 : am_r v2) (v3 : Int) (h3 : am_r v3)
    (hh : ((((S.1 2).toInt) ≤ v3) →
        Q (some (am_I v2)) S) ∧
      ((¬ ((S.1 2).toInt) ≤ v3) →
        ((¬ v1 = 5) →
          kX3_isClear l [am_R 0, am_I 0, am_I v3] S (am_qz fun b8 S7 =>
            ((b8 = false) →
              VX3_count l Q 114 [(0, am_R 0), (1, am_I v1), (2, am_I (v2 + 0)), (3, am_I (v3 + 1))] [] S7) ∧
            ((b8 = true) →
              VX3_count l Q 114 [(0, am_R 0), (1, am_I v1), (2, am_I (v2 + 1)), (3, am_I (v3 + 1))] [] S7))) ∧
        ((v1 = 5) →
          kX3_kindOf l [am_R 0, am_I v3] S (am_qi fun r13 S12 =>
            ((¬ r13 = 4) →
              VX3_count l Q 114 [(0, am_R 0), (1, am_I v1), (2, am_I (v2 + 0)), (3, am_I (v3 + 1))] [] S12) ∧
            ((r13 = 4) →
              VX3_count l Q 114 [(0, am_R 0), (1, am_I v1), (2, am_I (v2 + 1)), (3, am_I (v3 + 1))] [] S12))))) : VX3_count l Q 114 [(0, am_R 0), (1, am_I v1), (2, am_I v2), (3, am_I v3)] [] S := by
  refine am_iload_n dX3_count_114 rfl 3 rfl ?_
  refine am_aload_n dX3_count_115 rfl 0 rfl ?_
  refine am_mgeti 2 (by decide) (v := (S.1 2).toInt) rfl q1404 dX3_count_116 ?_
  obtain ⟨ha1, hb2⟩ := hh
  refine am_icmp_ge (tgt := 167) dX3_count_119 (by decide) h3 (am_rt _) (fun hc3 => ?_) (fun hc3 => ?_)
  · have hh := ha1 hc3
    refine am_iload_n dX3_count_167 rfl 2 rfl ?_
    exact am_iret rfl dX3_count_168 (Nat.le_refl 0) (Nat.le_refl 0) hh
  · have hh := hb2 hc3
    refine am_iload_n dX3_count_122 rfl 2 rfl ?_
    refine am_iload_n dX3_count_123 rfl 1 rfl ?_
    refine am_iconst dX3_count_124 ?_
    obtain ⟨ha4, hb5⟩ := hh
    refine am_icmp_ne (tgt := 145) dX3_count_125 (by decide) h1 (⟨by decide, by decide⟩) (fun hc6 => ?_) (fun hc6 => ?_)
    · have hh := ha4 hc6
      refine am_aload_n dX3_count_145 rfl 0 rfl ?_
      refine am_iconst dX3_count_146 ?_
      refine am_iload_n dX3_count_147 rfl 3 rfl ?_
      refine am_rVz (n := 2) hh dX3_count_148 (lw_V q1560 q1562 qs50 q96 q1563) rfl ⟨⟨by decide, by decide, by decide +kernel⟩, ⟨Nat.le_of_ble_eq_true rfl, Nat.le_of_ble_eq_true rfl⟩⟩ ⟨rfl, rfl⟩ rfl rfl (Nat.le_of_ble_eq_true rfl) ⟨(Nat.le_refl 0), (Nat.le_refl 0)⟩ (am_mrecv _) (fun b8 S7 hh => ?_)
      obtain ⟨ha9, hb10⟩ := hh
      refine am_ifB_eq (tgt := 158) dX3_count_151 (by decide) (fun hc11 => ?_) (fun hc11 => ?_)
      · have hh := ha9 hc11
        refine am_iconst dX3_count_158 ?_
        refine am_iadd dX3_count_159 ?_
        refine am_istore_n dX3_count_160 rfl (by decide) rfl ?_
        refine am_iinc (n := 3) dX3_count_161 rfl (by decide) rfl ?_
        refine am_goto (tgt := 114) dX3_count_164 (by decide) ?_
        refine am_keep [2, 3, 1, 0] rfl ?_
        exact hh
      · have hh := hb10 hc11
        refine am_iconst dX3_count_154 ?_
        refine am_goto (tgt := 159) dX3_count_155 (by decide) ?_
        refine am_iadd dX3_count_159 ?_
        refine am_istore_n dX3_count_160 rfl (by decide) rfl ?_
        refine am_iinc (n := 3) dX3_count_161 rfl (by decide) rfl ?_
        refine am_goto (tgt := 114) dX3_count_164 (by decide) ?_
        refine am_keep [2, 3, 1, 0] rfl ?_
        exact hh
    · have hh := hb5 hc6
      refine am_aload_n dX3_count_128 rfl 0 rfl ?_
      refine am_iload_n dX3_count_129 rfl 3 rfl ?_
      refine am_rVi (n := 1) hh dX3_count_130 (lw_V q1847 q1849 qs84 q96 q1850) rfl ⟨⟨by decide, by decide, by decide +kernel⟩, ⟨Nat.le_of_ble_eq_true rfl, Nat.le_of_ble_eq_true rfl⟩⟩ ⟨rfl, rfl⟩ rfl rfl (Nat.le_of_ble_eq_true rfl) ⟨(Nat.le_refl 0), (Nat.le_refl 0)⟩ (am_mrecv _) (fun r13 S12 hr14 hh => ?_)
      refine am_iconst dX3_count_133 ?_
      obtain ⟨ha15, hb16⟩ := hh
      refine am_icmp_ne (tgt := 141) dX3_count_134 (by decide) hr14 (⟨by decide, by decide⟩) (fun hc17 => ?_) (fun hc17 => ?_)
      · have hh := ha15 hc17
        refine am_iconst dX3_count_141 ?_
        refine am_goto (tgt := 159) dX3_count_142 (by decide) ?_
        refine am_iadd dX3_count_159 ?_
        refine am_istore_n dX3_count_160 rfl (by decide) rfl ?_
        refine am_iinc (n := 3) dX3_count_161 rfl (by decide) rfl ?_
        refine am_goto (tgt := 114) dX3_count_164 (by decide) ?_
        refine am_keep [2, 3, 1, 0] rfl ?_
        exact hh
      · have hh := hb16 hc17
        refine am_iconst dX3_count_137 ?_
        refine am_goto (tgt := 159) dX3_count_138 (by decide) ?_
        refine am_iadd dX3_count_159 ?_
        refine am_istore_n dX3_count_160 rfl (by decide) rfl ?_
        refine am_iinc (n := 3) dX3_count_161 rfl (by decide) rfl ?_
        refine am_goto (tgt := 114) dX3_count_164 (by decide) ?_
        refine am_keep [2, 3, 1, 0] rfl ?_
        exact hh
/-! TableArmsModel.status()I -/
abbrev VX3_status (l : Launch) (Q : Option am_W → am_M → Prop) (pc : Nat) (lv : List (Nat × am_W)) (st : List am_W) (S : am_M) : Prop := am_V am_mr l RX3 cX3_status 1 (some .int) "status" (am_rm 1 0 0) (am_E1 am_mr 0 0 Q) pc lv st S 0 0
abbrev kX3_status (l : Launch) (as : List am_W) (S : am_M) (Q : Option am_W → am_M → Prop) : Prop := am_C am_mr l yX3_status (ws_ yX3_status cX3_status 1 (some .int)) (am_rm 1 0 0) 0 0 as S Q
set_option maxHeartbeats 4000000 in
set_option maxRecDepth 100000 in
theorem bX3_status {l : Launch} {Q : Option am_W → am_M → Prop} {S : am_M} 
    (hh : Q (some (am_I (S.1 1).toInt)) (am_sv S 0 0)) : kX3_status l [am_R 0] S Q := by
  refine am_entry (lv := [(0, am_R 0)]) rfl rfl rfl (fun _ => rfl) (fun _ => Nat.le_of_ble_eq_true rfl) ?_
  refine am_aload_n dX3_status_0 rfl 0 rfl ?_
  refine am_iconst dX3_status_1 ?_
  refine am_mput 0 (by decide) q1401 dX3_status_2 ?_
  refine am_aload_n dX3_status_5 rfl 0 rfl ?_
  refine am_mgeti 1 (by decide) (v := (S.1 1).toInt) rfl q1402 dX3_status_6 ?_
  exact am_iret rfl dX3_status_9 (Nat.le_refl 0) (Nat.le_refl 0) hh
