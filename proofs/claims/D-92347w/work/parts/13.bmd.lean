/-! TableArmsModel.isLetter(I)Z -/
abbrev VX3_isLetter (l : Launch) (Q : Option am_W → am_M → Prop) (pc : Nat) (lv : List (Nat × am_W)) (st : List am_W) (S : am_M) : Prop := am_V am_mr l RX3 cX3_isLetter 1 (some .boolean) "isLetter" (am_rm 1 0 0) (am_E1 am_mr 0 0 Q) pc lv st S 0 0
abbrev kX3_isLetter (l : Launch) (as : List am_W) (S : am_M) (Q : Option am_W → am_M → Prop) : Prop := am_C am_mr l yX3_isLetter (ws_ yX3_isLetter cX3_isLetter 1 (some .boolean)) (am_rm 1 0 0) 0 0 as S Q
set_option maxHeartbeats 4000000 in
set_option maxRecDepth 100000 in
theorem bX3_isLetter {l : Launch} {Q : Option am_W → am_M → Prop} {S : am_M} (v0 : Int) (h0 : am_r v0)
    (hh : ((v0 < 97) →
        Q (some (am_I (am_b false))) S) ∧
      ((¬ v0 < 97) →
        ((122 < v0) →
          Q (some (am_I (am_b false))) S) ∧
        ((¬ 122 < v0) →
          Q (some (am_I (am_b true))) S))) : kX3_isLetter l [am_I v0] S Q := by
  refine am_entry (lv := [(0, am_I v0)]) rfl rfl rfl (fun _ => rfl) (fun _ => Nat.le_of_ble_eq_true rfl) ?_
  refine am_iload_n dX3_isLetter_0 rfl 0 rfl ?_
  refine am_bipush dX3_isLetter_1 (by decide) ?_
  obtain ⟨ha1, hb2⟩ := hh
  refine am_icmp_lt (tgt := 16) dX3_isLetter_3 (by decide) h0 (⟨by decide, by decide⟩) (fun hc3 => ?_) (fun hc3 => ?_)
  · have hh := ha1 hc3
    refine am_iconst dX3_isLetter_16 ?_
    exact am_zret (b := false) rfl dX3_isLetter_17 (Nat.le_refl 0) (Nat.le_refl 0) hh
  · have hh := hb2 hc3
    refine am_iload_n dX3_isLetter_6 rfl 0 rfl ?_
    refine am_bipush dX3_isLetter_7 (by decide) ?_
    obtain ⟨ha4, hb5⟩ := hh
    refine am_icmp_gt (tgt := 16) dX3_isLetter_9 (by decide) h0 (⟨by decide, by decide⟩) (fun hc6 => ?_) (fun hc6 => ?_)
    · have hh := ha4 hc6
      refine am_iconst dX3_isLetter_16 ?_
      exact am_zret (b := false) rfl dX3_isLetter_17 (Nat.le_refl 0) (Nat.le_refl 0) hh
    · have hh := hb5 hc6
      refine am_iconst dX3_isLetter_12 ?_
      refine am_goto (tgt := 17) dX3_isLetter_13 (by decide) ?_
      exact am_zret (b := true) rfl dX3_isLetter_17 (Nat.le_refl 0) (Nat.le_refl 0) hh
/-! TableArmsModel.isFigure(I)Z -/
abbrev VX3_isFigure (l : Launch) (Q : Option am_W → am_M → Prop) (pc : Nat) (lv : List (Nat × am_W)) (st : List am_W) (S : am_M) : Prop := am_V am_mr l RX3 cX3_isFigure 1 (some .boolean) "isFigure" (am_rm 1 0 0) (am_E1 am_mr 0 0 Q) pc lv st S 0 0
abbrev kX3_isFigure (l : Launch) (as : List am_W) (S : am_M) (Q : Option am_W → am_M → Prop) : Prop := am_C am_mr l yX3_isFigure (ws_ yX3_isFigure cX3_isFigure 1 (some .boolean)) (am_rm 1 0 0) 0 0 as S Q
set_option maxHeartbeats 4000000 in
set_option maxRecDepth 100000 in
theorem bX3_isFigure {l : Launch} {Q : Option am_W → am_M → Prop} {S : am_M} (v0 : Int) (h0 : am_r v0)
    (hh : ((v0 < 48) →
        Q (some (am_I (am_b false))) S) ∧
      ((¬ v0 < 48) →
        ((57 < v0) →
          Q (some (am_I (am_b false))) S) ∧
        ((¬ 57 < v0) →
          Q (some (am_I (am_b true))) S))) : kX3_isFigure l [am_I v0] S Q := by
  refine am_entry (lv := [(0, am_I v0)]) rfl rfl rfl (fun _ => rfl) (fun _ => Nat.le_of_ble_eq_true rfl) ?_
  refine am_iload_n dX3_isFigure_0 rfl 0 rfl ?_
  refine am_bipush dX3_isFigure_1 (by decide) ?_
  obtain ⟨ha1, hb2⟩ := hh
  refine am_icmp_lt (tgt := 16) dX3_isFigure_3 (by decide) h0 (⟨by decide, by decide⟩) (fun hc3 => ?_) (fun hc3 => ?_)
  · have hh := ha1 hc3
    refine am_iconst dX3_isFigure_16 ?_
    exact am_zret (b := false) rfl dX3_isFigure_17 (Nat.le_refl 0) (Nat.le_refl 0) hh
  · have hh := hb2 hc3
    refine am_iload_n dX3_isFigure_6 rfl 0 rfl ?_
    refine am_bipush dX3_isFigure_7 (by decide) ?_
    obtain ⟨ha4, hb5⟩ := hh
    refine am_icmp_gt (tgt := 16) dX3_isFigure_9 (by decide) h0 (⟨by decide, by decide⟩) (fun hc6 => ?_) (fun hc6 => ?_)
    · have hh := ha4 hc6
      refine am_iconst dX3_isFigure_16 ?_
      exact am_zret (b := false) rfl dX3_isFigure_17 (Nat.le_refl 0) (Nat.le_refl 0) hh
    · have hh := hb5 hc6
      refine am_iconst dX3_isFigure_12 ?_
      refine am_goto (tgt := 17) dX3_isFigure_13 (by decide) ?_
      exact am_zret (b := true) rfl dX3_isFigure_17 (Nat.le_refl 0) (Nat.le_refl 0) hh
/-! TableArmsModel.step()V -/
abbrev VX3_step (l : Launch) (Q : Option am_W → am_M → Prop) (pc : Nat) (lv : List (Nat × am_W)) (st : List am_W) (S : am_M) : Prop := am_V am_mr l RX3 cX3_step 2 none "step" (am_rm 2 0 0) (am_E1 am_mr 0 0 Q) pc lv st S 0 0
abbrev kX3_step (l : Launch) (as : List am_W) (S : am_M) (Q : Option am_W → am_M → Prop) : Prop := am_C am_mr l yX3_step (ws_ yX3_step cX3_step 2 none) (am_rm 2 0 0) 0 0 as S Q
set_option maxHeartbeats 4000000 in
set_option maxRecDepth 100000 in
theorem bX3_step_0 {l : Launch} {Q : Option am_W → am_M → Prop} {S : am_M} 
    (hh : kX3_byteAt l [am_R 0, am_I (S.1 10).toInt] S (am_qi fun r2 S1 =>
        ((r2 = 32) →
          VX3_step l Q 0 [(0, am_R 0)] [] (am_sv S1 10 ((S1.1 10).toInt + 1))) ∧
        ((¬ r2 = 32) →
          kX3_byteAt l [am_R 0, am_I (S1.1 10).toInt] S1 (am_qi fun r8 S7 =>
            ((¬ r8 = 10) →
              kX3_byteAt l [am_R 0, am_I (S7.1 10).toInt] (am_sv S7 12 ((S7.1 10).toInt)) (am_qi fun r14 S13 =>
                ((¬ r14 = (-1000000)) →
                  kX3_isLetter l [am_I r14] S13 (am_qz fun b20 S19 =>
                    ((b20 = false) →
                      kX3_isFigure l [am_I r14] S19 (am_qz fun b25 S24 =>
                        ((b25 = false) →
                          ((¬ r14 = 59) →
                            Q none (am_sv (am_sv (am_sv S24 10 ((S24.1 10).toInt + 1)) 11 0) 13 ((Int32.ofInt ((S24.1 10).toInt + 1)).toInt))) ∧
                          ((r14 = 59) →
                            Q none (am_sv (am_sv (am_sv S24 10 ((S24.1 10).toInt + 1)) 11 4) 13 ((Int32.ofInt ((S24.1 10).toInt + 1)).toInt)))) ∧
                        ((b25 = true) →
                          VX3_step l Q 119 [(0, am_R 0)] [] S24))) ∧
                    ((b20 = true) →
                      VX3_step l Q 77 [(0, am_R 0)] [] S19))) ∧
                ((r14 = (-1000000)) →
                  Q none (am_sv (am_sv S13 11 1) 13 ((S13.1 10).toInt))))) ∧
            ((r8 = 10) →
              VX3_step l Q 0 [(0, am_R 0)] [] (am_sv S7 10 ((S7.1 10).toInt + 1))))))) : VX3_step l Q 0 [(0, am_R 0)] [] S := by
  refine am_aload_n dX3_step_0 rfl 0 rfl ?_
  refine am_aload_n dX3_step_1 rfl 0 rfl ?_
  refine am_mgeti 10 (by decide) (v := (S.1 10).toInt) rfl q1425 dX3_step_2 ?_
  refine am_rVi (n := 1) hh dX3_step_5 (lw_V q1769 q1771 qs74 q96 q1772) rfl ⟨⟨by decide, by decide, by decide +kernel⟩, ⟨Nat.le_of_ble_eq_true rfl, Nat.le_of_ble_eq_true rfl⟩⟩ ⟨rfl, rfl⟩ rfl rfl (Nat.le_of_ble_eq_true rfl) ⟨(Nat.le_refl 0), (Nat.le_refl 0)⟩ (am_mrecv _) (fun r2 S1 hr3 hh => ?_)
  refine am_bipush dX3_step_8 (by decide) ?_
  obtain ⟨ha4, hb5⟩ := hh
  refine am_icmp_eq (tgt := 26) dX3_step_10 (by decide) hr3 (⟨by decide, by decide⟩) (fun hc6 => ?_) (fun hc6 => ?_)
  · have hh := ha4 hc6
    refine am_aload_n dX3_step_26 rfl 0 rfl ?_
    refine am_dup dX3_step_27 rfl ?_
    refine am_mgeti 10 (by decide) (v := (S1.1 10).toInt) rfl q1425 dX3_step_28 ?_
    refine am_iconst dX3_step_31 ?_
    refine am_iadd dX3_step_32 ?_
    refine am_mput 10 (by decide) q1425 dX3_step_33 ?_
    refine am_goto (tgt := 0) dX3_step_36 (by decide) ?_
    exact hh
  · have hh := hb5 hc6
    refine am_aload_n dX3_step_13 rfl 0 rfl ?_
    refine am_aload_n dX3_step_14 rfl 0 rfl ?_
    refine am_mgeti 10 (by decide) (v := (S1.1 10).toInt) rfl q1425 dX3_step_15 ?_
    refine am_rVi (n := 1) hh dX3_step_18 (lw_V q1769 q1771 qs74 q96 q1772) rfl ⟨⟨by decide, by decide, by decide +kernel⟩, ⟨Nat.le_of_ble_eq_true rfl, Nat.le_of_ble_eq_true rfl⟩⟩ ⟨rfl, rfl⟩ rfl rfl (Nat.le_of_ble_eq_true rfl) ⟨(Nat.le_refl 0), (Nat.le_refl 0)⟩ (am_mrecv _) (fun r8 S7 hr9 hh => ?_)
    refine am_bipush dX3_step_21 (by decide) ?_
    obtain ⟨ha10, hb11⟩ := hh
    refine am_icmp_ne (tgt := 39) dX3_step_23 (by decide) hr9 (⟨by decide, by decide⟩) (fun hc12 => ?_) (fun hc12 => ?_)
    · have hh := ha10 hc12
      refine am_aload_n dX3_step_39 rfl 0 rfl ?_
      refine am_aload_n dX3_step_40 rfl 0 rfl ?_
      refine am_mgeti 10 (by decide) (v := (S7.1 10).toInt) rfl q1425 dX3_step_41 ?_
      refine am_mput 12 (by decide) q1427 dX3_step_44 ?_
      refine am_aload_n dX3_step_47 rfl 0 rfl ?_
      refine am_aload_n dX3_step_48 rfl 0 rfl ?_
      refine am_mgeti 10 (by decide) (v := (S7.1 10).toInt) rfl q1425 dX3_step_49 ?_
      refine am_rVi (n := 1) hh dX3_step_52 (lw_V q1769 q1771 qs74 q96 q1772) rfl ⟨⟨by decide, by decide, by decide +kernel⟩, ⟨Nat.le_of_ble_eq_true rfl, Nat.le_of_ble_eq_true rfl⟩⟩ ⟨rfl, rfl⟩ rfl rfl (Nat.le_of_ble_eq_true rfl) ⟨(Nat.le_refl 0), (Nat.le_refl 0)⟩ (am_mrecv _) (fun r14 S13 hr15 hh => ?_)
      refine am_istore_n dX3_step_55 rfl (by decide) rfl ?_
      refine am_iload_n dX3_step_56 rfl 0 rfl ?_
      refine am_ldc (z := -1000000) q1544 (by decide) dX3_step_57 ?_
      obtain ⟨ha16, hb17⟩ := hh
      refine am_icmp_ne (tgt := 70) dX3_step_59 (by decide) hr15 (⟨by decide, by decide⟩) (fun hc18 => ?_) (fun hc18 => ?_)
      · have hh := ha16 hc18
        refine am_iload_n dX3_step_70 rfl 0 rfl ?_
        refine am_rSz (n := 1) hh dX3_step_71 (lw_S q1773 q1774 q96 q1775) ⟨⟨by decide, by decide, by decide +kernel⟩, ⟨Nat.le_of_ble_eq_true rfl, Nat.le_of_ble_eq_true rfl⟩⟩ ⟨rfl, rfl⟩ rfl rfl (Nat.le_of_ble_eq_true rfl) ⟨(Nat.le_refl 0), (Nat.le_refl 0)⟩ (fun b20 S19 hh => ?_)
        obtain ⟨ha21, hb22⟩ := hh
        refine am_ifB_eq (tgt := 112) dX3_step_74 (by decide) (fun hc23 => ?_) (fun hc23 => ?_)
        · have hh := ha21 hc23
          refine am_iload_n dX3_step_112 rfl 0 rfl ?_
          refine am_rSz (n := 1) hh dX3_step_113 (lw_S q1776 q1777 q96 q1778) ⟨⟨by decide, by decide, by decide +kernel⟩, ⟨Nat.le_of_ble_eq_true rfl, Nat.le_of_ble_eq_true rfl⟩⟩ ⟨rfl, rfl⟩ rfl rfl (Nat.le_of_ble_eq_true rfl) ⟨(Nat.le_refl 0), (Nat.le_refl 0)⟩ (fun b25 S24 hh => ?_)
          obtain ⟨ha26, hb27⟩ := hh
          refine am_ifB_eq (tgt := 171) dX3_step_116 (by decide) (fun hc28 => ?_) (fun hc28 => ?_)
          · have hh := ha26 hc28
            refine am_aload_n dX3_step_171 rfl 1 rfl ?_
            refine am_dup dX3_step_172 rfl ?_
            refine am_mgeti 10 (by decide) (v := (S24.1 10).toInt) rfl q1425 dX3_step_173 ?_
            refine am_iconst dX3_step_176 ?_
            refine am_iadd dX3_step_177 ?_
            refine am_mput 10 (by decide) q1425 dX3_step_178 ?_
            refine am_aload_n dX3_step_181 rfl 1 rfl ?_
            refine am_iload_n dX3_step_182 rfl 0 rfl ?_
            refine am_bipush dX3_step_183 (by decide) ?_
            obtain ⟨ha29, hb30⟩ := hh
            refine am_icmp_ne (tgt := 192) dX3_step_185 (by decide) hr15 (⟨by decide, by decide⟩) (fun hc31 => ?_) (fun hc31 => ?_)
            · have hh := ha29 hc31
              refine am_iconst dX3_step_192 ?_
              refine am_mput 11 (by decide) q1426 dX3_step_193 ?_
              refine am_aload_n dX3_step_196 rfl 1 rfl ?_
              refine am_aload_n dX3_step_197 rfl 1 rfl ?_
              refine am_mgeti 10 (by decide) (v := (Int32.ofInt ((S24.1 10).toInt + 1)).toInt) rfl q1425 dX3_step_198 ?_
              refine am_mput 13 (by decide) q1428 dX3_step_201 ?_
              exact am_vret rfl dX3_step_204 (Nat.le_refl 0) (Nat.le_refl 0) hh
            · have hh := hb30 hc31
              refine am_iconst dX3_step_188 ?_
              refine am_goto (tgt := 193) dX3_step_189 (by decide) ?_
              refine am_mput 11 (by decide) q1426 dX3_step_193 ?_
              refine am_aload_n dX3_step_196 rfl 1 rfl ?_
              refine am_aload_n dX3_step_197 rfl 1 rfl ?_
              refine am_mgeti 10 (by decide) (v := (Int32.ofInt ((S24.1 10).toInt + 1)).toInt) rfl q1425 dX3_step_198 ?_
              refine am_mput 13 (by decide) q1428 dX3_step_201 ?_
              exact am_vret rfl dX3_step_204 (Nat.le_refl 0) (Nat.le_refl 0) hh
          · have hh := hb27 hc28
            refine am_keep [1] rfl ?_
            exact hh
        · have hh := hb22 hc23
          refine am_keep [1] rfl ?_
          exact hh
      · have hh := hb17 hc18
        refine am_aload_n dX3_step_62 rfl 1 rfl ?_
        refine am_iconst dX3_step_63 ?_
        refine am_mput 11 (by decide) q1426 dX3_step_64 ?_
        refine am_goto (tgt := 196) dX3_step_67 (by decide) ?_
        refine am_aload_n dX3_step_196 rfl 1 rfl ?_
        refine am_aload_n dX3_step_197 rfl 1 rfl ?_
        refine am_mgeti 10 (by decide) (v := (S13.1 10).toInt) rfl q1425 dX3_step_198 ?_
        refine am_mput 13 (by decide) q1428 dX3_step_201 ?_
        exact am_vret rfl dX3_step_204 (Nat.le_refl 0) (Nat.le_refl 0) hh
    · have hh := hb11 hc12
      refine am_aload_n dX3_step_26 rfl 0 rfl ?_
      refine am_dup dX3_step_27 rfl ?_
      refine am_mgeti 10 (by decide) (v := (S7.1 10).toInt) rfl q1425 dX3_step_28 ?_
      refine am_iconst dX3_step_31 ?_
      refine am_iadd dX3_step_32 ?_
      refine am_mput 10 (by decide) q1425 dX3_step_33 ?_
      refine am_goto (tgt := 0) dX3_step_36 (by decide) ?_
      exact hh
theorem bX3_step {l : Launch} {Q : Option am_W → am_M → Prop} {S : am_M} 
    (hh : VX3_step l Q 0 [(0, am_R 0)] [] S) : kX3_step l [am_R 0] S Q := by
  refine am_entry (lv := [(0, am_R 0)]) rfl rfl rfl (fun _ => rfl) (fun _ => Nat.le_of_ble_eq_true rfl) ?_
  exact hh
set_option maxHeartbeats 4000000 in
set_option maxRecDepth 100000 in
theorem bX3_step_77 {l : Launch} {Q : Option am_W → am_M → Prop} {S : am_M} 
    (hh : kX3_byteAt l [am_R 0, am_I (S.1 10).toInt] S (am_qi fun r2 S1 =>
        kX3_isLetter l [am_I r2] S1 (am_qz fun b5 S4 =>
          ((b5 = false) →
            Q none (am_sv (am_sv S4 11 2) 13 ((S4.1 10).toInt))) ∧
          ((b5 = true) →
            VX3_step l Q 77 [(0, am_R 0)] [] (am_sv S4 10 ((S4.1 10).toInt + 1)))))) : VX3_step l Q 77 [(0, am_R 0)] [] S := by
  refine am_aload_n dX3_step_77 rfl 0 rfl ?_
  refine am_aload_n dX3_step_78 rfl 0 rfl ?_
  refine am_mgeti 10 (by decide) (v := (S.1 10).toInt) rfl q1425 dX3_step_79 ?_
  refine am_rVi (n := 1) hh dX3_step_82 (lw_V q1769 q1771 qs74 q96 q1772) rfl ⟨⟨by decide, by decide, by decide +kernel⟩, ⟨Nat.le_of_ble_eq_true rfl, Nat.le_of_ble_eq_true rfl⟩⟩ ⟨rfl, rfl⟩ rfl rfl (Nat.le_of_ble_eq_true rfl) ⟨(Nat.le_refl 0), (Nat.le_refl 0)⟩ (am_mrecv _) (fun r2 S1 hr3 hh => ?_)
  refine am_rSz (n := 1) hh dX3_step_85 (lw_S q1773 q1774 q96 q1775) ⟨⟨by decide, by decide, by decide +kernel⟩, ⟨Nat.le_of_ble_eq_true rfl, Nat.le_of_ble_eq_true rfl⟩⟩ ⟨rfl, rfl⟩ rfl rfl (Nat.le_of_ble_eq_true rfl) ⟨(Nat.le_refl 0), (Nat.le_refl 0)⟩ (fun b5 S4 hh => ?_)
  obtain ⟨ha6, hb7⟩ := hh
  refine am_ifB_eq (tgt := 104) dX3_step_88 (by decide) (fun hc8 => ?_) (fun hc8 => ?_)
  · have hh := ha6 hc8
    refine am_aload_n dX3_step_104 rfl 0 rfl ?_
    refine am_iconst dX3_step_105 ?_
    refine am_mput 11 (by decide) q1426 dX3_step_106 ?_
    refine am_goto (tgt := 196) dX3_step_109 (by decide) ?_
    refine am_aload_n dX3_step_196 rfl 0 rfl ?_
    refine am_aload_n dX3_step_197 rfl 0 rfl ?_
    refine am_mgeti 10 (by decide) (v := (S4.1 10).toInt) rfl q1425 dX3_step_198 ?_
    refine am_mput 13 (by decide) q1428 dX3_step_201 ?_
    exact am_vret rfl dX3_step_204 (Nat.le_refl 0) (Nat.le_refl 0) hh
  · have hh := hb7 hc8
    refine am_aload_n dX3_step_91 rfl 0 rfl ?_
    refine am_dup dX3_step_92 rfl ?_
    refine am_mgeti 10 (by decide) (v := (S4.1 10).toInt) rfl q1425 dX3_step_93 ?_
    refine am_iconst dX3_step_96 ?_
    refine am_iadd dX3_step_97 ?_
    refine am_mput 10 (by decide) q1425 dX3_step_98 ?_
    refine am_goto (tgt := 77) dX3_step_101 (by decide) ?_
    exact hh
set_option maxHeartbeats 4000000 in
set_option maxRecDepth 100000 in
theorem bX3_step_119 {l : Launch} {Q : Option am_W → am_M → Prop} {S : am_M} 
    (hh : kX3_byteAt l [am_R 0, am_I (S.1 10).toInt] S (am_qi fun r2 S1 =>
        kX3_isFigure l [am_I r2] S1 (am_qz fun b5 S4 =>
          ((b5 = false) →
            (am_r ((S4.1 10).toInt - (S4.1 12).toInt)) ∧
            ((((S4.1 10).toInt - (S4.1 12).toInt) ≤ 3) →
              Q none (am_sv (am_sv S4 11 3) 13 ((S4.1 10).toInt))) ∧
            ((¬ ((S4.1 10).toInt - (S4.1 12).toInt) ≤ 3) →
              Q none (am_sv (am_sv S4 11 0) 13 ((S4.1 10).toInt)))) ∧
          ((b5 = true) →
            VX3_step l Q 119 [(0, am_R 0)] [] (am_sv S4 10 ((S4.1 10).toInt + 1)))))) : VX3_step l Q 119 [(0, am_R 0)] [] S := by
  refine am_aload_n dX3_step_119 rfl 0 rfl ?_
  refine am_aload_n dX3_step_120 rfl 0 rfl ?_
  refine am_mgeti 10 (by decide) (v := (S.1 10).toInt) rfl q1425 dX3_step_121 ?_
  refine am_rVi (n := 1) hh dX3_step_124 (lw_V q1769 q1771 qs74 q96 q1772) rfl ⟨⟨by decide, by decide, by decide +kernel⟩, ⟨Nat.le_of_ble_eq_true rfl, Nat.le_of_ble_eq_true rfl⟩⟩ ⟨rfl, rfl⟩ rfl rfl (Nat.le_of_ble_eq_true rfl) ⟨(Nat.le_refl 0), (Nat.le_refl 0)⟩ (am_mrecv _) (fun r2 S1 hr3 hh => ?_)
  refine am_rSz (n := 1) hh dX3_step_127 (lw_S q1776 q1777 q96 q1778) ⟨⟨by decide, by decide, by decide +kernel⟩, ⟨Nat.le_of_ble_eq_true rfl, Nat.le_of_ble_eq_true rfl⟩⟩ ⟨rfl, rfl⟩ rfl rfl (Nat.le_of_ble_eq_true rfl) ⟨(Nat.le_refl 0), (Nat.le_refl 0)⟩ (fun b5 S4 hh => ?_)
  obtain ⟨ha6, hb7⟩ := hh
  refine am_ifB_eq (tgt := 146) dX3_step_130 (by decide) (fun hc8 => ?_) (fun hc8 => ?_)
  · have hh := ha6 hc8
    refine am_aload_n dX3_step_146 rfl 0 rfl ?_
    refine am_aload_n dX3_step_147 rfl 0 rfl ?_
    refine am_mgeti 10 (by decide) (v := (S4.1 10).toInt) rfl q1425 dX3_step_148 ?_
    refine am_aload_n dX3_step_151 rfl 0 rfl ?_
    refine am_mgeti 12 (by decide) (v := (S4.1 12).toInt) rfl q1427 dX3_step_152 ?_
    refine am_isub dX3_step_155 ?_
    refine am_iconst dX3_step_156 ?_
    obtain ⟨o9, hh⟩ := hh
    obtain ⟨ha10, hb11⟩ := hh
    refine am_icmp_le (tgt := 164) dX3_step_157 (by decide) o9 (⟨by decide, by decide⟩) (fun hc12 => ?_) (fun hc12 => ?_)
    · have hh := ha10 hc12
      refine am_iconst dX3_step_164 ?_
      refine am_mput 11 (by decide) q1426 dX3_step_165 ?_
      refine am_goto (tgt := 196) dX3_step_168 (by decide) ?_
      refine am_aload_n dX3_step_196 rfl 0 rfl ?_
      refine am_aload_n dX3_step_197 rfl 0 rfl ?_
      refine am_mgeti 10 (by decide) (v := (S4.1 10).toInt) rfl q1425 dX3_step_198 ?_
      refine am_mput 13 (by decide) q1428 dX3_step_201 ?_
      exact am_vret rfl dX3_step_204 (Nat.le_refl 0) (Nat.le_refl 0) hh
    · have hh := hb11 hc12
      refine am_iconst dX3_step_160 ?_
      refine am_goto (tgt := 165) dX3_step_161 (by decide) ?_
      refine am_mput 11 (by decide) q1426 dX3_step_165 ?_
      refine am_goto (tgt := 196) dX3_step_168 (by decide) ?_
      refine am_aload_n dX3_step_196 rfl 0 rfl ?_
      refine am_aload_n dX3_step_197 rfl 0 rfl ?_
      refine am_mgeti 10 (by decide) (v := (S4.1 10).toInt) rfl q1425 dX3_step_198 ?_
      refine am_mput 13 (by decide) q1428 dX3_step_201 ?_
      exact am_vret rfl dX3_step_204 (Nat.le_refl 0) (Nat.le_refl 0) hh
  · have hh := hb7 hc8
    refine am_aload_n dX3_step_133 rfl 0 rfl ?_
    refine am_dup dX3_step_134 rfl ?_
    refine am_mgeti 10 (by decide) (v := (S4.1 10).toInt) rfl q1425 dX3_step_135 ?_
    refine am_iconst dX3_step_138 ?_
    refine am_iadd dX3_step_139 ?_
    refine am_mput 10 (by decide) q1425 dX3_step_140 ?_
    refine am_goto (tgt := 119) dX3_step_143 (by decide) ?_
    exact hh
/-! TableArmsModel.word()J -/
abbrev VX3_word (l : Launch) (Q : Option am_W → am_M → Prop) (pc : Nat) (lv : List (Nat × am_W)) (st : List am_W) (S : am_M) : Prop := am_V am_mr l RX3 cX3_word 4 (some .long) "word" (am_rm 1 0 0) (am_E1 am_mr 0 0 Q) pc lv st S 0 0
abbrev kX3_word (l : Launch) (as : List am_W) (S : am_M) (Q : Option am_W → am_M → Prop) : Prop := am_C am_mr l yX3_word (ws_ yX3_word cX3_word 4 (some .long)) (am_rm 1 0 0) 0 0 as S Q
set_option maxHeartbeats 4000000 in
set_option maxRecDepth 100000 in
theorem bX3_word {l : Launch} {Q : Option am_W → am_M → Prop} {S : am_M} 
    (hh : VX3_word l Q 7 [(0, am_R 0), (1, am_J 0), (3, am_I (S.1 12).toInt)] [] S) : kX3_word l [am_R 0] S Q := by
  refine am_entry (lv := [(0, am_R 0)]) rfl rfl rfl (fun _ => rfl) (fun _ => Nat.le_of_ble_eq_true rfl) ?_
  refine am_lconst (z := 0) dX3_word_0 (by decide) ?_
  refine am_lstore_n dX3_word_1 rfl (by decide) rfl ?_
  refine am_aload_n dX3_word_2 rfl 1 rfl ?_
  refine am_mgeti 12 (by decide) (v := (S.1 12).toInt) rfl q1427 dX3_word_3 ?_
  refine am_istore_n dX3_word_6 rfl (by decide) rfl ?_
  refine am_keep [2, 1, 0] rfl ?_
  exact hh
set_option maxHeartbeats 4000000 in
set_option maxRecDepth 100000 in
theorem bX3_word_7 {l : Launch} {Q : Option am_W → am_M → Prop} {S : am_M} (v1 : Int) (h1 : am_r64 v1) (v3 : Int) (h3 : am_r v3)
    (hh : ((((S.1 13).toInt) ≤ v3) →
        Q (some (am_J v1)) S) ∧
      ((¬ ((S.1 13).toInt) ≤ v3) →
        ((¬ ((S.1 11).toInt) = 2) →
          Q (some (am_J v1)) S) ∧
        ((((S.1 11).toInt) = 2) →
          (am_r ((S.1 13).toInt - (S.1 12).toInt)) ∧
          ((8 ≤ ((S.1 13).toInt - (S.1 12).toInt)) →
            Q (some (am_J v1)) S) ∧
          ((¬ 8 ≤ ((S.1 13).toInt - (S.1 12).toInt)) →
            (0 ≤ v3 ∧ v3 < 300) ∧
            VX3_word l Q 7 [(0, am_R 0), (1, am_J (am_lorL (am_lshl v1 8) (S.2 13 v3.toNat).toInt)), (3, am_I (v3 + 1))] [] S)))) : VX3_word l Q 7 [(0, am_R 0), (1, am_J v1), (3, am_I v3)] [] S := by
  refine am_iload_n dX3_word_7 rfl 2 rfl ?_
  refine am_aload_n dX3_word_8 rfl 0 rfl ?_
  refine am_mgeti 13 (by decide) (v := (S.1 13).toInt) rfl q1428 dX3_word_9 ?_
  obtain ⟨ha1, hb2⟩ := hh
  refine am_icmp_ge (tgt := 56) dX3_word_12 (by decide) h3 (am_rt _) (fun hc3 => ?_) (fun hc3 => ?_)
  · have hh := ha1 hc3
    refine am_lload_n dX3_word_56 rfl 1 rfl ?_
    exact am_lret rfl dX3_word_57 (Nat.le_refl 0) (Nat.le_refl 0) hh
  · have hh := hb2 hc3
    refine am_aload_n dX3_word_15 rfl 0 rfl ?_
    refine am_mgeti 11 (by decide) (v := (S.1 11).toInt) rfl q1426 dX3_word_16 ?_
    refine am_iconst dX3_word_19 ?_
    obtain ⟨ha4, hb5⟩ := hh
    refine am_icmp_ne (tgt := 56) dX3_word_20 (by decide) (am_rt _) (⟨by decide, by decide⟩) (fun hc6 => ?_) (fun hc6 => ?_)
    · have hh := ha4 hc6
      refine am_lload_n dX3_word_56 rfl 1 rfl ?_
      exact am_lret rfl dX3_word_57 (Nat.le_refl 0) (Nat.le_refl 0) hh
    · have hh := hb5 hc6
      refine am_aload_n dX3_word_23 rfl 0 rfl ?_
      refine am_mgeti 13 (by decide) (v := (S.1 13).toInt) rfl q1428 dX3_word_24 ?_
      refine am_aload_n dX3_word_27 rfl 0 rfl ?_
      refine am_mgeti 12 (by decide) (v := (S.1 12).toInt) rfl q1427 dX3_word_28 ?_
      refine am_isub dX3_word_31 ?_
      refine am_bipush dX3_word_32 (by decide) ?_
      obtain ⟨o7, hh⟩ := hh
      obtain ⟨ha8, hb9⟩ := hh
      refine am_icmp_ge (tgt := 56) dX3_word_34 (by decide) o7 (⟨by decide, by decide⟩) (fun hc10 => ?_) (fun hc10 => ?_)
      · have hh := ha8 hc10
        refine am_lload_n dX3_word_56 rfl 1 rfl ?_
        exact am_lret rfl dX3_word_57 (Nat.le_refl 0) (Nat.le_refl 0) hh
      · have hh := hb9 hc10
        refine am_lload_n dX3_word_37 rfl 1 rfl ?_
        refine am_bipush dX3_word_38 (by decide) ?_
        refine am_lshl_ dX3_word_40 ?_
        refine am_aload_n dX3_word_41 rfl 0 rfl ?_
        refine am_mgeta 13 (by decide) q1421 dX3_word_42 ?_
        refine am_iload_n dX3_word_45 rfl 2 rfl ?_
        obtain ⟨o11, hh⟩ := hh
        refine am_miald 13 (by decide) (by decide) (v := (S.2 13 v3.toNat).toInt) rfl o11.1 o11.2 dX3_word_46 ?_
        refine am_i2l_ (am_rt _) dX3_word_47 ?_
        refine am_lor dX3_word_48 ?_
        refine am_lstore_n dX3_word_49 rfl (by decide) rfl ?_
        refine am_iinc (n := 2) dX3_word_50 rfl (by decide) rfl ?_
        refine am_goto (tgt := 7) dX3_word_53 (by decide) ?_
        refine am_keep [2, 1, 0] rfl ?_
        exact hh
/-! TableArmsModel.bad(I)V -/
abbrev VX3_bad (l : Launch) (Q : Option am_W → am_M → Prop) (pc : Nat) (lv : List (Nat × am_W)) (st : List am_W) (S : am_M) : Prop := am_V am_mr l RX3 cX3_bad 2 none "bad" (am_rm 1 0 0) (am_E1 am_mr 0 0 Q) pc lv st S 0 0
abbrev kX3_bad (l : Launch) (as : List am_W) (S : am_M) (Q : Option am_W → am_M → Prop) : Prop := am_C am_mr l yX3_bad (ws_ yX3_bad cX3_bad 2 none) (am_rm 1 0 0) 0 0 as S Q
set_option maxHeartbeats 4000000 in
set_option maxRecDepth 100000 in
theorem bX3_bad {l : Launch} {Q : Option am_W → am_M → Prop} {S : am_M} (v1 : Int) (h1 : am_r v1)
    (hh : ((¬ ((S.1 14).toInt) = 0) →
        Q none S) ∧
      ((((S.1 14).toInt) = 0) →
        Q none (am_sv (am_sv S 14 v1) 15 ((S.1 12).toInt)))) : kX3_bad l [am_R 0, am_I v1] S Q := by
  refine am_entry (lv := [(0, am_R 0), (1, am_I v1)]) rfl rfl rfl (fun _ => rfl) (fun _ => Nat.le_of_ble_eq_true rfl) ?_
  refine am_aload_n dX3_bad_0 rfl 0 rfl ?_
  refine am_mgeti 14 (by decide) (v := (S.1 14).toInt) rfl q1429 dX3_bad_1 ?_
  obtain ⟨ha1, hb2⟩ := hh
  refine am_if_ne (tgt := 20) dX3_bad_4 (by decide) (am_rt _) (fun hc3 => ?_) (fun hc3 => ?_)
  · have hh := ha1 hc3
    exact am_vret rfl dX3_bad_20 (Nat.le_refl 0) (Nat.le_refl 0) hh
  · have hh := hb2 hc3
    refine am_aload_n dX3_bad_7 rfl 0 rfl ?_
    refine am_iload_n dX3_bad_8 rfl 1 rfl ?_
    refine am_mput 14 (by decide) q1429 dX3_bad_9 ?_
    refine am_aload_n dX3_bad_12 rfl 0 rfl ?_
    refine am_aload_n dX3_bad_13 rfl 0 rfl ?_
    refine am_mgeti 12 (by decide) (v := (S.1 12).toInt) rfl q1427 dX3_bad_14 ?_
    refine am_mput 15 (by decide) q1430 dX3_bad_17 ?_
    exact am_vret rfl dX3_bad_20 (Nat.le_refl 0) (Nat.le_refl 0) hh
/-! TableArmsModel.must(Z)V -/
abbrev VX3_must (l : Launch) (Q : Option am_W → am_M → Prop) (pc : Nat) (lv : List (Nat × am_W)) (st : List am_W) (S : am_M) : Prop := am_V am_mr l RX3 cX3_must 2 none "must" (am_rm 3 0 0) (am_E1 am_mr 0 0 Q) pc lv st S 0 0
abbrev kX3_must (l : Launch) (as : List am_W) (S : am_M) (Q : Option am_W → am_M → Prop) : Prop := am_C am_mr l yX3_must (ws_ yX3_must cX3_must 2 none) (am_rm 3 0 0) 0 0 as S Q
set_option maxHeartbeats 4000000 in
set_option maxRecDepth 100000 in
theorem bX3_must {l : Launch} {Q : Option am_W → am_M → Prop} {S : am_M} (v1 : Bool)
    (hh : ((v1 = true) →
        ((¬ ((S.1 14).toInt) = 0) →
          Q none S) ∧
        ((((S.1 14).toInt) = 0) →
          kX3_step l [am_R 0] S (am_qv fun S7 =>
            Q none S7))) ∧
      ((v1 = false) →
        kX3_bad l [am_R 0, am_I 1] S (am_qv fun S8 =>
          ((¬ ((S8.1 14).toInt) = 0) →
            Q none S8) ∧
          ((((S8.1 14).toInt) = 0) →
            kX3_step l [am_R 0] S8 (am_qv fun S12 =>
              Q none S12))))) : kX3_must l [am_R 0, am_I (am_b v1)] S Q := by
  refine am_entry (lv := [(0, am_R 0), (1, am_I (am_b v1))]) rfl rfl rfl (fun _ => rfl) (fun _ => Nat.le_of_ble_eq_true rfl) ?_
  refine am_iload_n dX3_must_0 rfl 1 rfl ?_
  obtain ⟨ha1, hb2⟩ := hh
  refine am_ifB_ne (tgt := 9) dX3_must_1 (by decide) (fun hc3 => ?_) (fun hc3 => ?_)
  · have hh := ha1 hc3
    refine am_aload_n dX3_must_9 rfl 0 rfl ?_
    refine am_mgeti 14 (by decide) (v := (S.1 14).toInt) rfl q1429 dX3_must_10 ?_
    obtain ⟨ha4, hb5⟩ := hh
    refine am_if_ne (tgt := 20) dX3_must_13 (by decide) (am_rt _) (fun hc6 => ?_) (fun hc6 => ?_)
    · have hh := ha4 hc6
      exact am_vret rfl dX3_must_20 (Nat.le_refl 0) (Nat.le_refl 0) hh
    · have hh := hb5 hc6
      refine am_aload_n dX3_must_16 rfl 0 rfl ?_
      refine am_rVv (n := 0) hh dX3_must_17 (lw_V q1765 q1767 qs73 q96 q1768) rfl ⟨⟨by decide, by decide, by decide +kernel⟩, ⟨Nat.le_of_ble_eq_true rfl, Nat.le_of_ble_eq_true rfl⟩⟩ ⟨rfl, rfl⟩ rfl rfl (Nat.le_of_ble_eq_true rfl) ⟨(Nat.le_refl 0), (Nat.le_refl 0)⟩ (am_mrecv _) (fun S7 hh => ?_)
      exact am_vret rfl dX3_must_20 (Nat.le_refl 0) (Nat.le_refl 0) hh
  · have hh := hb2 hc3
    refine am_aload_n dX3_must_4 rfl 0 rfl ?_
    refine am_iconst dX3_must_5 ?_
    refine am_rVv (n := 1) hh dX3_must_6 (lw_V q1789 q1791 qs77 q96 q1792) rfl ⟨⟨by decide, by decide, by decide +kernel⟩, ⟨Nat.le_of_ble_eq_true rfl, Nat.le_of_ble_eq_true rfl⟩⟩ ⟨rfl, rfl⟩ rfl rfl (Nat.le_of_ble_eq_true rfl) ⟨(Nat.le_refl 0), (Nat.le_refl 0)⟩ (am_mrecv _) (fun S8 hh => ?_)
    refine am_aload_n dX3_must_9 rfl 0 rfl ?_
    refine am_mgeti 14 (by decide) (v := (S8.1 14).toInt) rfl q1429 dX3_must_10 ?_
    obtain ⟨ha9, hb10⟩ := hh
    refine am_if_ne (tgt := 20) dX3_must_13 (by decide) (am_rt _) (fun hc11 => ?_) (fun hc11 => ?_)
    · have hh := ha9 hc11
      exact am_vret rfl dX3_must_20 (Nat.le_refl 0) (Nat.le_refl 0) hh
    · have hh := hb10 hc11
      refine am_aload_n dX3_must_16 rfl 0 rfl ?_
      refine am_rVv (n := 0) hh dX3_must_17 (lw_V q1765 q1767 qs73 q96 q1768) rfl ⟨⟨by decide, by decide, by decide +kernel⟩, ⟨Nat.le_of_ble_eq_true rfl, Nat.le_of_ble_eq_true rfl⟩⟩ ⟨rfl, rfl⟩ rfl rfl (Nat.le_of_ble_eq_true rfl) ⟨(Nat.le_refl 0), (Nat.le_refl 0)⟩ (am_mrecv _) (fun S12 hh => ?_)
      exact am_vret rfl dX3_must_20 (Nat.le_refl 0) (Nat.le_refl 0) hh
/-! TableArmsModel.numberTo(I)I -/
abbrev VX3_numberTo (l : Launch) (Q : Option am_W → am_M → Prop) (pc : Nat) (lv : List (Nat × am_W)) (st : List am_W) (S : am_M) : Prop := am_V am_mr l RX3 cX3_numberTo 4 (some .int) "numberTo" (am_rm 4 0 0) (am_E1 am_mr 0 0 Q) pc lv st S 0 0
abbrev kX3_numberTo (l : Launch) (as : List am_W) (S : am_M) (Q : Option am_W → am_M → Prop) : Prop := am_C am_mr l yX3_numberTo (ws_ yX3_numberTo cX3_numberTo 4 (some .int)) (am_rm 4 0 0) 0 0 as S Q
set_option maxHeartbeats 4000000 in
set_option maxRecDepth 100000 in
theorem bX3_numberTo {l : Launch} {Q : Option am_W → am_M → Prop} {S : am_M} (v1 : Int) (h1 : am_r v1)
    (hh : ((((S.1 14).toInt) ≤ 0) →
        VX3_numberTo l Q 16 [(0, am_R 0), (1, am_I v1), (2, am_I 0), (3, am_I (S.1 12).toInt)] [] S) ∧
      ((¬ ((S.1 14).toInt) ≤ 0) →
        Q (some (am_I 0)) S)) : kX3_numberTo l [am_R 0, am_I v1] S Q := by
  refine am_entry (lv := [(0, am_R 0), (1, am_I v1)]) rfl rfl rfl (fun _ => rfl) (fun _ => Nat.le_of_ble_eq_true rfl) ?_
  refine am_aload_n dX3_numberTo_0 rfl 0 rfl ?_
  refine am_mgeti 14 (by decide) (v := (S.1 14).toInt) rfl q1429 dX3_numberTo_1 ?_
  obtain ⟨ha1, hb2⟩ := hh
  refine am_if_le (tgt := 9) dX3_numberTo_4 (by decide) (am_rt _) (fun hc3 => ?_) (fun hc3 => ?_)
  · have hh := ha1 hc3
    refine am_iconst dX3_numberTo_9 ?_
    refine am_istore_n dX3_numberTo_10 rfl (by decide) rfl ?_
    refine am_aload_n dX3_numberTo_11 rfl 1 rfl ?_
    refine am_mgeti 12 (by decide) (v := (S.1 12).toInt) rfl q1427 dX3_numberTo_12 ?_
    refine am_istore_n dX3_numberTo_15 rfl (by decide) rfl ?_
    refine am_keep [2, 3, 1, 0] rfl ?_
    exact hh
  · have hh := hb2 hc3
    refine am_iconst dX3_numberTo_7 ?_
    exact am_iret rfl dX3_numberTo_8 (Nat.le_refl 0) (Nat.le_refl 0) hh
set_option maxHeartbeats 4000000 in
set_option maxRecDepth 100000 in
theorem bX3_numberTo_16 {l : Launch} {Q : Option am_W → am_M → Prop} {S : am_M} (v1 : Int) (h1 : am_r v1) (v2 : Int) (h2 : am_r v2) (v3 : Int) (h3 : am_r v3)
    (hh : ((((S.1 13).toInt) ≤ v3) →
        ((¬ ((S.1 11).toInt) = 3) →
          ((¬ ((S.1 11).toInt) = 3) →
            kX3_must l [am_R 0, am_I (am_b false)] S (am_qv fun S10 =>
              Q (some (am_I v2)) S10)) ∧
          ((((S.1 11).toInt) = 3) →
            kX3_must l [am_R 0, am_I (am_b true)] S (am_qv fun S11 =>
              Q (some (am_I v2)) S11))) ∧
        ((((S.1 11).toInt) = 3) →
          ((v2 ≤ v1) →
            ((¬ ((S.1 11).toInt) = 3) →
              kX3_must l [am_R 0, am_I (am_b false)] S (am_qv fun S18 =>
                Q (some (am_I v2)) S18)) ∧
            ((((S.1 11).toInt) = 3) →
              kX3_must l [am_R 0, am_I (am_b true)] S (am_qv fun S19 =>
                Q (some (am_I v2)) S19))) ∧
          ((¬ v2 ≤ v1) →
            kX3_bad l [am_R 0, am_I 2] S (am_qv fun S20 =>
              ((¬ ((S20.1 11).toInt) = 3) →
                kX3_must l [am_R 0, am_I (am_b false)] S20 (am_qv fun S24 =>
                  Q (some (am_I v2)) S24)) ∧
              ((((S20.1 11).toInt) = 3) →
                kX3_must l [am_R 0, am_I (am_b true)] S20 (am_qv fun S25 =>
                  Q (some (am_I v2)) S25)))))) ∧
      ((¬ ((S.1 13).toInt) ≤ v3) →
        ((¬ ((S.1 11).toInt) = 3) →
          ((¬ ((S.1 11).toInt) = 3) →
            ((¬ ((S.1 11).toInt) = 3) →
              kX3_must l [am_R 0, am_I (am_b false)] S (am_qv fun S35 =>
                Q (some (am_I v2)) S35)) ∧
            ((((S.1 11).toInt) = 3) →
              kX3_must l [am_R 0, am_I (am_b true)] S (am_qv fun S36 =>
                Q (some (am_I v2)) S36))) ∧
          ((((S.1 11).toInt) = 3) →
            ((v2 ≤ v1) →
              ((¬ ((S.1 11).toInt) = 3) →
                kX3_must l [am_R 0, am_I (am_b false)] S (am_qv fun S43 =>
                  Q (some (am_I v2)) S43)) ∧
              ((((S.1 11).toInt) = 3) →
                kX3_must l [am_R 0, am_I (am_b true)] S (am_qv fun S44 =>
                  Q (some (am_I v2)) S44))) ∧
            ((¬ v2 ≤ v1) →
              kX3_bad l [am_R 0, am_I 2] S (am_qv fun S45 =>
                ((¬ ((S45.1 11).toInt) = 3) →
                  kX3_must l [am_R 0, am_I (am_b false)] S45 (am_qv fun S49 =>
                    Q (some (am_I v2)) S49)) ∧
                ((((S45.1 11).toInt) = 3) →
                  kX3_must l [am_R 0, am_I (am_b true)] S45 (am_qv fun S50 =>
                    Q (some (am_I v2)) S50)))))) ∧
        ((((S.1 11).toInt) = 3) →
          (0 ≤ v3 ∧ v3 < 300) ∧
          VX3_numberTo l Q 16 [(0, am_R 0), (1, am_I v1), (2, am_I (((10 * v2) + (S.2 13 v3.toNat).toInt) - 48)), (3, am_I (v3 + 1))] [] S))) : VX3_numberTo l Q 16 [(0, am_R 0), (1, am_I v1), (2, am_I v2), (3, am_I v3)] [] S := by
  refine am_iload_n dX3_numberTo_16 rfl 3 rfl ?_
  refine am_aload_n dX3_numberTo_17 rfl 0 rfl ?_
  refine am_mgeti 13 (by decide) (v := (S.1 13).toInt) rfl q1428 dX3_numberTo_18 ?_
  obtain ⟨ha1, hb2⟩ := hh
  refine am_icmp_ge (tgt := 53) dX3_numberTo_21 (by decide) h3 (am_rt _) (fun hc3 => ?_) (fun hc3 => ?_)
  · have hh := ha1 hc3
    refine am_aload_n dX3_numberTo_53 rfl 0 rfl ?_
    refine am_mgeti 11 (by decide) (v := (S.1 11).toInt) rfl q1426 dX3_numberTo_54 ?_
    refine am_iconst dX3_numberTo_57 ?_
    obtain ⟨ha4, hb5⟩ := hh
    refine am_icmp_ne (tgt := 71) dX3_numberTo_58 (by decide) (am_rt _) (⟨by decide, by decide⟩) (fun hc6 => ?_) (fun hc6 => ?_)
    · have hh := ha4 hc6
      refine am_aload_n dX3_numberTo_71 rfl 0 rfl ?_
      refine am_aload_n dX3_numberTo_72 rfl 0 rfl ?_
      refine am_mgeti 11 (by decide) (v := (S.1 11).toInt) rfl q1426 dX3_numberTo_73 ?_
      refine am_iconst dX3_numberTo_76 ?_
      obtain ⟨ha7, hb8⟩ := hh
      refine am_icmp_ne (tgt := 84) dX3_numberTo_77 (by decide) (am_rt _) (⟨by decide, by decide⟩) (fun hc9 => ?_) (fun hc9 => ?_)
      · have hh := ha7 hc9
        refine am_iconst dX3_numberTo_84 ?_
        refine am_rVv (n := 1) hh dX3_numberTo_85 (lw_V q1793 q1795 qs78 q96 q1796) rfl ⟨⟨by decide, by decide, by decide +kernel⟩, ⟨Nat.le_of_ble_eq_true rfl, Nat.le_of_ble_eq_true rfl⟩⟩ ⟨rfl, rfl⟩ rfl rfl (Nat.le_of_ble_eq_true rfl) ⟨(Nat.le_refl 0), (Nat.le_refl 0)⟩ (am_mrecv _) (fun S10 hh => ?_)
        refine am_iload_n dX3_numberTo_88 rfl 2 rfl ?_
        exact am_iret rfl dX3_numberTo_89 (Nat.le_refl 0) (Nat.le_refl 0) hh
      · have hh := hb8 hc9
        refine am_iconst dX3_numberTo_80 ?_
        refine am_goto (tgt := 85) dX3_numberTo_81 (by decide) ?_
        refine am_rVv (n := 1) hh dX3_numberTo_85 (lw_V q1793 q1795 qs78 q96 q1796) rfl ⟨⟨by decide, by decide, by decide +kernel⟩, ⟨Nat.le_of_ble_eq_true rfl, Nat.le_of_ble_eq_true rfl⟩⟩ ⟨rfl, rfl⟩ rfl rfl (Nat.le_of_ble_eq_true rfl) ⟨(Nat.le_refl 0), (Nat.le_refl 0)⟩ (am_mrecv _) (fun S11 hh => ?_)
        refine am_iload_n dX3_numberTo_88 rfl 2 rfl ?_
        exact am_iret rfl dX3_numberTo_89 (Nat.le_refl 0) (Nat.le_refl 0) hh
    · have hh := hb5 hc6
      refine am_iload_n dX3_numberTo_61 rfl 2 rfl ?_
      refine am_iload_n dX3_numberTo_62 rfl 1 rfl ?_
      obtain ⟨ha12, hb13⟩ := hh
      refine am_icmp_le (tgt := 71) dX3_numberTo_63 (by decide) h2 h1 (fun hc14 => ?_) (fun hc14 => ?_)
      · have hh := ha12 hc14
        refine am_aload_n dX3_numberTo_71 rfl 0 rfl ?_
        refine am_aload_n dX3_numberTo_72 rfl 0 rfl ?_
        refine am_mgeti 11 (by decide) (v := (S.1 11).toInt) rfl q1426 dX3_numberTo_73 ?_
        refine am_iconst dX3_numberTo_76 ?_
        obtain ⟨ha15, hb16⟩ := hh
        refine am_icmp_ne (tgt := 84) dX3_numberTo_77 (by decide) (am_rt _) (⟨by decide, by decide⟩) (fun hc17 => ?_) (fun hc17 => ?_)
        · have hh := ha15 hc17
          refine am_iconst dX3_numberTo_84 ?_
          refine am_rVv (n := 1) hh dX3_numberTo_85 (lw_V q1793 q1795 qs78 q96 q1796) rfl ⟨⟨by decide, by decide, by decide +kernel⟩, ⟨Nat.le_of_ble_eq_true rfl, Nat.le_of_ble_eq_true rfl⟩⟩ ⟨rfl, rfl⟩ rfl rfl (Nat.le_of_ble_eq_true rfl) ⟨(Nat.le_refl 0), (Nat.le_refl 0)⟩ (am_mrecv _) (fun S18 hh => ?_)
          refine am_iload_n dX3_numberTo_88 rfl 2 rfl ?_
          exact am_iret rfl dX3_numberTo_89 (Nat.le_refl 0) (Nat.le_refl 0) hh
        · have hh := hb16 hc17
          refine am_iconst dX3_numberTo_80 ?_
          refine am_goto (tgt := 85) dX3_numberTo_81 (by decide) ?_
          refine am_rVv (n := 1) hh dX3_numberTo_85 (lw_V q1793 q1795 qs78 q96 q1796) rfl ⟨⟨by decide, by decide, by decide +kernel⟩, ⟨Nat.le_of_ble_eq_true rfl, Nat.le_of_ble_eq_true rfl⟩⟩ ⟨rfl, rfl⟩ rfl rfl (Nat.le_of_ble_eq_true rfl) ⟨(Nat.le_refl 0), (Nat.le_refl 0)⟩ (am_mrecv _) (fun S19 hh => ?_)
          refine am_iload_n dX3_numberTo_88 rfl 2 rfl ?_
          exact am_iret rfl dX3_numberTo_89 (Nat.le_refl 0) (Nat.le_refl 0) hh
      · have hh := hb13 hc14
        refine am_aload_n dX3_numberTo_66 rfl 0 rfl ?_
        refine am_iconst dX3_numberTo_67 ?_
        refine am_rVv (n := 1) hh dX3_numberTo_68 (lw_V q1789 q1791 qs77 q96 q1792) rfl ⟨⟨by decide, by decide, by decide +kernel⟩, ⟨Nat.le_of_ble_eq_true rfl, Nat.le_of_ble_eq_true rfl⟩⟩ ⟨rfl, rfl⟩ rfl rfl (Nat.le_of_ble_eq_true rfl) ⟨(Nat.le_refl 0), (Nat.le_refl 0)⟩ (am_mrecv _) (fun S20 hh => ?_)
        refine am_aload_n dX3_numberTo_71 rfl 0 rfl ?_
        refine am_aload_n dX3_numberTo_72 rfl 0 rfl ?_
        refine am_mgeti 11 (by decide) (v := (S20.1 11).toInt) rfl q1426 dX3_numberTo_73 ?_
        refine am_iconst dX3_numberTo_76 ?_
        obtain ⟨ha21, hb22⟩ := hh
        refine am_icmp_ne (tgt := 84) dX3_numberTo_77 (by decide) (am_rt _) (⟨by decide, by decide⟩) (fun hc23 => ?_) (fun hc23 => ?_)
        · have hh := ha21 hc23
          refine am_iconst dX3_numberTo_84 ?_
          refine am_rVv (n := 1) hh dX3_numberTo_85 (lw_V q1793 q1795 qs78 q96 q1796) rfl ⟨⟨by decide, by decide, by decide +kernel⟩, ⟨Nat.le_of_ble_eq_true rfl, Nat.le_of_ble_eq_true rfl⟩⟩ ⟨rfl, rfl⟩ rfl rfl (Nat.le_of_ble_eq_true rfl) ⟨(Nat.le_refl 0), (Nat.le_refl 0)⟩ (am_mrecv _) (fun S24 hh => ?_)
          refine am_iload_n dX3_numberTo_88 rfl 2 rfl ?_
          exact am_iret rfl dX3_numberTo_89 (Nat.le_refl 0) (Nat.le_refl 0) hh
        · have hh := hb22 hc23
          refine am_iconst dX3_numberTo_80 ?_
          refine am_goto (tgt := 85) dX3_numberTo_81 (by decide) ?_
          refine am_rVv (n := 1) hh dX3_numberTo_85 (lw_V q1793 q1795 qs78 q96 q1796) rfl ⟨⟨by decide, by decide, by decide +kernel⟩, ⟨Nat.le_of_ble_eq_true rfl, Nat.le_of_ble_eq_true rfl⟩⟩ ⟨rfl, rfl⟩ rfl rfl (Nat.le_of_ble_eq_true rfl) ⟨(Nat.le_refl 0), (Nat.le_refl 0)⟩ (am_mrecv _) (fun S25 hh => ?_)
          refine am_iload_n dX3_numberTo_88 rfl 2 rfl ?_
          exact am_iret rfl dX3_numberTo_89 (Nat.le_refl 0) (Nat.le_refl 0) hh
  · have hh := hb2 hc3
    refine am_aload_n dX3_numberTo_24 rfl 0 rfl ?_
    refine am_mgeti 11 (by decide) (v := (S.1 11).toInt) rfl q1426 dX3_numberTo_25 ?_
    refine am_iconst dX3_numberTo_28 ?_
    obtain ⟨ha26, hb27⟩ := hh
    refine am_icmp_ne (tgt := 53) dX3_numberTo_29 (by decide) (am_rt _) (⟨by decide, by decide⟩) (fun hc28 => ?_) (fun hc28 => ?_)
    · have hh := ha26 hc28
      refine am_aload_n dX3_numberTo_53 rfl 0 rfl ?_
      refine am_mgeti 11 (by decide) (v := (S.1 11).toInt) rfl q1426 dX3_numberTo_54 ?_
      refine am_iconst dX3_numberTo_57 ?_
      obtain ⟨ha29, hb30⟩ := hh
      refine am_icmp_ne (tgt := 71) dX3_numberTo_58 (by decide) (am_rt _) (⟨by decide, by decide⟩) (fun hc31 => ?_) (fun hc31 => ?_)
      · have hh := ha29 hc31
        refine am_aload_n dX3_numberTo_71 rfl 0 rfl ?_
        refine am_aload_n dX3_numberTo_72 rfl 0 rfl ?_
        refine am_mgeti 11 (by decide) (v := (S.1 11).toInt) rfl q1426 dX3_numberTo_73 ?_
        refine am_iconst dX3_numberTo_76 ?_
        obtain ⟨ha32, hb33⟩ := hh
        refine am_icmp_ne (tgt := 84) dX3_numberTo_77 (by decide) (am_rt _) (⟨by decide, by decide⟩) (fun hc34 => ?_) (fun hc34 => ?_)
        · have hh := ha32 hc34
          refine am_iconst dX3_numberTo_84 ?_
          refine am_rVv (n := 1) hh dX3_numberTo_85 (lw_V q1793 q1795 qs78 q96 q1796) rfl ⟨⟨by decide, by decide, by decide +kernel⟩, ⟨Nat.le_of_ble_eq_true rfl, Nat.le_of_ble_eq_true rfl⟩⟩ ⟨rfl, rfl⟩ rfl rfl (Nat.le_of_ble_eq_true rfl) ⟨(Nat.le_refl 0), (Nat.le_refl 0)⟩ (am_mrecv _) (fun S35 hh => ?_)
          refine am_iload_n dX3_numberTo_88 rfl 2 rfl ?_
          exact am_iret rfl dX3_numberTo_89 (Nat.le_refl 0) (Nat.le_refl 0) hh
        · have hh := hb33 hc34
          refine am_iconst dX3_numberTo_80 ?_
          refine am_goto (tgt := 85) dX3_numberTo_81 (by decide) ?_
          refine am_rVv (n := 1) hh dX3_numberTo_85 (lw_V q1793 q1795 qs78 q96 q1796) rfl ⟨⟨by decide, by decide, by decide +kernel⟩, ⟨Nat.le_of_ble_eq_true rfl, Nat.le_of_ble_eq_true rfl⟩⟩ ⟨rfl, rfl⟩ rfl rfl (Nat.le_of_ble_eq_true rfl) ⟨(Nat.le_refl 0), (Nat.le_refl 0)⟩ (am_mrecv _) (fun S36 hh => ?_)
          refine am_iload_n dX3_numberTo_88 rfl 2 rfl ?_
          exact am_iret rfl dX3_numberTo_89 (Nat.le_refl 0) (Nat.le_refl 0) hh
      · have hh := hb30 hc31
        refine am_iload_n dX3_numberTo_61 rfl 2 rfl ?_
        refine am_iload_n dX3_numberTo_62 rfl 1 rfl ?_
        obtain ⟨ha37, hb38⟩ := hh
        refine am_icmp_le (tgt := 71) dX3_numberTo_63 (by decide) h2 h1 (fun hc39 => ?_) (fun hc39 => ?_)
        · have hh := ha37 hc39
          refine am_aload_n dX3_numberTo_71 rfl 0 rfl ?_
          refine am_aload_n dX3_numberTo_72 rfl 0 rfl ?_
          refine am_mgeti 11 (by decide) (v := (S.1 11).toInt) rfl q1426 dX3_numberTo_73 ?_
          refine am_iconst dX3_numberTo_76 ?_
          obtain ⟨ha40, hb41⟩ := hh
          refine am_icmp_ne (tgt := 84) dX3_numberTo_77 (by decide) (am_rt _) (⟨by decide, by decide⟩) (fun hc42 => ?_) (fun hc42 => ?_)
          · have hh := ha40 hc42
            refine am_iconst dX3_numberTo_84 ?_
            refine am_rVv (n := 1) hh dX3_numberTo_85 (lw_V q1793 q1795 qs78 q96 q1796) rfl ⟨⟨by decide, by decide, by decide +kernel⟩, ⟨Nat.le_of_ble_eq_true rfl, Nat.le_of_ble_eq_true rfl⟩⟩ ⟨rfl, rfl⟩ rfl rfl (Nat.le_of_ble_eq_true rfl) ⟨(Nat.le_refl 0), (Nat.le_refl 0)⟩ (am_mrecv _) (fun S43 hh => ?_)
            refine am_iload_n dX3_numberTo_88 rfl 2 rfl ?_
            exact am_iret rfl dX3_numberTo_89 (Nat.le_refl 0) (Nat.le_refl 0) hh
          · have hh := hb41 hc42
            refine am_iconst dX3_numberTo_80 ?_
            refine am_goto (tgt := 85) dX3_numberTo_81 (by decide) ?_
            refine am_rVv (n := 1) hh dX3_numberTo_85 (lw_V q1793 q1795 qs78 q96 q1796) rfl ⟨⟨by decide, by decide, by decide +kernel⟩, ⟨Nat.le_of_ble_eq_true rfl, Nat.le_of_ble_eq_true rfl⟩⟩ ⟨rfl, rfl⟩ rfl rfl (Nat.le_of_ble_eq_true rfl) ⟨(Nat.le_refl 0), (Nat.le_refl 0)⟩ (am_mrecv _) (fun S44 hh => ?_)
            refine am_iload_n dX3_numberTo_88 rfl 2 rfl ?_
            exact am_iret rfl dX3_numberTo_89 (Nat.le_refl 0) (Nat.le_refl 0) hh
        · have hh := hb38 hc39
          refine am_aload_n dX3_numberTo_66 rfl 0 rfl ?_
          refine am_iconst dX3_numberTo_67 ?_
          refine am_rVv (n := 1) hh dX3_numberTo_68 (lw_V q1789 q1791 qs77 q96 q1792) rfl ⟨⟨by decide, by decide, by decide +kernel⟩, ⟨Nat.le_of_ble_eq_true rfl, Nat.le_of_ble_eq_true rfl⟩⟩ ⟨rfl, rfl⟩ rfl rfl (Nat.le_of_ble_eq_true rfl) ⟨(Nat.le_refl 0), (Nat.le_refl 0)⟩ (am_mrecv _) (fun S45 hh => ?_)
          refine am_aload_n dX3_numberTo_71 rfl 0 rfl ?_
          refine am_aload_n dX3_numberTo_72 rfl 0 rfl ?_
          refine am_mgeti 11 (by decide) (v := (S45.1 11).toInt) rfl q1426 dX3_numberTo_73 ?_
          refine am_iconst dX3_numberTo_76 ?_
          obtain ⟨ha46, hb47⟩ := hh
          refine am_icmp_ne (tgt := 84) dX3_numberTo_77 (by decide) (am_rt _) (⟨by decide, by decide⟩) (fun hc48 => ?_) (fun hc48 => ?_)
          · have hh := ha46 hc48
            refine am_iconst dX3_numberTo_84 ?_
            refine am_rVv (n := 1) hh dX3_numberTo_85 (lw_V q1793 q1795 qs78 q96 q1796) rfl ⟨⟨by decide, by decide, by decide +kernel⟩, ⟨Nat.le_of_ble_eq_true rfl, Nat.le_of_ble_eq_true rfl⟩⟩ ⟨rfl, rfl⟩ rfl rfl (Nat.le_of_ble_eq_true rfl) ⟨(Nat.le_refl 0), (Nat.le_refl 0)⟩ (am_mrecv _) (fun S49 hh => ?_)
            refine am_iload_n dX3_numberTo_88 rfl 2 rfl ?_
            exact am_iret rfl dX3_numberTo_89 (Nat.le_refl 0) (Nat.le_refl 0) hh
          · have hh := hb47 hc48
            refine am_iconst dX3_numberTo_80 ?_
            refine am_goto (tgt := 85) dX3_numberTo_81 (by decide) ?_
            refine am_rVv (n := 1) hh dX3_numberTo_85 (lw_V q1793 q1795 qs78 q96 q1796) rfl ⟨⟨by decide, by decide, by decide +kernel⟩, ⟨Nat.le_of_ble_eq_true rfl, Nat.le_of_ble_eq_true rfl⟩⟩ ⟨rfl, rfl⟩ rfl rfl (Nat.le_of_ble_eq_true rfl) ⟨(Nat.le_refl 0), (Nat.le_refl 0)⟩ (am_mrecv _) (fun S50 hh => ?_)
            refine am_iload_n dX3_numberTo_88 rfl 2 rfl ?_
            exact am_iret rfl dX3_numberTo_89 (Nat.le_refl 0) (Nat.le_refl 0) hh
    · have hh := hb27 hc28
      refine am_bipush dX3_numberTo_32 (by decide) ?_
      refine am_iload_n dX3_numberTo_34 rfl 2 rfl ?_
      refine am_imul dX3_numberTo_35 ?_
      refine am_aload_n dX3_numberTo_36 rfl 0 rfl ?_
      refine am_mgeta 13 (by decide) q1421 dX3_numberTo_37 ?_
      refine am_iload_n dX3_numberTo_40 rfl 3 rfl ?_
      obtain ⟨o51, hh⟩ := hh
      refine am_miald 13 (by decide) (by decide) (v := (S.2 13 v3.toNat).toInt) rfl o51.1 o51.2 dX3_numberTo_41 ?_
      refine am_iadd dX3_numberTo_42 ?_
      refine am_bipush dX3_numberTo_43 (by decide) ?_
      refine am_isub dX3_numberTo_45 ?_
      refine am_istore_n dX3_numberTo_46 rfl (by decide) rfl ?_
      refine am_iinc (n := 3) dX3_numberTo_47 rfl (by decide) rfl ?_
      refine am_goto (tgt := 16) dX3_numberTo_50 (by decide) ?_
      refine am_keep [2, 3, 1, 0] rfl ?_
      exact hh
/-! TableArmsModel.sortHere()I -/
abbrev VX3_sortHere (l : Launch) (Q : Option am_W → am_M → Prop) (pc : Nat) (lv : List (Nat × am_W)) (st : List am_W) (S : am_M) : Prop := am_V am_mr l RX3 cX3_sortHere 4 (some .int) "sortHere" (am_rm 4 0 0) (am_E1 am_mr 0 0 Q) pc lv st S 0 0
abbrev kX3_sortHere (l : Launch) (as : List am_W) (S : am_M) (Q : Option am_W → am_M → Prop) : Prop := am_C am_mr l yX3_sortHere (ws_ yX3_sortHere cX3_sortHere 4 (some .int)) (am_rm 4 0 0) 0 0 as S Q
set_option maxHeartbeats 4000000 in
set_option maxRecDepth 100000 in
theorem bX3_sortHere {l : Launch} {Q : Option am_W → am_M → Prop} {S : am_M} 
    (hh : ((((S.1 14).toInt) ≤ 0) →
        kX3_word l [am_R 0] S (am_ql fun r5 S4 =>
          ((¬ r5 = 6518128) →
            ((¬ r5 = 427021005928) →
              ((¬ r5 = 6451064) →
                ((¬ r5 = 7104868) →
                  kX3_must l [am_R 0, am_I (am_b false)] S4 (am_qv fun S22 =>
                    Q (some (am_I (-1000000))) S22)) ∧
                ((r5 = 7104868) →
                  kX3_must l [am_R 0, am_I (am_b true)] S4 (am_qv fun S26 =>
                    Q (some (am_I 3)) S26))) ∧
              ((r5 = 6451064) →
                kX3_must l [am_R 0, am_I (am_b true)] S4 (am_qv fun S30 =>
                  Q (some (am_I 2)) S30))) ∧
            ((r5 = 427021005928) →
              kX3_must l [am_R 0, am_I (am_b true)] S4 (am_qv fun S34 =>
                Q (some (am_I 1)) S34))) ∧
          ((r5 = 6518128) →
            kX3_must l [am_R 0, am_I (am_b true)] S4 (am_qv fun S38 =>
              Q (some (am_I 0)) S38)))) ∧
      ((¬ ((S.1 14).toInt) ≤ 0) →
        Q (some (am_I 0)) S)) : kX3_sortHere l [am_R 0] S Q := by
  refine am_entry (lv := [(0, am_R 0)]) rfl rfl rfl (fun _ => rfl) (fun _ => Nat.le_of_ble_eq_true rfl) ?_
  refine am_aload_n dX3_sortHere_0 rfl 0 rfl ?_
  refine am_mgeti 14 (by decide) (v := (S.1 14).toInt) rfl q1429 dX3_sortHere_1 ?_
  obtain ⟨ha1, hb2⟩ := hh
  refine am_if_le (tgt := 9) dX3_sortHere_4 (by decide) (am_rt _) (fun hc3 => ?_) (fun hc3 => ?_)
  · have hh := ha1 hc3
    refine am_aload_n dX3_sortHere_9 rfl 0 rfl ?_
    refine am_rVl (n := 0) hh dX3_sortHere_10 (lw_V q1783 q1785 qs76 q96 q1786) rfl ⟨⟨by decide, by decide, by decide +kernel⟩, ⟨Nat.le_of_ble_eq_true rfl, Nat.le_of_ble_eq_true rfl⟩⟩ ⟨rfl, rfl⟩ rfl rfl (Nat.le_of_ble_eq_true rfl) ⟨(Nat.le_refl 0), (Nat.le_refl 0)⟩ (am_mrecv _) (fun r5 S4 hr6 hh => ?_)
    refine am_lstore_n dX3_sortHere_13 rfl (by decide) rfl ?_
    refine am_lload_n dX3_sortHere_14 rfl 0 rfl ?_
    refine am_ldc2 (z := 6518128) q1805 (by decide) dX3_sortHere_15 ?_
    refine am_lcmp hr6 (⟨by decide, by decide⟩) dX3_sortHere_18 ?_
    obtain ⟨ha7, hb8⟩ := hh
    refine am_cmp_ne (tgt := 26) dX3_sortHere_19 (by decide) (fun hc9 => ?_) (fun hc9 => ?_)
    · have hh := ha7 hc9
      refine am_lload_n dX3_sortHere_26 rfl 0 rfl ?_
      refine am_ldc2 (z := 427021005928) q1806 (by decide) dX3_sortHere_27 ?_
      refine am_lcmp hr6 (⟨by decide, by decide⟩) dX3_sortHere_30 ?_
      obtain ⟨ha10, hb11⟩ := hh
      refine am_cmp_ne (tgt := 38) dX3_sortHere_31 (by decide) (fun hc12 => ?_) (fun hc12 => ?_)
      · have hh := ha10 hc12
        refine am_lload_n dX3_sortHere_38 rfl 0 rfl ?_
        refine am_ldc2 (z := 6451064) q1807 (by decide) dX3_sortHere_39 ?_
        refine am_lcmp hr6 (⟨by decide, by decide⟩) dX3_sortHere_42 ?_
        obtain ⟨ha13, hb14⟩ := hh
        refine am_cmp_ne (tgt := 50) dX3_sortHere_43 (by decide) (fun hc15 => ?_) (fun hc15 => ?_)
        · have hh := ha13 hc15
          refine am_lload_n dX3_sortHere_50 rfl 0 rfl ?_
          refine am_ldc2 (z := 7104868) q1808 (by decide) dX3_sortHere_51 ?_
          refine am_lcmp hr6 (⟨by decide, by decide⟩) dX3_sortHere_54 ?_
          obtain ⟨ha16, hb17⟩ := hh
          refine am_cmp_ne (tgt := 62) dX3_sortHere_55 (by decide) (fun hc18 => ?_) (fun hc18 => ?_)
          · have hh := ha16 hc18
            refine am_ldc (z := -1000000) q1544 (by decide) dX3_sortHere_62 ?_
            refine am_istore_n dX3_sortHere_64 rfl (by decide) rfl ?_
            refine am_aload_n dX3_sortHere_65 rfl 2 rfl ?_
            refine am_iload_n dX3_sortHere_66 rfl 0 rfl ?_
            refine am_ldc (z := -1000000) q1544 (by decide) dX3_sortHere_67 ?_
            refine am_icmp_eq (tgt := 76) dX3_sortHere_69 (by decide) (⟨by decide, by decide⟩) (⟨by decide, by decide⟩) (fun hc21 => ?_) (fun hc21 => ?_)
            rotate_left
            · exact absurd hc21 (by decide)
            refine am_iconst dX3_sortHere_76 ?_
            refine am_rVv (n := 1) hh dX3_sortHere_77 (lw_V q1793 q1795 qs78 q96 q1796) rfl ⟨⟨by decide, by decide, by decide +kernel⟩, ⟨Nat.le_of_ble_eq_true rfl, Nat.le_of_ble_eq_true rfl⟩⟩ ⟨rfl, rfl⟩ rfl rfl (Nat.le_of_ble_eq_true rfl) ⟨(Nat.le_refl 0), (Nat.le_refl 0)⟩ (am_mrecv _) (fun S22 hh => ?_)
            refine am_iload_n dX3_sortHere_80 rfl 0 rfl ?_
            exact am_iret rfl dX3_sortHere_81 (Nat.le_refl 0) (Nat.le_refl 0) hh
          · have hh := hb17 hc18
            refine am_iconst dX3_sortHere_58 ?_
            refine am_goto (tgt := 64) dX3_sortHere_59 (by decide) ?_
            refine am_istore_n dX3_sortHere_64 rfl (by decide) rfl ?_
            refine am_aload_n dX3_sortHere_65 rfl 2 rfl ?_
            refine am_iload_n dX3_sortHere_66 rfl 0 rfl ?_
            refine am_ldc (z := -1000000) q1544 (by decide) dX3_sortHere_67 ?_
            refine am_icmp_eq (tgt := 76) dX3_sortHere_69 (by decide) (⟨by decide, by decide⟩) (⟨by decide, by decide⟩) (fun hc25 => ?_) (fun hc25 => ?_)
            · exact absurd hc25 (by decide)
            refine am_iconst dX3_sortHere_72 ?_
            refine am_goto (tgt := 77) dX3_sortHere_73 (by decide) ?_
            refine am_rVv (n := 1) hh dX3_sortHere_77 (lw_V q1793 q1795 qs78 q96 q1796) rfl ⟨⟨by decide, by decide, by decide +kernel⟩, ⟨Nat.le_of_ble_eq_true rfl, Nat.le_of_ble_eq_true rfl⟩⟩ ⟨rfl, rfl⟩ rfl rfl (Nat.le_of_ble_eq_true rfl) ⟨(Nat.le_refl 0), (Nat.le_refl 0)⟩ (am_mrecv _) (fun S26 hh => ?_)
            refine am_iload_n dX3_sortHere_80 rfl 0 rfl ?_
            exact am_iret rfl dX3_sortHere_81 (Nat.le_refl 0) (Nat.le_refl 0) hh
        · have hh := hb14 hc15
          refine am_iconst dX3_sortHere_46 ?_
          refine am_goto (tgt := 64) dX3_sortHere_47 (by decide) ?_
          refine am_istore_n dX3_sortHere_64 rfl (by decide) rfl ?_
          refine am_aload_n dX3_sortHere_65 rfl 2 rfl ?_
          refine am_iload_n dX3_sortHere_66 rfl 0 rfl ?_
          refine am_ldc (z := -1000000) q1544 (by decide) dX3_sortHere_67 ?_
          refine am_icmp_eq (tgt := 76) dX3_sortHere_69 (by decide) (⟨by decide, by decide⟩) (⟨by decide, by decide⟩) (fun hc29 => ?_) (fun hc29 => ?_)
          · exact absurd hc29 (by decide)
          refine am_iconst dX3_sortHere_72 ?_
          refine am_goto (tgt := 77) dX3_sortHere_73 (by decide) ?_
          refine am_rVv (n := 1) hh dX3_sortHere_77 (lw_V q1793 q1795 qs78 q96 q1796) rfl ⟨⟨by decide, by decide, by decide +kernel⟩, ⟨Nat.le_of_ble_eq_true rfl, Nat.le_of_ble_eq_true rfl⟩⟩ ⟨rfl, rfl⟩ rfl rfl (Nat.le_of_ble_eq_true rfl) ⟨(Nat.le_refl 0), (Nat.le_refl 0)⟩ (am_mrecv _) (fun S30 hh => ?_)
          refine am_iload_n dX3_sortHere_80 rfl 0 rfl ?_
          exact am_iret rfl dX3_sortHere_81 (Nat.le_refl 0) (Nat.le_refl 0) hh
      · have hh := hb11 hc12
        refine am_iconst dX3_sortHere_34 ?_
        refine am_goto (tgt := 64) dX3_sortHere_35 (by decide) ?_
        refine am_istore_n dX3_sortHere_64 rfl (by decide) rfl ?_
        refine am_aload_n dX3_sortHere_65 rfl 2 rfl ?_
        refine am_iload_n dX3_sortHere_66 rfl 0 rfl ?_
        refine am_ldc (z := -1000000) q1544 (by decide) dX3_sortHere_67 ?_
        refine am_icmp_eq (tgt := 76) dX3_sortHere_69 (by decide) (⟨by decide, by decide⟩) (⟨by decide, by decide⟩) (fun hc33 => ?_) (fun hc33 => ?_)
        · exact absurd hc33 (by decide)
        refine am_iconst dX3_sortHere_72 ?_
        refine am_goto (tgt := 77) dX3_sortHere_73 (by decide) ?_
        refine am_rVv (n := 1) hh dX3_sortHere_77 (lw_V q1793 q1795 qs78 q96 q1796) rfl ⟨⟨by decide, by decide, by decide +kernel⟩, ⟨Nat.le_of_ble_eq_true rfl, Nat.le_of_ble_eq_true rfl⟩⟩ ⟨rfl, rfl⟩ rfl rfl (Nat.le_of_ble_eq_true rfl) ⟨(Nat.le_refl 0), (Nat.le_refl 0)⟩ (am_mrecv _) (fun S34 hh => ?_)
        refine am_iload_n dX3_sortHere_80 rfl 0 rfl ?_
        exact am_iret rfl dX3_sortHere_81 (Nat.le_refl 0) (Nat.le_refl 0) hh
    · have hh := hb8 hc9
      refine am_iconst dX3_sortHere_22 ?_
      refine am_goto (tgt := 64) dX3_sortHere_23 (by decide) ?_
      refine am_istore_n dX3_sortHere_64 rfl (by decide) rfl ?_
      refine am_aload_n dX3_sortHere_65 rfl 2 rfl ?_
      refine am_iload_n dX3_sortHere_66 rfl 0 rfl ?_
      refine am_ldc (z := -1000000) q1544 (by decide) dX3_sortHere_67 ?_
      refine am_icmp_eq (tgt := 76) dX3_sortHere_69 (by decide) (⟨by decide, by decide⟩) (⟨by decide, by decide⟩) (fun hc37 => ?_) (fun hc37 => ?_)
      · exact absurd hc37 (by decide)
      refine am_iconst dX3_sortHere_72 ?_
      refine am_goto (tgt := 77) dX3_sortHere_73 (by decide) ?_
      refine am_rVv (n := 1) hh dX3_sortHere_77 (lw_V q1793 q1795 qs78 q96 q1796) rfl ⟨⟨by decide, by decide, by decide +kernel⟩, ⟨Nat.le_of_ble_eq_true rfl, Nat.le_of_ble_eq_true rfl⟩⟩ ⟨rfl, rfl⟩ rfl rfl (Nat.le_of_ble_eq_true rfl) ⟨(Nat.le_refl 0), (Nat.le_refl 0)⟩ (am_mrecv _) (fun S38 hh => ?_)
      refine am_iload_n dX3_sortHere_80 rfl 0 rfl ?_
      exact am_iret rfl dX3_sortHere_81 (Nat.le_refl 0) (Nat.le_refl 0) hh
  · have hh := hb2 hc3
    refine am_iconst dX3_sortHere_7 ?_
    exact am_iret rfl dX3_sortHere_8 (Nat.le_refl 0) (Nat.le_refl 0) hh
/-! TableArmsModel.readNever()V -/
abbrev VX3_readNever (l : Launch) (Q : Option am_W → am_M → Prop) (pc : Nat) (lv : List (Nat × am_W)) (st : List am_W) (S : am_M) : Prop := am_V am_mr l RX3 cX3_readNever 7 none "readNever" (am_rm 5 0 0) (am_E1 am_mr 0 0 Q) pc lv st S 0 0
abbrev kX3_readNever (l : Launch) (as : List am_W) (S : am_M) (Q : Option am_W → am_M → Prop) : Prop := am_C am_mr l yX3_readNever (ws_ yX3_readNever cX3_readNever 7 none) (am_rm 5 0 0) 0 0 as S Q
set_option maxHeartbeats 4000000 in
set_option maxRecDepth 100000 in
theorem bX3_readNever {l : Launch} {Q : Option am_W → am_M → Prop} {S : am_M} 
    (hh : kX3_word l [am_R 0] S (am_ql fun r2 S1 =>
        ((r2 = 474148660594) →
          VX3_readNever l Q 27 [(0, am_R 0), (1, am_J r2), (3, am_I (am_b true))] [] S1) ∧
        ((¬ r2 = 474148660594) →
          ((¬ r2 = 1836020596) →
            VX3_readNever l Q 27 [(0, am_R 0), (1, am_J r2), (3, am_I (am_b false))] [] S1) ∧
          ((r2 = 1836020596) →
            VX3_readNever l Q 27 [(0, am_R 0), (1, am_J r2), (3, am_I (am_b true))] [] S1)))) : kX3_readNever l [am_R 0] S Q := by
  refine am_entry (lv := [(0, am_R 0)]) rfl rfl rfl (fun _ => rfl) (fun _ => Nat.le_of_ble_eq_true rfl) ?_
  refine am_aload_n dX3_readNever_0 rfl 0 rfl ?_
  refine am_rVl (n := 0) hh dX3_readNever_1 (lw_V q1783 q1785 qs76 q96 q1786) rfl ⟨⟨by decide, by decide, by decide +kernel⟩, ⟨Nat.le_of_ble_eq_true rfl, Nat.le_of_ble_eq_true rfl⟩⟩ ⟨rfl, rfl⟩ rfl rfl (Nat.le_of_ble_eq_true rfl) ⟨(Nat.le_refl 0), (Nat.le_refl 0)⟩ (am_mrecv _) (fun r2 S1 hr3 hh => ?_)
  refine am_lstore_n dX3_readNever_4 rfl (by decide) rfl ?_
  refine am_lload_n dX3_readNever_5 rfl 0 rfl ?_
  refine am_ldc2 (z := 474148660594) q1787 (by decide) dX3_readNever_6 ?_
  refine am_lcmp hr3 (⟨by decide, by decide⟩) dX3_readNever_9 ?_
  obtain ⟨ha4, hb5⟩ := hh
  refine am_cmp_eq (tgt := 21) dX3_readNever_10 (by decide) (fun hc6 => ?_) (fun hc6 => ?_)
  · have hh := ha4 hc6
    refine am_iconst dX3_readNever_21 ?_
    refine am_goto (tgt := 26) dX3_readNever_22 (by decide) ?_
    refine am_istore_n dX3_readNever_26 rfl (by decide) rfl ?_
    refine am_keep [2, 1, 0] rfl ?_
    exact hh
  · have hh := hb5 hc6
    refine am_lload_n dX3_readNever_13 rfl 0 rfl ?_
    refine am_ldc2 (z := 1836020596) q1788 (by decide) dX3_readNever_14 ?_
    refine am_lcmp hr3 (⟨by decide, by decide⟩) dX3_readNever_17 ?_
    obtain ⟨ha7, hb8⟩ := hh
    refine am_cmp_ne (tgt := 25) dX3_readNever_18 (by decide) (fun hc9 => ?_) (fun hc9 => ?_)
    · have hh := ha7 hc9
      refine am_iconst dX3_readNever_25 ?_
      refine am_istore_n dX3_readNever_26 rfl (by decide) rfl ?_
      refine am_keep [2, 1, 0] rfl ?_
      exact hh
    · have hh := hb8 hc9
      refine am_iconst dX3_readNever_21 ?_
      refine am_goto (tgt := 26) dX3_readNever_22 (by decide) ?_
      refine am_istore_n dX3_readNever_26 rfl (by decide) rfl ?_
      refine am_keep [2, 1, 0] rfl ?_
      exact hh
set_option maxHeartbeats 4000000 in
set_option maxRecDepth 100000 in
theorem bX3_readNever_27 {l : Launch} {Q : Option am_W → am_M → Prop} {S : am_M} (v1 : Int) (h1 : am_r64 v1) (v3 : Bool)
    (hh : ((v3 = false) →
        VX3_readNever l Q 45 [(0, am_R 0), (1, am_J v1), (3, am_I (am_b v3))] [] S) ∧
      ((v3 = true) →
        ((¬ ((S.1 6).toInt) = 16) →
          VX3_readNever l Q 45 [(0, am_R 0), (1, am_J v1), (3, am_I (am_b v3))] [] S) ∧
        ((((S.1 6).toInt) = 16) →
          kX3_bad l [am_R 0, am_I 3] S (am_qv fun S7 =>
            VX3_readNever l Q 45 [(0, am_R 0), (1, am_J v1), (3, am_I (am_b v3))] [] S7)))) : VX3_readNever l Q 27 [(0, am_R 0), (1, am_J v1), (3, am_I (am_b v3))] [] S := by
  refine am_iload_n dX3_readNever_27 rfl 2 rfl ?_
  obtain ⟨ha1, hb2⟩ := hh
  refine am_ifB_eq (tgt := 45) dX3_readNever_28 (by decide) (fun hc3 => ?_) (fun hc3 => ?_)
  · have hh := ha1 hc3
    exact hh
  · have hh := hb2 hc3
    refine am_aload_n dX3_readNever_31 rfl 0 rfl ?_
    refine am_mgeti 6 (by decide) (v := (S.1 6).toInt) rfl q1420 dX3_readNever_32 ?_
    refine am_bipush dX3_readNever_35 (by decide) ?_
    obtain ⟨ha4, hb5⟩ := hh
    refine am_icmp_ne (tgt := 45) dX3_readNever_37 (by decide) (am_rt _) (⟨by decide, by decide⟩) (fun hc6 => ?_) (fun hc6 => ?_)
    · have hh := ha4 hc6
      exact hh
    · have hh := hb5 hc6
      refine am_aload_n dX3_readNever_40 rfl 0 rfl ?_
      refine am_iconst dX3_readNever_41 ?_
      refine am_rVv (n := 1) hh dX3_readNever_42 (lw_V q1789 q1791 qs77 q96 q1792) rfl ⟨⟨by decide, by decide, by decide +kernel⟩, ⟨Nat.le_of_ble_eq_true rfl, Nat.le_of_ble_eq_true rfl⟩⟩ ⟨rfl, rfl⟩ rfl rfl (Nat.le_of_ble_eq_true rfl) ⟨(Nat.le_refl 0), (Nat.le_refl 0)⟩ (am_mrecv _) (fun S7 hh => ?_)
      exact hh
set_option maxHeartbeats 4000000 in
set_option maxRecDepth 100000 in
theorem bX3_readNever_45 {l : Launch} {Q : Option am_W → am_M → Prop} {S : am_M} (v1 : Int) (h1 : am_r64 v1) (v3 : Bool)
    (hh : kX3_must l [am_R 0, am_I (am_b v3)] S (am_qv fun S1 =>
        ((((S1.1 14).toInt) ≤ 0) →
          ((¬ v1 = 1836020596) →
            kX3_sortHere l [am_R 0] S1 (am_qi fun r9 S8 =>
              (0 ≤ (3 * (S1.1 6).toInt) ∧ (3 * (S1.1 6).toInt) < 48) ∧
              ((¬ ((S8.1 14).toInt) = 0) →
                VX3_readNever l Q 226 [(0, am_R 0), (4, am_I (3 * (S1.1 6).toInt))] [] (am_sa S8 12 (3 * (S1.1 6).toInt) r9)) ∧
              ((((S8.1 14).toInt) = 0) →
                kX3_word l [am_R 0] (am_sa S8 12 (3 * (S1.1 6).toInt) r9) (am_ql fun r16 S15 =>
                  ((¬ r16 = 28526) →
                    ((¬ r16 = 26990) →
                      ((¬ r16 = 108187867505765) →
                        ((¬ r16 = 24948) →
                          (0 ≤ ((3 * (S1.1 6).toInt) + 1) ∧ ((3 * (S1.1 6).toInt) + 1) < 48) ∧
                          VX3_readNever l Q 203 [(0, am_R 0), (4, am_I (3 * (S1.1 6).toInt))] [] (am_sa S15 12 ((3 * (S1.1 6).toInt) + 1) (-1000000))) ∧
                        ((r16 = 24948) →
                          (0 ≤ ((3 * (S1.1 6).toInt) + 1) ∧ ((3 * (S1.1 6).toInt) + 1) < 48) ∧
                          VX3_readNever l Q 203 [(0, am_R 0), (4, am_I (3 * (S1.1 6).toInt))] [] (am_sa S15 12 ((3 * (S1.1 6).toInt) + 1) 3))) ∧
                      ((r16 = 108187867505765) →
                        (0 ≤ ((3 * (S1.1 6).toInt) + 1) ∧ ((3 * (S1.1 6).toInt) + 1) < 48) ∧
                        VX3_readNever l Q 203 [(0, am_R 0), (4, am_I (3 * (S1.1 6).toInt))] [] (am_sa S15 12 ((3 * (S1.1 6).toInt) + 1) 2))) ∧
                    ((r16 = 26990) →
                      (0 ≤ ((3 * (S1.1 6).toInt) + 1) ∧ ((3 * (S1.1 6).toInt) + 1) < 48) ∧
                      VX3_readNever l Q 203 [(0, am_R 0), (4, am_I (3 * (S1.1 6).toInt))] [] (am_sa S15 12 ((3 * (S1.1 6).toInt) + 1) 1))) ∧
                  ((r16 = 28526) →
                    (0 ≤ ((3 * (S1.1 6).toInt) + 1) ∧ ((3 * (S1.1 6).toInt) + 1) < 48) ∧
                    VX3_readNever l Q 203 [(0, am_R 0), (4, am_I (3 * (S1.1 6).toInt))] [] (am_sa S15 12 ((3 * (S1.1 6).toInt) + 1) 0)))))) ∧
          ((v1 = 1836020596) →
            kX3_numberTo l [am_R 0, am_I 7] S1 (am_qi fun r36 S35 =>
              (0 ≤ (3 * (S1.1 6).toInt) ∧ (3 * (S1.1 6).toInt) < 48) ∧
              (0 ≤ ((3 * (S1.1 6).toInt) + 1) ∧ ((3 * (S1.1 6).toInt) + 1) < 48) ∧
              kX3_numberTo l [am_R 0, am_I 200] (am_sa (am_sa S35 12 (3 * (S1.1 6).toInt) r36) 12 ((3 * (S1.1 6).toInt) + 1) 4) (am_qi fun r41 S40 =>
                (0 ≤ ((3 * (S1.1 6).toInt) + 2) ∧ ((3 * (S1.1 6).toInt) + 2) < 48) ∧
                VX3_readNever l Q 261 [(0, am_R 0)] [] (am_sa S40 12 ((3 * (S1.1 6).toInt) + 2) r41))))) ∧
        ((¬ ((S1.1 14).toInt) ≤ 0) →
          Q none S1))) : VX3_readNever l Q 45 [(0, am_R 0), (1, am_J v1), (3, am_I (am_b v3))] [] S := by
  refine am_aload_n dX3_readNever_45 rfl 0 rfl ?_
  refine am_iload_n dX3_readNever_46 rfl 2 rfl ?_
  refine am_rVv (n := 1) hh dX3_readNever_47 (lw_V q1793 q1795 qs78 q96 q1796) rfl ⟨⟨by decide, by decide, by decide +kernel⟩, ⟨Nat.le_of_ble_eq_true rfl, Nat.le_of_ble_eq_true rfl⟩⟩ ⟨rfl, rfl⟩ rfl rfl (Nat.le_of_ble_eq_true rfl) ⟨(Nat.le_refl 0), (Nat.le_refl 0)⟩ (am_mrecv _) (fun S1 hh => ?_)
  refine am_aload_n dX3_readNever_50 rfl 0 rfl ?_
  refine am_mgeti 14 (by decide) (v := (S1.1 14).toInt) rfl q1429 dX3_readNever_51 ?_
  obtain ⟨ha2, hb3⟩ := hh
  refine am_if_le (tgt := 58) dX3_readNever_54 (by decide) (am_rt _) (fun hc4 => ?_) (fun hc4 => ?_)
  · have hh := ha2 hc4
    refine am_iconst dX3_readNever_58 ?_
    refine am_aload_n dX3_readNever_59 rfl 0 rfl ?_
    refine am_mgeti 6 (by decide) (v := (S1.1 6).toInt) rfl q1420 dX3_readNever_60 ?_
    refine am_imul dX3_readNever_63 ?_
    refine am_istore dX3_readNever_64 (by decide) rfl ?_
    refine am_lload_n dX3_readNever_66 rfl 2 rfl ?_
    refine am_ldc2 (z := 1836020596) q1788 (by decide) dX3_readNever_67 ?_
    refine am_lcmp h1 (⟨by decide, by decide⟩) dX3_readNever_70 ?_
    obtain ⟨ha5, hb6⟩ := hh
    refine am_cmp_ne (tgt := 116) dX3_readNever_71 (by decide) (fun hc7 => ?_) (fun hc7 => ?_)
    · have hh := ha5 hc7
      refine am_aload_n dX3_readNever_116 rfl 1 rfl ?_
      refine am_mgeta 12 (by decide) q1419 dX3_readNever_117 ?_
      refine am_iload dX3_readNever_120 0 rfl ?_
      refine am_aload_n dX3_readNever_122 rfl 1 rfl ?_
      refine am_rVi (n := 0) hh dX3_readNever_123 (lw_V q1801 q1803 qs80 q96 q1804) rfl ⟨⟨by decide, by decide, by decide +kernel⟩, ⟨Nat.le_of_ble_eq_true rfl, Nat.le_of_ble_eq_true rfl⟩⟩ ⟨rfl, rfl⟩ rfl rfl (Nat.le_of_ble_eq_true rfl) ⟨(Nat.le_refl 0), (Nat.le_refl 0)⟩ (am_mrecv _) (fun r9 S8 hr10 hh => ?_)
      obtain ⟨o11, hh⟩ := hh
      refine am_miast 12 (by decide) (by decide) o11.1 o11.2 dX3_readNever_126 ?_
      refine am_aload_n dX3_readNever_127 rfl 1 rfl ?_
      refine am_mgeti 14 (by decide) (v := (S8.1 14).toInt) rfl q1429 dX3_readNever_128 ?_
      obtain ⟨ha12, hb13⟩ := hh
      refine am_if_ne (tgt := 226) dX3_readNever_131 (by decide) (am_rt _) (fun hc14 => ?_) (fun hc14 => ?_)
      · have hh := ha12 hc14
        refine am_keep [1, 0] rfl ?_
        exact hh
      · have hh := hb13 hc14
        refine am_aload_n dX3_readNever_134 rfl 1 rfl ?_
        refine am_rVl (n := 0) hh dX3_readNever_135 (lw_V q1783 q1785 qs76 q96 q1786) rfl ⟨⟨by decide, by decide, by decide +kernel⟩, ⟨Nat.le_of_ble_eq_true rfl, Nat.le_of_ble_eq_true rfl⟩⟩ ⟨rfl, rfl⟩ rfl rfl (Nat.le_of_ble_eq_true rfl) ⟨(Nat.le_refl 0), (Nat.le_refl 0)⟩ (am_mrecv _) (fun r16 S15 hr17 hh => ?_)
        refine am_lstore dX3_readNever_138 (by decide) rfl ?_
        refine am_aload_n dX3_readNever_140 rfl 2 rfl ?_
        refine am_mgeta 12 (by decide) q1419 dX3_readNever_141 ?_
        refine am_iload dX3_readNever_144 1 rfl ?_
        refine am_iconst dX3_readNever_146 ?_
        refine am_iadd dX3_readNever_147 ?_
        refine am_lload dX3_readNever_148 0 rfl ?_
        refine am_ldc2 (z := 28526) q1809 (by decide) dX3_readNever_150 ?_
        refine am_lcmp hr17 (⟨by decide, by decide⟩) dX3_readNever_153 ?_
        obtain ⟨ha18, hb19⟩ := hh
        refine am_cmp_ne (tgt := 161) dX3_readNever_154 (by decide) (fun hc20 => ?_) (fun hc20 => ?_)
        · have hh := ha18 hc20
          refine am_lload dX3_readNever_161 0 rfl ?_
          refine am_ldc2 (z := 26990) q1810 (by decide) dX3_readNever_163 ?_
          refine am_lcmp hr17 (⟨by decide, by decide⟩) dX3_readNever_166 ?_
          obtain ⟨ha21, hb22⟩ := hh
          refine am_cmp_ne (tgt := 174) dX3_readNever_167 (by decide) (fun hc23 => ?_) (fun hc23 => ?_)
          · have hh := ha21 hc23
            refine am_lload dX3_readNever_174 0 rfl ?_
            refine am_ldc2 (z := 108187867505765) q1811 (by decide) dX3_readNever_176 ?_
            refine am_lcmp hr17 (⟨by decide, by decide⟩) dX3_readNever_179 ?_
            obtain ⟨ha24, hb25⟩ := hh
            refine am_cmp_ne (tgt := 187) dX3_readNever_180 (by decide) (fun hc26 => ?_) (fun hc26 => ?_)
            · have hh := ha24 hc26
              refine am_lload dX3_readNever_187 0 rfl ?_
              refine am_ldc2 (z := 24948) q1812 (by decide) dX3_readNever_189 ?_
              refine am_lcmp hr17 (⟨by decide, by decide⟩) dX3_readNever_192 ?_
              obtain ⟨ha27, hb28⟩ := hh
              refine am_cmp_ne (tgt := 200) dX3_readNever_193 (by decide) (fun hc29 => ?_) (fun hc29 => ?_)
              · have hh := ha27 hc29
                refine am_ldc (z := -1000000) q1544 (by decide) dX3_readNever_200 ?_
                obtain ⟨o30, hh⟩ := hh
                refine am_miast 12 (by decide) (by decide) o30.1 o30.2 dX3_readNever_202 ?_
                refine am_keep [2, 1] rfl ?_
                exact hh
              · have hh := hb28 hc29
                refine am_iconst dX3_readNever_196 ?_
                refine am_goto (tgt := 202) dX3_readNever_197 (by decide) ?_
                obtain ⟨o31, hh⟩ := hh
                refine am_miast 12 (by decide) (by decide) o31.1 o31.2 dX3_readNever_202 ?_
                refine am_keep [2, 1] rfl ?_
                exact hh
            · have hh := hb25 hc26
              refine am_iconst dX3_readNever_183 ?_
              refine am_goto (tgt := 202) dX3_readNever_184 (by decide) ?_
              obtain ⟨o32, hh⟩ := hh
              refine am_miast 12 (by decide) (by decide) o32.1 o32.2 dX3_readNever_202 ?_
              refine am_keep [2, 1] rfl ?_
              exact hh
          · have hh := hb22 hc23
            refine am_iconst dX3_readNever_170 ?_
            refine am_goto (tgt := 202) dX3_readNever_171 (by decide) ?_
            obtain ⟨o33, hh⟩ := hh
            refine am_miast 12 (by decide) (by decide) o33.1 o33.2 dX3_readNever_202 ?_
            refine am_keep [2, 1] rfl ?_
            exact hh
        · have hh := hb19 hc20
          refine am_iconst dX3_readNever_157 ?_
          refine am_goto (tgt := 202) dX3_readNever_158 (by decide) ?_
          obtain ⟨o34, hh⟩ := hh
          refine am_miast 12 (by decide) (by decide) o34.1 o34.2 dX3_readNever_202 ?_
          refine am_keep [2, 1] rfl ?_
          exact hh
    · have hh := hb6 hc7
      refine am_aload_n dX3_readNever_74 rfl 1 rfl ?_
      refine am_mgeta 12 (by decide) q1419 dX3_readNever_75 ?_
      refine am_iload dX3_readNever_78 0 rfl ?_
      refine am_aload_n dX3_readNever_80 rfl 1 rfl ?_
      refine am_bipush dX3_readNever_81 (by decide) ?_
      refine am_rVi (n := 1) hh dX3_readNever_83 (lw_V q1797 q1799 qs79 q96 q1800) rfl ⟨⟨by decide, by decide, by decide +kernel⟩, ⟨Nat.le_of_ble_eq_true rfl, Nat.le_of_ble_eq_true rfl⟩⟩ ⟨rfl, rfl⟩ rfl rfl (Nat.le_of_ble_eq_true rfl) ⟨(Nat.le_refl 0), (Nat.le_refl 0)⟩ (am_mrecv _) (fun r36 S35 hr37 hh => ?_)
      obtain ⟨o38, hh⟩ := hh
      refine am_miast 12 (by decide) (by decide) o38.1 o38.2 dX3_readNever_86 ?_
      refine am_aload_n dX3_readNever_87 rfl 1 rfl ?_
      refine am_mgeta 12 (by decide) q1419 dX3_readNever_88 ?_
      refine am_iload dX3_readNever_91 0 rfl ?_
      refine am_iconst dX3_readNever_93 ?_
      refine am_iadd dX3_readNever_94 ?_
      refine am_iconst dX3_readNever_95 ?_
      obtain ⟨o39, hh⟩ := hh
      refine am_miast 12 (by decide) (by decide) o39.1 o39.2 dX3_readNever_96 ?_
      refine am_aload_n dX3_readNever_97 rfl 1 rfl ?_
      refine am_mgeta 12 (by decide) q1419 dX3_readNever_98 ?_
      refine am_iload dX3_readNever_101 0 rfl ?_
      refine am_iconst dX3_readNever_103 ?_
      refine am_iadd dX3_readNever_104 ?_
      refine am_aload_n dX3_readNever_105 rfl 1 rfl ?_
      refine am_sipush dX3_readNever_106 (by decide) ?_
      refine am_rVi (n := 1) hh dX3_readNever_109 (lw_V q1797 q1799 qs79 q96 q1800) rfl ⟨⟨by decide, by decide, by decide +kernel⟩, ⟨Nat.le_of_ble_eq_true rfl, Nat.le_of_ble_eq_true rfl⟩⟩ ⟨rfl, rfl⟩ rfl rfl (Nat.le_of_ble_eq_true rfl) ⟨(Nat.le_refl 0), (Nat.le_refl 0)⟩ (am_mrecv _) (fun r41 S40 hr42 hh => ?_)
      obtain ⟨o43, hh⟩ := hh
      refine am_miast 12 (by decide) (by decide) o43.1 o43.2 dX3_readNever_112 ?_
      refine am_goto (tgt := 261) dX3_readNever_113 (by decide) ?_
      refine am_keep [1] rfl ?_
      exact hh
  · have hh := hb3 hc4
    exact am_vret rfl dX3_readNever_57 (Nat.le_refl 0) (Nat.le_refl 0) hh
set_option maxHeartbeats 4000000 in
set_option maxRecDepth 100000 in
theorem bX3_readNever_203 {l : Launch} {Q : Option am_W → am_M → Prop} {S : am_M} (v4 : Int) (h4 : am_r v4)
    (hh : (0 ≤ (v4 + 1) ∧ (v4 + 1) < 48) ∧
      ((((S.2 12 (v4 + 1).toNat).toInt) = (-1000000)) →
        kX3_must l [am_R 0, am_I (am_b false)] S (am_qv fun S5 =>
          VX3_readNever l Q 226 [(0, am_R 0), (4, am_I v4)] [] S5)) ∧
      ((¬ ((S.2 12 (v4 + 1).toNat).toInt) = (-1000000)) →
        kX3_must l [am_R 0, am_I (am_b true)] S (am_qv fun S6 =>
          VX3_readNever l Q 226 [(0, am_R 0), (4, am_I v4)] [] S6))) : VX3_readNever l Q 203 [(0, am_R 0), (4, am_I v4)] [] S := by
  refine am_aload_n dX3_readNever_203 rfl 0 rfl ?_
  refine am_aload_n dX3_readNever_204 rfl 0 rfl ?_
  refine am_mgeta 12 (by decide) q1419 dX3_readNever_205 ?_
  refine am_iload dX3_readNever_208 1 rfl ?_
  refine am_iconst dX3_readNever_210 ?_
  refine am_iadd dX3_readNever_211 ?_
  obtain ⟨o1, hh⟩ := hh
  refine am_miald 12 (by decide) (by decide) (v := (S.2 12 (v4 + 1).toNat).toInt) rfl o1.1 o1.2 dX3_readNever_212 ?_
  refine am_ldc (z := -1000000) q1544 (by decide) dX3_readNever_213 ?_
  obtain ⟨ha2, hb3⟩ := hh
  refine am_icmp_eq (tgt := 222) dX3_readNever_215 (by decide) (am_rt _) (⟨by decide, by decide⟩) (fun hc4 => ?_) (fun hc4 => ?_)
  · have hh := ha2 hc4
    refine am_iconst dX3_readNever_222 ?_
    refine am_rVv (n := 1) hh dX3_readNever_223 (lw_V q1793 q1795 qs78 q96 q1796) rfl ⟨⟨by decide, by decide, by decide +kernel⟩, ⟨Nat.le_of_ble_eq_true rfl, Nat.le_of_ble_eq_true rfl⟩⟩ ⟨rfl, rfl⟩ rfl rfl (Nat.le_of_ble_eq_true rfl) ⟨(Nat.le_refl 0), (Nat.le_refl 0)⟩ (am_mrecv _) (fun S5 hh => ?_)
    exact hh
  · have hh := hb3 hc4
    refine am_iconst dX3_readNever_218 ?_
    refine am_goto (tgt := 223) dX3_readNever_219 (by decide) ?_
    refine am_rVv (n := 1) hh dX3_readNever_223 (lw_V q1793 q1795 qs78 q96 q1796) rfl ⟨⟨by decide, by decide, by decide +kernel⟩, ⟨Nat.le_of_ble_eq_true rfl, Nat.le_of_ble_eq_true rfl⟩⟩ ⟨rfl, rfl⟩ rfl rfl (Nat.le_of_ble_eq_true rfl) ⟨(Nat.le_refl 0), (Nat.le_refl 0)⟩ (am_mrecv _) (fun S6 hh => ?_)
    exact hh
set_option maxHeartbeats 4000000 in
set_option maxRecDepth 100000 in
theorem bX3_readNever_226 {l : Launch} {Q : Option am_W → am_M → Prop} {S : am_M} (v4 : Int) (h4 : am_r v4)
    (hh : (0 ≤ (v4 + 1) ∧ (v4 + 1) < 48) ∧
      ((¬ ((S.2 12 (v4 + 1).toNat).toInt) = 3) →
        kX3_sortHere l [am_R 0] S (am_qi fun r6 S5 =>
          (0 ≤ (v4 + 2) ∧ (v4 + 2) < 48) ∧
          VX3_readNever l Q 261 [(0, am_R 0)] [] (am_sa S5 12 (v4 + 2) r6))) ∧
      ((((S.2 12 (v4 + 1).toNat).toInt) = 3) →
        kX3_numberTo l [am_R 0, am_I 7] S (am_qi fun r10 S9 =>
          (0 ≤ (v4 + 2) ∧ (v4 + 2) < 48) ∧
          VX3_readNever l Q 261 [(0, am_R 0)] [] (am_sa S9 12 (v4 + 2) r10)))) : VX3_readNever l Q 226 [(0, am_R 0), (4, am_I v4)] [] S := by
  refine am_aload_n dX3_readNever_226 rfl 0 rfl ?_
  refine am_mgeta 12 (by decide) q1419 dX3_readNever_227 ?_
  refine am_iload dX3_readNever_230 1 rfl ?_
  refine am_iconst dX3_readNever_232 ?_
  refine am_iadd dX3_readNever_233 ?_
  refine am_aload_n dX3_readNever_234 rfl 0 rfl ?_
  refine am_mgeta 12 (by decide) q1419 dX3_readNever_235 ?_
  refine am_iload dX3_readNever_238 1 rfl ?_
  refine am_iconst dX3_readNever_240 ?_
  refine am_iadd dX3_readNever_241 ?_
  obtain ⟨o1, hh⟩ := hh
  refine am_miald 12 (by decide) (by decide) (v := (S.2 12 (v4 + 1).toNat).toInt) rfl o1.1 o1.2 dX3_readNever_242 ?_
  refine am_iconst dX3_readNever_243 ?_
  obtain ⟨ha2, hb3⟩ := hh
  refine am_icmp_ne (tgt := 256) dX3_readNever_244 (by decide) (am_rt _) (⟨by decide, by decide⟩) (fun hc4 => ?_) (fun hc4 => ?_)
  · have hh := ha2 hc4
    refine am_aload_n dX3_readNever_256 rfl 0 rfl ?_
    refine am_rVi (n := 0) hh dX3_readNever_257 (lw_V q1801 q1803 qs80 q96 q1804) rfl ⟨⟨by decide, by decide, by decide +kernel⟩, ⟨Nat.le_of_ble_eq_true rfl, Nat.le_of_ble_eq_true rfl⟩⟩ ⟨rfl, rfl⟩ rfl rfl (Nat.le_of_ble_eq_true rfl) ⟨(Nat.le_refl 0), (Nat.le_refl 0)⟩ (am_mrecv _) (fun r6 S5 hr7 hh => ?_)
    obtain ⟨o8, hh⟩ := hh
    refine am_miast 12 (by decide) (by decide) o8.1 o8.2 dX3_readNever_260 ?_
    refine am_keep [0] rfl ?_
    exact hh
  · have hh := hb3 hc4
    refine am_aload_n dX3_readNever_247 rfl 0 rfl ?_
    refine am_bipush dX3_readNever_248 (by decide) ?_
    refine am_rVi (n := 1) hh dX3_readNever_250 (lw_V q1797 q1799 qs79 q96 q1800) rfl ⟨⟨by decide, by decide, by decide +kernel⟩, ⟨Nat.le_of_ble_eq_true rfl, Nat.le_of_ble_eq_true rfl⟩⟩ ⟨rfl, rfl⟩ rfl rfl (Nat.le_of_ble_eq_true rfl) ⟨(Nat.le_refl 0), (Nat.le_refl 0)⟩ (am_mrecv _) (fun r10 S9 hr11 hh => ?_)
    refine am_goto (tgt := 260) dX3_readNever_253 (by decide) ?_
    obtain ⟨o12, hh⟩ := hh
    refine am_miast 12 (by decide) (by decide) o12.1 o12.2 dX3_readNever_260 ?_
    refine am_keep [0] rfl ?_
    exact hh
set_option maxHeartbeats 4000000 in
set_option maxRecDepth 100000 in
theorem bX3_readNever_261 {l : Launch} {Q : Option am_W → am_M → Prop} {S : am_M} 
    (hh : ((¬ ((S.1 14).toInt) = 0) →
        VX3_readNever l Q 285 [(0, am_R 0)] [] S) ∧
      ((((S.1 14).toInt) = 0) →
        ((¬ ((S.1 11).toInt) = 4) →
          kX3_must l [am_R 0, am_I (am_b false)] S (am_qv fun S7 =>
            VX3_readNever l Q 285 [(0, am_R 0)] [] S7)) ∧
        ((((S.1 11).toInt) = 4) →
          kX3_must l [am_R 0, am_I (am_b true)] S (am_qv fun S8 =>
            VX3_readNever l Q 285 [(0, am_R 0)] [] S8)))) : VX3_readNever l Q 261 [(0, am_R 0)] [] S := by
  refine am_aload_n dX3_readNever_261 rfl 0 rfl ?_
  refine am_mgeti 14 (by decide) (v := (S.1 14).toInt) rfl q1429 dX3_readNever_262 ?_
  obtain ⟨ha1, hb2⟩ := hh
  refine am_if_ne (tgt := 285) dX3_readNever_265 (by decide) (am_rt _) (fun hc3 => ?_) (fun hc3 => ?_)
  · have hh := ha1 hc3
    exact hh
  · have hh := hb2 hc3
    refine am_aload_n dX3_readNever_268 rfl 0 rfl ?_
    refine am_aload_n dX3_readNever_269 rfl 0 rfl ?_
    refine am_mgeti 11 (by decide) (v := (S.1 11).toInt) rfl q1426 dX3_readNever_270 ?_
    refine am_iconst dX3_readNever_273 ?_
    obtain ⟨ha4, hb5⟩ := hh
    refine am_icmp_ne (tgt := 281) dX3_readNever_274 (by decide) (am_rt _) (⟨by decide, by decide⟩) (fun hc6 => ?_) (fun hc6 => ?_)
    · have hh := ha4 hc6
      refine am_iconst dX3_readNever_281 ?_
      refine am_rVv (n := 1) hh dX3_readNever_282 (lw_V q1793 q1795 qs78 q96 q1796) rfl ⟨⟨by decide, by decide, by decide +kernel⟩, ⟨Nat.le_of_ble_eq_true rfl, Nat.le_of_ble_eq_true rfl⟩⟩ ⟨rfl, rfl⟩ rfl rfl (Nat.le_of_ble_eq_true rfl) ⟨(Nat.le_refl 0), (Nat.le_refl 0)⟩ (am_mrecv _) (fun S7 hh => ?_)
      exact hh
    · have hh := hb5 hc6
      refine am_iconst dX3_readNever_277 ?_
      refine am_goto (tgt := 282) dX3_readNever_278 (by decide) ?_
      refine am_rVv (n := 1) hh dX3_readNever_282 (lw_V q1793 q1795 qs78 q96 q1796) rfl ⟨⟨by decide, by decide, by decide +kernel⟩, ⟨Nat.le_of_ble_eq_true rfl, Nat.le_of_ble_eq_true rfl⟩⟩ ⟨rfl, rfl⟩ rfl rfl (Nat.le_of_ble_eq_true rfl) ⟨(Nat.le_refl 0), (Nat.le_refl 0)⟩ (am_mrecv _) (fun S8 hh => ?_)
      exact hh
set_option maxHeartbeats 4000000 in
set_option maxRecDepth 100000 in
theorem bX3_readNever_285 {l : Launch} {Q : Option am_W → am_M → Prop} {S : am_M} 
    (hh : Q none (am_sv S 6 ((S.1 6).toInt + 1))) : VX3_readNever l Q 285 [(0, am_R 0)] [] S := by
  refine am_aload_n dX3_readNever_285 rfl 0 rfl ?_
  refine am_dup dX3_readNever_286 rfl ?_
  refine am_mgeti 6 (by decide) (v := (S.1 6).toInt) rfl q1420 dX3_readNever_287 ?_
  refine am_iconst dX3_readNever_290 ?_
  refine am_iadd dX3_readNever_291 ?_
  refine am_mput 6 (by decide) q1420 dX3_readNever_292 ?_
  exact am_vret rfl dX3_readNever_295 (Nat.le_refl 0) (Nat.le_refl 0) hh
/-! TableArmsModel.nevers()I -/
abbrev VX3_nevers (l : Launch) (Q : Option am_W → am_M → Prop) (pc : Nat) (lv : List (Nat × am_W)) (st : List am_W) (S : am_M) : Prop := am_V am_mr l RX3 cX3_nevers 1 (some .int) "nevers" (am_rm 6 0 0) (am_E1 am_mr 0 0 Q) pc lv st S 0 0
abbrev kX3_nevers (l : Launch) (as : List am_W) (S : am_M) (Q : Option am_W → am_M → Prop) : Prop := am_C am_mr l yX3_nevers (ws_ yX3_nevers cX3_nevers 1 (some .int)) (am_rm 6 0 0) 0 0 as S Q
set_option maxHeartbeats 4000000 in
set_option maxRecDepth 100000 in
theorem bX3_nevers {l : Launch} {Q : Option am_W → am_M → Prop} {S : am_M} 
    (hh : kX3_step l [am_R 0] (am_sv (am_sv (am_sv (am_sv (am_sv (am_sv S 0 0) 9 ((S.1 7).toInt)) 7 0) 10 0) 14 0) 6 ((S.1 5).toInt)) (am_qv fun S1 =>
        VX3_nevers l Q 40 [(0, am_R 0)] [] S1)) : kX3_nevers l [am_R 0] S Q := by
  refine am_entry (lv := [(0, am_R 0)]) rfl rfl rfl (fun _ => rfl) (fun _ => Nat.le_of_ble_eq_true rfl) ?_
  refine am_aload_n dX3_nevers_0 rfl 0 rfl ?_
  refine am_iconst dX3_nevers_1 ?_
  refine am_mput 0 (by decide) q1401 dX3_nevers_2 ?_
  refine am_aload_n dX3_nevers_5 rfl 0 rfl ?_
  refine am_aload_n dX3_nevers_6 rfl 0 rfl ?_
  refine am_mgeti 7 (by decide) (v := (S.1 7).toInt) rfl q1422 dX3_nevers_7 ?_
  refine am_mput 9 (by decide) q1424 dX3_nevers_10 ?_
  refine am_aload_n dX3_nevers_13 rfl 0 rfl ?_
  refine am_iconst dX3_nevers_14 ?_
  refine am_mput 7 (by decide) q1422 dX3_nevers_15 ?_
  refine am_aload_n dX3_nevers_18 rfl 0 rfl ?_
  refine am_iconst dX3_nevers_19 ?_
  refine am_mput 10 (by decide) q1425 dX3_nevers_20 ?_
  refine am_aload_n dX3_nevers_23 rfl 0 rfl ?_
  refine am_iconst dX3_nevers_24 ?_
  refine am_mput 14 (by decide) q1429 dX3_nevers_25 ?_
  refine am_aload_n dX3_nevers_28 rfl 0 rfl ?_
  refine am_aload_n dX3_nevers_29 rfl 0 rfl ?_
  refine am_mgeti 5 (by decide) (v := (S.1 5).toInt) rfl q1418 dX3_nevers_30 ?_
  refine am_mput 6 (by decide) q1420 dX3_nevers_33 ?_
  refine am_aload_n dX3_nevers_36 rfl 0 rfl ?_
  refine am_rVv (n := 0) hh dX3_nevers_37 (lw_V q1765 q1767 qs73 q96 q1768) rfl ⟨⟨by decide, by decide, by decide +kernel⟩, ⟨Nat.le_of_ble_eq_true rfl, Nat.le_of_ble_eq_true rfl⟩⟩ ⟨rfl, rfl⟩ rfl rfl (Nat.le_of_ble_eq_true rfl) ⟨(Nat.le_refl 0), (Nat.le_refl 0)⟩ (am_mrecv _) (fun S1 hh => ?_)
  exact hh
set_option maxHeartbeats 4000000 in
set_option maxRecDepth 100000 in
theorem bX3_nevers_40 {l : Launch} {Q : Option am_W → am_M → Prop} {S : am_M} 
    (hh : ((¬ ((S.1 14).toInt) = 0) →
        ((((S.1 14).toInt) ≤ 0) →
          Q (some (am_I (Int32.ofInt ((S.1 6).toInt)).toInt)) (am_sv S 5 ((S.1 6).toInt))) ∧
        ((¬ ((S.1 14).toInt) ≤ 0) →
          Q (some (am_I ((-1000100) - (S.1 15).toInt))) (am_sv S 8 ((S.1 14).toInt)))) ∧
      ((((S.1 14).toInt) = 0) →
        ((((S.1 11).toInt) = 1) →
          ((((S.1 14).toInt) ≤ 0) →
            Q (some (am_I (Int32.ofInt ((S.1 6).toInt)).toInt)) (am_sv S 5 ((S.1 6).toInt))) ∧
          ((¬ ((S.1 14).toInt) ≤ 0) →
            Q (some (am_I ((-1000100) - (S.1 15).toInt))) (am_sv S 8 ((S.1 14).toInt)))) ∧
        ((¬ ((S.1 11).toInt) = 1) →
          kX3_readNever l [am_R 0] S (am_qv fun S13 =>
            VX3_nevers l Q 40 [(0, am_R 0)] [] S13)))) : VX3_nevers l Q 40 [(0, am_R 0)] [] S := by
  refine am_aload_n dX3_nevers_40 rfl 0 rfl ?_
  refine am_mgeti 14 (by decide) (v := (S.1 14).toInt) rfl q1429 dX3_nevers_41 ?_
  obtain ⟨ha1, hb2⟩ := hh
  refine am_if_ne (tgt := 62) dX3_nevers_44 (by decide) (am_rt _) (fun hc3 => ?_) (fun hc3 => ?_)
  · have hh := ha1 hc3
    refine am_aload_n dX3_nevers_62 rfl 0 rfl ?_
    refine am_mgeti 14 (by decide) (v := (S.1 14).toInt) rfl q1429 dX3_nevers_63 ?_
    obtain ⟨ha4, hb5⟩ := hh
    refine am_if_le (tgt := 86) dX3_nevers_66 (by decide) (am_rt _) (fun hc6 => ?_) (fun hc6 => ?_)
    · have hh := ha4 hc6
      refine am_aload_n dX3_nevers_86 rfl 0 rfl ?_
      refine am_aload_n dX3_nevers_87 rfl 0 rfl ?_
      refine am_mgeti 6 (by decide) (v := (S.1 6).toInt) rfl q1420 dX3_nevers_88 ?_
      refine am_mput 5 (by decide) q1418 dX3_nevers_91 ?_
      refine am_aload_n dX3_nevers_94 rfl 0 rfl ?_
      refine am_mgeti 5 (by decide) (v := (Int32.ofInt ((S.1 6).toInt)).toInt) rfl q1418 dX3_nevers_95 ?_
      exact am_iret rfl dX3_nevers_98 (Nat.le_refl 0) (Nat.le_refl 0) hh
    · have hh := hb5 hc6
      refine am_aload_n dX3_nevers_69 rfl 0 rfl ?_
      refine am_aload_n dX3_nevers_70 rfl 0 rfl ?_
      refine am_mgeti 14 (by decide) (v := (S.1 14).toInt) rfl q1429 dX3_nevers_71 ?_
      refine am_mput 8 (by decide) q1423 dX3_nevers_74 ?_
      refine am_ldcw (z := -1000100) q1813 (by decide) dX3_nevers_77 ?_
      refine am_aload_n dX3_nevers_80 rfl 0 rfl ?_
      refine am_mgeti 15 (by decide) (v := (S.1 15).toInt) rfl q1430 dX3_nevers_81 ?_
      refine am_isub dX3_nevers_84 ?_
      exact am_iret rfl dX3_nevers_85 (Nat.le_refl 0) (Nat.le_refl 0) hh
  · have hh := hb2 hc3
    refine am_aload_n dX3_nevers_47 rfl 0 rfl ?_
    refine am_mgeti 11 (by decide) (v := (S.1 11).toInt) rfl q1426 dX3_nevers_48 ?_
    refine am_iconst dX3_nevers_51 ?_
    obtain ⟨ha7, hb8⟩ := hh
    refine am_icmp_eq (tgt := 62) dX3_nevers_52 (by decide) (am_rt _) (⟨by decide, by decide⟩) (fun hc9 => ?_) (fun hc9 => ?_)
    · have hh := ha7 hc9
      refine am_aload_n dX3_nevers_62 rfl 0 rfl ?_
      refine am_mgeti 14 (by decide) (v := (S.1 14).toInt) rfl q1429 dX3_nevers_63 ?_
      obtain ⟨ha10, hb11⟩ := hh
      refine am_if_le (tgt := 86) dX3_nevers_66 (by decide) (am_rt _) (fun hc12 => ?_) (fun hc12 => ?_)
      · have hh := ha10 hc12
        refine am_aload_n dX3_nevers_86 rfl 0 rfl ?_
        refine am_aload_n dX3_nevers_87 rfl 0 rfl ?_
        refine am_mgeti 6 (by decide) (v := (S.1 6).toInt) rfl q1420 dX3_nevers_88 ?_
        refine am_mput 5 (by decide) q1418 dX3_nevers_91 ?_
        refine am_aload_n dX3_nevers_94 rfl 0 rfl ?_
        refine am_mgeti 5 (by decide) (v := (Int32.ofInt ((S.1 6).toInt)).toInt) rfl q1418 dX3_nevers_95 ?_
        exact am_iret rfl dX3_nevers_98 (Nat.le_refl 0) (Nat.le_refl 0) hh
      · have hh := hb11 hc12
        refine am_aload_n dX3_nevers_69 rfl 0 rfl ?_
        refine am_aload_n dX3_nevers_70 rfl 0 rfl ?_
        refine am_mgeti 14 (by decide) (v := (S.1 14).toInt) rfl q1429 dX3_nevers_71 ?_
        refine am_mput 8 (by decide) q1423 dX3_nevers_74 ?_
        refine am_ldcw (z := -1000100) q1813 (by decide) dX3_nevers_77 ?_
        refine am_aload_n dX3_nevers_80 rfl 0 rfl ?_
        refine am_mgeti 15 (by decide) (v := (S.1 15).toInt) rfl q1430 dX3_nevers_81 ?_
        refine am_isub dX3_nevers_84 ?_
        exact am_iret rfl dX3_nevers_85 (Nat.le_refl 0) (Nat.le_refl 0) hh
    · have hh := hb8 hc9
      refine am_aload_n dX3_nevers_55 rfl 0 rfl ?_
      refine am_rVv (n := 0) hh dX3_nevers_56 (lw_V q1779 q1781 qs75 q96 q1782) rfl ⟨⟨by decide, by decide, by decide +kernel⟩, ⟨Nat.le_of_ble_eq_true rfl, Nat.le_of_ble_eq_true rfl⟩⟩ ⟨rfl, rfl⟩ rfl rfl (Nat.le_of_ble_eq_true rfl) ⟨(Nat.le_refl 0), (Nat.le_refl 0)⟩ (am_mrecv _) (fun S13 hh => ?_)
      refine am_goto (tgt := 40) dX3_nevers_59 (by decide) ?_
      exact hh
/-! TableArmsModel.fault()I -/
abbrev VX3_fault (l : Launch) (Q : Option am_W → am_M → Prop) (pc : Nat) (lv : List (Nat × am_W)) (st : List am_W) (S : am_M) : Prop := am_V am_mr l RX3 cX3_fault 1 (some .int) "fault" (am_rm 1 0 0) (am_E1 am_mr 0 0 Q) pc lv st S 0 0
abbrev kX3_fault (l : Launch) (as : List am_W) (S : am_M) (Q : Option am_W → am_M → Prop) : Prop := am_C am_mr l yX3_fault (ws_ yX3_fault cX3_fault 1 (some .int)) (am_rm 1 0 0) 0 0 as S Q
set_option maxHeartbeats 4000000 in
set_option maxRecDepth 100000 in
theorem bX3_fault {l : Launch} {Q : Option am_W → am_M → Prop} {S : am_M} 
    (hh : Q (some (am_I (S.1 8).toInt)) (am_sv S 0 0)) : kX3_fault l [am_R 0] S Q := by
  refine am_entry (lv := [(0, am_R 0)]) rfl rfl rfl (fun _ => rfl) (fun _ => Nat.le_of_ble_eq_true rfl) ?_
  refine am_aload_n dX3_fault_0 rfl 0 rfl ?_
  refine am_iconst dX3_fault_1 ?_
  refine am_mput 0 (by decide) q1401 dX3_fault_2 ?_
  refine am_aload_n dX3_fault_5 rfl 0 rfl ?_
  refine am_mgeti 8 (by decide) (v := (S.1 8).toInt) rfl q1423 dX3_fault_6 ?_
  exact am_iret rfl dX3_fault_9 (Nat.le_refl 0) (Nat.le_refl 0) hh
/-! TableArmsModel.isBroken(II)Z -/
abbrev VX3_isBroken (l : Launch) (Q : Option am_W → am_M → Prop) (pc : Nat) (lv : List (Nat × am_W)) (st : List am_W) (S : am_M) : Prop := am_V am_mr l RX3 cX3_isBroken 9 (some .boolean) "isBroken" (am_rm 5 0 0) (am_E1 am_mr 0 0 Q) pc lv st S 0 0
abbrev kX3_isBroken (l : Launch) (as : List am_W) (S : am_M) (Q : Option am_W → am_M → Prop) : Prop := am_C am_mr l yX3_isBroken (ws_ yX3_isBroken cX3_isBroken 9 (some .boolean)) (am_rm 5 0 0) 0 0 as S Q
set_option maxHeartbeats 4000000 in
set_option maxRecDepth 100000 in
theorem bX3_isBroken {l : Launch} {Q : Option am_W → am_M → Prop} {S : am_M} (v1 : Int) (h1 : am_r v1) (v2 : Int) (h2 : am_r v2)
    (hh : (0 ≤ (3 * v2) ∧ (3 * v2) < 48) ∧
      (0 ≤ ((3 * v2) + 1) ∧ ((3 * v2) + 1) < 48) ∧
      (0 ≤ ((3 * v2) + 2) ∧ ((3 * v2) + 2) < 48) ∧
      VX3_isBroken l Q 42 [(0, am_R 0), (1, am_I v1), (3, am_I (S.2 12 (3 * v2).toNat).toInt), (4, am_I (S.2 12 ((3 * v2) + 1).toNat).toInt), (5, am_I (S.2 12 ((3 * v2) + 2).toNat).toInt), (6, am_I 0), (7, am_I (am_b false)), (8, am_I 0)] [] S) : kX3_isBroken l [am_R 0, am_I v1, am_I v2] S Q := by
  refine am_entry (lv := [(0, am_R 0), (1, am_I v1), (2, am_I v2)]) rfl rfl rfl (fun _ => rfl) (fun _ => Nat.le_of_ble_eq_true rfl) ?_
  refine am_aload_n dX3_isBroken_0 rfl 0 rfl ?_
  refine am_mgeta 12 (by decide) q1419 dX3_isBroken_1 ?_
  refine am_iconst dX3_isBroken_4 ?_
  refine am_iload_n dX3_isBroken_5 rfl 2 rfl ?_
  refine am_imul dX3_isBroken_6 ?_
  obtain ⟨o1, hh⟩ := hh
  refine am_miald 12 (by decide) (by decide) (v := (S.2 12 (3 * v2).toNat).toInt) rfl o1.1 o1.2 dX3_isBroken_7 ?_
  refine am_istore_n dX3_isBroken_8 rfl (by decide) rfl ?_
  refine am_aload_n dX3_isBroken_9 rfl 1 rfl ?_
  refine am_mgeta 12 (by decide) q1419 dX3_isBroken_10 ?_
  refine am_iconst dX3_isBroken_13 ?_
  refine am_iload_n dX3_isBroken_14 rfl 3 rfl ?_
  refine am_imul dX3_isBroken_15 ?_
  refine am_iconst dX3_isBroken_16 ?_
  refine am_iadd dX3_isBroken_17 ?_
  obtain ⟨o2, hh⟩ := hh
  refine am_miald 12 (by decide) (by decide) (v := (S.2 12 ((3 * v2) + 1).toNat).toInt) rfl o2.1 o2.2 dX3_isBroken_18 ?_
  refine am_istore dX3_isBroken_19 (by decide) rfl ?_
  refine am_aload_n dX3_isBroken_21 rfl 2 rfl ?_
  refine am_mgeta 12 (by decide) q1419 dX3_isBroken_22 ?_
  refine am_iconst dX3_isBroken_25 ?_
  refine am_iload_n dX3_isBroken_26 rfl 4 rfl ?_
  refine am_imul dX3_isBroken_27 ?_
  refine am_iconst dX3_isBroken_28 ?_
  refine am_iadd dX3_isBroken_29 ?_
  obtain ⟨o3, hh⟩ := hh
  refine am_miald 12 (by decide) (by decide) (v := (S.2 12 ((3 * v2) + 2).toNat).toInt) rfl o3.1 o3.2 dX3_isBroken_30 ?_
  refine am_istore dX3_isBroken_31 (by decide) rfl ?_
  refine am_iconst dX3_isBroken_33 ?_
  refine am_istore dX3_isBroken_34 (by decide) rfl ?_
  refine am_iconst dX3_isBroken_36 ?_
  refine am_istore dX3_isBroken_37 (by decide) rfl ?_
  refine am_iconst dX3_isBroken_39 ?_
  refine am_istore dX3_isBroken_40 (by decide) rfl ?_
  refine am_keep [6, 7, 5, 4, 3, 2, 1, 0] rfl ?_
  exact hh
set_option maxHeartbeats 4000000 in
set_option maxRecDepth 100000 in
theorem bX3_isBroken_42 {l : Launch} {Q : Option am_W → am_M → Prop} {S : am_M} (v1 : Int) (h1 : am_r v1) (v3 : Int) (h3 : am_r v3) (v4 : Int) (h4 : am_r v4) (v5 : Int) (h5 : am_r v5) (v6 : Int) (h6 : am_r v6) (v7 : Bool) (v8 : Int) (h8 : am_r v8)
    (hh : ((((S.1 2).toInt) ≤ v8) →
        ((¬ v4 = 4) →
          Q (some (am_I (am_b v7))) S) ∧
        ((v4 = 4) →
          ((v6 ≤ v5) →
            Q (some (am_I (am_b false))) S) ∧
          ((¬ v6 ≤ v5) →
            Q (some (am_I (am_b true))) S))) ∧
      ((¬ ((S.1 2).toInt) ≤ v8) →
        ((¬ v4 = 4) →
          ((¬ v4 = 3) →
            ((v7 = true) →
              VX3_isBroken l Q 42 [(0, am_R 0), (1, am_I v1), (3, am_I v3), (4, am_I v4), (5, am_I v5), (6, am_I v6), (7, am_I (am_b true)), (8, am_I (v8 + 1))] [] S) ∧
            ((v7 = false) →
              (0 ≤ v8 ∧ v8 < 6) ∧
              ((¬ ((S.2 1 v8.toNat).toInt) = v3) →
                VX3_isBroken l Q 42 [(0, am_R 0), (1, am_I v1), (3, am_I v3), (4, am_I v4), (5, am_I v5), (6, am_I v6), (7, am_I (am_b false)), (8, am_I (v8 + 1))] [] S) ∧
              ((((S.2 1 v8.toNat).toInt) = v3) →
                kX3_isAsTold l [am_R 0, am_I v1, am_I v8, am_I v4, am_I v5] S (am_qz fun b24 S23 =>
                  ((b24 = false) →
                    VX3_isBroken l Q 42 [(0, am_R 0), (1, am_I v1), (3, am_I v3), (4, am_I v4), (5, am_I v5), (6, am_I v6), (7, am_I (am_b false)), (8, am_I (v8 + 1))] [] S23) ∧
                  ((b24 = true) →
                    VX3_isBroken l Q 42 [(0, am_R 0), (1, am_I v1), (3, am_I v3), (4, am_I v4), (5, am_I v5), (6, am_I v6), (7, am_I (am_b true)), (8, am_I (v8 + 1))] [] S23))))) ∧
          ((v4 = 3) →
            ((v7 = true) →
              VX3_isBroken l Q 42 [(0, am_R 0), (1, am_I v1), (3, am_I v3), (4, am_I v4), (5, am_I v5), (6, am_I v6), (7, am_I (am_b true)), (8, am_I (v8 + 1))] [] S) ∧
            ((v7 = false) →
              (0 ≤ v8 ∧ v8 < 6) ∧
              ((¬ ((S.2 1 v8.toNat).toInt) = v3) →
                VX3_isBroken l Q 42 [(0, am_R 0), (1, am_I v1), (3, am_I v3), (4, am_I v4), (5, am_I v5), (6, am_I v6), (7, am_I (am_b false)), (8, am_I (v8 + 1))] [] S) ∧
              ((((S.2 1 v8.toNat).toInt) = v3) →
                kX3_boxOf l [am_R 0, am_I v1, am_I v8] S (am_qi fun r36 S35 =>
                  ((0 ≤ r36) →
                    VX3_isBroken l Q 42 [(0, am_R 0), (1, am_I v1), (3, am_I v3), (4, am_I v4), (5, am_I v5), (6, am_I v6), (7, am_I (am_b false)), (8, am_I (v8 + 1))] [] S35) ∧
                  ((¬ 0 ≤ r36) →
                    kX3_cellOf l [am_R 0, am_I v1, am_I v8] S35 (am_qi fun r42 S41 =>
                      ((¬ r42 = v5) →
                        VX3_isBroken l Q 42 [(0, am_R 0), (1, am_I v1), (3, am_I v3), (4, am_I v4), (5, am_I v5), (6, am_I v6), (7, am_I (am_b false)), (8, am_I (v8 + 1))] [] S41) ∧
                      ((r42 = v5) →
                        VX3_isBroken l Q 42 [(0, am_R 0), (1, am_I v1), (3, am_I v3), (4, am_I v4), (5, am_I v5), (6, am_I v6), (7, am_I (am_b true)), (8, am_I (v8 + 1))] [] S41)))))))) ∧
        ((v4 = 4) →
          kX3_cellOf l [am_R 0, am_I v1, am_I v8] S (am_qi fun r48 S47 =>
            ((¬ r48 = v3) →
              VX3_isBroken l Q 42 [(0, am_R 0), (1, am_I v1), (3, am_I v3), (4, am_I v4), (5, am_I v5), (6, am_I (v6 + 0)), (7, am_I (am_b v7)), (8, am_I (v8 + 1))] [] S47) ∧
            ((r48 = v3) →
              (0 ≤ v8 ∧ v8 < 6) ∧
              VX3_isBroken l Q 42 [(0, am_R 0), (1, am_I v1), (3, am_I v3), (4, am_I v4), (5, am_I v5), (6, am_I (v6 + (S47.2 2 v8.toNat).toInt)), (7, am_I (am_b v7)), (8, am_I (v8 + 1))] [] S47))))) : VX3_isBroken l Q 42 [(0, am_R 0), (1, am_I v1), (3, am_I v3), (4, am_I v4), (5, am_I v5), (6, am_I v6), (7, am_I (am_b v7)), (8, am_I v8)] [] S := by
  refine am_iload dX3_isBroken_42 7 rfl ?_
  refine am_aload_n dX3_isBroken_44 rfl 0 rfl ?_
  refine am_mgeti 2 (by decide) (v := (S.1 2).toInt) rfl q1404 dX3_isBroken_45 ?_
  obtain ⟨ha1, hb2⟩ := hh
  refine am_icmp_ge (tgt := 184) dX3_isBroken_48 (by decide) h8 (am_rt _) (fun hc3 => ?_) (fun hc3 => ?_)
  · have hh := ha1 hc3
    refine am_iload dX3_isBroken_184 3 rfl ?_
    refine am_iconst dX3_isBroken_186 ?_
    obtain ⟨ha4, hb5⟩ := hh
    refine am_icmp_ne (tgt := 205) dX3_isBroken_187 (by decide) h4 (⟨by decide, by decide⟩) (fun hc6 => ?_) (fun hc6 => ?_)
    · have hh := ha4 hc6
      refine am_iload dX3_isBroken_205 6 rfl ?_
      exact am_zret (b := v7) rfl dX3_isBroken_207 (Nat.le_refl 0) (Nat.le_refl 0) hh
    · have hh := hb5 hc6
      refine am_iload dX3_isBroken_190 5 rfl ?_
      refine am_iload dX3_isBroken_192 4 rfl ?_
      obtain ⟨ha7, hb8⟩ := hh
      refine am_icmp_le (tgt := 201) dX3_isBroken_194 (by decide) h6 h5 (fun hc9 => ?_) (fun hc9 => ?_)
      · have hh := ha7 hc9
        refine am_iconst dX3_isBroken_201 ?_
        refine am_goto (tgt := 207) dX3_isBroken_202 (by decide) ?_
        exact am_zret (b := false) rfl dX3_isBroken_207 (Nat.le_refl 0) (Nat.le_refl 0) hh
      · have hh := hb8 hc9
        refine am_iconst dX3_isBroken_197 ?_
        refine am_goto (tgt := 207) dX3_isBroken_198 (by decide) ?_
        exact am_zret (b := true) rfl dX3_isBroken_207 (Nat.le_refl 0) (Nat.le_refl 0) hh
  · have hh := hb2 hc3
    refine am_iload dX3_isBroken_51 3 rfl ?_
    refine am_iconst dX3_isBroken_53 ?_
    obtain ⟨ha10, hb11⟩ := hh
    refine am_icmp_ne (tgt := 87) dX3_isBroken_54 (by decide) h4 (⟨by decide, by decide⟩) (fun hc12 => ?_) (fun hc12 => ?_)
    · have hh := ha10 hc12
      refine am_iload dX3_isBroken_87 3 rfl ?_
      refine am_iconst dX3_isBroken_89 ?_
      obtain ⟨ha13, hb14⟩ := hh
      refine am_icmp_ne (tgt := 141) dX3_isBroken_90 (by decide) h4 (⟨by decide, by decide⟩) (fun hc15 => ?_) (fun hc15 => ?_)
      · have hh := ha13 hc15
        refine am_iload dX3_isBroken_141 6 rfl ?_
        obtain ⟨ha16, hb17⟩ := hh
        refine am_ifB_ne (tgt := 171) dX3_isBroken_143 (by decide) (fun hc18 => ?_) (fun hc18 => ?_)
        · have hh := ha16 hc18
          refine am_iconst dX3_isBroken_171 ?_
          refine am_goto (tgt := 176) dX3_isBroken_172 (by decide) ?_
          refine am_istore dX3_isBroken_176 (by decide) rfl ?_
          refine am_iinc (n := 7) dX3_isBroken_178 rfl (by decide) rfl ?_
          refine am_goto (tgt := 42) dX3_isBroken_181 (by decide) ?_
          refine am_keep [2, 3, 4, 5, 6, 7, 1, 0] rfl ?_
          exact hh
        · have hh := hb17 hc18
          refine am_aload_n dX3_isBroken_146 rfl 0 rfl ?_
          refine am_mgeta 1 (by decide) q1405 dX3_isBroken_147 ?_
          refine am_iload dX3_isBroken_150 7 rfl ?_
          obtain ⟨o19, hh⟩ := hh
          refine am_miald 1 (by decide) (by decide) (v := (S.2 1 v8.toNat).toInt) rfl o19.1 o19.2 dX3_isBroken_152 ?_
          refine am_iload_n dX3_isBroken_153 rfl 2 rfl ?_
          obtain ⟨ha20, hb21⟩ := hh
          refine am_icmp_ne (tgt := 175) dX3_isBroken_154 (by decide) (am_rt _) h3 (fun hc22 => ?_) (fun hc22 => ?_)
          · have hh := ha20 hc22
            refine am_iconst dX3_isBroken_175 ?_
            refine am_istore dX3_isBroken_176 (by decide) rfl ?_
            refine am_iinc (n := 7) dX3_isBroken_178 rfl (by decide) rfl ?_
            refine am_goto (tgt := 42) dX3_isBroken_181 (by decide) ?_
            refine am_keep [2, 3, 4, 5, 6, 7, 1, 0] rfl ?_
            exact hh
          · have hh := hb21 hc22
            refine am_aload_n dX3_isBroken_157 rfl 0 rfl ?_
            refine am_iload_n dX3_isBroken_158 rfl 1 rfl ?_
            refine am_iload dX3_isBroken_159 7 rfl ?_
            refine am_iload dX3_isBroken_161 3 rfl ?_
            refine am_iload dX3_isBroken_163 4 rfl ?_
            refine am_rVz (n := 4) hh dX3_isBroken_165 (lw_V q1524 q1526 qs42 q96 q1527) rfl ⟨⟨by decide, by decide, by decide +kernel⟩, ⟨Nat.le_of_ble_eq_true rfl, Nat.le_of_ble_eq_true rfl⟩⟩ ⟨rfl, rfl⟩ rfl rfl (Nat.le_of_ble_eq_true rfl) ⟨(Nat.le_refl 0), (Nat.le_refl 0)⟩ (am_mrecv _) (fun b24 S23 hh => ?_)
            obtain ⟨ha25, hb26⟩ := hh
            refine am_ifB_eq (tgt := 175) dX3_isBroken_168 (by decide) (fun hc27 => ?_) (fun hc27 => ?_)
            · have hh := ha25 hc27
              refine am_iconst dX3_isBroken_175 ?_
              refine am_istore dX3_isBroken_176 (by decide) rfl ?_
              refine am_iinc (n := 7) dX3_isBroken_178 rfl (by decide) rfl ?_
              refine am_goto (tgt := 42) dX3_isBroken_181 (by decide) ?_
              refine am_keep [2, 3, 4, 5, 6, 7, 1, 0] rfl ?_
              exact hh
            · have hh := hb26 hc27
              refine am_iconst dX3_isBroken_171 ?_
              refine am_goto (tgt := 176) dX3_isBroken_172 (by decide) ?_
              refine am_istore dX3_isBroken_176 (by decide) rfl ?_
              refine am_iinc (n := 7) dX3_isBroken_178 rfl (by decide) rfl ?_
              refine am_goto (tgt := 42) dX3_isBroken_181 (by decide) ?_
              refine am_keep [2, 3, 4, 5, 6, 7, 1, 0] rfl ?_
              exact hh
      · have hh := hb14 hc15
        refine am_iload dX3_isBroken_93 6 rfl ?_
        obtain ⟨ha28, hb29⟩ := hh
        refine am_ifB_ne (tgt := 131) dX3_isBroken_95 (by decide) (fun hc30 => ?_) (fun hc30 => ?_)
        · have hh := ha28 hc30
          refine am_iconst dX3_isBroken_131 ?_
          refine am_goto (tgt := 136) dX3_isBroken_132 (by decide) ?_
          refine am_istore dX3_isBroken_136 (by decide) rfl ?_
          refine am_goto (tgt := 178) dX3_isBroken_138 (by decide) ?_
          refine am_iinc (n := 7) dX3_isBroken_178 rfl (by decide) rfl ?_
          refine am_goto (tgt := 42) dX3_isBroken_181 (by decide) ?_
          refine am_keep [2, 3, 4, 5, 6, 7, 1, 0] rfl ?_
          exact hh
        · have hh := hb29 hc30
          refine am_aload_n dX3_isBroken_98 rfl 0 rfl ?_
          refine am_mgeta 1 (by decide) q1405 dX3_isBroken_99 ?_
          refine am_iload dX3_isBroken_102 7 rfl ?_
          obtain ⟨o31, hh⟩ := hh
          refine am_miald 1 (by decide) (by decide) (v := (S.2 1 v8.toNat).toInt) rfl o31.1 o31.2 dX3_isBroken_104 ?_
          refine am_iload_n dX3_isBroken_105 rfl 2 rfl ?_
          obtain ⟨ha32, hb33⟩ := hh
          refine am_icmp_ne (tgt := 135) dX3_isBroken_106 (by decide) (am_rt _) h3 (fun hc34 => ?_) (fun hc34 => ?_)
          · have hh := ha32 hc34
            refine am_iconst dX3_isBroken_135 ?_
            refine am_istore dX3_isBroken_136 (by decide) rfl ?_
            refine am_goto (tgt := 178) dX3_isBroken_138 (by decide) ?_
            refine am_iinc (n := 7) dX3_isBroken_178 rfl (by decide) rfl ?_
            refine am_goto (tgt := 42) dX3_isBroken_181 (by decide) ?_
            refine am_keep [2, 3, 4, 5, 6, 7, 1, 0] rfl ?_
            exact hh
          · have hh := hb33 hc34
            refine am_aload_n dX3_isBroken_109 rfl 0 rfl ?_
            refine am_iload_n dX3_isBroken_110 rfl 1 rfl ?_
            refine am_iload dX3_isBroken_111 7 rfl ?_
            refine am_rVi (n := 2) hh dX3_isBroken_113 (lw_V q1528 q1530 qs43 q96 q1531) rfl ⟨⟨by decide, by decide, by decide +kernel⟩, ⟨Nat.le_of_ble_eq_true rfl, Nat.le_of_ble_eq_true rfl⟩⟩ ⟨rfl, rfl⟩ rfl rfl (Nat.le_of_ble_eq_true rfl) ⟨(Nat.le_refl 0), (Nat.le_refl 0)⟩ (am_mrecv _) (fun r36 S35 hr37 hh => ?_)
            obtain ⟨ha38, hb39⟩ := hh
            refine am_if_ge (tgt := 135) dX3_isBroken_116 (by decide) hr37 (fun hc40 => ?_) (fun hc40 => ?_)
            · have hh := ha38 hc40
              refine am_iconst dX3_isBroken_135 ?_
              refine am_istore dX3_isBroken_136 (by decide) rfl ?_
              refine am_goto (tgt := 178) dX3_isBroken_138 (by decide) ?_
              refine am_iinc (n := 7) dX3_isBroken_178 rfl (by decide) rfl ?_
              refine am_goto (tgt := 42) dX3_isBroken_181 (by decide) ?_
              refine am_keep [2, 3, 4, 5, 6, 7, 1, 0] rfl ?_
              exact hh
            · have hh := hb39 hc40
              refine am_aload_n dX3_isBroken_119 rfl 0 rfl ?_
              refine am_iload_n dX3_isBroken_120 rfl 1 rfl ?_
              refine am_iload dX3_isBroken_121 7 rfl ?_
              refine am_rVi (n := 2) hh dX3_isBroken_123 (lw_V q1532 q1534 qs44 q96 q1535) rfl ⟨⟨by decide, by decide, by decide +kernel⟩, ⟨Nat.le_of_ble_eq_true rfl, Nat.le_of_ble_eq_true rfl⟩⟩ ⟨rfl, rfl⟩ rfl rfl (Nat.le_of_ble_eq_true rfl) ⟨(Nat.le_refl 0), (Nat.le_refl 0)⟩ (am_mrecv _) (fun r42 S41 hr43 hh => ?_)
              refine am_iload dX3_isBroken_126 4 rfl ?_
              obtain ⟨ha44, hb45⟩ := hh
              refine am_icmp_ne (tgt := 135) dX3_isBroken_128 (by decide) hr43 h5 (fun hc46 => ?_) (fun hc46 => ?_)
              · have hh := ha44 hc46
                refine am_iconst dX3_isBroken_135 ?_
                refine am_istore dX3_isBroken_136 (by decide) rfl ?_
                refine am_goto (tgt := 178) dX3_isBroken_138 (by decide) ?_
                refine am_iinc (n := 7) dX3_isBroken_178 rfl (by decide) rfl ?_
                refine am_goto (tgt := 42) dX3_isBroken_181 (by decide) ?_
                refine am_keep [2, 3, 4, 5, 6, 7, 1, 0] rfl ?_
                exact hh
              · have hh := hb45 hc46
                refine am_iconst dX3_isBroken_131 ?_
                refine am_goto (tgt := 136) dX3_isBroken_132 (by decide) ?_
                refine am_istore dX3_isBroken_136 (by decide) rfl ?_
                refine am_goto (tgt := 178) dX3_isBroken_138 (by decide) ?_
                refine am_iinc (n := 7) dX3_isBroken_178 rfl (by decide) rfl ?_
                refine am_goto (tgt := 42) dX3_isBroken_181 (by decide) ?_
                refine am_keep [2, 3, 4, 5, 6, 7, 1, 0] rfl ?_
                exact hh
    · have hh := hb11 hc12
      refine am_iload dX3_isBroken_57 5 rfl ?_
      refine am_aload_n dX3_isBroken_59 rfl 0 rfl ?_
      refine am_iload_n dX3_isBroken_60 rfl 1 rfl ?_
      refine am_iload dX3_isBroken_61 7 rfl ?_
      refine am_rVi (n := 2) hh dX3_isBroken_63 (lw_V q1532 q1534 qs44 q96 q1535) rfl ⟨⟨by decide, by decide, by decide +kernel⟩, ⟨Nat.le_of_ble_eq_true rfl, Nat.le_of_ble_eq_true rfl⟩⟩ ⟨rfl, rfl⟩ rfl rfl (Nat.le_of_ble_eq_true rfl) ⟨(Nat.le_refl 0), (Nat.le_refl 0)⟩ (am_mrecv _) (fun r48 S47 hr49 hh => ?_)
      refine am_iload_n dX3_isBroken_66 rfl 2 rfl ?_
      obtain ⟨ha50, hb51⟩ := hh
      refine am_icmp_ne (tgt := 80) dX3_isBroken_67 (by decide) hr49 h3 (fun hc52 => ?_) (fun hc52 => ?_)
      · have hh := ha50 hc52
        refine am_iconst dX3_isBroken_80 ?_
        refine am_iadd dX3_isBroken_81 ?_
        refine am_istore dX3_isBroken_82 (by decide) rfl ?_
        refine am_goto (tgt := 178) dX3_isBroken_84 (by decide) ?_
        refine am_iinc (n := 7) dX3_isBroken_178 rfl (by decide) rfl ?_
        refine am_goto (tgt := 42) dX3_isBroken_181 (by decide) ?_
        refine am_keep [2, 3, 4, 5, 6, 1, 7, 0] rfl ?_
        exact hh
      · have hh := hb51 hc52
        refine am_aload_n dX3_isBroken_70 rfl 0 rfl ?_
        refine am_mgeta 2 (by decide) q1406 dX3_isBroken_71 ?_
        refine am_iload dX3_isBroken_74 7 rfl ?_
        obtain ⟨o53, hh⟩ := hh
        refine am_miald 2 (by decide) (by decide) (v := (S47.2 2 v8.toNat).toInt) rfl o53.1 o53.2 dX3_isBroken_76 ?_
        refine am_goto (tgt := 81) dX3_isBroken_77 (by decide) ?_
        refine am_iadd dX3_isBroken_81 ?_
        refine am_istore dX3_isBroken_82 (by decide) rfl ?_
        refine am_goto (tgt := 178) dX3_isBroken_84 (by decide) ?_
        refine am_iinc (n := 7) dX3_isBroken_178 rfl (by decide) rfl ?_
        refine am_goto (tgt := 42) dX3_isBroken_181 (by decide) ?_
        refine am_keep [2, 3, 4, 5, 6, 1, 7, 0] rfl ?_
        exact hh
/-! TableArmsModel.brokenOn(I)I -/
abbrev VX3_brokenOn (l : Launch) (Q : Option am_W → am_M → Prop) (pc : Nat) (lv : List (Nat × am_W)) (st : List am_W) (S : am_M) : Prop := am_V am_mr l RX3 cX3_brokenOn 4 (some .int) "brokenOn" (am_rm 6 0 0) (am_E1 am_mr 0 0 Q) pc lv st S 0 0
abbrev kX3_brokenOn (l : Launch) (as : List am_W) (S : am_M) (Q : Option am_W → am_M → Prop) : Prop := am_C am_mr l yX3_brokenOn (ws_ yX3_brokenOn cX3_brokenOn 4 (some .int)) (am_rm 6 0 0) 0 0 as S Q
set_option maxHeartbeats 4000000 in
set_option maxRecDepth 100000 in
theorem bX3_brokenOn {l : Launch} {Q : Option am_W → am_M → Prop} {S : am_M} (v1 : Int) (h1 : am_r v1)
    (hh : VX3_brokenOn l Q 4 [(0, am_R 0), (1, am_I v1), (2, am_I 0), (3, am_I 0)] [] S) : kX3_brokenOn l [am_R 0, am_I v1] S Q := by
  refine am_entry (lv := [(0, am_R 0), (1, am_I v1)]) rfl rfl rfl (fun _ => rfl) (fun _ => Nat.le_of_ble_eq_true rfl) ?_
  refine am_iconst dX3_brokenOn_0 ?_
  refine am_istore_n dX3_brokenOn_1 rfl (by decide) rfl ?_
  refine am_iconst dX3_brokenOn_2 ?_
  refine am_istore_n dX3_brokenOn_3 rfl (by decide) rfl ?_
  refine am_keep [2, 3, 1, 0] rfl ?_
  exact hh
set_option maxHeartbeats 4000000 in
set_option maxRecDepth 100000 in
theorem bX3_brokenOn_4 {l : Launch} {Q : Option am_W → am_M → Prop} {S : am_M} (v1 : Int) (h1 : am_r v1) (v2 : Int) (h2 : am_r v2) (v3 : Int) (h3 : am_r v3)
    (hh : ((((S.1 5).toInt) ≤ v3) →
        Q (some (am_I v2)) S) ∧
      ((¬ ((S.1 5).toInt) ≤ v3) →
        kX3_isBroken l [am_R 0, am_I v1, am_I v3] S (am_qz fun b5 S4 =>
          ((b5 = false) →
            VX3_brokenOn l Q 4 [(0, am_R 0), (1, am_I v1), (2, am_I (v2 + 0)), (3, am_I (v3 + 1))] [] S4) ∧
          ((b5 = true) →
            VX3_brokenOn l Q 4 [(0, am_R 0), (1, am_I v1), (2, am_I (v2 + 1)), (3, am_I (v3 + 1))] [] S4)))) : VX3_brokenOn l Q 4 [(0, am_R 0), (1, am_I v1), (2, am_I v2), (3, am_I v3)] [] S := by
  refine am_iload_n dX3_brokenOn_4 rfl 3 rfl ?_
  refine am_aload_n dX3_brokenOn_5 rfl 0 rfl ?_
  refine am_mgeti 5 (by decide) (v := (S.1 5).toInt) rfl q1418 dX3_brokenOn_6 ?_
  obtain ⟨ha1, hb2⟩ := hh
  refine am_icmp_ge (tgt := 35) dX3_brokenOn_9 (by decide) h3 (am_rt _) (fun hc3 => ?_) (fun hc3 => ?_)
  · have hh := ha1 hc3
    refine am_iload_n dX3_brokenOn_35 rfl 2 rfl ?_
    exact am_iret rfl dX3_brokenOn_36 (Nat.le_refl 0) (Nat.le_refl 0) hh
  · have hh := hb2 hc3
    refine am_iload_n dX3_brokenOn_12 rfl 2 rfl ?_
    refine am_aload_n dX3_brokenOn_13 rfl 0 rfl ?_
    refine am_iload_n dX3_brokenOn_14 rfl 1 rfl ?_
    refine am_iload_n dX3_brokenOn_15 rfl 3 rfl ?_
    refine am_rVz (n := 2) hh dX3_brokenOn_16 (lw_V q1826 q1828 qs82 q96 q1829) rfl ⟨⟨by decide, by decide, by decide +kernel⟩, ⟨Nat.le_of_ble_eq_true rfl, Nat.le_of_ble_eq_true rfl⟩⟩ ⟨rfl, rfl⟩ rfl rfl (Nat.le_of_ble_eq_true rfl) ⟨(Nat.le_refl 0), (Nat.le_refl 0)⟩ (am_mrecv _) (fun b5 S4 hh => ?_)
    obtain ⟨ha6, hb7⟩ := hh
    refine am_ifB_eq (tgt := 26) dX3_brokenOn_19 (by decide) (fun hc8 => ?_) (fun hc8 => ?_)
    · have hh := ha6 hc8
      refine am_iconst dX3_brokenOn_26 ?_
      refine am_iadd dX3_brokenOn_27 ?_
      refine am_istore_n dX3_brokenOn_28 rfl (by decide) rfl ?_
      refine am_iinc (n := 3) dX3_brokenOn_29 rfl (by decide) rfl ?_
      refine am_goto (tgt := 4) dX3_brokenOn_32 (by decide) ?_
      refine am_keep [2, 3, 1, 0] rfl ?_
      exact hh
    · have hh := hb7 hc8
      refine am_iconst dX3_brokenOn_22 ?_
      refine am_goto (tgt := 27) dX3_brokenOn_23 (by decide) ?_
      refine am_iadd dX3_brokenOn_27 ?_
      refine am_istore_n dX3_brokenOn_28 rfl (by decide) rfl ?_
      refine am_iinc (n := 3) dX3_brokenOn_29 rfl (by decide) rfl ?_
      refine am_goto (tgt := 4) dX3_brokenOn_32 (by decide) ?_
      refine am_keep [2, 3, 1, 0] rfl ?_
      exact hh
/-! TableArmsModel.broken()I -/
abbrev VX3_broken (l : Launch) (Q : Option am_W → am_M → Prop) (pc : Nat) (lv : List (Nat × am_W)) (st : List am_W) (S : am_M) : Prop := am_V am_mr l RX3 cX3_broken 1 (some .int) "broken" (am_rm 7 0 0) (am_E1 am_mr 0 0 Q) pc lv st S 0 0
abbrev kX3_broken (l : Launch) (as : List am_W) (S : am_M) (Q : Option am_W → am_M → Prop) : Prop := am_C am_mr l yX3_broken (ws_ yX3_broken cX3_broken 1 (some .int)) (am_rm 7 0 0) 0 0 as S Q
set_option maxHeartbeats 4000000 in
set_option maxRecDepth 100000 in
theorem bX3_broken {l : Launch} {Q : Option am_W → am_M → Prop} {S : am_M} 
    (hh : kX3_brokenOn l [am_R 0, am_I 0] (am_sv S 0 0) (am_qi fun r2 S1 =>
        Q (some (am_I r2)) S1)) : kX3_broken l [am_R 0] S Q := by
  refine am_entry (lv := [(0, am_R 0)]) rfl rfl rfl (fun _ => rfl) (fun _ => Nat.le_of_ble_eq_true rfl) ?_
  refine am_aload_n dX3_broken_0 rfl 0 rfl ?_
  refine am_iconst dX3_broken_1 ?_
  refine am_mput 0 (by decide) q1401 dX3_broken_2 ?_
  refine am_aload_n dX3_broken_5 rfl 0 rfl ?_
  refine am_iconst dX3_broken_6 ?_
  refine am_rVi (n := 1) hh dX3_broken_7 (lw_V q1822 q1824 qs81 q96 q1825) rfl ⟨⟨by decide, by decide, by decide +kernel⟩, ⟨Nat.le_of_ble_eq_true rfl, Nat.le_of_ble_eq_true rfl⟩⟩ ⟨rfl, rfl⟩ rfl rfl (Nat.le_of_ble_eq_true rfl) ⟨(Nat.le_refl 0), (Nat.le_refl 0)⟩ (am_mrecv _) (fun r2 S1 hr3 hh => ?_)
  exact am_iret rfl dX3_broken_10 (Nat.le_refl 0) (Nat.le_refl 0) hh
/-! TableArmsModel.isSafeBehind(II)Z -/
abbrev VX3_isSafeBehind (l : Launch) (Q : Option am_W → am_M → Prop) (pc : Nat) (lv : List (Nat × am_W)) (st : List am_W) (S : am_M) : Prop := am_V am_mr l RX3 cX3_isSafeBehind 3 (some .boolean) "isSafeBehind" (am_rm 7 0 0) (am_E1 am_mr 0 0 Q) pc lv st S 0 0
abbrev kX3_isSafeBehind (l : Launch) (as : List am_W) (S : am_M) (Q : Option am_W → am_M → Prop) : Prop := am_C am_mr l yX3_isSafeBehind (ws_ yX3_isSafeBehind cX3_isSafeBehind 3 (some .boolean)) (am_rm 7 0 0) 0 0 as S Q
set_option maxHeartbeats 4000000 in
set_option maxRecDepth 100000 in
theorem bX3_isSafeBehind {l : Launch} {Q : Option am_W → am_M → Prop} {S : am_M} (v1 : Int) (h1 : am_r v1) (v2 : Int) (h2 : am_r v2)
    (hh : kX3_copyTable l [am_R 0, am_I 0, am_I 9] S (am_qv fun S1 =>
        kX3_doMove l [am_R 0, am_I 9, am_I v1, am_I v2] S1 (am_qv fun S2 =>
          kX3_brokenOn l [am_R 0, am_I 9] S2 (am_qi fun r4 S3 =>
            ((¬ r4 = 0) →
              Q (some (am_I (am_b false))) S3) ∧
            ((r4 = 0) →
              Q (some (am_I (am_b true))) S3))))) : kX3_isSafeBehind l [am_R 0, am_I v1, am_I v2] S Q := by
  refine am_entry (lv := [(0, am_R 0), (1, am_I v1), (2, am_I v2)]) rfl rfl rfl (fun _ => rfl) (fun _ => Nat.le_of_ble_eq_true rfl) ?_
  refine am_aload_n dX3_isSafeBehind_0 rfl 0 rfl ?_
  refine am_iconst dX3_isSafeBehind_1 ?_
  refine am_bipush dX3_isSafeBehind_2 (by decide) ?_
  refine am_rVv (n := 2) hh dX3_isSafeBehind_4 (lw_V q1516 q1518 qs40 q96 q1519) rfl ⟨⟨by decide, by decide, by decide +kernel⟩, ⟨Nat.le_of_ble_eq_true rfl, Nat.le_of_ble_eq_true rfl⟩⟩ ⟨rfl, rfl⟩ rfl rfl (Nat.le_of_ble_eq_true rfl) ⟨(Nat.le_refl 0), (Nat.le_refl 0)⟩ (am_mrecv _) (fun S1 hh => ?_)
  refine am_aload_n dX3_isSafeBehind_7 rfl 0 rfl ?_
  refine am_bipush dX3_isSafeBehind_8 (by decide) ?_
  refine am_iload_n dX3_isSafeBehind_10 rfl 1 rfl ?_
  refine am_iload_n dX3_isSafeBehind_11 rfl 2 rfl ?_
  refine am_rVv (n := 3) hh dX3_isSafeBehind_12 (lw_V q1580 q1582 qs55 q96 q1583) rfl ⟨⟨by decide, by decide, by decide +kernel⟩, ⟨Nat.le_of_ble_eq_true rfl, Nat.le_of_ble_eq_true rfl⟩⟩ ⟨rfl, rfl⟩ rfl rfl (Nat.le_of_ble_eq_true rfl) ⟨(Nat.le_refl 0), (Nat.le_refl 0)⟩ (am_mrecv _) (fun S2 hh => ?_)
  refine am_aload_n dX3_isSafeBehind_15 rfl 0 rfl ?_
  refine am_bipush dX3_isSafeBehind_16 (by decide) ?_
  refine am_rVi (n := 1) hh dX3_isSafeBehind_18 (lw_V q1822 q1824 qs81 q96 q1825) rfl ⟨⟨by decide, by decide, by decide +kernel⟩, ⟨Nat.le_of_ble_eq_true rfl, Nat.le_of_ble_eq_true rfl⟩⟩ ⟨rfl, rfl⟩ rfl rfl (Nat.le_of_ble_eq_true rfl) ⟨(Nat.le_refl 0), (Nat.le_refl 0)⟩ (am_mrecv _) (fun r4 S3 hr5 hh => ?_)
  obtain ⟨ha6, hb7⟩ := hh
  refine am_if_ne (tgt := 28) dX3_isSafeBehind_21 (by decide) hr5 (fun hc8 => ?_) (fun hc8 => ?_)
  · have hh := ha6 hc8
    refine am_iconst dX3_isSafeBehind_28 ?_
    exact am_zret (b := false) rfl dX3_isSafeBehind_29 (Nat.le_refl 0) (Nat.le_refl 0) hh
  · have hh := hb7 hc8
    refine am_iconst dX3_isSafeBehind_24 ?_
    refine am_goto (tgt := 29) dX3_isSafeBehind_25 (by decide) ?_
    exact am_zret (b := true) rfl dX3_isSafeBehind_29 (Nat.le_refl 0) (Nat.le_refl 0) hh
/-! TableArmsModel.let(III)I -/
abbrev VX3_let (l : Launch) (Q : Option am_W → am_M → Prop) (pc : Nat) (lv : List (Nat × am_W)) (st : List am_W) (S : am_M) : Prop := am_V am_mr l RX3 cX3_let 6 (some .int) "let" (am_rm 8 0 0) (am_E1 am_mr 0 0 Q) pc lv st S 0 0
abbrev kX3_let (l : Launch) (as : List am_W) (S : am_M) (Q : Option am_W → am_M → Prop) : Prop := am_C am_mr l yX3_let (ws_ yX3_let cX3_let 6 (some .int)) (am_rm 8 0 0) 0 0 as S Q
set_option maxHeartbeats 4000000 in
set_option maxRecDepth 100000 in
theorem bX3_let {l : Launch} {Q : Option am_W → am_M → Prop} {S : am_M} (v1 : Int) (h1 : am_r v1) (v2 : Int) (h2 : am_r v2) (v3 : Int) (h3 : am_r v3)
    (hh : kX3_isArm l [am_I v1] (am_sv S 0 0) (am_qz fun b2 S1 =>
        ((b2 = false) →
          Q (some (am_I (-1000001))) S1) ∧
        ((b2 = true) →
          kX3_isThing l [am_R 0, am_I v2] S1 (am_qz fun b7 S6 =>
            ((b7 = false) →
              Q (some (am_I (-1000001))) S6) ∧
            ((b7 = true) →
              kX3_isTo l [am_R 0, am_I v3] S6 (am_qz fun b12 S11 =>
                ((b12 = true) →
                  kX3_canMove l [am_R 0, am_I 0, am_I v2, am_I v3] S11 (am_qz fun b17 S16 =>
                    ((b17 = false) →
                      Q (some (am_I (-1000002))) S16) ∧
                    ((b17 = true) →
                      kX3_doesReach l [am_R 0, am_I 0, am_I v1, am_I v2, am_I v3] S16 (am_qz fun b22 S21 =>
                        ((b22 = true) →
                          kX3_isSafeBehind l [am_R 0, am_I v2, am_I v3] S21 (am_qz fun b27 S26 =>
                            VX3_let l Q 66 [(0, am_R 0), (2, am_I v2), (3, am_I v3), (4, am_I (am_b b27)), (5, am_I 0)] [] S26)) ∧
                        ((b22 = false) →
                          Q (some (am_I (-1000002))) S21))))) ∧
                ((b12 = false) →
                  Q (some (am_I (-1000001))) S11))))))) : kX3_let l [am_R 0, am_I v1, am_I v2, am_I v3] S Q := by
  refine am_entry (lv := [(0, am_R 0), (1, am_I v1), (2, am_I v2), (3, am_I v3)]) rfl rfl rfl (fun _ => rfl) (fun _ => Nat.le_of_ble_eq_true rfl) ?_
  refine am_aload_n dX3_let_0 rfl 0 rfl ?_
  refine am_iconst dX3_let_1 ?_
  refine am_mput 0 (by decide) q1401 dX3_let_2 ?_
  refine am_iload_n dX3_let_5 rfl 1 rfl ?_
  refine am_rSz (n := 1) hh dX3_let_6 (lw_S q1621 q1622 q96 q1623) ⟨⟨by decide, by decide, by decide +kernel⟩, ⟨Nat.le_of_ble_eq_true rfl, Nat.le_of_ble_eq_true rfl⟩⟩ ⟨rfl, rfl⟩ rfl rfl (Nat.le_of_ble_eq_true rfl) ⟨(Nat.le_refl 0), (Nat.le_refl 0)⟩ (fun b2 S1 hh => ?_)
  obtain ⟨ha3, hb4⟩ := hh
  refine am_ifB_eq (tgt := 28) dX3_let_9 (by decide) (fun hc5 => ?_) (fun hc5 => ?_)
  · have hh := ha3 hc5
    refine am_ldc (z := -1000001) q1515 (by decide) dX3_let_28 ?_
    exact am_iret rfl dX3_let_30 (Nat.le_refl 0) (Nat.le_refl 0) hh
  · have hh := hb4 hc5
    refine am_aload_n dX3_let_12 rfl 0 rfl ?_
    refine am_iload_n dX3_let_13 rfl 2 rfl ?_
    refine am_rVz (n := 1) hh dX3_let_14 (lw_V q1608 q1610 qs58 q96 q1611) rfl ⟨⟨by decide, by decide, by decide +kernel⟩, ⟨Nat.le_of_ble_eq_true rfl, Nat.le_of_ble_eq_true rfl⟩⟩ ⟨rfl, rfl⟩ rfl rfl (Nat.le_of_ble_eq_true rfl) ⟨(Nat.le_refl 0), (Nat.le_refl 0)⟩ (am_mrecv _) (fun b7 S6 hh => ?_)
    obtain ⟨ha8, hb9⟩ := hh
    refine am_ifB_eq (tgt := 28) dX3_let_17 (by decide) (fun hc10 => ?_) (fun hc10 => ?_)
    · have hh := ha8 hc10
      refine am_ldc (z := -1000001) q1515 (by decide) dX3_let_28 ?_
      exact am_iret rfl dX3_let_30 (Nat.le_refl 0) (Nat.le_refl 0) hh
    · have hh := hb9 hc10
      refine am_aload_n dX3_let_20 rfl 0 rfl ?_
      refine am_iload_n dX3_let_21 rfl 3 rfl ?_
      refine am_rVz (n := 1) hh dX3_let_22 (lw_V q1629 q1631 qs59 q96 q1632) rfl ⟨⟨by decide, by decide, by decide +kernel⟩, ⟨Nat.le_of_ble_eq_true rfl, Nat.le_of_ble_eq_true rfl⟩⟩ ⟨rfl, rfl⟩ rfl rfl (Nat.le_of_ble_eq_true rfl) ⟨(Nat.le_refl 0), (Nat.le_refl 0)⟩ (am_mrecv _) (fun b12 S11 hh => ?_)
      obtain ⟨ha13, hb14⟩ := hh
      refine am_ifB_ne (tgt := 31) dX3_let_25 (by decide) (fun hc15 => ?_) (fun hc15 => ?_)
      · have hh := ha13 hc15
        refine am_aload_n dX3_let_31 rfl 0 rfl ?_
        refine am_iconst dX3_let_32 ?_
        refine am_iload_n dX3_let_33 rfl 2 rfl ?_
        refine am_iload_n dX3_let_34 rfl 3 rfl ?_
        refine am_rVz (n := 3) hh dX3_let_35 (lw_V q1568 q1570 qs52 q96 q1571) rfl ⟨⟨by decide, by decide, by decide +kernel⟩, ⟨Nat.le_of_ble_eq_true rfl, Nat.le_of_ble_eq_true rfl⟩⟩ ⟨rfl, rfl⟩ rfl rfl (Nat.le_of_ble_eq_true rfl) ⟨(Nat.le_refl 0), (Nat.le_refl 0)⟩ (am_mrecv _) (fun b17 S16 hh => ?_)
        obtain ⟨ha18, hb19⟩ := hh
        refine am_ifB_eq (tgt := 52) dX3_let_38 (by decide) (fun hc20 => ?_) (fun hc20 => ?_)
        · have hh := ha18 hc20
          refine am_ldc (z := -1000002) q1592 (by decide) dX3_let_52 ?_
          exact am_iret rfl dX3_let_54 (Nat.le_refl 0) (Nat.le_refl 0) hh
        · have hh := hb19 hc20
          refine am_aload_n dX3_let_41 rfl 0 rfl ?_
          refine am_iconst dX3_let_42 ?_
          refine am_iload_n dX3_let_43 rfl 1 rfl ?_
          refine am_iload_n dX3_let_44 rfl 2 rfl ?_
          refine am_iload_n dX3_let_45 rfl 3 rfl ?_
          refine am_rVz (n := 4) hh dX3_let_46 (lw_V q1635 q1637 qs60 q96 q1638) rfl ⟨⟨by decide, by decide, by decide +kernel⟩, ⟨Nat.le_of_ble_eq_true rfl, Nat.le_of_ble_eq_true rfl⟩⟩ ⟨rfl, rfl⟩ rfl rfl (Nat.le_of_ble_eq_true rfl) ⟨(Nat.le_refl 0), (Nat.le_refl 0)⟩ (am_mrecv _) (fun b22 S21 hh => ?_)
          obtain ⟨ha23, hb24⟩ := hh
          refine am_ifB_ne (tgt := 55) dX3_let_49 (by decide) (fun hc25 => ?_) (fun hc25 => ?_)
          · have hh := ha23 hc25
            refine am_aload_n dX3_let_55 rfl 0 rfl ?_
            refine am_iload_n dX3_let_56 rfl 2 rfl ?_
            refine am_iload_n dX3_let_57 rfl 3 rfl ?_
            refine am_rVz (n := 2) hh dX3_let_58 (lw_V q1834 q1836 qs83 q96 q1837) rfl ⟨⟨by decide, by decide, by decide +kernel⟩, ⟨Nat.le_of_ble_eq_true rfl, Nat.le_of_ble_eq_true rfl⟩⟩ ⟨rfl, rfl⟩ rfl rfl (Nat.le_of_ble_eq_true rfl) ⟨(Nat.le_refl 0), (Nat.le_refl 0)⟩ (am_mrecv _) (fun b27 S26 hh => ?_)
            refine am_istore dX3_let_61 (by decide) rfl ?_
            refine am_iconst dX3_let_63 ?_
            refine am_istore dX3_let_64 (by decide) rfl ?_
            refine am_keep [2, 4, 5, 1, 0] rfl ?_
            exact hh
          · have hh := hb24 hc25
            refine am_ldc (z := -1000002) q1592 (by decide) dX3_let_52 ?_
            exact am_iret rfl dX3_let_54 (Nat.le_refl 0) (Nat.le_refl 0) hh
      · have hh := hb14 hc15
        refine am_ldc (z := -1000001) q1515 (by decide) dX3_let_28 ?_
        exact am_iret rfl dX3_let_30 (Nat.le_refl 0) (Nat.le_refl 0) hh
set_option maxHeartbeats 4000000 in
set_option maxRecDepth 100000 in
theorem bX3_let_66 {l : Launch} {Q : Option am_W → am_M → Prop} {S : am_M} (v2 : Int) (h2 : am_r v2) (v3 : Int) (h3 : am_r v3) (v4 : Bool) (v5 : Int) (h5 : am_r v5)
    (hh : ((8 ≤ v5) →
        ((v4 = false) →
          Q (some (am_I 0)) S) ∧
        ((v4 = true) →
          Q (some (am_I 1)) S)) ∧
      ((¬ 8 ≤ v5) →
        ((8 ≤ v3) →
          ((v4 = false) →
            Q (some (am_I 0)) S) ∧
          ((v4 = true) →
            Q (some (am_I 1)) S)) ∧
        ((¬ 8 ≤ v3) →
          ((v4 = false) →
            VX3_let l Q 66 [(0, am_R 0), (2, am_I v2), (3, am_I v3), (4, am_I (am_b false)), (5, am_I (v5 + 1))] [] S) ∧
          ((v4 = true) →
            kX3_isNeighbour l [am_I v3, am_I v5] S (am_qz fun b17 S16 =>
              ((b17 = false) →
                VX3_let l Q 66 [(0, am_R 0), (2, am_I v2), (3, am_I v3), (4, am_I (am_b true)), (5, am_I (v5 + 1))] [] S16) ∧
              ((b17 = true) →
                kX3_isSafeBehind l [am_R 0, am_I v2, am_I v5] S16 (am_qz fun b22 S21 =>
                  ((b22 = false) →
                    VX3_let l Q 66 [(0, am_R 0), (2, am_I v2), (3, am_I v3), (4, am_I (am_b false)), (5, am_I (v5 + 1))] [] S21) ∧
                  ((b22 = true) →
                    VX3_let l Q 66 [(0, am_R 0), (2, am_I v2), (3, am_I v3), (4, am_I (am_b true)), (5, am_I (v5 + 1))] [] S21)))))))) : VX3_let l Q 66 [(0, am_R 0), (2, am_I v2), (3, am_I v3), (4, am_I (am_b v4)), (5, am_I v5)] [] S := by
  refine am_iload dX3_let_66 4 rfl ?_
  refine am_bipush dX3_let_68 (by decide) ?_
  obtain ⟨ha1, hb2⟩ := hh
  refine am_icmp_ge (tgt := 116) dX3_let_70 (by decide) h5 (⟨by decide, by decide⟩) (fun hc3 => ?_) (fun hc3 => ?_)
  · have hh := ha1 hc3
    refine am_iload dX3_let_116 3 rfl ?_
    obtain ⟨ha4, hb5⟩ := hh
    refine am_ifB_eq (tgt := 125) dX3_let_118 (by decide) (fun hc6 => ?_) (fun hc6 => ?_)
    · have hh := ha4 hc6
      refine am_iconst dX3_let_125 ?_
      exact am_iret rfl dX3_let_126 (Nat.le_refl 0) (Nat.le_refl 0) hh
    · have hh := hb5 hc6
      refine am_iconst dX3_let_121 ?_
      refine am_goto (tgt := 126) dX3_let_122 (by decide) ?_
      exact am_iret rfl dX3_let_126 (Nat.le_refl 0) (Nat.le_refl 0) hh
  · have hh := hb2 hc3
    refine am_iload_n dX3_let_73 rfl 2 rfl ?_
    refine am_bipush dX3_let_74 (by decide) ?_
    obtain ⟨ha7, hb8⟩ := hh
    refine am_icmp_ge (tgt := 116) dX3_let_76 (by decide) h3 (⟨by decide, by decide⟩) (fun hc9 => ?_) (fun hc9 => ?_)
    · have hh := ha7 hc9
      refine am_iload dX3_let_116 3 rfl ?_
      obtain ⟨ha10, hb11⟩ := hh
      refine am_ifB_eq (tgt := 125) dX3_let_118 (by decide) (fun hc12 => ?_) (fun hc12 => ?_)
      · have hh := ha10 hc12
        refine am_iconst dX3_let_125 ?_
        exact am_iret rfl dX3_let_126 (Nat.le_refl 0) (Nat.le_refl 0) hh
      · have hh := hb11 hc12
        refine am_iconst dX3_let_121 ?_
        refine am_goto (tgt := 126) dX3_let_122 (by decide) ?_
        exact am_iret rfl dX3_let_126 (Nat.le_refl 0) (Nat.le_refl 0) hh
    · have hh := hb8 hc9
      refine am_iload dX3_let_79 3 rfl ?_
      obtain ⟨ha13, hb14⟩ := hh
      refine am_ifB_eq (tgt := 107) dX3_let_81 (by decide) (fun hc15 => ?_) (fun hc15 => ?_)
      · have hh := ha13 hc15
        refine am_iconst dX3_let_107 ?_
        refine am_istore dX3_let_108 (by decide) rfl ?_
        refine am_iinc (n := 4) dX3_let_110 rfl (by decide) rfl ?_
        refine am_goto (tgt := 66) dX3_let_113 (by decide) ?_
        refine am_keep [2, 3, 4, 1, 0] rfl ?_
        exact hh
      · have hh := hb14 hc15
        refine am_iload_n dX3_let_84 rfl 2 rfl ?_
        refine am_iload dX3_let_85 4 rfl ?_
        refine am_rSz (n := 2) hh dX3_let_87 (lw_S q1549 q1550 q96 q1551) ⟨⟨by decide, by decide, by decide +kernel⟩, ⟨Nat.le_of_ble_eq_true rfl, Nat.le_of_ble_eq_true rfl⟩⟩ ⟨rfl, rfl⟩ rfl rfl (Nat.le_of_ble_eq_true rfl) ⟨(Nat.le_refl 0), (Nat.le_refl 0)⟩ (fun b17 S16 hh => ?_)
        obtain ⟨ha18, hb19⟩ := hh
        refine am_ifB_eq (tgt := 103) dX3_let_90 (by decide) (fun hc20 => ?_) (fun hc20 => ?_)
        · have hh := ha18 hc20
          refine am_iconst dX3_let_103 ?_
          refine am_goto (tgt := 108) dX3_let_104 (by decide) ?_
          refine am_istore dX3_let_108 (by decide) rfl ?_
          refine am_iinc (n := 4) dX3_let_110 rfl (by decide) rfl ?_
          refine am_goto (tgt := 66) dX3_let_113 (by decide) ?_
          refine am_keep [2, 3, 4, 1, 0] rfl ?_
          exact hh
        · have hh := hb19 hc20
          refine am_aload_n dX3_let_93 rfl 0 rfl ?_
          refine am_iload_n dX3_let_94 rfl 1 rfl ?_
          refine am_iload dX3_let_95 4 rfl ?_
          refine am_rVz (n := 2) hh dX3_let_97 (lw_V q1834 q1836 qs83 q96 q1837) rfl ⟨⟨by decide, by decide, by decide +kernel⟩, ⟨Nat.le_of_ble_eq_true rfl, Nat.le_of_ble_eq_true rfl⟩⟩ ⟨rfl, rfl⟩ rfl rfl (Nat.le_of_ble_eq_true rfl) ⟨(Nat.le_refl 0), (Nat.le_refl 0)⟩ (am_mrecv _) (fun b22 S21 hh => ?_)
          obtain ⟨ha23, hb24⟩ := hh
          refine am_ifB_eq (tgt := 107) dX3_let_100 (by decide) (fun hc25 => ?_) (fun hc25 => ?_)
          · have hh := ha23 hc25
            refine am_iconst dX3_let_107 ?_
            refine am_istore dX3_let_108 (by decide) rfl ?_
            refine am_iinc (n := 4) dX3_let_110 rfl (by decide) rfl ?_
            refine am_goto (tgt := 66) dX3_let_113 (by decide) ?_
            refine am_keep [2, 3, 4, 1, 0] rfl ?_
            exact hh
          · have hh := hb24 hc25
            refine am_iconst dX3_let_103 ?_
            refine am_goto (tgt := 108) dX3_let_104 (by decide) ?_
            refine am_istore dX3_let_108 (by decide) rfl ?_
            refine am_iinc (n := 4) dX3_let_110 rfl (by decide) rfl ?_
            refine am_goto (tgt := 66) dX3_let_113 (by decide) ?_
            refine am_keep [2, 3, 4, 1, 0] rfl ?_
            exact hh
