/-! TableArms.isDone(LTableArms$Table;II)Z -/
abbrev VX0_isDone (l : Launch) (Q : Option am_W → ah_H → Prop) (pc : Nat) (lv : List (Nat × am_W)) (st : List am_W) (S : ah_H) : Prop := am_V ah_r l RX0 cX0_isDone 4 (some .boolean) "isDone" (am_rm 5 0 0) (am_E1 ah_r 0 0 Q) pc lv st S 0 0
abbrev kX0_isDone (l : Launch) (as : List am_W) (S : ah_H) (Q : Option am_W → ah_H → Prop) : Prop := am_C ah_r l yX0_isDone (ws_ yX0_isDone cX0_isDone 4 (some .boolean)) (am_rm 5 0 0) 0 0 as S Q
set_option maxHeartbeats 4000000 in
set_option maxRecDepth 100000 in
theorem bX0_isDone {l : Launch} {Q : Option am_W → ah_H → Prop} {S : ah_H} (v0 : Nat) (v1 : Nat) (v2 : Int) (h2 : am_r v2) (v3 : Int) (h3 : am_r v3)
    (hh : (∃ fs1, (S.1 v0 = some (.inl (1, fs1))) ∧
      kX0_isTo l [am_R v0, am_I v3] S (am_qz fun b4 G3 =>
        ((b4 = false) →
          Q (some (am_I (am_b false))) G3) ∧
        ((b4 = true) →
          (∃ fs8, (G3.1 v0 = some (.inl (1, fs8))) ∧
          kX0_can l [am_R v0, am_R v1, am_I v2, am_I v3] G3 (am_qz fun b11 G10 =>
            ((b11 = false) →
              Q (some (am_I (am_b false))) G10) ∧
            ((b11 = true) →
              (∃ fs15, (G10.1 v0 = some (.inl (1, fs15))) ∧
              kX0_isReached l [am_R v0, am_R v1, am_I 0, am_I v2, am_I v3] G10 (am_qz fun b18 G17 =>
                ((b18 = true) →
                  Q (some (am_I (am_b true))) G17) ∧
                ((b18 = false) →
                  (∃ fs22, (G17.1 v0 = some (.inl (1, fs22))) ∧
                  kX0_isReached l [am_R v0, am_R v1, am_I 1, am_I v2, am_I v3] G17 (am_qz fun b25 G24 =>
                    ((b25 = false) →
                      Q (some (am_I (am_b false))) G24) ∧
                    ((b25 = true) →
                      Q (some (am_I (am_b true))) G24))))))))))))) : kX0_isDone l [am_R v0, am_R v1, am_I v2, am_I v3] S Q := by
  refine am_entry (lv := [(0, am_R v0), (1, am_R v1), (2, am_I v2), (3, am_I v3)]) rfl rfl rfl (fun _ => rfl) (fun _ => Nat.le_of_ble_eq_true rfl) ?_
  refine am_aload_n dX0_isDone_0 rfl 0 rfl ?_
  refine am_iload_n dX0_isDone_1 rfl 3 rfl ?_
  obtain ⟨fs1, ho2, hh⟩ := hh
  refine am_rVz (n := 1) hh dX0_isDone_2 (lw_V q506 q508 qs6 q90 q509) rfl ⟨⟨by decide, by decide, by decide +kernel⟩, ⟨Nat.le_of_ble_eq_true rfl, Nat.le_of_ble_eq_true rfl⟩⟩ ⟨rfl, rfl⟩ rfl rfl (Nat.le_of_ble_eq_true rfl) ⟨(Nat.le_of_ble_eq_true rfl), (Nat.le_of_ble_eq_true rfl)⟩ (ah_recv ho2 rfl) (fun b4 G3 hh => ?_)
  obtain ⟨ha5, hb6⟩ := hh
  refine am_ifB_eq (tgt := 44) dX0_isDone_5 (by decide) (fun hc7 => ?_) (fun hc7 => ?_)
  · have hh := ha5 hc7
    refine am_iconst dX0_isDone_44 ?_
    exact am_zret (b := false) rfl dX0_isDone_45 (Nat.le_refl 0) (Nat.le_refl 0) hh
  · have hh := hb6 hc7
    refine am_aload_n dX0_isDone_8 rfl 0 rfl ?_
    refine am_aload_n dX0_isDone_9 rfl 1 rfl ?_
    refine am_iload_n dX0_isDone_10 rfl 2 rfl ?_
    refine am_iload_n dX0_isDone_11 rfl 3 rfl ?_
    obtain ⟨fs8, ho9, hh⟩ := hh
    refine am_rVz (n := 3) hh dX0_isDone_12 (lw_V q510 q512 qs7 q90 q513) rfl ⟨⟨by decide, by decide, by decide +kernel⟩, ⟨Nat.le_of_ble_eq_true rfl, Nat.le_of_ble_eq_true rfl⟩⟩ ⟨rfl, rfl⟩ rfl rfl (Nat.le_of_ble_eq_true rfl) ⟨(Nat.le_of_ble_eq_true rfl), (Nat.le_of_ble_eq_true rfl)⟩ (ah_recv ho9 rfl) (fun b11 G10 hh => ?_)
    obtain ⟨ha12, hb13⟩ := hh
    refine am_ifB_eq (tgt := 44) dX0_isDone_15 (by decide) (fun hc14 => ?_) (fun hc14 => ?_)
    · have hh := ha12 hc14
      refine am_iconst dX0_isDone_44 ?_
      exact am_zret (b := false) rfl dX0_isDone_45 (Nat.le_refl 0) (Nat.le_refl 0) hh
    · have hh := hb13 hc14
      refine am_aload_n dX0_isDone_18 rfl 0 rfl ?_
      refine am_aload_n dX0_isDone_19 rfl 1 rfl ?_
      refine am_iconst dX0_isDone_20 ?_
      refine am_iload_n dX0_isDone_21 rfl 2 rfl ?_
      refine am_iload_n dX0_isDone_22 rfl 3 rfl ?_
      obtain ⟨fs15, ho16, hh⟩ := hh
      refine am_rVz (n := 4) hh dX0_isDone_23 (lw_V q523 q525 qs8 q90 q526) rfl ⟨⟨by decide, by decide, by decide +kernel⟩, ⟨Nat.le_of_ble_eq_true rfl, Nat.le_of_ble_eq_true rfl⟩⟩ ⟨rfl, rfl⟩ rfl rfl (Nat.le_of_ble_eq_true rfl) ⟨(Nat.le_of_ble_eq_true rfl), (Nat.le_of_ble_eq_true rfl)⟩ (ah_recv ho16 rfl) (fun b18 G17 hh => ?_)
      obtain ⟨ha19, hb20⟩ := hh
      refine am_ifB_ne (tgt := 40) dX0_isDone_26 (by decide) (fun hc21 => ?_) (fun hc21 => ?_)
      · have hh := ha19 hc21
        refine am_iconst dX0_isDone_40 ?_
        refine am_goto (tgt := 45) dX0_isDone_41 (by decide) ?_
        exact am_zret (b := true) rfl dX0_isDone_45 (Nat.le_refl 0) (Nat.le_refl 0) hh
      · have hh := hb20 hc21
        refine am_aload_n dX0_isDone_29 rfl 0 rfl ?_
        refine am_aload_n dX0_isDone_30 rfl 1 rfl ?_
        refine am_iconst dX0_isDone_31 ?_
        refine am_iload_n dX0_isDone_32 rfl 2 rfl ?_
        refine am_iload_n dX0_isDone_33 rfl 3 rfl ?_
        obtain ⟨fs22, ho23, hh⟩ := hh
        refine am_rVz (n := 4) hh dX0_isDone_34 (lw_V q523 q525 qs8 q90 q526) rfl ⟨⟨by decide, by decide, by decide +kernel⟩, ⟨Nat.le_of_ble_eq_true rfl, Nat.le_of_ble_eq_true rfl⟩⟩ ⟨rfl, rfl⟩ rfl rfl (Nat.le_of_ble_eq_true rfl) ⟨(Nat.le_of_ble_eq_true rfl), (Nat.le_of_ble_eq_true rfl)⟩ (ah_recv ho23 rfl) (fun b25 G24 hh => ?_)
        obtain ⟨ha26, hb27⟩ := hh
        refine am_ifB_eq (tgt := 44) dX0_isDone_37 (by decide) (fun hc28 => ?_) (fun hc28 => ?_)
        · have hh := ha26 hc28
          refine am_iconst dX0_isDone_44 ?_
          exact am_zret (b := false) rfl dX0_isDone_45 (Nat.le_refl 0) (Nat.le_refl 0) hh
        · have hh := hb27 hc28
          refine am_iconst dX0_isDone_40 ?_
          refine am_goto (tgt := 45) dX0_isDone_41 (by decide) ?_
          exact am_zret (b := true) rfl dX0_isDone_45 (Nat.le_refl 0) (Nat.le_refl 0) hh
/-! TableArms.firstOf(LTableArms$Table;II)I -/
abbrev VX0_firstOf (l : Launch) (d : Nat) (Q : Option am_W → ah_H → Prop) (pc : Nat) (lv : List (Nat × am_W)) (st : List am_W) (S : ah_H) : Prop := am_V ah_r l RX0 cX0_firstOf 6 (some .int) "firstOf" (am_rm (d + 6) 0 0) (am_E1 ah_r 0 0 Q) pc lv st S 0 0
abbrev kX0_firstOf (l : Launch) (d : Nat) (as : List am_W) (S : ah_H) (Q : Option am_W → ah_H → Prop) : Prop := am_C ah_r l yX0_firstOf (ws_ yX0_firstOf cX0_firstOf 6 (some .int)) (am_rm (d + 6) 0 0) 0 0 as S Q
set_option maxHeartbeats 4000000 in
set_option maxRecDepth 100000 in
theorem bX0_firstOf {l : Launch} {d : Nat} {Q : Option am_W → ah_H → Prop} {S : ah_H} (v0 : Nat) (v1 : Nat) (v2 : Int) (h2 : am_r v2) (v3 : Int) (h3 : am_r v3)
    (hh : (∃ fs1, (S.1 v0 = some (.inl (1, fs1))) ∧
      (∃ x4, (fs1[8]? = some (am_R x4)) ∧
      (∃ n5 f6, (S.1 x4 = some (.inr (3, n5, .inr f6))) ∧
      (0 ≤ (v3 - 1) ∧ (v3 - 1) < (n5 : Int)) ∧
      (∃ y9, (f6 (v3 - 1).toNat = some y9) ∧
      VX0_firstOf l (d + 1) Q 13 [(0, am_R v0), (1, am_R v1), (2, am_I v2), (3, am_I v3), (4, am_R y9), (5, am_I 0)] [] S))))) : kX0_firstOf l (d + 1) [am_R v0, am_R v1, am_I v2, am_I v3] S Q := by
  refine am_entry (lv := [(0, am_R v0), (1, am_R v1), (2, am_I v2), (3, am_I v3)]) rfl rfl rfl (fun _ => rfl) (fun _ => Nat.le_of_ble_eq_true rfl) ?_
  refine am_aload_n dX0_firstOf_0 rfl 0 rfl ?_
  obtain ⟨fs1, ho2, hh⟩ := hh
  obtain ⟨x4, hv3, hh⟩ := hh
  refine ah_get ho2 hv3 rfl in_X0 (by decide) q222 (Or.inl rfl) dX0_firstOf_1 ?_
  refine am_iload_n dX0_firstOf_4 rfl 3 rfl ?_
  refine am_iconst dX0_firstOf_5 ?_
  refine am_isub dX0_firstOf_6 ?_
  obtain ⟨n5, f6, ha7, hh⟩ := hh
  obtain ⟨o8, hh⟩ := hh
  obtain ⟨y9, hy10, hh⟩ := hh
  refine ah_aald ha7 (by decide) o8.1 o8.2 hy10 dX0_firstOf_7 ?_
  refine am_astore dX0_firstOf_8 (by decide) rfl ?_
  refine am_iconst dX0_firstOf_10 ?_
  refine am_istore dX0_firstOf_11 (by decide) rfl ?_
  refine am_keep [2, 3, 4, 5, 1, 0] rfl ?_
  exact hh
set_option maxHeartbeats 4000000 in
set_option maxRecDepth 100000 in
theorem bX0_firstOf_13 {l : Launch} {d : Nat} {Q : Option am_W → ah_H → Prop} {S : ah_H} (v0 : Nat) (v1 : Nat) (v2 : Int) (h2 : am_r v2) (v3 : Int) (h3 : am_r v3) (v4 : Nat) (v5 : Int) (h5 : am_r v5)
    (hh : (∃ fs1, (S.1 v0 = some (.inl (1, fs1))) ∧
      (∃ z4, (fs1[1]? = some (am_I z4) ∧ am_r z4) ∧
      (am_r (16 * z4)) ∧
      (((16 * z4) ≤ v5) →
        Q (some (am_I (-1000000))) S) ∧
      ((¬ (16 * z4) ≤ v5) →
        (0 ≤ v5) ∧
        kX0_isDone l [am_R v0, am_R v1, am_I (v5 / 16), am_I (v5 % 16)] S (am_qz fun b12 G11 =>
          ((b12 = true) →
            (∃ fs16, (G11.1 v4 = some (.inl (2, fs16))) ∧
            kX1_lay l [am_R v4, am_R v1] G11 (am_qv fun G18 =>
              kX0_carry l [am_R v4, am_I (v5 / 16), am_I (v5 % 16)] G18 (am_qv fun G19 =>
                ((¬ v3 = 1) →
                  (∃ fs23, (G19.1 v0 = some (.inl (1, fs23))) ∧
                  kX0_firstOf l d [am_R v0, am_R v4, am_I v2, am_I (v3 - 1)] G19 (am_qi fun r26 G25 =>
                    ((r26 = (-1000000)) →
                      VX0_firstOf l (d + 1) Q 13 [(0, am_R v0), (1, am_R v1), (2, am_I v2), (3, am_I v3), (4, am_R v4), (5, am_I (v5 + 1))] [] G25) ∧
                    ((¬ r26 = (-1000000)) →
                      Q (some (am_I v5)) G25)))) ∧
                ((v3 = 1) →
                  (∃ fs31, (G19.1 v0 = some (.inl (1, fs31))) ∧
                  kX0_isEnd l [am_R v0, am_R v4, am_I v2] G19 (am_qz fun b34 G33 =>
                    ((b34 = false) →
                      VX0_firstOf l (d + 1) Q 13 [(0, am_R v0), (1, am_R v1), (2, am_I v2), (3, am_I v3), (4, am_R v4), (5, am_I (v5 + 1))] [] G33) ∧
                    ((b34 = true) →
                      Q (some (am_I v5)) G33)))))))) ∧
          ((b12 = false) →
            VX0_firstOf l (d + 1) Q 13 [(0, am_R v0), (1, am_R v1), (2, am_I v2), (3, am_I v3), (4, am_R v4), (5, am_I (v5 + 1))] [] G11)))))) : VX0_firstOf l (d + 1) Q 13 [(0, am_R v0), (1, am_R v1), (2, am_I v2), (3, am_I v3), (4, am_R v4), (5, am_I v5)] [] S := by
  refine am_iload dX0_firstOf_13 5 rfl ?_
  refine am_bipush dX0_firstOf_15 (by decide) ?_
  refine am_aload_n dX0_firstOf_17 rfl 0 rfl ?_
  obtain ⟨fs1, ho2, hh⟩ := hh
  obtain ⟨z4, ⟨hv3, hr5⟩, hh⟩ := hh
  refine ah_get ho2 hv3 rfl in_X0 (by decide) q210 (Or.inl rfl) dX0_firstOf_18 ?_
  refine am_imul dX0_firstOf_21 ?_
  obtain ⟨o6, hh⟩ := hh
  obtain ⟨ha7, hb8⟩ := hh
  refine am_icmp_ge (tgt := 109) dX0_firstOf_22 (by decide) h5 o6 (fun hc9 => ?_) (fun hc9 => ?_)
  · have hh := ha7 hc9
    refine am_ldc (z := -1000000) q472 (by decide) dX0_firstOf_109 ?_
    exact am_iret rfl dX0_firstOf_111 (Nat.le_refl 0) (Nat.le_refl 0) hh
  · have hh := hb8 hc9
    refine am_aload_n dX0_firstOf_25 rfl 0 rfl ?_
    refine am_aload_n dX0_firstOf_26 rfl 1 rfl ?_
    refine am_iload dX0_firstOf_27 5 rfl ?_
    refine am_bipush dX0_firstOf_29 (by decide) ?_
    obtain ⟨o10, hh⟩ := hh
    refine am_idiv dX0_firstOf_31 o10 (h5).2 (by decide) (by decide) ?_
    refine am_iload dX0_firstOf_32 5 rfl ?_
    refine am_bipush dX0_firstOf_34 (by decide) ?_
    refine am_irem dX0_firstOf_36 o10 (h5).2 (by decide) (by decide) ?_
    refine am_rVz (n := 3) hh dX0_firstOf_37 (lw_V q802 q804 qs24 q90 q805) rfl ⟨⟨by decide, by decide, by decide +kernel⟩, ⟨by simp only [am_rm]; omega, by simp only [am_rm]; omega⟩⟩ ⟨rfl, rfl⟩ rfl rfl (Nat.le_of_ble_eq_true rfl) ⟨(Nat.le_of_ble_eq_true rfl), (Nat.le_of_ble_eq_true rfl)⟩ (ah_recv ho2 rfl) (fun b12 G11 hh => ?_)
    obtain ⟨ha13, hb14⟩ := hh
    refine am_ifB_ne (tgt := 46) dX0_firstOf_40 (by decide) (fun hc15 => ?_) (fun hc15 => ?_)
    · have hh := ha13 hc15
      refine am_aload dX0_firstOf_46 4 rfl ?_
      refine am_aload_n dX0_firstOf_48 rfl 1 rfl ?_
      obtain ⟨fs16, ho17, hh⟩ := hh
      refine am_rVv (n := 1) hh dX0_firstOf_49 (lw_V q547 q548 q549 q91 q550) rfl ⟨⟨by decide, by decide, by decide +kernel⟩, ⟨by simp only [am_rm]; omega, by simp only [am_rm]; omega⟩⟩ ⟨rfl, rfl⟩ rfl rfl (Nat.le_of_ble_eq_true rfl) ⟨(Nat.le_of_ble_eq_true rfl), (Nat.le_of_ble_eq_true rfl)⟩ (ah_recv ho17 rfl) (fun G18 hh => ?_)
      refine am_aload dX0_firstOf_52 4 rfl ?_
      refine am_iload dX0_firstOf_54 5 rfl ?_
      refine am_bipush dX0_firstOf_56 (by decide) ?_
      refine am_idiv dX0_firstOf_58 o10 (h5).2 (by decide) (by decide) ?_
      refine am_iload dX0_firstOf_59 5 rfl ?_
      refine am_bipush dX0_firstOf_61 (by decide) ?_
      refine am_irem dX0_firstOf_63 o10 (h5).2 (by decide) (by decide) ?_
      refine am_rSv (n := 3) hh dX0_firstOf_64 (lw_S q528 q529 q90 q530) ⟨⟨by decide, by decide, by decide +kernel⟩, ⟨by simp only [am_rm]; omega, by simp only [am_rm]; omega⟩⟩ ⟨rfl, rfl⟩ rfl rfl (Nat.le_of_ble_eq_true rfl) ⟨(Nat.le_of_ble_eq_true rfl), (Nat.le_of_ble_eq_true rfl)⟩ (fun G19 hh => ?_)
      refine am_iload_n dX0_firstOf_67 rfl 3 rfl ?_
      refine am_iconst dX0_firstOf_68 ?_
      obtain ⟨ha20, hb21⟩ := hh
      refine am_icmp_ne (tgt := 85) dX0_firstOf_69 (by decide) h3 (⟨by decide, by decide⟩) (fun hc22 => ?_) (fun hc22 => ?_)
      · have hh := ha20 hc22
        refine am_aload_n dX0_firstOf_85 rfl 0 rfl ?_
        refine am_aload dX0_firstOf_86 4 rfl ?_
        refine am_iload_n dX0_firstOf_88 rfl 2 rfl ?_
        refine am_iload_n dX0_firstOf_89 rfl 3 rfl ?_
        refine am_iconst dX0_firstOf_90 ?_
        refine am_isub dX0_firstOf_91 ?_
        obtain ⟨fs23, ho24, hh⟩ := hh
        refine am_rVi (n := 3) hh dX0_firstOf_92 (lw_V q798 q800 qs23 q90 q801) rfl ⟨⟨by decide, by decide, by decide +kernel⟩, ⟨by simp only [am_rm]; omega, by simp only [am_rm]; omega⟩⟩ ⟨rfl, rfl⟩ rfl rfl (Nat.le_of_ble_eq_true rfl) ⟨(Nat.le_of_ble_eq_true rfl), (Nat.le_of_ble_eq_true rfl)⟩ (ah_recv ho24 rfl) (fun r26 G25 hr27 hh => ?_)
        refine am_ldc (z := -1000000) q472 (by decide) dX0_firstOf_95 ?_
        obtain ⟨ha28, hb29⟩ := hh
        refine am_icmp_eq (tgt := 103) dX0_firstOf_97 (by decide) hr27 (⟨by decide, by decide⟩) (fun hc30 => ?_) (fun hc30 => ?_)
        · have hh := ha28 hc30
          refine am_iinc (n := 5) dX0_firstOf_103 rfl (by decide) rfl ?_
          refine am_goto (tgt := 13) dX0_firstOf_106 (by decide) ?_
          refine am_keep [1, 2, 3, 4, 5, 0] rfl ?_
          exact hh
        · have hh := hb29 hc30
          refine am_iload dX0_firstOf_100 5 rfl ?_
          exact am_iret rfl dX0_firstOf_102 (Nat.le_refl 0) (Nat.le_refl 0) hh
      · have hh := hb21 hc22
        refine am_aload_n dX0_firstOf_72 rfl 0 rfl ?_
        refine am_aload dX0_firstOf_73 4 rfl ?_
        refine am_iload_n dX0_firstOf_75 rfl 2 rfl ?_
        obtain ⟨fs31, ho32, hh⟩ := hh
        refine am_rVz (n := 2) hh dX0_firstOf_76 (lw_V q794 q796 qs22 q90 q797) rfl ⟨⟨by decide, by decide, by decide +kernel⟩, ⟨by simp only [am_rm]; omega, by simp only [am_rm]; omega⟩⟩ ⟨rfl, rfl⟩ rfl rfl (Nat.le_of_ble_eq_true rfl) ⟨(Nat.le_of_ble_eq_true rfl), (Nat.le_of_ble_eq_true rfl)⟩ (ah_recv ho32 rfl) (fun b34 G33 hh => ?_)
        obtain ⟨ha35, hb36⟩ := hh
        refine am_ifB_eq (tgt := 103) dX0_firstOf_79 (by decide) (fun hc37 => ?_) (fun hc37 => ?_)
        · have hh := ha35 hc37
          refine am_iinc (n := 5) dX0_firstOf_103 rfl (by decide) rfl ?_
          refine am_goto (tgt := 13) dX0_firstOf_106 (by decide) ?_
          refine am_keep [1, 2, 3, 4, 5, 0] rfl ?_
          exact hh
        · have hh := hb36 hc37
          refine am_goto (tgt := 100) dX0_firstOf_82 (by decide) ?_
          refine am_iload dX0_firstOf_100 5 rfl ?_
          exact am_iret rfl dX0_firstOf_102 (Nat.le_refl 0) (Nat.le_refl 0) hh
    · have hh := hb14 hc15
      refine am_goto (tgt := 103) dX0_firstOf_43 (by decide) ?_
      refine am_iinc (n := 5) dX0_firstOf_103 rfl (by decide) rfl ?_
      refine am_goto (tgt := 13) dX0_firstOf_106 (by decide) ?_
      refine am_keep [1, 2, 3, 4, 5, 0] rfl ?_
      exact hh
/-! TableArms.plan(II)I -/
abbrev VX0_plan (l : Launch) (Q : Option am_W → ah_H → Prop) (pc : Nat) (lv : List (Nat × am_W)) (st : List am_W) (S : ah_H) : Prop := am_V ah_r l RX0 cX0_plan 5 (some .int) "plan" (am_rm 9 0 0) (am_E1 ah_r 0 0 Q) pc lv st S 0 0
abbrev kX0_plan (l : Launch) (as : List am_W) (S : ah_H) (Q : Option am_W → ah_H → Prop) : Prop := am_C ah_r l yX0_plan (ws_ yX0_plan cX0_plan 5 (some .int)) (am_rm 9 0 0) 0 0 as S Q
set_option maxHeartbeats 4000000 in
set_option maxRecDepth 100000 in
theorem bX0_plan {l : Launch} {Q : Option am_W → ah_H → Prop} {S : ah_H} (v0 : Nat) (v1 : Int) (h1 : am_r v1) (v2 : Int) (h2 : am_r v2)
    (hh : kX0_isOrder l [am_I v1] S (am_qz fun b2 G1 =>
        ((b2 = false) →
          Q (some (am_I (-1000001))) G1) ∧
        ((b2 = true) →
          kX0_isIn l [am_J v2, am_J 0, am_J 1] G1 (am_qz fun b7 G6 =>
            ((b7 = true) →
              (∃ fs11, (G6.1 v0 = some (.inl (1, fs11))) ∧
              (∃ x14, (fs11[4]? = some (am_R x14)) ∧
              kX0_isEnd l [am_R v0, am_R x14, am_I v1] G6 (am_qz fun b16 G15 =>
                ((b16 = false) →
                  VX0_plan l Q 45 [(0, am_R v0), (1, am_I v1), (2, am_I v2), (3, am_I 1)] [] G15) ∧
                ((b16 = true) →
                  ((¬ v2 = 0) →
                    Q (some (am_I (-1000000))) G15) ∧
                  ((v2 = 0) →
                    Q (some (am_I 0)) G15)))))) ∧
            ((b7 = false) →
              Q (some (am_I (-1000001))) G6))))) : kX0_plan l [am_R v0, am_I v1, am_I v2] S Q := by
  refine am_entry (lv := [(0, am_R v0), (1, am_I v1), (2, am_I v2)]) rfl rfl rfl (fun _ => rfl) (fun _ => Nat.le_of_ble_eq_true rfl) ?_
  refine am_iload_n dX0_plan_0 rfl 1 rfl ?_
  refine am_rSz (n := 1) hh dX0_plan_1 (lw_S q572 q573 q90 q574) ⟨⟨by decide, by decide, by decide +kernel⟩, ⟨Nat.le_of_ble_eq_true rfl, Nat.le_of_ble_eq_true rfl⟩⟩ ⟨rfl, rfl⟩ rfl rfl (Nat.le_of_ble_eq_true rfl) ⟨(Nat.le_of_ble_eq_true rfl), (Nat.le_of_ble_eq_true rfl)⟩ (fun b2 G1 hh => ?_)
  obtain ⟨ha3, hb4⟩ := hh
  refine am_ifB_eq (tgt := 17) dX0_plan_4 (by decide) (fun hc5 => ?_) (fun hc5 => ?_)
  · have hh := ha3 hc5
    refine am_ldc (z := -1000001) q289 (by decide) dX0_plan_17 ?_
    exact am_iret rfl dX0_plan_19 (Nat.le_refl 0) (Nat.le_refl 0) hh
  · have hh := hb4 hc5
    refine am_iload_n dX0_plan_7 rfl 2 rfl ?_
    refine am_i2l_ h2 dX0_plan_8 ?_
    refine am_lconst (z := 0) dX0_plan_9 (by decide) ?_
    refine am_lconst (z := 1) dX0_plan_10 (by decide) ?_
    refine am_rSz (n := 3) hh dX0_plan_11 (lw_S q285 q286 q90 q287) ⟨⟨by decide, by decide, by decide +kernel⟩, ⟨Nat.le_of_ble_eq_true rfl, Nat.le_of_ble_eq_true rfl⟩⟩ ⟨rfl, rfl⟩ rfl rfl (Nat.le_of_ble_eq_true rfl) ⟨(Nat.le_of_ble_eq_true rfl), (Nat.le_of_ble_eq_true rfl)⟩ (fun b7 G6 hh => ?_)
    obtain ⟨ha8, hb9⟩ := hh
    refine am_ifB_ne (tgt := 20) dX0_plan_14 (by decide) (fun hc10 => ?_) (fun hc10 => ?_)
    · have hh := ha8 hc10
      refine am_aload_n dX0_plan_20 rfl 0 rfl ?_
      refine am_aload_n dX0_plan_21 rfl 0 rfl ?_
      obtain ⟨fs11, ho12, hh⟩ := hh
      obtain ⟨x14, hv13, hh⟩ := hh
      refine ah_get ho12 hv13 rfl in_X0 (by decide) q215 (Or.inl rfl) dX0_plan_22 ?_
      refine am_iload_n dX0_plan_25 rfl 1 rfl ?_
      refine am_rVz (n := 2) hh dX0_plan_26 (lw_V q794 q796 qs22 q90 q797) rfl ⟨⟨by decide, by decide, by decide +kernel⟩, ⟨Nat.le_of_ble_eq_true rfl, Nat.le_of_ble_eq_true rfl⟩⟩ ⟨rfl, rfl⟩ rfl rfl (Nat.le_of_ble_eq_true rfl) ⟨(Nat.le_of_ble_eq_true rfl), (Nat.le_of_ble_eq_true rfl)⟩ (ah_recv ho12 rfl) (fun b16 G15 hh => ?_)
      obtain ⟨ha17, hb18⟩ := hh
      refine am_ifB_eq (tgt := 43) dX0_plan_29 (by decide) (fun hc19 => ?_) (fun hc19 => ?_)
      · have hh := ha17 hc19
        refine am_iconst dX0_plan_43 ?_
        refine am_istore_n dX0_plan_44 rfl (by decide) rfl ?_
        refine am_keep [1, 2, 3, 0] rfl ?_
        exact hh
      · have hh := hb18 hc19
        refine am_iload_n dX0_plan_32 rfl 2 rfl ?_
        obtain ⟨ha20, hb21⟩ := hh
        refine am_if_ne (tgt := 40) dX0_plan_33 (by decide) h2 (fun hc22 => ?_) (fun hc22 => ?_)
        · have hh := ha20 hc22
          refine am_ldc (z := -1000000) q472 (by decide) dX0_plan_40 ?_
          exact am_iret rfl dX0_plan_42 (Nat.le_refl 0) (Nat.le_refl 0) hh
        · have hh := hb21 hc22
          refine am_iconst dX0_plan_36 ?_
          refine am_goto (tgt := 42) dX0_plan_37 (by decide) ?_
          exact am_iret rfl dX0_plan_42 (Nat.le_refl 0) (Nat.le_refl 0) hh
    · have hh := hb9 hc10
      refine am_ldc (z := -1000001) q289 (by decide) dX0_plan_17 ?_
      exact am_iret rfl dX0_plan_19 (Nat.le_refl 0) (Nat.le_refl 0) hh
set_option maxHeartbeats 4000000 in
set_option maxRecDepth 100000 in
theorem bX0_plan_45 {l : Launch} {Q : Option am_W → ah_H → Prop} {S : ah_H} (v0 : Nat) (v1 : Int) (h1 : am_r v1) (v2 : Int) (h2 : am_r v2) (v3 : Int) (h3 : am_r v3)
    (hh : ((2 < v3) →
        Q (some (am_I (-1000000))) S) ∧
      ((¬ 2 < v3) →
        (∃ fs4, (S.1 v0 = some (.inl (1, fs4))) ∧
        (∃ x7, (fs4[4]? = some (am_R x7)) ∧
        kX0_firstOf l 2 [am_R v0, am_R x7, am_I v1, am_I v3] S (am_qi fun r9 G8 =>
          ((r9 = (-1000000)) →
            VX0_plan l Q 45 [(0, am_R v0), (1, am_I v1), (2, am_I v2), (3, am_I (v3 + 1))] [] G8) ∧
          ((¬ r9 = (-1000000)) →
            ((¬ v2 = 0) →
              Q (some (am_I r9)) G8) ∧
            ((v2 = 0) →
              Q (some (am_I v3)) G8))))))) : VX0_plan l Q 45 [(0, am_R v0), (1, am_I v1), (2, am_I v2), (3, am_I v3)] [] S := by
  refine am_iload_n dX0_plan_45 rfl 3 rfl ?_
  refine am_iconst dX0_plan_46 ?_
  obtain ⟨ha1, hb2⟩ := hh
  refine am_icmp_gt (tgt := 86) dX0_plan_47 (by decide) h3 (⟨by decide, by decide⟩) (fun hc3 => ?_) (fun hc3 => ?_)
  · have hh := ha1 hc3
    refine am_ldc (z := -1000000) q472 (by decide) dX0_plan_86 ?_
    exact am_iret rfl dX0_plan_88 (Nat.le_refl 0) (Nat.le_refl 0) hh
  · have hh := hb2 hc3
    refine am_aload_n dX0_plan_50 rfl 0 rfl ?_
    refine am_aload_n dX0_plan_51 rfl 0 rfl ?_
    obtain ⟨fs4, ho5, hh⟩ := hh
    obtain ⟨x7, hv6, hh⟩ := hh
    refine ah_get ho5 hv6 rfl in_X0 (by decide) q215 (Or.inl rfl) dX0_plan_52 ?_
    refine am_iload_n dX0_plan_55 rfl 1 rfl ?_
    refine am_iload_n dX0_plan_56 rfl 3 rfl ?_
    refine am_rVi (n := 3) hh dX0_plan_57 (lw_V q798 q800 qs23 q90 q801) rfl ⟨⟨by decide, by decide, by decide +kernel⟩, ⟨Nat.le_of_ble_eq_true rfl, Nat.le_of_ble_eq_true rfl⟩⟩ ⟨rfl, rfl⟩ rfl rfl (Nat.le_of_ble_eq_true rfl) ⟨(Nat.le_of_ble_eq_true rfl), (Nat.le_of_ble_eq_true rfl)⟩ (ah_recv ho5 rfl) (fun r9 G8 hr10 hh => ?_)
    refine am_istore dX0_plan_60 (by decide) rfl ?_
    refine am_iload dX0_plan_62 0 rfl ?_
    refine am_ldc (z := -1000000) q472 (by decide) dX0_plan_64 ?_
    obtain ⟨ha11, hb12⟩ := hh
    refine am_icmp_eq (tgt := 80) dX0_plan_66 (by decide) hr10 (⟨by decide, by decide⟩) (fun hc13 => ?_) (fun hc13 => ?_)
    · have hh := ha11 hc13
      refine am_iinc (n := 4) dX0_plan_80 rfl (by decide) rfl ?_
      refine am_goto (tgt := 45) dX0_plan_83 (by decide) ?_
      refine am_keep [2, 3, 4, 0] rfl ?_
      exact hh
    · have hh := hb12 hc13
      refine am_iload_n dX0_plan_69 rfl 3 rfl ?_
      obtain ⟨ha14, hb15⟩ := hh
      refine am_if_ne (tgt := 77) dX0_plan_70 (by decide) h2 (fun hc16 => ?_) (fun hc16 => ?_)
      · have hh := ha14 hc16
        refine am_iload dX0_plan_77 0 rfl ?_
        exact am_iret rfl dX0_plan_79 (Nat.le_refl 0) (Nat.le_refl 0) hh
      · have hh := hb15 hc16
        refine am_iload_n dX0_plan_73 rfl 4 rfl ?_
        refine am_goto (tgt := 79) dX0_plan_74 (by decide) ?_
        exact am_iret rfl dX0_plan_79 (Nat.le_refl 0) (Nat.le_refl 0) hh
/-! TableArms.feed(JI)I -/
abbrev VX0_feed (l : Launch) (Q : Option am_W → ah_H → Prop) (pc : Nat) (lv : List (Nat × am_W)) (st : List am_W) (S : ah_H) : Prop := am_V ah_r l RX0 cX0_feed 5 (some .int) "feed" (am_rm 2 0 0) (am_E1 ah_r 0 0 Q) pc lv st S 0 0
abbrev kX0_feed (l : Launch) (as : List am_W) (S : ah_H) (Q : Option am_W → ah_H → Prop) : Prop := am_C ah_r l yX0_feed (ws_ yX0_feed cX0_feed 5 (some .int)) (am_rm 2 0 0) 0 0 as S Q
set_option maxHeartbeats 4000000 in
set_option maxRecDepth 100000 in
theorem bX0_feed {l : Launch} {Q : Option am_W → ah_H → Prop} {S : ah_H} (v0 : Nat) (v1 : Int) (h1 : am_r64 v1) (v3 : Int) (h3 : am_r v3)
    (hh : kX0_isIn l [am_J v3, am_J 1, am_J 8] S (am_qz fun b2 G1 =>
        ((b2 = true) →
          (∃ fs6, (G1.1 v0 = some (.inl (1, fs6))) ∧
          (∃ z9, (fs6[13]? = some (am_I z9) ∧ am_r z9) ∧
          (am_r (z9 + v3)) ∧
          (((z9 + v3) ≤ 300) →
            VX0_feed l Q 35 [(0, am_R v0), (1, am_J v1), (4, am_I (v3 - 1))] [] G1) ∧
          ((¬ (z9 + v3) ≤ 300) →
            Q (some (am_I (-1000003))) G1)))) ∧
        ((b2 = false) →
          Q (some (am_I (-1000001))) G1))) : kX0_feed l [am_R v0, am_J v1, am_I v3] S Q := by
  refine am_entry (lv := [(0, am_R v0), (1, am_J v1), (3, am_I v3)]) rfl rfl rfl (fun _ => rfl) (fun _ => Nat.le_of_ble_eq_true rfl) ?_
  refine am_iload_n dX0_feed_0 rfl 2 rfl ?_
  refine am_i2l_ h3 dX0_feed_1 ?_
  refine am_lconst (z := 1) dX0_feed_2 (by decide) ?_
  refine am_ldc2 (z := 8) q810 (by decide) dX0_feed_3 ?_
  refine am_rSz (n := 3) hh dX0_feed_6 (lw_S q285 q286 q90 q287) ⟨⟨by decide, by decide, by decide +kernel⟩, ⟨Nat.le_of_ble_eq_true rfl, Nat.le_of_ble_eq_true rfl⟩⟩ ⟨rfl, rfl⟩ rfl rfl (Nat.le_of_ble_eq_true rfl) ⟨(Nat.le_of_ble_eq_true rfl), (Nat.le_of_ble_eq_true rfl)⟩ (fun b2 G1 hh => ?_)
  obtain ⟨ha3, hb4⟩ := hh
  refine am_ifB_ne (tgt := 15) dX0_feed_9 (by decide) (fun hc5 => ?_) (fun hc5 => ?_)
  · have hh := ha3 hc5
    refine am_aload_n dX0_feed_15 rfl 0 rfl ?_
    obtain ⟨fs6, ho7, hh⟩ := hh
    obtain ⟨z9, ⟨hv8, hr10⟩, hh⟩ := hh
    refine ah_get ho7 hv8 rfl in_X0 (by decide) q227 (Or.inl rfl) dX0_feed_16 ?_
    refine am_iload_n dX0_feed_19 rfl 2 rfl ?_
    refine am_iadd dX0_feed_20 ?_
    refine am_sipush dX0_feed_21 (by decide) ?_
    obtain ⟨o11, hh⟩ := hh
    obtain ⟨ha12, hb13⟩ := hh
    refine am_icmp_le (tgt := 30) dX0_feed_24 (by decide) o11 (⟨by decide, by decide⟩) (fun hc14 => ?_) (fun hc14 => ?_)
    · have hh := ha12 hc14
      refine am_iload_n dX0_feed_30 rfl 2 rfl ?_
      refine am_iconst dX0_feed_31 ?_
      refine am_isub dX0_feed_32 ?_
      refine am_istore dX0_feed_33 (by decide) rfl ?_
      refine am_keep [1, 2, 0] rfl ?_
      exact hh
    · have hh := hb13 hc14
      refine am_ldc (z := -1000003) q450 (by decide) dX0_feed_27 ?_
      exact am_iret rfl dX0_feed_29 (Nat.le_refl 0) (Nat.le_refl 0) hh
  · have hh := hb4 hc5
    refine am_ldc (z := -1000001) q289 (by decide) dX0_feed_12 ?_
    exact am_iret rfl dX0_feed_14 (Nat.le_refl 0) (Nat.le_refl 0) hh
set_option maxHeartbeats 4000000 in
set_option maxRecDepth 100000 in
theorem bX0_feed_35 {l : Launch} {Q : Option am_W → ah_H → Prop} {S : ah_H} (v0 : Nat) (v1 : Int) (h1 : am_r64 v1) (v4 : Int) (h4 : am_r v4)
    (hh : ((v4 < 0) →
        (∃ fs4, (S.1 v0 = some (.inl (1, fs4))) ∧
        (∃ z7, (fs4[13]? = some (am_I z7) ∧ am_r z7) ∧
        Q (some (am_I z7)) S))) ∧
      ((¬ v4 < 0) →
        (∃ fs9, (S.1 v0 = some (.inl (1, fs9))) ∧
        (∃ x12, (fs9[12]? = some (am_R x12)) ∧
        (∃ z14, (fs9[13]? = some (am_I z14) ∧ am_r z14) ∧
        (ah_X ≤ v0) ∧
        (13 < fs9.length) ∧
        (∀ G18, G18 = ah_sf S v0 1 fs9 13 (am_I (z14 + 1)) →
        (∃ n20 f21, (G18.1 x12 = some (.inr (2, n20, .inl f21))) ∧
        (ah_X ≤ x12) ∧
        (0 ≤ z14 ∧ z14 < (n20 : Int)) ∧
        (∀ G25, G25 = ah_si G18 x12 2 n20 f21 z14 (vp_nar .byte (Int32.ofInt (am_i2b (am_l2i (am_lshr v1 (8 * v4)))))) →
        VX0_feed l Q 35 [(0, am_R v0), (1, am_J v1), (4, am_I (v4 + (-1)))] [] G25)))))))) : VX0_feed l Q 35 [(0, am_R v0), (1, am_J v1), (4, am_I v4)] [] S := by
  refine am_iload dX0_feed_35 2 rfl ?_
  obtain ⟨ha1, hb2⟩ := hh
  refine am_if_lt (tgt := 71) dX0_feed_37 (by decide) h4 (fun hc3 => ?_) (fun hc3 => ?_)
  · have hh := ha1 hc3
    refine am_aload_n dX0_feed_71 rfl 0 rfl ?_
    obtain ⟨fs4, ho5, hh⟩ := hh
    obtain ⟨z7, ⟨hv6, hr8⟩, hh⟩ := hh
    refine ah_get ho5 hv6 rfl in_X0 (by decide) q227 (Or.inl rfl) dX0_feed_72 ?_
    exact am_iret rfl dX0_feed_75 (Nat.le_refl 0) (Nat.le_refl 0) hh
  · have hh := hb2 hc3
    refine am_aload_n dX0_feed_40 rfl 0 rfl ?_
    obtain ⟨fs9, ho10, hh⟩ := hh
    obtain ⟨x12, hv11, hh⟩ := hh
    refine ah_get ho10 hv11 rfl in_X0 (by decide) q226 (Or.inl rfl) dX0_feed_41 ?_
    refine am_aload_n dX0_feed_44 rfl 0 rfl ?_
    refine am_dup dX0_feed_45 rfl ?_
    obtain ⟨z14, ⟨hv13, hr15⟩, hh⟩ := hh
    refine ah_get ho10 hv13 rfl in_X0 (by decide) q227 (Or.inl rfl) dX0_feed_46 ?_
    refine am_dup_x1 dX0_feed_49 rfl rfl ?_
    refine am_iconst dX0_feed_50 ?_
    refine am_iadd dX0_feed_51 ?_
    obtain ⟨o16, hh⟩ := hh
    obtain ⟨o17, hh⟩ := hh
    refine ah_put (ty := tyX0 13) ho10 o16 o17 rfl in_X0 tyX0 tyX0_ok nmX0 (by decide) q227 (Or.inl rfl) rfl (tyX0_ok 13 (by decide)) ah_fit_int dX0_feed_52 ?_
    have hh := hh _ rfl
    refine am_lload_n dX0_feed_55 rfl 1 rfl ?_
    refine am_bipush dX0_feed_56 (by decide) ?_
    refine am_iload dX0_feed_58 2 rfl ?_
    refine am_imul dX0_feed_60 ?_
    refine am_lshr_ dX0_feed_61 ?_
    refine am_l2i_ dX0_feed_62 ?_
    refine am_i2b_ dX0_feed_63 ?_
    obtain ⟨n20, f21, ha22, hh⟩ := hh
    obtain ⟨o23, hh⟩ := hh
    obtain ⟨o24, hh⟩ := hh
    refine ah_bast ha22 o23 o24.1 o24.2 dX0_feed_64 ?_
    have hh := hh _ rfl
    refine am_iinc (n := 2) dX0_feed_65 rfl (by decide) rfl ?_
    refine am_goto (tgt := 35) dX0_feed_68 (by decide) ?_
    refine am_keep [1, 2, 0] rfl ?_
    exact hh
/-! TableArms$Reader.<init>([BII)V -/
abbrev VX7_init (l : Launch) (mc ms : Nat) (Q : Option am_W → ah_H → Prop) (pc : Nat) (lv : List (Nat × am_W)) (st : List am_W) (S : ah_H) (cells slots : Nat) : Prop := am_V ah_r l RX7 cX7_init 4 none "<init>" (am_rm 5 mc ms) (am_E1 ah_r mc ms Q) pc lv st S cells slots
abbrev kX7_init (l : Launch) (mc ms : Nat) (as : List am_W) (S : ah_H) (Q : Option am_W → ah_H → Prop) : Prop := am_C ah_r l yX7_init (ws_ yX7_init cX7_init 4 none) (am_rm 5 mc ms) mc ms as S Q
set_option maxHeartbeats 4000000 in
set_option maxRecDepth 100000 in
theorem bX7_init {l : Launch} {mc ms : Nat} {Q : Option am_W → ah_H → Prop} {S : ah_H} (v0 : Nat) (v1 : Nat) (v2 : Int) (h2 : am_r v2) (v3 : Int) (h3 : am_r v3)
    (hh : (∃ fs1, (S.1 v0 = some (.inl (7, fs1))) ∧
      (ah_X ≤ v0) ∧
      (7 < fs1.length) ∧
      (∀ G5, G5 = ah_sf S v0 7 fs1 7 (am_R 12) →
      (1 ≤ mc) ∧
      (3 ≤ ms) ∧
      (∀ G9, G9 = ah_mk G5 (.inl (15, ah_dJ2)) →
      kJ2_init l [am_R G5.2] G9 (am_qv fun G11 =>
        (∃ fs12, (G11.1 v0 = some (.inl (7, fs12))) ∧
        (8 < fs12.length) ∧
        (∀ G15, G15 = ah_sf G11 v0 7 fs12 8 (am_R G5.2) →
        (∃ fs17, (G15.1 v0 = some (.inl (7, fs17))) ∧
        (0 < fs17.length) ∧
        (∀ G20, G20 = ah_sf G15 v0 7 fs17 0 (am_R v1) →
        (∃ fs22, (G20.1 v0 = some (.inl (7, fs22))) ∧
        (1 < fs22.length) ∧
        (∀ G25, G25 = ah_sf G20 v0 7 fs22 1 (am_I v2) →
        (∃ fs27, (G25.1 v0 = some (.inl (7, fs27))) ∧
        (2 < fs27.length) ∧
        (∀ G30, G30 = ah_sf G25 v0 7 fs27 2 (am_I v3) →
        Q none G30))))))))))))) : kX7_init l mc ms [am_R v0, am_R v1, am_I v2, am_I v3] S Q := by
  refine am_entry (lv := [(0, am_R v0), (1, am_R v1), (2, am_I v2), (3, am_I v3)]) rfl rfl rfl (fun _ => rfl) (fun _ => Nat.le_of_ble_eq_true rfl) ?_
  refine am_aload_n dX7_init_0 rfl 0 rfl ?_
  refine am_objInit q821 q133 q134 dX7_init_1 (Nat.le_of_ble_eq_true rfl) (Nat.le_of_ble_eq_true rfl) ?_
  refine am_aload_n dX7_init_4 rfl 0 rfl ?_
  refine ah_ldcS (List.mem_of_getElem? (i := 0) rfl) dX7_init_5 ?_
  obtain ⟨fs1, ho2, hh⟩ := hh
  obtain ⟨o3, hh⟩ := hh
  obtain ⟨o4, hh⟩ := hh
  refine ah_put (ty := tyX7 7) ho2 o3 o4 rfl in_X7 tyX7 tyX7_ok nmX7 (by decide) q832 (Or.inl rfl) rfl (tyX7_ok 7 (by decide)) (ah_fit_ref (Or.inl ⟨_, rfl⟩)) dX7_init_7 ?_
  have hh := hh _ rfl
  refine am_aload_n dX7_init_10 rfl 0 rfl ?_
  obtain ⟨o7, hh⟩ := hh
  obtain ⟨o8, hh⟩ := hh
  refine ah_new (ci := 15) (fs := ah_dJ2) tyJ2 rfl in_J2 tyJ2_ok q823 q168 q94 ah_dJ2_ok o7 o8 dX7_init_11 ?_
  have hh := hh _ rfl
  refine am_dup dX7_init_14 rfl ?_
  refine am_rIv (n := 0) hh dX7_init_15 q824 q170 q94 q171 rfl ⟨⟨by decide, by decide, by decide +kernel⟩, ⟨Nat.le_of_ble_eq_true rfl, Nat.le_of_ble_eq_true rfl⟩⟩ ⟨rfl, rfl⟩ rfl rfl (Nat.le_of_ble_eq_true rfl) ⟨o7, o8⟩ (fun G11 hh => ?_)
  obtain ⟨fs12, ho13, hh⟩ := hh
  obtain ⟨o14, hh⟩ := hh
  refine ah_putF (ty := tyX7 8) ho13 o3 o14 rfl in_X7 tyX7 tyX7_ok nmX7 (by decide) q833 rfl rfl rfl (tyX7_ok 8 (by decide)) (ah_fit_ref (Or.inl ⟨_, rfl⟩)) dX7_init_18 ?_
  have hh := hh _ rfl
  refine am_aload_n dX7_init_21 rfl 0 rfl ?_
  refine am_aload_n dX7_init_22 rfl 1 rfl ?_
  obtain ⟨fs17, ho18, hh⟩ := hh
  obtain ⟨o19, hh⟩ := hh
  refine ah_putF (ty := tyX7 0) ho18 o3 o19 rfl in_X7 tyX7 tyX7_ok nmX7 (by decide) q825 rfl rfl rfl (tyX7_ok 0 (by decide)) (ah_fit_ref (Or.inr ⟨_, rfl⟩)) dX7_init_23 ?_
  have hh := hh _ rfl
  refine am_aload_n dX7_init_26 rfl 0 rfl ?_
  refine am_iload_n dX7_init_27 rfl 2 rfl ?_
  obtain ⟨fs22, ho23, hh⟩ := hh
  obtain ⟨o24, hh⟩ := hh
  refine ah_putF (ty := tyX7 1) ho23 o3 o24 rfl in_X7 tyX7 tyX7_ok nmX7 (by decide) q826 rfl rfl rfl (tyX7_ok 1 (by decide)) ah_fit_int dX7_init_28 ?_
  have hh := hh _ rfl
  refine am_aload_n dX7_init_31 rfl 0 rfl ?_
  refine am_iload_n dX7_init_32 rfl 3 rfl ?_
  obtain ⟨fs27, ho28, hh⟩ := hh
  obtain ⟨o29, hh⟩ := hh
  refine ah_putF (ty := tyX7 2) ho28 o3 o29 rfl in_X7 tyX7 tyX7_ok nmX7 (by decide) q827 rfl rfl rfl (tyX7_ok 2 (by decide)) ah_fit_int dX7_init_33 ?_
  have hh := hh _ rfl
  exact am_vret rfl dX7_init_36 o7 o8 hh
/-! TableArms$Reader.look()I -/
abbrev VX7_look (l : Launch) (Q : Option am_W → ah_H → Prop) (pc : Nat) (lv : List (Nat × am_W)) (st : List am_W) (S : ah_H) : Prop := am_V ah_r l RX7 cX7_look 1 (some .int) "look" (am_rm 1 0 0) (am_E1 ah_r 0 0 Q) pc lv st S 0 0
abbrev kX7_look (l : Launch) (as : List am_W) (S : ah_H) (Q : Option am_W → ah_H → Prop) : Prop := am_C ah_r l yX7_look (ws_ yX7_look cX7_look 1 (some .int)) (am_rm 1 0 0) 0 0 as S Q
set_option maxHeartbeats 4000000 in
set_option maxRecDepth 100000 in
theorem bX7_look {l : Launch} {Q : Option am_W → ah_H → Prop} {S : ah_H} (v0 : Nat)
    (hh : (∃ fs1, (S.1 v0 = some (.inl (7, fs1))) ∧
      (∃ z4, (fs1[3]? = some (am_I z4) ∧ am_r z4) ∧
      (∃ z7, (fs1[1]? = some (am_I z7) ∧ am_r z7) ∧
      ((z7 ≤ z4) →
        Q (some (am_I (-1000000))) S) ∧
      ((¬ z7 ≤ z4) →
        (∃ x13, (fs1[0]? = some (am_R x13)) ∧
        (∃ n14 f15, (S.1 x13 = some (.inr (2, n14, .inl f15))) ∧
        (0 ≤ z4 ∧ z4 < (n14 : Int)) ∧
        Q (some (am_I (am_and (f15 z4.toNat).toInt 255))) S))))))) : kX7_look l [am_R v0] S Q := by
  refine am_entry (lv := [(0, am_R v0)]) rfl rfl rfl (fun _ => rfl) (fun _ => Nat.le_of_ble_eq_true rfl) ?_
  refine am_aload_n dX7_look_0 rfl 0 rfl ?_
  obtain ⟨fs1, ho2, hh⟩ := hh
  obtain ⟨z4, ⟨hv3, hr5⟩, hh⟩ := hh
  refine ah_get ho2 hv3 rfl in_X7 (by decide) q828 (Or.inl rfl) dX7_look_1 ?_
  refine am_aload_n dX7_look_4 rfl 0 rfl ?_
  obtain ⟨z7, ⟨hv6, hr8⟩, hh⟩ := hh
  refine ah_get ho2 hv6 rfl in_X7 (by decide) q826 (Or.inl rfl) dX7_look_5 ?_
  obtain ⟨ha9, hb10⟩ := hh
  refine am_icmp_ge (tgt := 27) dX7_look_8 (by decide) hr5 hr8 (fun hc11 => ?_) (fun hc11 => ?_)
  · have hh := ha9 hc11
    refine am_ldc (z := -1000000) q866 (by decide) dX7_look_27 ?_
    exact am_iret rfl dX7_look_29 (Nat.le_refl 0) (Nat.le_refl 0) hh
  · have hh := hb10 hc11
    refine am_aload_n dX7_look_11 rfl 0 rfl ?_
    obtain ⟨x13, hv12, hh⟩ := hh
    refine ah_get ho2 hv12 rfl in_X7 (by decide) q825 (Or.inl rfl) dX7_look_12 ?_
    refine am_aload_n dX7_look_15 rfl 0 rfl ?_
    refine ah_get ho2 hv3 rfl in_X7 (by decide) q828 (Or.inl rfl) dX7_look_16 ?_
    obtain ⟨n14, f15, ha16, hh⟩ := hh
    obtain ⟨o17, hh⟩ := hh
    refine ah_bald ha16 o17.1 o17.2 (v := (f15 z4.toNat).toInt) rfl dX7_look_19 ?_
    refine am_sipush dX7_look_20 (by decide) ?_
    refine am_iand dX7_look_23 ?_
    refine am_goto (tgt := 29) dX7_look_24 (by decide) ?_
    exact am_iret rfl dX7_look_29 (Nat.le_refl 0) (Nat.le_refl 0) hh
/-! TableArms$Reader.next()V -/
abbrev VX7_next (l : Launch) (mc ms : Nat) (Q : Option am_W → ah_H → Prop) (pc : Nat) (lv : List (Nat × am_W)) (st : List am_W) (S : ah_H) (cells slots : Nat) : Prop := am_V ah_r l RX7 cX7_next 3 none "next" (am_rm 8 mc ms) (am_E1 ah_r mc ms Q) pc lv st S cells slots
abbrev kX7_next (l : Launch) (mc ms : Nat) (as : List am_W) (S : ah_H) (Q : Option am_W → ah_H → Prop) : Prop := am_C ah_r l yX7_next (ws_ yX7_next cX7_next 3 none) (am_rm 8 mc ms) mc ms as S Q
set_option maxHeartbeats 4000000 in
set_option maxRecDepth 100000 in
theorem bX7_next_0 {l : Launch} {mc ms : Nat} {Q : Option am_W → ah_H → Prop} {S : ah_H} (v0 : Nat) (cs ss : Nat)
    (hh : (cs ≤ mc) ∧
      (ss ≤ ms) ∧
      (∃ fs3, (S.1 v0 = some (.inl (7, fs3))) ∧
      kX7_look l [am_R v0] S (am_qi fun r6 G5 =>
        ((r6 = 32) →
          (∃ fs11, (G5.1 v0 = some (.inl (7, fs11))) ∧
          (∃ z14, (fs11[3]? = some (am_I z14) ∧ am_r z14) ∧
          (ah_X ≤ v0) ∧
          (3 < fs11.length) ∧
          (∀ G18, G18 = ah_sf G5 v0 7 fs11 3 (am_I (z14 + 1)) →
          VX7_next l mc ms Q 0 [(0, am_R v0)] [] G18 cs ss)))) ∧
        ((¬ r6 = 32) →
          (∃ fs20, (G5.1 v0 = some (.inl (7, fs20))) ∧
          kX7_look l [am_R v0] G5 (am_qi fun r23 G22 =>
            ((¬ r23 = 10) →
              (∃ fs28, (G22.1 v0 = some (.inl (7, fs28))) ∧
              (∃ z31, (fs28[3]? = some (am_I z31) ∧ am_r z31) ∧
              (ah_X ≤ v0) ∧
              (5 < fs28.length) ∧
              (∀ G35, G35 = ah_sf G22 v0 7 fs28 5 (am_I z31) →
              (∃ fs37, (G35.1 v0 = some (.inl (7, fs37))) ∧
              kX7_look l [am_R v0] G35 (am_qi fun r40 G39 =>
                ((¬ r40 = (-1000000)) →
                  kX0_isIn l [am_J r40, am_J 97, am_J 122] G39 (am_qz fun b46 G45 =>
                    ((b46 = false) →
                      kX0_isIn l [am_J r40, am_J 48, am_J 57] G45 (am_qz fun b51 G50 =>
                        ((b51 = false) →
                          (∃ fs55, (G50.1 v0 = some (.inl (7, fs55))) ∧
                          (∃ z58, (fs55[3]? = some (am_I z58) ∧ am_r z58) ∧
                          (3 < fs55.length) ∧
                          (∀ G61, G61 = ah_sf G50 v0 7 fs55 3 (am_I (z58 + 1)) →
                          ((¬ r40 = 59) →
                            (∃ fs66, (G61.1 v0 = some (.inl (7, fs66))) ∧
                            (4 < fs66.length) ∧
                            (∀ G69, G69 = ah_sf G61 v0 7 fs66 4 (am_I 4) →
                            Q none G69))) ∧
                          ((r40 = 59) →
                            (∃ fs71, (G61.1 v0 = some (.inl (7, fs71))) ∧
                            (4 < fs71.length) ∧
                            (∀ G74, G74 = ah_sf G61 v0 7 fs71 4 (am_I 3) →
                            Q none G74))))))) ∧
                        ((b51 = true) →
                          (∃ fs76, (G50.1 v0 = some (.inl (7, fs76))) ∧
                          (6 < fs76.length) ∧
                          (∀ G79, G79 = ah_sf G50 v0 7 fs76 6 (am_I 0) →
                          VX7_next l mc ms Q 161 [(0, am_R v0)] [] G79 cs ss))))) ∧
                    ((b46 = true) →
                      ((cs + 1) ≤ mc) ∧
                      ((ss + 4) ≤ ms) ∧
                      (∀ G83, G83 = ah_mk G45 (.inl (16, ah_dJ16)) →
                      (∃ mc85 ms86 : Nat, (((cs + 1) + mc85) ≤ mc ∧ ((ss + 4) + ms86) ≤ ms) ∧
                      kJ16_init l mc85 ms86 [am_R G45.2] G83 (am_qv fun G89 =>
                        VX7_next l mc ms Q 80 [(0, am_R v0), (2, am_R G45.2)] [] G89 ((cs + 1) + mc85) ((ss + 4) + ms86))))))) ∧
                ((r40 = (-1000000)) →
                  (∃ fs90, (G39.1 v0 = some (.inl (7, fs90))) ∧
                  (4 < fs90.length) ∧
                  (∀ G93, G93 = ah_sf G39 v0 7 fs90 4 (am_I 0) →
                  Q none G93))))))))) ∧
            ((r23 = 10) →
              (∃ fs95, (G22.1 v0 = some (.inl (7, fs95))) ∧
              (∃ z98, (fs95[3]? = some (am_I z98) ∧ am_r z98) ∧
              (ah_X ≤ v0) ∧
              (3 < fs95.length) ∧
              (∀ G102, G102 = ah_sf G22 v0 7 fs95 3 (am_I (z98 + 1)) →
              VX7_next l mc ms Q 0 [(0, am_R v0)] [] G102 cs ss)))))))))) : VX7_next l mc ms Q 0 [(0, am_R v0)] [] S cs ss := by
  refine am_aload_n dX7_next_0 rfl 0 rfl ?_
  obtain ⟨o1, hh⟩ := hh
  obtain ⟨o2, hh⟩ := hh
  obtain ⟨fs3, ho4, hh⟩ := hh
  refine am_rVi (n := 0) hh dX7_next_1 (lw_V q862 q864 qs26 q113 q865) rfl ⟨⟨by decide, by decide, by decide +kernel⟩, ⟨Nat.le_of_ble_eq_true rfl, Nat.le_of_ble_eq_true rfl⟩⟩ ⟨rfl, rfl⟩ rfl rfl (Nat.le_of_ble_eq_true rfl) ⟨o1, o2⟩ (ah_recv ho4 rfl) (fun r6 G5 hr7 hh => ?_)
  refine am_bipush dX7_next_4 (by decide) ?_
  obtain ⟨ha8, hb9⟩ := hh
  refine am_icmp_eq (tgt := 18) dX7_next_6 (by decide) hr7 (⟨by decide, by decide⟩) (fun hc10 => ?_) (fun hc10 => ?_)
  · have hh := ha8 hc10
    refine am_aload_n dX7_next_18 rfl 0 rfl ?_
    refine am_dup dX7_next_19 rfl ?_
    obtain ⟨fs11, ho12, hh⟩ := hh
    obtain ⟨z14, ⟨hv13, hr15⟩, hh⟩ := hh
    refine ah_get ho12 hv13 rfl in_X7 (by decide) q828 (Or.inl rfl) dX7_next_20 ?_
    refine am_iconst dX7_next_23 ?_
    refine am_iadd dX7_next_24 ?_
    obtain ⟨o16, hh⟩ := hh
    obtain ⟨o17, hh⟩ := hh
    refine ah_put (ty := tyX7 3) ho12 o16 o17 rfl in_X7 tyX7 tyX7_ok nmX7 (by decide) q828 (Or.inl rfl) rfl (tyX7_ok 3 (by decide)) ah_fit_int dX7_next_25 ?_
    have hh := hh _ rfl
    refine am_goto (tgt := 0) dX7_next_28 (by decide) ?_
    exact hh
  · have hh := hb9 hc10
    refine am_aload_n dX7_next_9 rfl 0 rfl ?_
    obtain ⟨fs20, ho21, hh⟩ := hh
    refine am_rVi (n := 0) hh dX7_next_10 (lw_V q862 q864 qs26 q113 q865) rfl ⟨⟨by decide, by decide, by decide +kernel⟩, ⟨Nat.le_of_ble_eq_true rfl, Nat.le_of_ble_eq_true rfl⟩⟩ ⟨rfl, rfl⟩ rfl rfl (Nat.le_of_ble_eq_true rfl) ⟨o1, o2⟩ (ah_recv ho21 rfl) (fun r23 G22 hr24 hh => ?_)
    refine am_bipush dX7_next_13 (by decide) ?_
    obtain ⟨ha25, hb26⟩ := hh
    refine am_icmp_ne (tgt := 31) dX7_next_15 (by decide) hr24 (⟨by decide, by decide⟩) (fun hc27 => ?_) (fun hc27 => ?_)
    · have hh := ha25 hc27
      refine am_aload_n dX7_next_31 rfl 0 rfl ?_
      refine am_aload_n dX7_next_32 rfl 0 rfl ?_
      obtain ⟨fs28, ho29, hh⟩ := hh
      obtain ⟨z31, ⟨hv30, hr32⟩, hh⟩ := hh
      refine ah_get ho29 hv30 rfl in_X7 (by decide) q828 (Or.inl rfl) dX7_next_33 ?_
      obtain ⟨o33, hh⟩ := hh
      obtain ⟨o34, hh⟩ := hh
      refine ah_put (ty := tyX7 5) ho29 o33 o34 rfl in_X7 tyX7 tyX7_ok nmX7 (by decide) q830 (Or.inl rfl) rfl (tyX7_ok 5 (by decide)) ah_fit_int dX7_next_36 ?_
      have hh := hh _ rfl
      refine am_aload_n dX7_next_39 rfl 0 rfl ?_
      obtain ⟨fs37, ho38, hh⟩ := hh
      refine am_rVi (n := 0) hh dX7_next_40 (lw_V q862 q864 qs26 q113 q865) rfl ⟨⟨by decide, by decide, by decide +kernel⟩, ⟨Nat.le_of_ble_eq_true rfl, Nat.le_of_ble_eq_true rfl⟩⟩ ⟨rfl, rfl⟩ rfl rfl (Nat.le_of_ble_eq_true rfl) ⟨o1, o2⟩ (ah_recv ho38 rfl) (fun r40 G39 hr41 hh => ?_)
      refine am_istore_n dX7_next_43 rfl (by decide) rfl ?_
      refine am_iload_n dX7_next_44 rfl 0 rfl ?_
      refine am_ldc (z := -1000000) q866 (by decide) dX7_next_45 ?_
      obtain ⟨ha42, hb43⟩ := hh
      refine am_icmp_ne (tgt := 58) dX7_next_47 (by decide) hr41 (⟨by decide, by decide⟩) (fun hc44 => ?_) (fun hc44 => ?_)
      · have hh := ha42 hc44
        refine am_iload_n dX7_next_58 rfl 0 rfl ?_
        refine am_i2l_ hr41 dX7_next_59 ?_
        refine am_ldc2 (z := 97) q867 (by decide) dX7_next_60 ?_
        refine am_ldc2 (z := 122) q868 (by decide) dX7_next_63 ?_
        refine am_rSNz (n := 3) hh dX7_next_66 (am_nwin q869 rfl) q286 q90 q287 ⟨⟨by decide, by decide, by decide +kernel⟩, ⟨Nat.le_of_ble_eq_true rfl, Nat.le_of_ble_eq_true rfl⟩⟩ ⟨rfl, rfl⟩ rfl rfl (Nat.le_of_ble_eq_true rfl) ⟨o1, o2⟩ (fun b46 G45 hh => ?_)
        obtain ⟨ha47, hb48⟩ := hh
        refine am_ifB_eq (tgt := 142) dX7_next_69 (by decide) (fun hc49 => ?_) (fun hc49 => ?_)
        · have hh := ha47 hc49
          refine am_iload_n dX7_next_142 rfl 0 rfl ?_
          refine am_i2l_ hr41 dX7_next_143 ?_
          refine am_ldc2 (z := 48) q1035 (by decide) dX7_next_144 ?_
          refine am_ldc2 (z := 57) q1036 (by decide) dX7_next_147 ?_
          refine am_rSNz (n := 3) hh dX7_next_150 (am_nwin q869 rfl) q286 q90 q287 ⟨⟨by decide, by decide, by decide +kernel⟩, ⟨Nat.le_of_ble_eq_true rfl, Nat.le_of_ble_eq_true rfl⟩⟩ ⟨rfl, rfl⟩ rfl rfl (Nat.le_of_ble_eq_true rfl) ⟨o1, o2⟩ (fun b51 G50 hh => ?_)
          obtain ⟨ha52, hb53⟩ := hh
          refine am_ifB_eq (tgt := 255) dX7_next_153 (by decide) (fun hc54 => ?_) (fun hc54 => ?_)
          · have hh := ha52 hc54
            refine am_aload_n dX7_next_255 rfl 1 rfl ?_
            refine am_dup dX7_next_256 rfl ?_
            obtain ⟨fs55, ho56, hh⟩ := hh
            obtain ⟨z58, ⟨hv57, hr59⟩, hh⟩ := hh
            refine ah_get ho56 hv57 rfl in_X7 (by decide) q828 (Or.inl rfl) dX7_next_257 ?_
            refine am_iconst dX7_next_260 ?_
            refine am_iadd dX7_next_261 ?_
            obtain ⟨o60, hh⟩ := hh
            refine ah_put (ty := tyX7 3) ho56 o33 o60 rfl in_X7 tyX7 tyX7_ok nmX7 (by decide) q828 (Or.inl rfl) rfl (tyX7_ok 3 (by decide)) ah_fit_int dX7_next_262 ?_
            have hh := hh _ rfl
            refine am_aload_n dX7_next_265 rfl 1 rfl ?_
            refine am_iload_n dX7_next_266 rfl 0 rfl ?_
            refine am_bipush dX7_next_267 (by decide) ?_
            obtain ⟨ha63, hb64⟩ := hh
            refine am_icmp_ne (tgt := 276) dX7_next_269 (by decide) hr41 (⟨by decide, by decide⟩) (fun hc65 => ?_) (fun hc65 => ?_)
            · have hh := ha63 hc65
              refine am_iconst dX7_next_276 ?_
              obtain ⟨fs66, ho67, hh⟩ := hh
              obtain ⟨o68, hh⟩ := hh
              refine ah_put (ty := tyX7 4) ho67 o33 o68 rfl in_X7 tyX7 tyX7_ok nmX7 (by decide) q829 (Or.inl rfl) rfl (tyX7_ok 4 (by decide)) ah_fit_int dX7_next_277 ?_
              have hh := hh _ rfl
              exact am_vret rfl dX7_next_280 o1 o2 hh
            · have hh := hb64 hc65
              refine am_iconst dX7_next_272 ?_
              refine am_goto (tgt := 277) dX7_next_273 (by decide) ?_
              obtain ⟨fs71, ho72, hh⟩ := hh
              obtain ⟨o73, hh⟩ := hh
              refine ah_put (ty := tyX7 4) ho72 o33 o73 rfl in_X7 tyX7 tyX7_ok nmX7 (by decide) q829 (Or.inl rfl) rfl (tyX7_ok 4 (by decide)) ah_fit_int dX7_next_277 ?_
              have hh := hh _ rfl
              exact am_vret rfl dX7_next_280 o1 o2 hh
          · have hh := hb53 hc54
            refine am_aload_n dX7_next_156 rfl 1 rfl ?_
            refine am_iconst dX7_next_157 ?_
            obtain ⟨fs76, ho77, hh⟩ := hh
            obtain ⟨o78, hh⟩ := hh
            refine ah_put (ty := tyX7 6) ho77 o33 o78 rfl in_X7 tyX7 tyX7_ok nmX7 (by decide) q831 (Or.inl rfl) rfl (tyX7_ok 6 (by decide)) ah_fit_int dX7_next_158 ?_
            have hh := hh _ rfl
            refine am_keep [1] rfl ?_
            exact hh
        · have hh := hb48 hc49
          obtain ⟨o81, hh⟩ := hh
          obtain ⟨o82, hh⟩ := hh
          refine ah_new (ci := 16) (fs := ah_dJ16) tyJ16 rfl in_J16 tyJ16_ok q870 q871 q115 ah_dJ16_ok o81 o82 dX7_next_72 ?_
          have hh := hh _ rfl
          refine am_dup dX7_next_75 rfl ?_
          obtain ⟨mc85, ms86, ⟨o87, o88⟩, hh⟩ := hh
          refine am_rIv (n := 0) hh dX7_next_76 q872 q873 q115 q874 rfl ⟨⟨by decide, by decide, by decide +kernel⟩, ⟨Nat.le_of_ble_eq_true rfl, Nat.le_of_ble_eq_true rfl⟩⟩ ⟨rfl, rfl⟩ rfl rfl (Nat.le_of_ble_eq_true rfl) ⟨o87, o88⟩ (fun G89 hh => ?_)
          refine am_astore_n dX7_next_79 rfl (by decide) rfl ?_
          refine am_keep [2, 0] rfl ?_
          exact hh
      · have hh := hb43 hc44
        refine am_aload_n dX7_next_50 rfl 1 rfl ?_
        refine am_iconst dX7_next_51 ?_
        obtain ⟨fs90, ho91, hh⟩ := hh
        obtain ⟨o92, hh⟩ := hh
        refine ah_put (ty := tyX7 4) ho91 o33 o92 rfl in_X7 tyX7 tyX7_ok nmX7 (by decide) q829 (Or.inl rfl) rfl (tyX7_ok 4 (by decide)) ah_fit_int dX7_next_52 ?_
        have hh := hh _ rfl
        refine am_goto (tgt := 280) dX7_next_55 (by decide) ?_
        exact am_vret rfl dX7_next_280 o1 o2 hh
    · have hh := hb26 hc27
      refine am_aload_n dX7_next_18 rfl 0 rfl ?_
      refine am_dup dX7_next_19 rfl ?_
      obtain ⟨fs95, ho96, hh⟩ := hh
      obtain ⟨z98, ⟨hv97, hr99⟩, hh⟩ := hh
      refine ah_get ho96 hv97 rfl in_X7 (by decide) q828 (Or.inl rfl) dX7_next_20 ?_
      refine am_iconst dX7_next_23 ?_
      refine am_iadd dX7_next_24 ?_
      obtain ⟨o100, hh⟩ := hh
      obtain ⟨o101, hh⟩ := hh
      refine ah_put (ty := tyX7 3) ho96 o100 o101 rfl in_X7 tyX7 tyX7_ok nmX7 (by decide) q828 (Or.inl rfl) rfl (tyX7_ok 3 (by decide)) ah_fit_int dX7_next_25 ?_
      have hh := hh _ rfl
      refine am_goto (tgt := 0) dX7_next_28 (by decide) ?_
      exact hh
theorem bX7_next {l : Launch} {mc ms : Nat} {Q : Option am_W → ah_H → Prop} {S : ah_H} (v0 : Nat)
    (hh : VX7_next l mc ms Q 0 [(0, am_R v0)] [] S 0 0) : kX7_next l mc ms [am_R v0] S Q := by
  refine am_entry (lv := [(0, am_R v0)]) rfl rfl rfl (fun _ => rfl) (fun _ => Nat.le_of_ble_eq_true rfl) ?_
  exact hh
set_option maxHeartbeats 4000000 in
set_option maxRecDepth 100000 in
theorem bX7_next_80 {l : Launch} {mc ms : Nat} {Q : Option am_W → ah_H → Prop} {S : ah_H} (v0 : Nat) (v2 : Nat) (cs ss : Nat)
    (hh : (cs ≤ mc) ∧
      (ss ≤ ms) ∧
      (∃ fs3, (S.1 v0 = some (.inl (7, fs3))) ∧
      kX7_look l [am_R v0] S (am_qi fun r6 G5 =>
        kX0_isIn l [am_J r6, am_J 97, am_J 122] G5 (am_qz fun b9 G8 =>
          ((b9 = false) →
            (∃ mc13 ms14 : Nat, ((cs + mc13) ≤ mc ∧ (ss + ms14) ≤ ms) ∧
            (∃ fs17, (G8.1 v2 = some (.inl (16, fs17))) ∧
            kJ16_toString l mc13 ms14 [am_R v2] G8 (am_qo fun a20 G19 => ∃ y21, a20 = some y21 ∧
              (∃ fs22, (G19.1 v0 = some (.inl (7, fs22))) ∧
              (ah_X ≤ v0) ∧
              (7 < fs22.length) ∧
              (∀ G26, G26 = ah_sf G19 v0 7 fs22 7 (am_R y21) →
              (∃ fs28, (G26.1 v0 = some (.inl (7, fs28))) ∧
              (4 < fs28.length) ∧
              (∀ G31, G31 = ah_sf G26 v0 7 fs28 4 (am_I 1) →
              Q none G31)))))))) ∧
          ((b9 = true) →
            (∃ fs33, (G8.1 v0 = some (.inl (7, fs33))) ∧
            (∃ x36, (fs33[0]? = some (am_R x36)) ∧
            (∃ z38, (fs33[3]? = some (am_I z38) ∧ am_r z38) ∧
            (ah_X ≤ v0) ∧
            (3 < fs33.length) ∧
            (∀ G42, G42 = ah_sf G8 v0 7 fs33 3 (am_I (z38 + 1)) →
            (∃ n44 f45, (G42.1 x36 = some (.inr (2, n44, .inl f45))) ∧
            (0 ≤ z38 ∧ z38 < (n44 : Int)) ∧
            (∃ mc48 ms49 : Nat, ((cs + mc48) ≤ mc ∧ (ss + ms49) ≤ ms) ∧
            (∃ fs52, (G42.1 v2 = some (.inl (16, fs52))) ∧
            kJ16_append l mc48 ms49 [am_R v2, am_I (am_i2c (am_and (f45 z38.toNat).toInt 255))] G42 (am_qo fun a55 G54 => ∃ y56, a55 = some y56 ∧
              VX7_next l mc ms Q 80 [(0, am_R v0), (2, am_R v2)] [] G54 (cs + mc48) (ss + ms49)))))))))))))) : VX7_next l mc ms Q 80 [(0, am_R v0), (2, am_R v2)] [] S cs ss := by
  refine am_aload_n dX7_next_80 rfl 0 rfl ?_
  obtain ⟨o1, hh⟩ := hh
  obtain ⟨o2, hh⟩ := hh
  obtain ⟨fs3, ho4, hh⟩ := hh
  refine am_rVi (n := 0) hh dX7_next_81 (lw_V q862 q864 qs26 q113 q865) rfl ⟨⟨by decide, by decide, by decide +kernel⟩, ⟨Nat.le_of_ble_eq_true rfl, Nat.le_of_ble_eq_true rfl⟩⟩ ⟨rfl, rfl⟩ rfl rfl (Nat.le_of_ble_eq_true rfl) ⟨o1, o2⟩ (ah_recv ho4 rfl) (fun r6 G5 hr7 hh => ?_)
  refine am_i2l_ hr7 dX7_next_84 ?_
  refine am_ldc2 (z := 97) q867 (by decide) dX7_next_85 ?_
  refine am_ldc2 (z := 122) q868 (by decide) dX7_next_88 ?_
  refine am_rSNz (n := 3) hh dX7_next_91 (am_nwin q869 rfl) q286 q90 q287 ⟨⟨by decide, by decide, by decide +kernel⟩, ⟨Nat.le_of_ble_eq_true rfl, Nat.le_of_ble_eq_true rfl⟩⟩ ⟨rfl, rfl⟩ rfl rfl (Nat.le_of_ble_eq_true rfl) ⟨o1, o2⟩ (fun b9 G8 hh => ?_)
  obtain ⟨ha10, hb11⟩ := hh
  refine am_ifB_eq (tgt := 126) dX7_next_94 (by decide) (fun hc12 => ?_) (fun hc12 => ?_)
  · have hh := ha10 hc12
    refine am_aload_n dX7_next_126 rfl 0 rfl ?_
    refine am_aload_n dX7_next_127 rfl 1 rfl ?_
    obtain ⟨mc13, ms14, ⟨o15, o16⟩, hh⟩ := hh
    obtain ⟨fs17, ho18, hh⟩ := hh
    refine am_rVo (n := 0) hh dX7_next_128 (lw_V q979 q980 q981 q115 q982) rfl ⟨⟨by decide, by decide, by decide +kernel⟩, ⟨Nat.le_of_ble_eq_true rfl, Nat.le_of_ble_eq_true rfl⟩⟩ ⟨rfl, rfl⟩ rfl rfl (Nat.le_of_ble_eq_true rfl) ⟨o15, o16⟩ (ah_recv ho18 rfl) (fun a20 G19 hh => ?_)
    obtain ⟨y21, rfl, hh⟩ := hh
    obtain ⟨fs22, ho23, hh⟩ := hh
    obtain ⟨o24, hh⟩ := hh
    obtain ⟨o25, hh⟩ := hh
    refine ah_put (ty := tyX7 7) ho23 o24 o25 rfl in_X7 tyX7 tyX7_ok nmX7 (by decide) q832 (Or.inl rfl) rfl (tyX7_ok 7 (by decide)) (ah_fit_ref (Or.inl ⟨_, rfl⟩)) dX7_next_131 ?_
    have hh := hh _ rfl
    refine am_aload_n dX7_next_134 rfl 0 rfl ?_
    refine am_iconst dX7_next_135 ?_
    obtain ⟨fs28, ho29, hh⟩ := hh
    obtain ⟨o30, hh⟩ := hh
    refine ah_put (ty := tyX7 4) ho29 o24 o30 rfl in_X7 tyX7 tyX7_ok nmX7 (by decide) q829 (Or.inl rfl) rfl (tyX7_ok 4 (by decide)) ah_fit_int dX7_next_136 ?_
    have hh := hh _ rfl
    refine am_goto (tgt := 280) dX7_next_139 (by decide) ?_
    exact am_vret rfl dX7_next_280 o15 o16 hh
  · have hh := hb11 hc12
    refine am_aload_n dX7_next_97 rfl 1 rfl ?_
    refine am_aload_n dX7_next_98 rfl 0 rfl ?_
    obtain ⟨fs33, ho34, hh⟩ := hh
    obtain ⟨x36, hv35, hh⟩ := hh
    refine ah_get ho34 hv35 rfl in_X7 (by decide) q825 (Or.inl rfl) dX7_next_99 ?_
    refine am_aload_n dX7_next_102 rfl 0 rfl ?_
    refine am_dup dX7_next_103 rfl ?_
    obtain ⟨z38, ⟨hv37, hr39⟩, hh⟩ := hh
    refine ah_get ho34 hv37 rfl in_X7 (by decide) q828 (Or.inl rfl) dX7_next_104 ?_
    refine am_dup_x1 dX7_next_107 rfl rfl ?_
    refine am_iconst dX7_next_108 ?_
    refine am_iadd dX7_next_109 ?_
    obtain ⟨o40, hh⟩ := hh
    obtain ⟨o41, hh⟩ := hh
    refine ah_put (ty := tyX7 3) ho34 o40 o41 rfl in_X7 tyX7 tyX7_ok nmX7 (by decide) q828 (Or.inl rfl) rfl (tyX7_ok 3 (by decide)) ah_fit_int dX7_next_110 ?_
    have hh := hh _ rfl
    obtain ⟨n44, f45, ha46, hh⟩ := hh
    obtain ⟨o47, hh⟩ := hh
    refine ah_bald ha46 o47.1 o47.2 (v := (f45 z38.toNat).toInt) rfl dX7_next_113 ?_
    refine am_sipush dX7_next_114 (by decide) ?_
    refine am_iand dX7_next_117 ?_
    refine am_i2c_ dX7_next_118 ?_
    obtain ⟨mc48, ms49, ⟨o50, o51⟩, hh⟩ := hh
    obtain ⟨fs52, ho53, hh⟩ := hh
    refine am_rVo (n := 1) hh dX7_next_119 (lw_V q901 q902 q903 q115 q904) rfl ⟨⟨by decide, by decide, by decide +kernel⟩, ⟨Nat.le_of_ble_eq_true rfl, Nat.le_of_ble_eq_true rfl⟩⟩ ⟨rfl, rfl⟩ rfl rfl (Nat.le_of_ble_eq_true rfl) ⟨o50, o51⟩ (ah_recv ho53 rfl) (fun a55 G54 hh => ?_)
    obtain ⟨y56, rfl, hh⟩ := hh
    refine am_pop dX7_next_122 rfl ?_
    refine am_goto (tgt := 80) dX7_next_123 (by decide) ?_
    exact hh
set_option maxHeartbeats 4000000 in
set_option maxRecDepth 100000 in
theorem bX7_next_161 {l : Launch} {mc ms : Nat} {Q : Option am_W → ah_H → Prop} {S : ah_H} (v0 : Nat) (cs ss : Nat)
    (hh : (cs ≤ mc) ∧
      (ss ≤ ms) ∧
      (∃ fs3, (S.1 v0 = some (.inl (7, fs3))) ∧
      kX7_look l [am_R v0] S (am_qi fun r6 G5 =>
        kX0_isIn l [am_J r6, am_J 48, am_J 57] G5 (am_qz fun b9 G8 =>
          ((b9 = false) →
            (∃ fs13, (G8.1 v0 = some (.inl (7, fs13))) ∧
            (∃ z16, (fs13[3]? = some (am_I z16) ∧ am_r z16) ∧
            (∃ z19, (fs13[5]? = some (am_I z19) ∧ am_r z19) ∧
            (am_r (z16 - z19)) ∧
            ((3 < (z16 - z19)) →
              (ah_X ≤ v0) ∧
              (4 < fs13.length) ∧
              (∀ G27, G27 = ah_sf G8 v0 7 fs13 4 (am_I 4) →
              Q none G27)) ∧
            ((¬ 3 < (z16 - z19)) →
              (ah_X ≤ v0) ∧
              (4 < fs13.length) ∧
              (∀ G31, G31 = ah_sf G8 v0 7 fs13 4 (am_I 2) →
              Q none G31)))))) ∧
          ((b9 = true) →
            (∃ fs33, (G8.1 v0 = some (.inl (7, fs33))) ∧
            (∃ z36, (fs33[3]? = some (am_I z36) ∧ am_r z36) ∧
            (∃ z39, (fs33[5]? = some (am_I z39) ∧ am_r z39) ∧
            (am_r (z36 - z39)) ∧
            ((3 ≤ (z36 - z39)) →
              (∃ z46, (fs33[6]? = some (am_I z46) ∧ am_r z46) ∧
              (ah_X ≤ v0) ∧
              (6 < fs33.length) ∧
              (∀ G50, G50 = ah_sf G8 v0 7 fs33 6 (am_I z46) →
              (∃ fs52, (G50.1 v0 = some (.inl (7, fs52))) ∧
              (∃ z55, (fs52[3]? = some (am_I z55) ∧ am_r z55) ∧
              (3 < fs52.length) ∧
              (∀ G58, G58 = ah_sf G50 v0 7 fs52 3 (am_I (z55 + 1)) →
              VX7_next l mc ms Q 161 [(0, am_R v0)] [] G58 cs ss)))))) ∧
            ((¬ 3 ≤ (z36 - z39)) →
              (∃ z61, (fs33[6]? = some (am_I z61) ∧ am_r z61) ∧
              kX7_look l [am_R v0] G8 (am_qi fun r64 G63 =>
                (∃ fs66, (G63.1 v0 = some (.inl (7, fs66))) ∧
                (ah_X ≤ v0) ∧
                (6 < fs66.length) ∧
                (∀ G70, G70 = ah_sf G63 v0 7 fs66 6 (am_I (((10 * z61) + r64) - 48)) →
                (∃ fs72, (G70.1 v0 = some (.inl (7, fs72))) ∧
                (∃ z75, (fs72[3]? = some (am_I z75) ∧ am_r z75) ∧
                (3 < fs72.length) ∧
                (∀ G78, G78 = ah_sf G70 v0 7 fs72 3 (am_I (z75 + 1)) →
                VX7_next l mc ms Q 161 [(0, am_R v0)] [] G78 cs ss)))))))))))))))) : VX7_next l mc ms Q 161 [(0, am_R v0)] [] S cs ss := by
  refine am_aload_n dX7_next_161 rfl 0 rfl ?_
  obtain ⟨o1, hh⟩ := hh
  obtain ⟨o2, hh⟩ := hh
  obtain ⟨fs3, ho4, hh⟩ := hh
  refine am_rVi (n := 0) hh dX7_next_162 (lw_V q862 q864 qs26 q113 q865) rfl ⟨⟨by decide, by decide, by decide +kernel⟩, ⟨Nat.le_of_ble_eq_true rfl, Nat.le_of_ble_eq_true rfl⟩⟩ ⟨rfl, rfl⟩ rfl rfl (Nat.le_of_ble_eq_true rfl) ⟨o1, o2⟩ (ah_recv ho4 rfl) (fun r6 G5 hr7 hh => ?_)
  refine am_i2l_ hr7 dX7_next_165 ?_
  refine am_ldc2 (z := 48) q1035 (by decide) dX7_next_166 ?_
  refine am_ldc2 (z := 57) q1036 (by decide) dX7_next_169 ?_
  refine am_rSNz (n := 3) hh dX7_next_172 (am_nwin q869 rfl) q286 q90 q287 ⟨⟨by decide, by decide, by decide +kernel⟩, ⟨Nat.le_of_ble_eq_true rfl, Nat.le_of_ble_eq_true rfl⟩⟩ ⟨rfl, rfl⟩ rfl rfl (Nat.le_of_ble_eq_true rfl) ⟨o1, o2⟩ (fun b9 G8 hh => ?_)
  obtain ⟨ha10, hb11⟩ := hh
  refine am_ifB_eq (tgt := 230) dX7_next_175 (by decide) (fun hc12 => ?_) (fun hc12 => ?_)
  · have hh := ha10 hc12
    refine am_aload_n dX7_next_230 rfl 0 rfl ?_
    refine am_aload_n dX7_next_231 rfl 0 rfl ?_
    obtain ⟨fs13, ho14, hh⟩ := hh
    obtain ⟨z16, ⟨hv15, hr17⟩, hh⟩ := hh
    refine ah_get ho14 hv15 rfl in_X7 (by decide) q828 (Or.inl rfl) dX7_next_232 ?_
    refine am_aload_n dX7_next_235 rfl 0 rfl ?_
    obtain ⟨z19, ⟨hv18, hr20⟩, hh⟩ := hh
    refine ah_get ho14 hv18 rfl in_X7 (by decide) q830 (Or.inl rfl) dX7_next_236 ?_
    refine am_isub dX7_next_239 ?_
    refine am_iconst dX7_next_240 ?_
    obtain ⟨o21, hh⟩ := hh
    obtain ⟨ha22, hb23⟩ := hh
    refine am_icmp_gt (tgt := 248) dX7_next_241 (by decide) o21 (⟨by decide, by decide⟩) (fun hc24 => ?_) (fun hc24 => ?_)
    · have hh := ha22 hc24
      refine am_iconst dX7_next_248 ?_
      obtain ⟨o25, hh⟩ := hh
      obtain ⟨o26, hh⟩ := hh
      refine ah_put (ty := tyX7 4) ho14 o25 o26 rfl in_X7 tyX7 tyX7_ok nmX7 (by decide) q829 (Or.inl rfl) rfl (tyX7_ok 4 (by decide)) ah_fit_int dX7_next_249 ?_
      have hh := hh _ rfl
      refine am_goto (tgt := 280) dX7_next_252 (by decide) ?_
      exact am_vret rfl dX7_next_280 o1 o2 hh
    · have hh := hb23 hc24
      refine am_iconst dX7_next_244 ?_
      refine am_goto (tgt := 249) dX7_next_245 (by decide) ?_
      obtain ⟨o29, hh⟩ := hh
      obtain ⟨o30, hh⟩ := hh
      refine ah_put (ty := tyX7 4) ho14 o29 o30 rfl in_X7 tyX7 tyX7_ok nmX7 (by decide) q829 (Or.inl rfl) rfl (tyX7_ok 4 (by decide)) ah_fit_int dX7_next_249 ?_
      have hh := hh _ rfl
      refine am_goto (tgt := 280) dX7_next_252 (by decide) ?_
      exact am_vret rfl dX7_next_280 o1 o2 hh
  · have hh := hb11 hc12
    refine am_aload_n dX7_next_178 rfl 0 rfl ?_
    refine am_aload_n dX7_next_179 rfl 0 rfl ?_
    obtain ⟨fs33, ho34, hh⟩ := hh
    obtain ⟨z36, ⟨hv35, hr37⟩, hh⟩ := hh
    refine ah_get ho34 hv35 rfl in_X7 (by decide) q828 (Or.inl rfl) dX7_next_180 ?_
    refine am_aload_n dX7_next_183 rfl 0 rfl ?_
    obtain ⟨z39, ⟨hv38, hr40⟩, hh⟩ := hh
    refine ah_get ho34 hv38 rfl in_X7 (by decide) q830 (Or.inl rfl) dX7_next_184 ?_
    refine am_isub dX7_next_187 ?_
    refine am_iconst dX7_next_188 ?_
    obtain ⟨o41, hh⟩ := hh
    obtain ⟨ha42, hb43⟩ := hh
    refine am_icmp_ge (tgt := 210) dX7_next_189 (by decide) o41 (⟨by decide, by decide⟩) (fun hc44 => ?_) (fun hc44 => ?_)
    · have hh := ha42 hc44
      refine am_aload_n dX7_next_210 rfl 0 rfl ?_
      obtain ⟨z46, ⟨hv45, hr47⟩, hh⟩ := hh
      refine ah_get ho34 hv45 rfl in_X7 (by decide) q831 (Or.inl rfl) dX7_next_211 ?_
      obtain ⟨o48, hh⟩ := hh
      obtain ⟨o49, hh⟩ := hh
      refine ah_put (ty := tyX7 6) ho34 o48 o49 rfl in_X7 tyX7 tyX7_ok nmX7 (by decide) q831 (Or.inl rfl) rfl (tyX7_ok 6 (by decide)) ah_fit_int dX7_next_214 ?_
      have hh := hh _ rfl
      refine am_aload_n dX7_next_217 rfl 0 rfl ?_
      refine am_dup dX7_next_218 rfl ?_
      obtain ⟨fs52, ho53, hh⟩ := hh
      obtain ⟨z55, ⟨hv54, hr56⟩, hh⟩ := hh
      refine ah_get ho53 hv54 rfl in_X7 (by decide) q828 (Or.inl rfl) dX7_next_219 ?_
      refine am_iconst dX7_next_222 ?_
      refine am_iadd dX7_next_223 ?_
      obtain ⟨o57, hh⟩ := hh
      refine ah_put (ty := tyX7 3) ho53 o48 o57 rfl in_X7 tyX7 tyX7_ok nmX7 (by decide) q828 (Or.inl rfl) rfl (tyX7_ok 3 (by decide)) ah_fit_int dX7_next_224 ?_
      have hh := hh _ rfl
      refine am_goto (tgt := 161) dX7_next_227 (by decide) ?_
      exact hh
    · have hh := hb43 hc44
      refine am_bipush dX7_next_192 (by decide) ?_
      refine am_aload_n dX7_next_194 rfl 0 rfl ?_
      obtain ⟨z61, ⟨hv60, hr62⟩, hh⟩ := hh
      refine ah_get ho34 hv60 rfl in_X7 (by decide) q831 (Or.inl rfl) dX7_next_195 ?_
      refine am_imul dX7_next_198 ?_
      refine am_aload_n dX7_next_199 rfl 0 rfl ?_
      refine am_rVi (n := 0) hh dX7_next_200 (lw_V q862 q864 qs26 q113 q865) rfl ⟨⟨by decide, by decide, by decide +kernel⟩, ⟨Nat.le_of_ble_eq_true rfl, Nat.le_of_ble_eq_true rfl⟩⟩ ⟨rfl, rfl⟩ rfl rfl (Nat.le_of_ble_eq_true rfl) ⟨o1, o2⟩ (ah_recv ho34 rfl) (fun r64 G63 hr65 hh => ?_)
      refine am_iadd dX7_next_203 ?_
      refine am_bipush dX7_next_204 (by decide) ?_
      refine am_isub dX7_next_206 ?_
      refine am_goto (tgt := 214) dX7_next_207 (by decide) ?_
      obtain ⟨fs66, ho67, hh⟩ := hh
      obtain ⟨o68, hh⟩ := hh
      obtain ⟨o69, hh⟩ := hh
      refine ah_put (ty := tyX7 6) ho67 o68 o69 rfl in_X7 tyX7 tyX7_ok nmX7 (by decide) q831 (Or.inl rfl) rfl (tyX7_ok 6 (by decide)) ah_fit_int dX7_next_214 ?_
      have hh := hh _ rfl
      refine am_aload_n dX7_next_217 rfl 0 rfl ?_
      refine am_dup dX7_next_218 rfl ?_
      obtain ⟨fs72, ho73, hh⟩ := hh
      obtain ⟨z75, ⟨hv74, hr76⟩, hh⟩ := hh
      refine ah_get ho73 hv74 rfl in_X7 (by decide) q828 (Or.inl rfl) dX7_next_219 ?_
      refine am_iconst dX7_next_222 ?_
      refine am_iadd dX7_next_223 ?_
      obtain ⟨o77, hh⟩ := hh
      refine ah_put (ty := tyX7 3) ho73 o68 o77 rfl in_X7 tyX7 tyX7_ok nmX7 (by decide) q828 (Or.inl rfl) rfl (tyX7_ok 3 (by decide)) ah_fit_int dX7_next_224 ?_
      have hh := hh _ rfl
      refine am_goto (tgt := 161) dX7_next_227 (by decide) ?_
      exact hh
/-! TableArms$Reader.isWord(Ljava/lang/String;)Z -/
abbrev VX7_isWord (l : Launch) (Q : Option am_W → ah_H → Prop) (pc : Nat) (lv : List (Nat × am_W)) (st : List am_W) (S : ah_H) : Prop := am_V ah_r l RX7 cX7_isWord 2 (some .boolean) "isWord" (am_rm 3 0 0) (am_E1 ah_r 0 0 Q) pc lv st S 0 0
abbrev kX7_isWord (l : Launch) (as : List am_W) (S : ah_H) (Q : Option am_W → ah_H → Prop) : Prop := am_C ah_r l yX7_isWord (ws_ yX7_isWord cX7_isWord 2 (some .boolean)) (am_rm 3 0 0) 0 0 as S Q
set_option maxHeartbeats 4000000 in
set_option maxRecDepth 100000 in
theorem bX7_isWord {l : Launch} {Q : Option am_W → ah_H → Prop} {S : ah_H} (v0 : Nat) (v1 : Nat)
    (hh : (∃ fs1, (S.1 v0 = some (.inl (7, fs1))) ∧
      (∃ z4, (fs1[4]? = some (am_I z4) ∧ am_r z4) ∧
      ((¬ z4 = 1) →
        Q (some (am_I (am_b false))) S) ∧
      ((z4 = 1) →
        (∃ x10, (fs1[7]? = some (am_R x10)) ∧
        (∃ fs11, (S.1 x10 = some (.inl (17, fs11))) ∧
        kJ8_equals l [am_R x10, am_R v1] S (am_qz fun b14 G13 =>
          ((b14 = false) →
            Q (some (am_I (am_b false))) G13) ∧
          ((b14 = true) →
            Q (some (am_I (am_b true))) G13)))))))) : kX7_isWord l [am_R v0, am_R v1] S Q := by
  refine am_entry (lv := [(0, am_R v0), (1, am_R v1)]) rfl rfl rfl (fun _ => rfl) (fun _ => Nat.le_of_ble_eq_true rfl) ?_
  refine am_aload_n dX7_isWord_0 rfl 0 rfl ?_
  obtain ⟨fs1, ho2, hh⟩ := hh
  obtain ⟨z4, ⟨hv3, hr5⟩, hh⟩ := hh
  refine ah_get ho2 hv3 rfl in_X7 (by decide) q829 (Or.inl rfl) dX7_isWord_1 ?_
  refine am_iconst dX7_isWord_4 ?_
  obtain ⟨ha6, hb7⟩ := hh
  refine am_icmp_ne (tgt := 23) dX7_isWord_5 (by decide) hr5 (⟨by decide, by decide⟩) (fun hc8 => ?_) (fun hc8 => ?_)
  · have hh := ha6 hc8
    refine am_iconst dX7_isWord_23 ?_
    exact am_zret (b := false) rfl dX7_isWord_24 (Nat.le_refl 0) (Nat.le_refl 0) hh
  · have hh := hb7 hc8
    refine am_aload_n dX7_isWord_8 rfl 0 rfl ?_
    obtain ⟨x10, hv9, hh⟩ := hh
    refine ah_get ho2 hv9 rfl in_X7 (by decide) q832 (Or.inl rfl) dX7_isWord_9 ?_
    refine am_aload_n dX7_isWord_12 rfl 1 rfl ?_
    obtain ⟨fs11, ho12, hh⟩ := hh
    refine am_rVz (n := 1) hh dX7_isWord_13 (lw_V q1042 q1043 q1044 q104 q1045) rfl ⟨⟨by decide, by decide, by decide +kernel⟩, ⟨Nat.le_of_ble_eq_true rfl, Nat.le_of_ble_eq_true rfl⟩⟩ ⟨rfl, rfl⟩ rfl rfl (Nat.le_of_ble_eq_true rfl) ⟨(Nat.le_of_ble_eq_true rfl), (Nat.le_of_ble_eq_true rfl)⟩ (ah_recv ho12 rfl) (fun b14 G13 hh => ?_)
    obtain ⟨ha15, hb16⟩ := hh
    refine am_ifB_eq (tgt := 23) dX7_isWord_16 (by decide) (fun hc17 => ?_) (fun hc17 => ?_)
    · have hh := ha15 hc17
      refine am_iconst dX7_isWord_23 ?_
      exact am_zret (b := false) rfl dX7_isWord_24 (Nat.le_refl 0) (Nat.le_refl 0) hh
    · have hh := hb16 hc17
      refine am_iconst dX7_isWord_19 ?_
      refine am_goto (tgt := 24) dX7_isWord_20 (by decide) ?_
      exact am_zret (b := true) rfl dX7_isWord_24 (Nat.le_refl 0) (Nat.le_refl 0) hh
/-! TableArms$Fault.<init>(II)V -/
abbrev VX8_init (l : Launch) (Q : Option am_W → ah_H → Prop) (pc : Nat) (lv : List (Nat × am_W)) (st : List am_W) (S : ah_H) : Prop := am_V ah_r l RX8 cX8_init 3 none "<init>" (am_rm 4 0 0) (am_E1 ah_r 0 0 Q) pc lv st S 0 0
abbrev kX8_init (l : Launch) (as : List am_W) (S : ah_H) (Q : Option am_W → ah_H → Prop) : Prop := am_C ah_r l yX8_init (ws_ yX8_init cX8_init 3 none) (am_rm 4 0 0) 0 0 as S Q
set_option maxHeartbeats 4000000 in
set_option maxRecDepth 100000 in
theorem bX8_init {l : Launch} {Q : Option am_W → ah_H → Prop} {S : ah_H} (v0 : Nat) (v1 : Int) (h1 : am_r v1) (v2 : Int) (h2 : am_r v2)
    (hh : kJ4_init l [am_R v0, am_O none, am_O none, am_I (am_b false), am_I (am_b false)] S (am_qv fun G1 =>
        (∃ fs2, (G1.1 v0 = some (.inl (8, fs2))) ∧
        (ah_X ≤ v0) ∧
        (6 < fs2.length) ∧
        (∀ G6, G6 = ah_sf G1 v0 8 fs2 6 (am_I v1) →
        (∃ fs8, (G6.1 v0 = some (.inl (8, fs8))) ∧
        (7 < fs8.length) ∧
        (∀ G11, G11 = ah_sf G6 v0 8 fs8 7 (am_I v2) →
        Q none G11)))))) : kX8_init l [am_R v0, am_I v1, am_I v2] S Q := by
  refine am_entry (lv := [(0, am_R v0), (1, am_I v1), (2, am_I v2)]) rfl rfl rfl (fun _ => rfl) (fun _ => Nat.le_of_ble_eq_true rfl) ?_
  refine am_aload_n dX8_init_0 rfl 0 rfl ?_
  refine am_aconst_null dX8_init_1 ?_
  refine am_aconst_null dX8_init_2 ?_
  refine am_iconst dX8_init_3 ?_
  refine am_iconst dX8_init_4 ?_
  refine am_rIv (n := 4) hh dX8_init_5 q1069 q336 q98 q337 rfl ⟨⟨by decide, by decide, by decide +kernel⟩, ⟨Nat.le_of_ble_eq_true rfl, Nat.le_of_ble_eq_true rfl⟩⟩ ⟨rfl, rfl⟩ rfl rfl (Nat.le_of_ble_eq_true rfl) ⟨(Nat.le_of_ble_eq_true rfl), (Nat.le_of_ble_eq_true rfl)⟩ (fun G1 hh => ?_)
  refine am_aload_n dX8_init_8 rfl 0 rfl ?_
  refine am_iload_n dX8_init_9 rfl 1 rfl ?_
  obtain ⟨fs2, ho3, hh⟩ := hh
  obtain ⟨o4, hh⟩ := hh
  obtain ⟨o5, hh⟩ := hh
  refine ah_putF (ty := tyX8 6) ho3 o4 o5 rfl in_X8 tyX8 tyX8_ok nmX8 (by decide) q1070 rfl rfl rfl (tyX8_ok 6 (by decide)) ah_fit_int dX8_init_10 ?_
  have hh := hh _ rfl
  refine am_aload_n dX8_init_13 rfl 0 rfl ?_
  refine am_iload_n dX8_init_14 rfl 2 rfl ?_
  obtain ⟨fs8, ho9, hh⟩ := hh
  obtain ⟨o10, hh⟩ := hh
  refine ah_putF (ty := tyX8 7) ho9 o4 o10 rfl in_X8 tyX8 tyX8_ok nmX8 (by decide) q1072 rfl rfl rfl (tyX8_ok 7 (by decide)) ah_fit_int dX8_init_15 ?_
  have hh := hh _ rfl
  exact am_vret rfl dX8_init_18 (Nat.le_refl 0) (Nat.le_refl 0) hh
/-! TableArms$Never.<init>(III)V -/
abbrev VX9_init (l : Launch) (Q : Option am_W → ah_H → Prop) (pc : Nat) (lv : List (Nat × am_W)) (st : List am_W) (S : ah_H) : Prop := am_V ah_r l RX9 cX9_init 4 none "<init>" (am_rm 2 0 0) (am_E1 ah_r 0 0 Q) pc lv st S 0 0
abbrev kX9_init (l : Launch) (as : List am_W) (S : ah_H) (Q : Option am_W → ah_H → Prop) : Prop := am_C ah_r l yX9_init (ws_ yX9_init cX9_init 4 none) (am_rm 2 0 0) 0 0 as S Q
set_option maxHeartbeats 4000000 in
set_option maxRecDepth 100000 in
theorem bX9_init {l : Launch} {Q : Option am_W → ah_H → Prop} {S : ah_H} (v0 : Nat) (v1 : Int) (h1 : am_r v1) (v2 : Int) (h2 : am_r v2) (v3 : Int) (h3 : am_r v3)
    (hh : (∃ fs1, (S.1 v0 = some (.inl (9, fs1))) ∧
      (ah_X ≤ v0) ∧
      (0 < fs1.length) ∧
      (∀ G5, G5 = ah_sf S v0 9 fs1 0 (am_I v1) →
      (∃ fs7, (G5.1 v0 = some (.inl (9, fs7))) ∧
      (1 < fs7.length) ∧
      (∀ G10, G10 = ah_sf G5 v0 9 fs7 1 (am_I v2) →
      (∃ fs12, (G10.1 v0 = some (.inl (9, fs12))) ∧
      (2 < fs12.length) ∧
      (∀ G15, G15 = ah_sf G10 v0 9 fs12 2 (am_I v3) →
      Q none G15))))))) : kX9_init l [am_R v0, am_I v1, am_I v2, am_I v3] S Q := by
  refine am_entry (lv := [(0, am_R v0), (1, am_I v1), (2, am_I v2), (3, am_I v3)]) rfl rfl rfl (fun _ => rfl) (fun _ => Nat.le_of_ble_eq_true rfl) ?_
  refine am_aload_n dX9_init_0 rfl 0 rfl ?_
  refine am_objInit q1101 q133 q134 dX9_init_1 (Nat.le_of_ble_eq_true rfl) (Nat.le_of_ble_eq_true rfl) ?_
  refine am_aload_n dX9_init_4 rfl 0 rfl ?_
  refine am_iload_n dX9_init_5 rfl 1 rfl ?_
  obtain ⟨fs1, ho2, hh⟩ := hh
  obtain ⟨o3, hh⟩ := hh
  obtain ⟨o4, hh⟩ := hh
  refine ah_putF (ty := tyX9 0) ho2 o3 o4 rfl in_X9 tyX9 tyX9_ok nmX9 (by decide) q1102 rfl rfl rfl (tyX9_ok 0 (by decide)) ah_fit_int dX9_init_6 ?_
  have hh := hh _ rfl
  refine am_aload_n dX9_init_9 rfl 0 rfl ?_
  refine am_iload_n dX9_init_10 rfl 2 rfl ?_
  obtain ⟨fs7, ho8, hh⟩ := hh
  obtain ⟨o9, hh⟩ := hh
  refine ah_putF (ty := tyX9 1) ho8 o3 o9 rfl in_X9 tyX9 tyX9_ok nmX9 (by decide) q1104 rfl rfl rfl (tyX9_ok 1 (by decide)) ah_fit_int dX9_init_11 ?_
  have hh := hh _ rfl
  refine am_aload_n dX9_init_14 rfl 0 rfl ?_
  refine am_iload_n dX9_init_15 rfl 3 rfl ?_
  obtain ⟨fs12, ho13, hh⟩ := hh
  obtain ⟨o14, hh⟩ := hh
  refine ah_putF (ty := tyX9 2) ho13 o3 o14 rfl in_X9 tyX9 tyX9_ok nmX9 (by decide) q1106 rfl rfl rfl (tyX9_ok 2 (by decide)) ah_fit_int dX9_init_16 ?_
  have hh := hh _ rfl
  exact am_vret rfl dX9_init_19 (Nat.le_refl 0) (Nat.le_refl 0) hh
/-! TableArms.fault()I -/
abbrev VX0_fault (l : Launch) (Q : Option am_W → ah_H → Prop) (pc : Nat) (lv : List (Nat × am_W)) (st : List am_W) (S : ah_H) : Prop := am_V ah_r l RX0 cX0_fault 1 (some .int) "fault" (am_rm 1 0 0) (am_E1 ah_r 0 0 Q) pc lv st S 0 0
abbrev kX0_fault (l : Launch) (as : List am_W) (S : ah_H) (Q : Option am_W → ah_H → Prop) : Prop := am_C ah_r l yX0_fault (ws_ yX0_fault cX0_fault 1 (some .int)) (am_rm 1 0 0) 0 0 as S Q
set_option maxHeartbeats 4000000 in
set_option maxRecDepth 100000 in
theorem bX0_fault {l : Launch} {Q : Option am_W → ah_H → Prop} {S : ah_H} (v0 : Nat)
    (hh : (∃ fs1, (S.1 v0 = some (.inl (1, fs1))) ∧
      (∃ z4, (fs1[14]? = some (am_I z4) ∧ am_r z4) ∧
      Q (some (am_I z4)) S))) : kX0_fault l [am_R v0] S Q := by
  refine am_entry (lv := [(0, am_R v0)]) rfl rfl rfl (fun _ => rfl) (fun _ => Nat.le_of_ble_eq_true rfl) ?_
  refine am_aload_n dX0_fault_0 rfl 0 rfl ?_
  obtain ⟨fs1, ho2, hh⟩ := hh
  obtain ⟨z4, ⟨hv3, hr5⟩, hh⟩ := hh
  refine ah_get ho2 hv3 rfl in_X0 (by decide) q228 (Or.inl rfl) dX0_fault_1 ?_
  exact am_iret rfl dX0_fault_4 (Nat.le_refl 0) (Nat.le_refl 0) hh
/-! TableArms.weightOn(LTableArms$Table;I)I -/
abbrev VX0_weightOn (l : Launch) (Q : Option am_W → ah_H → Prop) (pc : Nat) (lv : List (Nat × am_W)) (st : List am_W) (S : ah_H) : Prop := am_V ah_r l RX0 cX0_weightOn 6 (some .int) "weightOn" (am_rm 2 0 0) (am_E1 ah_r 0 0 Q) pc lv st S 0 0
abbrev kX0_weightOn (l : Launch) (as : List am_W) (S : ah_H) (Q : Option am_W → ah_H → Prop) : Prop := am_C ah_r l yX0_weightOn (ws_ yX0_weightOn cX0_weightOn 6 (some .int)) (am_rm 2 0 0) 0 0 as S Q
set_option maxHeartbeats 4000000 in
set_option maxRecDepth 100000 in
theorem bX0_weightOn {l : Launch} {Q : Option am_W → ah_H → Prop} {S : ah_H} (v0 : Nat) (v1 : Nat) (v2 : Int) (h2 : am_r v2)
    (hh : VX0_weightOn l Q 5 [(0, am_R v0), (1, am_R v1), (2, am_I v2), (3, am_I 0), (4, am_I 0)] [] S) : kX0_weightOn l [am_R v0, am_R v1, am_I v2] S Q := by
  refine am_entry (lv := [(0, am_R v0), (1, am_R v1), (2, am_I v2)]) rfl rfl rfl (fun _ => rfl) (fun _ => Nat.le_of_ble_eq_true rfl) ?_
  refine am_iconst dX0_weightOn_0 ?_
  refine am_istore_n dX0_weightOn_1 rfl (by decide) rfl ?_
  refine am_iconst dX0_weightOn_2 ?_
  refine am_istore dX0_weightOn_3 (by decide) rfl ?_
  refine am_keep [2, 3, 4, 1, 0] rfl ?_
  exact hh
set_option maxHeartbeats 4000000 in
set_option maxRecDepth 100000 in
theorem bX0_weightOn_5 {l : Launch} {Q : Option am_W → ah_H → Prop} {S : ah_H} (v0 : Nat) (v1 : Nat) (v2 : Int) (h2 : am_r v2) (v3 : Int) (h3 : am_r v3) (v4 : Int) (h4 : am_r v4)
    (hh : (∃ fs1, (S.1 v1 = some (.inl (2, fs1))) ∧
      (∃ x4, (fs1[1]? = some (am_R x4)) ∧
      (∃ n5 f6, (S.1 x4 = some (.inr (0, n5, .inl f6))) ∧
      (0 ≤ v2 ∧ v2 < (n5 : Int)) ∧
      ((((f6 v2.toNat).toInt) ≤ v4) →
        Q (some (am_I v3)) S) ∧
      ((¬ ((f6 v2.toNat).toInt) ≤ v4) →
        kX1_at l [am_R v1, am_I v2, am_I v4] S (am_qi fun r13 G12 =>
          (∃ fs15, (G12.1 v0 = some (.inl (1, fs15))) ∧
          (∃ x18, (fs15[3]? = some (am_R x18)) ∧
          (∃ n19 f20, (G12.1 x18 = some (.inr (0, n19, .inl f20))) ∧
          (0 ≤ r13 ∧ r13 < (n19 : Int)) ∧
          (∃ fs23, (G12.1 v1 = some (.inl (2, fs23))) ∧
          (∃ x26, (fs23[4]? = some (am_R x26)) ∧
          (∃ n27 f28, (G12.1 x26 = some (.inr (0, n27, .inl f28))) ∧
          (0 ≤ r13 ∧ r13 < (n27 : Int)) ∧
          ((¬ ((f28 r13.toNat).toInt) = (-1000000)) →
            (0 ≤ (f28 r13.toNat).toInt ∧ (f28 r13.toNat).toInt < (n19 : Int)) ∧
            VX0_weightOn l Q 5 [(0, am_R v0), (1, am_R v1), (2, am_I v2), (3, am_I (v3 + ((f20 r13.toNat).toInt + (f20 ((f28 r13.toNat).toInt).toNat).toInt))), (4, am_I (v4 + 1))] [] G12) ∧
          ((((f28 r13.toNat).toInt) = (-1000000)) →
            VX0_weightOn l Q 5 [(0, am_R v0), (1, am_R v1), (2, am_I v2), (3, am_I (v3 + ((f20 r13.toNat).toInt + 0))), (4, am_I (v4 + 1))] [] G12))))))))))))) : VX0_weightOn l Q 5 [(0, am_R v0), (1, am_R v1), (2, am_I v2), (3, am_I v3), (4, am_I v4)] [] S := by
  refine am_iload dX0_weightOn_5 4 rfl ?_
  refine am_aload_n dX0_weightOn_7 rfl 1 rfl ?_
  obtain ⟨fs1, ho2, hh⟩ := hh
  obtain ⟨x4, hv3, hh⟩ := hh
  refine ah_getN ho2 hv3 rfl in_X1 (by decide) (am_nwin q145 rfl) dX0_weightOn_8 ?_
  refine am_iload_n dX0_weightOn_11 rfl 2 rfl ?_
  obtain ⟨n5, f6, ha7, hh⟩ := hh
  obtain ⟨o8, hh⟩ := hh
  refine ah_iald ha7 o8.1 o8.2 (v := (f6 v2.toNat).toInt) rfl dX0_weightOn_12 ?_
  obtain ⟨ha9, hb10⟩ := hh
  refine am_icmp_ge (tgt := 70) dX0_weightOn_13 (by decide) h4 (am_rt _) (fun hc11 => ?_) (fun hc11 => ?_)
  · have hh := ha9 hc11
    refine am_iload_n dX0_weightOn_70 rfl 3 rfl ?_
    exact am_iret rfl dX0_weightOn_71 (Nat.le_refl 0) (Nat.le_refl 0) hh
  · have hh := hb10 hc11
    refine am_aload_n dX0_weightOn_16 rfl 1 rfl ?_
    refine am_iload_n dX0_weightOn_17 rfl 2 rfl ?_
    refine am_iload dX0_weightOn_18 4 rfl ?_
    refine am_rVi (n := 2) hh dX0_weightOn_20 (lw_V q489 q478 q479 q91 q480) rfl ⟨⟨by decide, by decide, by decide +kernel⟩, ⟨Nat.le_of_ble_eq_true rfl, Nat.le_of_ble_eq_true rfl⟩⟩ ⟨rfl, rfl⟩ rfl rfl (Nat.le_of_ble_eq_true rfl) ⟨(Nat.le_of_ble_eq_true rfl), (Nat.le_of_ble_eq_true rfl)⟩ (ah_recv ho2 rfl) (fun r13 G12 hr14 hh => ?_)
    refine am_istore dX0_weightOn_23 (by decide) rfl ?_
    refine am_iload_n dX0_weightOn_25 rfl 4 rfl ?_
    refine am_aload_n dX0_weightOn_26 rfl 1 rfl ?_
    obtain ⟨fs15, ho16, hh⟩ := hh
    obtain ⟨x18, hv17, hh⟩ := hh
    refine ah_get ho16 hv17 rfl in_X0 (by decide) q214 (Or.inl rfl) dX0_weightOn_27 ?_
    refine am_iload dX0_weightOn_30 0 rfl ?_
    obtain ⟨n19, f20, ha21, hh⟩ := hh
    obtain ⟨o22, hh⟩ := hh
    refine ah_iald ha21 o22.1 o22.2 (v := (f20 r13.toNat).toInt) rfl dX0_weightOn_32 ?_
    refine am_aload_n dX0_weightOn_33 rfl 2 rfl ?_
    obtain ⟨fs23, ho24, hh⟩ := hh
    obtain ⟨x26, hv25, hh⟩ := hh
    refine ah_getN ho24 hv25 rfl in_X1 (by decide) (am_nwin q153 rfl) dX0_weightOn_34 ?_
    refine am_iload dX0_weightOn_37 0 rfl ?_
    obtain ⟨n27, f28, ha29, hh⟩ := hh
    obtain ⟨o30, hh⟩ := hh
    refine ah_iald ha29 o30.1 o30.2 (v := (f28 r13.toNat).toInt) rfl dX0_weightOn_39 ?_
    refine am_ldc (z := -1000000) q472 (by decide) dX0_weightOn_40 ?_
    obtain ⟨ha31, hb32⟩ := hh
    refine am_icmp_ne (tgt := 49) dX0_weightOn_42 (by decide) (am_rt _) (⟨by decide, by decide⟩) (fun hc33 => ?_) (fun hc33 => ?_)
    · have hh := ha31 hc33
      refine am_aload_n dX0_weightOn_49 rfl 1 rfl ?_
      refine ah_get ho16 hv17 rfl in_X0 (by decide) q214 (Or.inl rfl) dX0_weightOn_50 ?_
      refine am_aload_n dX0_weightOn_53 rfl 2 rfl ?_
      refine ah_getN ho24 hv25 rfl in_X1 (by decide) (am_nwin q153 rfl) dX0_weightOn_54 ?_
      refine am_iload dX0_weightOn_57 0 rfl ?_
      refine ah_iald ha29 o30.1 o30.2 (v := (f28 r13.toNat).toInt) rfl dX0_weightOn_59 ?_
      obtain ⟨o34, hh⟩ := hh
      refine ah_iald ha21 o34.1 o34.2 (v := (f20 ((f28 r13.toNat).toInt).toNat).toInt) rfl dX0_weightOn_60 ?_
      refine am_iadd dX0_weightOn_61 ?_
      refine am_iadd dX0_weightOn_62 ?_
      refine am_istore_n dX0_weightOn_63 rfl (by decide) rfl ?_
      refine am_iinc (n := 5) dX0_weightOn_64 rfl (by decide) rfl ?_
      refine am_goto (tgt := 5) dX0_weightOn_67 (by decide) ?_
      refine am_keep [3, 4, 5, 1, 0] rfl ?_
      exact hh
    · have hh := hb32 hc33
      refine am_iconst dX0_weightOn_45 ?_
      refine am_goto (tgt := 61) dX0_weightOn_46 (by decide) ?_
      refine am_iadd dX0_weightOn_61 ?_
      refine am_iadd dX0_weightOn_62 ?_
      refine am_istore_n dX0_weightOn_63 rfl (by decide) rfl ?_
      refine am_iinc (n := 5) dX0_weightOn_64 rfl (by decide) rfl ?_
      refine am_goto (tgt := 5) dX0_weightOn_67 (by decide) ?_
      refine am_keep [3, 4, 5, 1, 0] rfl ?_
      exact hh
/-! TableArms.isBroken(LTableArms$Table;LTableArms$Never;)Z -/
abbrev VX0_isBroken (l : Launch) (Q : Option am_W → ah_H → Prop) (pc : Nat) (lv : List (Nat × am_W)) (st : List am_W) (S : ah_H) : Prop := am_V ah_r l RX0 cX0_isBroken 4 (some .boolean) "isBroken" (am_rm 5 0 0) (am_E1 ah_r 0 0 Q) pc lv st S 0 0
abbrev kX0_isBroken (l : Launch) (as : List am_W) (S : ah_H) (Q : Option am_W → ah_H → Prop) : Prop := am_C ah_r l yX0_isBroken (ws_ yX0_isBroken cX0_isBroken 4 (some .boolean)) (am_rm 5 0 0) 0 0 as S Q
set_option maxHeartbeats 4000000 in
set_option maxRecDepth 100000 in
theorem bX0_isBroken {l : Launch} {Q : Option am_W → ah_H → Prop} {S : ah_H} (v0 : Nat) (v1 : Nat) (v2 : Nat)
    (hh : (∃ fs1, (S.1 v2 = some (.inl (9, fs1))) ∧
      (∃ z4, (fs1[0]? = some (am_I z4) ∧ am_r z4) ∧
      ((¬ z4 = 4) →
        VX0_isBroken l Q 32 [(0, am_R v0), (1, am_R v1), (2, am_R v2), (3, am_I 0)] [] S) ∧
      ((z4 = 4) →
        (∃ z10, (fs1[1]? = some (am_I z10) ∧ am_r z10) ∧
        (∃ fs12, (S.1 v0 = some (.inl (1, fs12))) ∧
        kX0_weightOn l [am_R v0, am_R v1, am_I z10] S (am_qi fun r15 G14 =>
          (∃ fs17, (G14.1 v2 = some (.inl (9, fs17))) ∧
          (∃ z20, (fs17[2]? = some (am_I z20) ∧ am_r z20) ∧
          ((r15 ≤ z20) →
            Q (some (am_I (am_b false))) G14) ∧
          ((¬ r15 ≤ z20) →
            Q (some (am_I (am_b true))) G14)))))))))) : kX0_isBroken l [am_R v0, am_R v1, am_R v2] S Q := by
  refine am_entry (lv := [(0, am_R v0), (1, am_R v1), (2, am_R v2)]) rfl rfl rfl (fun _ => rfl) (fun _ => Nat.le_of_ble_eq_true rfl) ?_
  refine am_aload_n dX0_isBroken_0 rfl 2 rfl ?_
  obtain ⟨fs1, ho2, hh⟩ := hh
  obtain ⟨z4, ⟨hv3, hr5⟩, hh⟩ := hh
  refine ah_get ho2 hv3 rfl in_X9 (by decide) q1103 (Or.inl rfl) dX0_isBroken_1 ?_
  refine am_iconst dX0_isBroken_4 ?_
  obtain ⟨ha6, hb7⟩ := hh
  refine am_icmp_ne (tgt := 30) dX0_isBroken_5 (by decide) hr5 (⟨by decide, by decide⟩) (fun hc8 => ?_) (fun hc8 => ?_)
  · have hh := ha6 hc8
    refine am_iconst dX0_isBroken_30 ?_
    refine am_istore_n dX0_isBroken_31 rfl (by decide) rfl ?_
    refine am_keep [1, 2, 3, 0] rfl ?_
    exact hh
  · have hh := hb7 hc8
    refine am_aload_n dX0_isBroken_8 rfl 0 rfl ?_
    refine am_aload_n dX0_isBroken_9 rfl 1 rfl ?_
    refine am_aload_n dX0_isBroken_10 rfl 2 rfl ?_
    obtain ⟨z10, ⟨hv9, hr11⟩, hh⟩ := hh
    refine ah_get ho2 hv9 rfl in_X9 (by decide) q1105 (Or.inl rfl) dX0_isBroken_11 ?_
    obtain ⟨fs12, ho13, hh⟩ := hh
    refine am_rVi (n := 2) hh dX0_isBroken_14 (lw_V q1139 q1141 qs35 q90 q1142) rfl ⟨⟨by decide, by decide, by decide +kernel⟩, ⟨Nat.le_of_ble_eq_true rfl, Nat.le_of_ble_eq_true rfl⟩⟩ ⟨rfl, rfl⟩ rfl rfl (Nat.le_of_ble_eq_true rfl) ⟨(Nat.le_of_ble_eq_true rfl), (Nat.le_of_ble_eq_true rfl)⟩ (ah_recv ho13 rfl) (fun r15 G14 hr16 hh => ?_)
    refine am_aload_n dX0_isBroken_17 rfl 2 rfl ?_
    obtain ⟨fs17, ho18, hh⟩ := hh
    obtain ⟨z20, ⟨hv19, hr21⟩, hh⟩ := hh
    refine ah_get ho18 hv19 rfl in_X9 (by decide) q1107 (Or.inl rfl) dX0_isBroken_18 ?_
    obtain ⟨ha22, hb23⟩ := hh
    refine am_icmp_le (tgt := 28) dX0_isBroken_21 (by decide) hr16 hr21 (fun hc24 => ?_) (fun hc24 => ?_)
    · have hh := ha22 hc24
      refine am_iconst dX0_isBroken_28 ?_
      exact am_zret (b := false) rfl dX0_isBroken_29 (Nat.le_refl 0) (Nat.le_refl 0) hh
    · have hh := hb23 hc24
      refine am_iconst dX0_isBroken_24 ?_
      refine am_goto (tgt := 29) dX0_isBroken_25 (by decide) ?_
      exact am_zret (b := true) rfl dX0_isBroken_29 (Nat.le_refl 0) (Nat.le_refl 0) hh
set_option maxHeartbeats 4000000 in
set_option maxRecDepth 100000 in
theorem bX0_isBroken_32 {l : Launch} {Q : Option am_W → ah_H → Prop} {S : ah_H} (v0 : Nat) (v1 : Nat) (v2 : Nat) (v3 : Int) (h3 : am_r v3)
    (hh : (∃ fs1, (S.1 v0 = some (.inl (1, fs1))) ∧
      (∃ z4, (fs1[1]? = some (am_I z4) ∧ am_r z4) ∧
      ((z4 ≤ v3) →
        Q (some (am_I (am_b false))) S) ∧
      ((¬ z4 ≤ v3) →
        (∃ x10, (fs1[2]? = some (am_R x10)) ∧
        (∃ n11 f12, (S.1 x10 = some (.inr (0, n11, .inl f12))) ∧
        (0 ≤ v3 ∧ v3 < (n11 : Int)) ∧
        (∃ fs15, (S.1 v2 = some (.inl (9, fs15))) ∧
        (∃ z18, (fs15[1]? = some (am_I z18) ∧ am_r z18) ∧
        ((((f12 v3.toNat).toInt) = z18) →
          (∃ z24, (fs15[0]? = some (am_I z24) ∧ am_r z24) ∧
          ((¬ z24 = 3) →
            (∃ z30, (fs15[2]? = some (am_I z30) ∧ am_r z30) ∧
            kX0_isAsTold l [am_R v0, am_R v1, am_I v3, am_I z24, am_I z30] S (am_qz fun b33 G32 =>
              ((b33 = false) →
                VX0_isBroken l Q 32 [(0, am_R v0), (1, am_R v1), (2, am_R v2), (3, am_I (v3 + 1))] [] G32) ∧
              ((b33 = true) →
                Q (some (am_I (am_b true))) G32)))) ∧
          ((z24 = 3) →
            (∃ fs37, (S.1 v1 = some (.inl (2, fs37))) ∧
            (∃ x40, (fs37[3]? = some (am_R x40)) ∧
            (∃ n41 f42, (S.1 x40 = some (.inr (0, n41, .inl f42))) ∧
            (0 ≤ v3 ∧ v3 < (n41 : Int)) ∧
            ((¬ ((f42 v3.toNat).toInt) = (-1000000)) →
              VX0_isBroken l Q 32 [(0, am_R v0), (1, am_R v1), (2, am_R v2), (3, am_I (v3 + 1))] [] S) ∧
            ((((f42 v3.toNat).toInt) = (-1000000)) →
              (∃ x49, (fs37[2]? = some (am_R x49)) ∧
              (∃ n50 f51, (S.1 x49 = some (.inr (0, n50, .inl f51))) ∧
              (0 ≤ v3 ∧ v3 < (n50 : Int)) ∧
              (∃ z55, (fs15[2]? = some (am_I z55) ∧ am_r z55) ∧
              ((¬ ((f51 v3.toNat).toInt) = z55) →
                VX0_isBroken l Q 32 [(0, am_R v0), (1, am_R v1), (2, am_R v2), (3, am_I (v3 + 1))] [] S) ∧
              ((((f51 v3.toNat).toInt) = z55) →
                Q (some (am_I (am_b true))) S))))))))))) ∧
        ((¬ ((f12 v3.toNat).toInt) = z18) →
          VX0_isBroken l Q 32 [(0, am_R v0), (1, am_R v1), (2, am_R v2), (3, am_I (v3 + 1))] [] S))))))))) : VX0_isBroken l Q 32 [(0, am_R v0), (1, am_R v1), (2, am_R v2), (3, am_I v3)] [] S := by
  refine am_iload_n dX0_isBroken_32 rfl 3 rfl ?_
  refine am_aload_n dX0_isBroken_33 rfl 0 rfl ?_
  obtain ⟨fs1, ho2, hh⟩ := hh
  obtain ⟨z4, ⟨hv3, hr5⟩, hh⟩ := hh
  refine ah_get ho2 hv3 rfl in_X0 (by decide) q210 (Or.inl rfl) dX0_isBroken_34 ?_
  obtain ⟨ha6, hb7⟩ := hh
  refine am_icmp_ge (tgt := 116) dX0_isBroken_37 (by decide) h3 hr5 (fun hc8 => ?_) (fun hc8 => ?_)
  · have hh := ha6 hc8
    refine am_iconst dX0_isBroken_116 ?_
    exact am_zret (b := false) rfl dX0_isBroken_117 (Nat.le_refl 0) (Nat.le_refl 0) hh
  · have hh := hb7 hc8
    refine am_aload_n dX0_isBroken_40 rfl 0 rfl ?_
    obtain ⟨x10, hv9, hh⟩ := hh
    refine ah_get ho2 hv9 rfl in_X0 (by decide) q211 (Or.inl rfl) dX0_isBroken_41 ?_
    refine am_iload_n dX0_isBroken_44 rfl 3 rfl ?_
    obtain ⟨n11, f12, ha13, hh⟩ := hh
    obtain ⟨o14, hh⟩ := hh
    refine ah_iald ha13 o14.1 o14.2 (v := (f12 v3.toNat).toInt) rfl dX0_isBroken_45 ?_
    refine am_aload_n dX0_isBroken_46 rfl 2 rfl ?_
    obtain ⟨fs15, ho16, hh⟩ := hh
    obtain ⟨z18, ⟨hv17, hr19⟩, hh⟩ := hh
    refine ah_get ho16 hv17 rfl in_X9 (by decide) q1105 (Or.inl rfl) dX0_isBroken_47 ?_
    obtain ⟨ha20, hb21⟩ := hh
    refine am_icmp_eq (tgt := 56) dX0_isBroken_50 (by decide) (am_rt _) hr19 (fun hc22 => ?_) (fun hc22 => ?_)
    · have hh := ha20 hc22
      refine am_aload_n dX0_isBroken_56 rfl 2 rfl ?_
      obtain ⟨z24, ⟨hv23, hr25⟩, hh⟩ := hh
      refine ah_get ho16 hv23 rfl in_X9 (by decide) q1103 (Or.inl rfl) dX0_isBroken_57 ?_
      refine am_iconst dX0_isBroken_60 ?_
      obtain ⟨ha26, hb27⟩ := hh
      refine am_icmp_ne (tgt := 91) dX0_isBroken_61 (by decide) hr25 (⟨by decide, by decide⟩) (fun hc28 => ?_) (fun hc28 => ?_)
      · have hh := ha26 hc28
        refine am_aload_n dX0_isBroken_91 rfl 0 rfl ?_
        refine am_aload_n dX0_isBroken_92 rfl 1 rfl ?_
        refine am_iload_n dX0_isBroken_93 rfl 3 rfl ?_
        refine am_aload_n dX0_isBroken_94 rfl 2 rfl ?_
        refine ah_get ho16 hv23 rfl in_X9 (by decide) q1103 (Or.inl rfl) dX0_isBroken_95 ?_
        refine am_aload_n dX0_isBroken_98 rfl 2 rfl ?_
        obtain ⟨z30, ⟨hv29, hr31⟩, hh⟩ := hh
        refine ah_get ho16 hv29 rfl in_X9 (by decide) q1107 (Or.inl rfl) dX0_isBroken_99 ?_
        refine am_rVz (n := 4) hh dX0_isBroken_102 (lw_V q580 q582 qs12 q90 q583) rfl ⟨⟨by decide, by decide, by decide +kernel⟩, ⟨Nat.le_of_ble_eq_true rfl, Nat.le_of_ble_eq_true rfl⟩⟩ ⟨rfl, rfl⟩ rfl rfl (Nat.le_of_ble_eq_true rfl) ⟨(Nat.le_of_ble_eq_true rfl), (Nat.le_of_ble_eq_true rfl)⟩ (ah_recv ho2 rfl) (fun b33 G32 hh => ?_)
        obtain ⟨ha34, hb35⟩ := hh
        refine am_ifB_eq (tgt := 110) dX0_isBroken_105 (by decide) (fun hc36 => ?_) (fun hc36 => ?_)
        · have hh := ha34 hc36
          refine am_iinc (n := 3) dX0_isBroken_110 rfl (by decide) rfl ?_
          refine am_goto (tgt := 32) dX0_isBroken_113 (by decide) ?_
          refine am_keep [1, 2, 3, 0] rfl ?_
          exact hh
        · have hh := hb35 hc36
          refine am_iconst dX0_isBroken_108 ?_
          exact am_zret (b := true) rfl dX0_isBroken_109 (Nat.le_refl 0) (Nat.le_refl 0) hh
      · have hh := hb27 hc28
        refine am_aload_n dX0_isBroken_64 rfl 1 rfl ?_
        obtain ⟨fs37, ho38, hh⟩ := hh
        obtain ⟨x40, hv39, hh⟩ := hh
        refine ah_getN ho38 hv39 rfl in_X1 (by decide) (am_nwin q150 rfl) dX0_isBroken_65 ?_
        refine am_iload_n dX0_isBroken_68 rfl 3 rfl ?_
        obtain ⟨n41, f42, ha43, hh⟩ := hh
        obtain ⟨o44, hh⟩ := hh
        refine ah_iald ha43 o44.1 o44.2 (v := (f42 v3.toNat).toInt) rfl dX0_isBroken_69 ?_
        refine am_ldc (z := -1000000) q472 (by decide) dX0_isBroken_70 ?_
        obtain ⟨ha45, hb46⟩ := hh
        refine am_icmp_ne (tgt := 110) dX0_isBroken_72 (by decide) (am_rt _) (⟨by decide, by decide⟩) (fun hc47 => ?_) (fun hc47 => ?_)
        · have hh := ha45 hc47
          refine am_iinc (n := 3) dX0_isBroken_110 rfl (by decide) rfl ?_
          refine am_goto (tgt := 32) dX0_isBroken_113 (by decide) ?_
          refine am_keep [1, 2, 3, 0] rfl ?_
          exact hh
        · have hh := hb46 hc47
          refine am_aload_n dX0_isBroken_75 rfl 1 rfl ?_
          obtain ⟨x49, hv48, hh⟩ := hh
          refine ah_getN ho38 hv48 rfl in_X1 (by decide) (am_nwin q147 rfl) dX0_isBroken_76 ?_
          refine am_iload_n dX0_isBroken_79 rfl 3 rfl ?_
          obtain ⟨n50, f51, ha52, hh⟩ := hh
          obtain ⟨o53, hh⟩ := hh
          refine ah_iald ha52 o53.1 o53.2 (v := (f51 v3.toNat).toInt) rfl dX0_isBroken_80 ?_
          refine am_aload_n dX0_isBroken_81 rfl 2 rfl ?_
          obtain ⟨z55, ⟨hv54, hr56⟩, hh⟩ := hh
          refine ah_get ho16 hv54 rfl in_X9 (by decide) q1107 (Or.inl rfl) dX0_isBroken_82 ?_
          obtain ⟨ha57, hb58⟩ := hh
          refine am_icmp_ne (tgt := 110) dX0_isBroken_85 (by decide) (am_rt _) hr56 (fun hc59 => ?_) (fun hc59 => ?_)
          · have hh := ha57 hc59
            refine am_iinc (n := 3) dX0_isBroken_110 rfl (by decide) rfl ?_
            refine am_goto (tgt := 32) dX0_isBroken_113 (by decide) ?_
            refine am_keep [1, 2, 3, 0] rfl ?_
            exact hh
          · have hh := hb58 hc59
            refine am_goto (tgt := 108) dX0_isBroken_88 (by decide) ?_
            refine am_iconst dX0_isBroken_108 ?_
            exact am_zret (b := true) rfl dX0_isBroken_109 (Nat.le_refl 0) (Nat.le_refl 0) hh
    · have hh := hb21 hc22
      refine am_goto (tgt := 110) dX0_isBroken_53 (by decide) ?_
      refine am_iinc (n := 3) dX0_isBroken_110 rfl (by decide) rfl ?_
      refine am_goto (tgt := 32) dX0_isBroken_113 (by decide) ?_
      refine am_keep [1, 2, 3, 0] rfl ?_
      exact hh
/-! TableArms.brokenOn(LTableArms$Table;)I -/
abbrev VX0_brokenOn (l : Launch) (Q : Option am_W → ah_H → Prop) (pc : Nat) (lv : List (Nat × am_W)) (st : List am_W) (S : ah_H) : Prop := am_V ah_r l RX0 cX0_brokenOn 4 (some .int) "brokenOn" (am_rm 6 0 0) (am_E1 ah_r 0 0 Q) pc lv st S 0 0
abbrev kX0_brokenOn (l : Launch) (as : List am_W) (S : ah_H) (Q : Option am_W → ah_H → Prop) : Prop := am_C ah_r l yX0_brokenOn (ws_ yX0_brokenOn cX0_brokenOn 4 (some .int)) (am_rm 6 0 0) 0 0 as S Q
set_option maxHeartbeats 4000000 in
set_option maxRecDepth 100000 in
theorem bX0_brokenOn {l : Launch} {Q : Option am_W → ah_H → Prop} {S : ah_H} (v0 : Nat) (v1 : Nat)
    (hh : VX0_brokenOn l Q 4 [(0, am_R v0), (1, am_R v1), (2, am_I 0), (3, am_I 0)] [] S) : kX0_brokenOn l [am_R v0, am_R v1] S Q := by
  refine am_entry (lv := [(0, am_R v0), (1, am_R v1)]) rfl rfl rfl (fun _ => rfl) (fun _ => Nat.le_of_ble_eq_true rfl) ?_
  refine am_iconst dX0_brokenOn_0 ?_
  refine am_istore_n dX0_brokenOn_1 rfl (by decide) rfl ?_
  refine am_iconst dX0_brokenOn_2 ?_
  refine am_istore_n dX0_brokenOn_3 rfl (by decide) rfl ?_
  refine am_keep [2, 3, 1, 0] rfl ?_
  exact hh
set_option maxHeartbeats 4000000 in
set_option maxRecDepth 100000 in
theorem bX0_brokenOn_4 {l : Launch} {Q : Option am_W → ah_H → Prop} {S : ah_H} (v0 : Nat) (v1 : Nat) (v2 : Int) (h2 : am_r v2) (v3 : Int) (h3 : am_r v3)
    (hh : (∃ fs1, (S.1 v0 = some (.inl (1, fs1))) ∧
      (∃ x4, (fs1[15]? = some (am_R x4)) ∧
      (∃ fs5, (S.1 x4 = some (.inl (15, fs5))) ∧
      kJ2_size l [am_R x4] S (am_qi fun r8 G7 =>
        ((r8 ≤ v3) →
          Q (some (am_I v2)) G7) ∧
        ((¬ r8 ≤ v3) →
          (∃ fs13, (G7.1 v0 = some (.inl (1, fs13))) ∧
          (∃ x16, (fs13[15]? = some (am_R x16)) ∧
          (∃ fs17, (G7.1 x16 = some (.inl (15, fs17))) ∧
          kJ2_get l [am_R x16, am_I v3] G7 (am_qo fun a20 G19 => ∃ y21, a20 = some y21 ∧
            (ah_is G19 (some y21) "TableArms$Never") ∧
            (∃ fs23, (G19.1 v0 = some (.inl (1, fs23))) ∧
            kX0_isBroken l [am_R v0, am_R v1, am_R y21] G19 (am_qz fun b26 G25 =>
              ((b26 = false) →
                VX0_brokenOn l Q 4 [(0, am_R v0), (1, am_R v1), (2, am_I (v2 + 0)), (3, am_I (v3 + 1))] [] G25) ∧
              ((b26 = true) →
                VX0_brokenOn l Q 4 [(0, am_R v0), (1, am_R v1), (2, am_I (v2 + 1)), (3, am_I (v3 + 1))] [] G25))))))))))))) : VX0_brokenOn l Q 4 [(0, am_R v0), (1, am_R v1), (2, am_I v2), (3, am_I v3)] [] S := by
  refine am_iload_n dX0_brokenOn_4 rfl 3 rfl ?_
  refine am_aload_n dX0_brokenOn_5 rfl 0 rfl ?_
  obtain ⟨fs1, ho2, hh⟩ := hh
  obtain ⟨x4, hv3, hh⟩ := hh
  refine ah_get ho2 hv3 rfl in_X0 (by decide) q229 (Or.inl rfl) dX0_brokenOn_6 ?_
  obtain ⟨fs5, ho6, hh⟩ := hh
  refine am_rFi (n := 0) hh dX0_brokenOn_9 (ci := 15) rfl ⟨q613, q612, q618, q616, q614⟩ q611 q615 q617 q94 q619 ⟨by decide, by decide, by decide +kernel⟩ ⟨Nat.le_of_ble_eq_true rfl, Nat.le_of_ble_eq_true rfl⟩ ⟨rfl, rfl⟩ rfl rfl (Nat.le_of_ble_eq_true rfl) ⟨(Nat.le_of_ble_eq_true rfl), (Nat.le_of_ble_eq_true rfl)⟩ (ah_recv ho6 rfl) (fun r8 G7 hr9 hh => ?_)
  obtain ⟨ha10, hb11⟩ := hh
  refine am_icmp_ge (tgt := 52) dX0_brokenOn_14 (by decide) h3 hr9 (fun hc12 => ?_) (fun hc12 => ?_)
  · have hh := ha10 hc12
    refine am_iload_n dX0_brokenOn_52 rfl 2 rfl ?_
    exact am_iret rfl dX0_brokenOn_53 (Nat.le_refl 0) (Nat.le_refl 0) hh
  · have hh := hb11 hc12
    refine am_iload_n dX0_brokenOn_17 rfl 2 rfl ?_
    refine am_aload_n dX0_brokenOn_18 rfl 0 rfl ?_
    refine am_aload_n dX0_brokenOn_19 rfl 1 rfl ?_
    refine am_aload_n dX0_brokenOn_20 rfl 0 rfl ?_
    obtain ⟨fs13, ho14, hh⟩ := hh
    obtain ⟨x16, hv15, hh⟩ := hh
    refine ah_get ho14 hv15 rfl in_X0 (by decide) q229 (Or.inl rfl) dX0_brokenOn_21 ?_
    refine am_iload_n dX0_brokenOn_24 rfl 3 rfl ?_
    obtain ⟨fs17, ho18, hh⟩ := hh
    refine am_rFo (n := 1) hh dX0_brokenOn_25 (ci := 15) rfl ⟨q736, q735, q740, q738, q614⟩ q734 q737 q739 q94 q741 ⟨by decide, by decide, by decide +kernel⟩ ⟨Nat.le_of_ble_eq_true rfl, Nat.le_of_ble_eq_true rfl⟩ ⟨rfl, rfl⟩ rfl rfl (Nat.le_of_ble_eq_true rfl) ⟨(Nat.le_of_ble_eq_true rfl), (Nat.le_of_ble_eq_true rfl)⟩ (ah_recv ho18 rfl) (fun a20 G19 hh => ?_)
    obtain ⟨y21, rfl, hh⟩ := hh
    obtain ⟨o22, hh⟩ := hh
    refine ah_cast q1122 o22 dX0_brokenOn_30 ?_
    obtain ⟨fs23, ho24, hh⟩ := hh
    refine am_rVz (n := 2) hh dX0_brokenOn_33 (lw_V q1135 q1137 qs34 q90 q1138) rfl ⟨⟨by decide, by decide, by decide +kernel⟩, ⟨Nat.le_of_ble_eq_true rfl, Nat.le_of_ble_eq_true rfl⟩⟩ ⟨rfl, rfl⟩ rfl rfl (Nat.le_of_ble_eq_true rfl) ⟨(Nat.le_of_ble_eq_true rfl), (Nat.le_of_ble_eq_true rfl)⟩ (ah_recv ho24 rfl) (fun b26 G25 hh => ?_)
    obtain ⟨ha27, hb28⟩ := hh
    refine am_ifB_eq (tgt := 43) dX0_brokenOn_36 (by decide) (fun hc29 => ?_) (fun hc29 => ?_)
    · have hh := ha27 hc29
      refine am_iconst dX0_brokenOn_43 ?_
      refine am_iadd dX0_brokenOn_44 ?_
      refine am_istore_n dX0_brokenOn_45 rfl (by decide) rfl ?_
      refine am_iinc (n := 3) dX0_brokenOn_46 rfl (by decide) rfl ?_
      refine am_goto (tgt := 4) dX0_brokenOn_49 (by decide) ?_
      refine am_keep [2, 3, 1, 0] rfl ?_
      exact hh
    · have hh := hb28 hc29
      refine am_iconst dX0_brokenOn_39 ?_
      refine am_goto (tgt := 44) dX0_brokenOn_40 (by decide) ?_
      refine am_iadd dX0_brokenOn_44 ?_
      refine am_istore_n dX0_brokenOn_45 rfl (by decide) rfl ?_
      refine am_iinc (n := 3) dX0_brokenOn_46 rfl (by decide) rfl ?_
      refine am_goto (tgt := 4) dX0_brokenOn_49 (by decide) ?_
      refine am_keep [2, 3, 1, 0] rfl ?_
      exact hh
/-! TableArms.broken()I -/
abbrev VX0_broken (l : Launch) (Q : Option am_W → ah_H → Prop) (pc : Nat) (lv : List (Nat × am_W)) (st : List am_W) (S : ah_H) : Prop := am_V ah_r l RX0 cX0_broken 1 (some .int) "broken" (am_rm 7 0 0) (am_E1 ah_r 0 0 Q) pc lv st S 0 0
abbrev kX0_broken (l : Launch) (as : List am_W) (S : ah_H) (Q : Option am_W → ah_H → Prop) : Prop := am_C ah_r l yX0_broken (ws_ yX0_broken cX0_broken 1 (some .int)) (am_rm 7 0 0) 0 0 as S Q
set_option maxHeartbeats 4000000 in
set_option maxRecDepth 100000 in
theorem bX0_broken {l : Launch} {Q : Option am_W → ah_H → Prop} {S : ah_H} (v0 : Nat)
    (hh : (∃ fs1, (S.1 v0 = some (.inl (1, fs1))) ∧
      (∃ x4, (fs1[4]? = some (am_R x4)) ∧
      kX0_brokenOn l [am_R v0, am_R x4] S (am_qi fun r6 G5 =>
        Q (some (am_I r6)) G5)))) : kX0_broken l [am_R v0] S Q := by
  refine am_entry (lv := [(0, am_R v0)]) rfl rfl rfl (fun _ => rfl) (fun _ => Nat.le_of_ble_eq_true rfl) ?_
  refine am_aload_n dX0_broken_0 rfl 0 rfl ?_
  refine am_aload_n dX0_broken_1 rfl 0 rfl ?_
  obtain ⟨fs1, ho2, hh⟩ := hh
  obtain ⟨x4, hv3, hh⟩ := hh
  refine ah_get ho2 hv3 rfl in_X0 (by decide) q215 (Or.inl rfl) dX0_broken_2 ?_
  refine am_rVi (n := 1) hh dX0_broken_5 (lw_V q1131 q1133 qs33 q90 q1134) rfl ⟨⟨by decide, by decide, by decide +kernel⟩, ⟨Nat.le_of_ble_eq_true rfl, Nat.le_of_ble_eq_true rfl⟩⟩ ⟨rfl, rfl⟩ rfl rfl (Nat.le_of_ble_eq_true rfl) ⟨(Nat.le_of_ble_eq_true rfl), (Nat.le_of_ble_eq_true rfl)⟩ (ah_recv ho2 rfl) (fun r6 G5 hr7 hh => ?_)
  exact am_iret rfl dX0_broken_8 (Nat.le_refl 0) (Nat.le_refl 0) hh
/-! TableArms.isSafe(II)Z -/
abbrev VX0_isSafe (l : Launch) (Q : Option am_W → ah_H → Prop) (pc : Nat) (lv : List (Nat × am_W)) (st : List am_W) (S : ah_H) : Prop := am_V ah_r l RX0 cX0_isSafe 3 (some .boolean) "isSafe" (am_rm 7 0 0) (am_E1 ah_r 0 0 Q) pc lv st S 0 0
abbrev kX0_isSafe (l : Launch) (as : List am_W) (S : ah_H) (Q : Option am_W → ah_H → Prop) : Prop := am_C ah_r l yX0_isSafe (ws_ yX0_isSafe cX0_isSafe 3 (some .boolean)) (am_rm 7 0 0) 0 0 as S Q
set_option maxHeartbeats 4000000 in
set_option maxRecDepth 100000 in
theorem bX0_isSafe {l : Launch} {Q : Option am_W → ah_H → Prop} {S : ah_H} (v0 : Nat) (v1 : Int) (h1 : am_r v1) (v2 : Int) (h2 : am_r v2)
    (hh : (∃ fs1, (S.1 v0 = some (.inl (1, fs1))) ∧
      (∃ x4, (fs1[7]? = some (am_R x4)) ∧
      (∃ x6, (fs1[4]? = some (am_R x6)) ∧
      (∃ fs7, (S.1 x4 = some (.inl (2, fs7))) ∧
      kX1_lay l [am_R x4, am_R x6] S (am_qv fun G9 =>
        (∃ fs10, (G9.1 v0 = some (.inl (1, fs10))) ∧
        (∃ x13, (fs10[7]? = some (am_R x13)) ∧
        kX0_carry l [am_R x13, am_I v1, am_I v2] G9 (am_qv fun G14 =>
          (∃ fs15, (G14.1 v0 = some (.inl (1, fs15))) ∧
          (∃ x18, (fs15[7]? = some (am_R x18)) ∧
          kX0_brokenOn l [am_R v0, am_R x18] G14 (am_qi fun r20 G19 =>
            ((¬ r20 = 0) →
              Q (some (am_I (am_b false))) G19) ∧
            ((r20 = 0) →
              Q (some (am_I (am_b true))) G19))))))))))))) : kX0_isSafe l [am_R v0, am_I v1, am_I v2] S Q := by
  refine am_entry (lv := [(0, am_R v0), (1, am_I v1), (2, am_I v2)]) rfl rfl rfl (fun _ => rfl) (fun _ => Nat.le_of_ble_eq_true rfl) ?_
  refine am_aload_n dX0_isSafe_0 rfl 0 rfl ?_
  obtain ⟨fs1, ho2, hh⟩ := hh
  obtain ⟨x4, hv3, hh⟩ := hh
  refine ah_get ho2 hv3 rfl in_X0 (by decide) q221 (Or.inl rfl) dX0_isSafe_1 ?_
  refine am_aload_n dX0_isSafe_4 rfl 0 rfl ?_
  obtain ⟨x6, hv5, hh⟩ := hh
  refine ah_get ho2 hv5 rfl in_X0 (by decide) q215 (Or.inl rfl) dX0_isSafe_5 ?_
  obtain ⟨fs7, ho8, hh⟩ := hh
  refine am_rVv (n := 1) hh dX0_isSafe_8 (lw_V q547 q548 q549 q91 q550) rfl ⟨⟨by decide, by decide, by decide +kernel⟩, ⟨Nat.le_of_ble_eq_true rfl, Nat.le_of_ble_eq_true rfl⟩⟩ ⟨rfl, rfl⟩ rfl rfl (Nat.le_of_ble_eq_true rfl) ⟨(Nat.le_of_ble_eq_true rfl), (Nat.le_of_ble_eq_true rfl)⟩ (ah_recv ho8 rfl) (fun G9 hh => ?_)
  refine am_aload_n dX0_isSafe_11 rfl 0 rfl ?_
  obtain ⟨fs10, ho11, hh⟩ := hh
  obtain ⟨x13, hv12, hh⟩ := hh
  refine ah_get ho11 hv12 rfl in_X0 (by decide) q221 (Or.inl rfl) dX0_isSafe_12 ?_
  refine am_iload_n dX0_isSafe_15 rfl 1 rfl ?_
  refine am_iload_n dX0_isSafe_16 rfl 2 rfl ?_
  refine am_rSv (n := 3) hh dX0_isSafe_17 (lw_S q528 q529 q90 q530) ⟨⟨by decide, by decide, by decide +kernel⟩, ⟨Nat.le_of_ble_eq_true rfl, Nat.le_of_ble_eq_true rfl⟩⟩ ⟨rfl, rfl⟩ rfl rfl (Nat.le_of_ble_eq_true rfl) ⟨(Nat.le_of_ble_eq_true rfl), (Nat.le_of_ble_eq_true rfl)⟩ (fun G14 hh => ?_)
  refine am_aload_n dX0_isSafe_20 rfl 0 rfl ?_
  refine am_aload_n dX0_isSafe_21 rfl 0 rfl ?_
  obtain ⟨fs15, ho16, hh⟩ := hh
  obtain ⟨x18, hv17, hh⟩ := hh
  refine ah_get ho16 hv17 rfl in_X0 (by decide) q221 (Or.inl rfl) dX0_isSafe_22 ?_
  refine am_rVi (n := 1) hh dX0_isSafe_25 (lw_V q1131 q1133 qs33 q90 q1134) rfl ⟨⟨by decide, by decide, by decide +kernel⟩, ⟨Nat.le_of_ble_eq_true rfl, Nat.le_of_ble_eq_true rfl⟩⟩ ⟨rfl, rfl⟩ rfl rfl (Nat.le_of_ble_eq_true rfl) ⟨(Nat.le_of_ble_eq_true rfl), (Nat.le_of_ble_eq_true rfl)⟩ (ah_recv ho16 rfl) (fun r20 G19 hr21 hh => ?_)
  obtain ⟨ha22, hb23⟩ := hh
  refine am_if_ne (tgt := 35) dX0_isSafe_28 (by decide) hr21 (fun hc24 => ?_) (fun hc24 => ?_)
  · have hh := ha22 hc24
    refine am_iconst dX0_isSafe_35 ?_
    exact am_zret (b := false) rfl dX0_isSafe_36 (Nat.le_refl 0) (Nat.le_refl 0) hh
  · have hh := hb23 hc24
    refine am_iconst dX0_isSafe_31 ?_
    refine am_goto (tgt := 36) dX0_isSafe_32 (by decide) ?_
    exact am_zret (b := true) rfl dX0_isSafe_36 (Nat.le_refl 0) (Nat.le_refl 0) hh
/-! TableArms.let(III)I -/
abbrev VX0_let (l : Launch) (Q : Option am_W → ah_H → Prop) (pc : Nat) (lv : List (Nat × am_W)) (st : List am_W) (S : ah_H) : Prop := am_V ah_r l RX0 cX0_let 6 (some .int) "let" (am_rm 8 0 0) (am_E1 ah_r 0 0 Q) pc lv st S 0 0
abbrev kX0_let (l : Launch) (as : List am_W) (S : ah_H) (Q : Option am_W → ah_H → Prop) : Prop := am_C ah_r l yX0_let (ws_ yX0_let cX0_let 6 (some .int)) (am_rm 8 0 0) 0 0 as S Q
set_option maxHeartbeats 4000000 in
set_option maxRecDepth 100000 in
theorem bX0_let {l : Launch} {Q : Option am_W → ah_H → Prop} {S : ah_H} (v0 : Nat) (v1 : Int) (h1 : am_r v1) (v2 : Int) (h2 : am_r v2) (v3 : Int) (h3 : am_r v3)
    (hh : (∃ fs1, (S.1 v0 = some (.inl (1, fs1))) ∧
      kX0_isMove l [am_R v0, am_I v1, am_I v2, am_I v3] S (am_qz fun b4 G3 =>
        ((b4 = true) →
          (∃ fs8, (G3.1 v0 = some (.inl (1, fs8))) ∧
          (∃ x11, (fs8[4]? = some (am_R x11)) ∧
          kX0_can l [am_R v0, am_R x11, am_I v2, am_I v3] G3 (am_qz fun b13 G12 =>
            ((b13 = false) →
              Q (some (am_I (-1000002))) G12) ∧
            ((b13 = true) →
              (∃ fs17, (G12.1 v0 = some (.inl (1, fs17))) ∧
              (∃ x20, (fs17[4]? = some (am_R x20)) ∧
              kX0_isReached l [am_R v0, am_R x20, am_I v1, am_I v2, am_I v3] G12 (am_qz fun b22 G21 =>
                ((b22 = true) →
                  (∃ fs26, (G21.1 v0 = some (.inl (1, fs26))) ∧
                  kX0_isSafe l [am_R v0, am_I v2, am_I v3] G21 (am_qz fun b29 G28 =>
                    VX0_let l Q 54 [(0, am_R v0), (2, am_I v2), (3, am_I v3), (4, am_I (am_b b29)), (5, am_I 0)] [] G28))) ∧
                ((b22 = false) →
                  Q (some (am_I (-1000002))) G21))))))))) ∧
        ((b4 = false) →
          Q (some (am_I (-1000001))) G3)))) : kX0_let l [am_R v0, am_I v1, am_I v2, am_I v3] S Q := by
  refine am_entry (lv := [(0, am_R v0), (1, am_I v1), (2, am_I v2), (3, am_I v3)]) rfl rfl rfl (fun _ => rfl) (fun _ => Nat.le_of_ble_eq_true rfl) ?_
  refine am_aload_n dX0_let_0 rfl 0 rfl ?_
  refine am_iload_n dX0_let_1 rfl 1 rfl ?_
  refine am_iload_n dX0_let_2 rfl 2 rfl ?_
  refine am_iload_n dX0_let_3 rfl 3 rfl ?_
  obtain ⟨fs1, ho2, hh⟩ := hh
  refine am_rVz (n := 3) hh dX0_let_4 (lw_V q502 q504 qs5 q90 q505) rfl ⟨⟨by decide, by decide, by decide +kernel⟩, ⟨Nat.le_of_ble_eq_true rfl, Nat.le_of_ble_eq_true rfl⟩⟩ ⟨rfl, rfl⟩ rfl rfl (Nat.le_of_ble_eq_true rfl) ⟨(Nat.le_of_ble_eq_true rfl), (Nat.le_of_ble_eq_true rfl)⟩ (ah_recv ho2 rfl) (fun b4 G3 hh => ?_)
  obtain ⟨ha5, hb6⟩ := hh
  refine am_ifB_ne (tgt := 13) dX0_let_7 (by decide) (fun hc7 => ?_) (fun hc7 => ?_)
  · have hh := ha5 hc7
    refine am_aload_n dX0_let_13 rfl 0 rfl ?_
    refine am_aload_n dX0_let_14 rfl 0 rfl ?_
    obtain ⟨fs8, ho9, hh⟩ := hh
    obtain ⟨x11, hv10, hh⟩ := hh
    refine ah_get ho9 hv10 rfl in_X0 (by decide) q215 (Or.inl rfl) dX0_let_15 ?_
    refine am_iload_n dX0_let_18 rfl 2 rfl ?_
    refine am_iload_n dX0_let_19 rfl 3 rfl ?_
    refine am_rVz (n := 3) hh dX0_let_20 (lw_V q510 q512 qs7 q90 q513) rfl ⟨⟨by decide, by decide, by decide +kernel⟩, ⟨Nat.le_of_ble_eq_true rfl, Nat.le_of_ble_eq_true rfl⟩⟩ ⟨rfl, rfl⟩ rfl rfl (Nat.le_of_ble_eq_true rfl) ⟨(Nat.le_of_ble_eq_true rfl), (Nat.le_of_ble_eq_true rfl)⟩ (ah_recv ho9 rfl) (fun b13 G12 hh => ?_)
    obtain ⟨ha14, hb15⟩ := hh
    refine am_ifB_eq (tgt := 40) dX0_let_23 (by decide) (fun hc16 => ?_) (fun hc16 => ?_)
    · have hh := ha14 hc16
      refine am_ldc (z := -1000002) q527 (by decide) dX0_let_40 ?_
      exact am_iret rfl dX0_let_42 (Nat.le_refl 0) (Nat.le_refl 0) hh
    · have hh := hb15 hc16
      refine am_aload_n dX0_let_26 rfl 0 rfl ?_
      refine am_aload_n dX0_let_27 rfl 0 rfl ?_
      obtain ⟨fs17, ho18, hh⟩ := hh
      obtain ⟨x20, hv19, hh⟩ := hh
      refine ah_get ho18 hv19 rfl in_X0 (by decide) q215 (Or.inl rfl) dX0_let_28 ?_
      refine am_iload_n dX0_let_31 rfl 1 rfl ?_
      refine am_iload_n dX0_let_32 rfl 2 rfl ?_
      refine am_iload_n dX0_let_33 rfl 3 rfl ?_
      refine am_rVz (n := 4) hh dX0_let_34 (lw_V q523 q525 qs8 q90 q526) rfl ⟨⟨by decide, by decide, by decide +kernel⟩, ⟨Nat.le_of_ble_eq_true rfl, Nat.le_of_ble_eq_true rfl⟩⟩ ⟨rfl, rfl⟩ rfl rfl (Nat.le_of_ble_eq_true rfl) ⟨(Nat.le_of_ble_eq_true rfl), (Nat.le_of_ble_eq_true rfl)⟩ (ah_recv ho18 rfl) (fun b22 G21 hh => ?_)
      obtain ⟨ha23, hb24⟩ := hh
      refine am_ifB_ne (tgt := 43) dX0_let_37 (by decide) (fun hc25 => ?_) (fun hc25 => ?_)
      · have hh := ha23 hc25
        refine am_aload_n dX0_let_43 rfl 0 rfl ?_
        refine am_iload_n dX0_let_44 rfl 2 rfl ?_
        refine am_iload_n dX0_let_45 rfl 3 rfl ?_
        obtain ⟨fs26, ho27, hh⟩ := hh
        refine am_rVz (n := 2) hh dX0_let_46 (lw_V q1147 q1149 qs36 q90 q1150) rfl ⟨⟨by decide, by decide, by decide +kernel⟩, ⟨Nat.le_of_ble_eq_true rfl, Nat.le_of_ble_eq_true rfl⟩⟩ ⟨rfl, rfl⟩ rfl rfl (Nat.le_of_ble_eq_true rfl) ⟨(Nat.le_of_ble_eq_true rfl), (Nat.le_of_ble_eq_true rfl)⟩ (ah_recv ho27 rfl) (fun b29 G28 hh => ?_)
        refine am_istore dX0_let_49 (by decide) rfl ?_
        refine am_iconst dX0_let_51 ?_
        refine am_istore dX0_let_52 (by decide) rfl ?_
        refine am_keep [2, 4, 5, 1, 0] rfl ?_
        exact hh
      · have hh := hb24 hc25
        refine am_ldc (z := -1000002) q527 (by decide) dX0_let_40 ?_
        exact am_iret rfl dX0_let_42 (Nat.le_refl 0) (Nat.le_refl 0) hh
  · have hh := hb6 hc7
    refine am_ldc (z := -1000001) q289 (by decide) dX0_let_10 ?_
    exact am_iret rfl dX0_let_12 (Nat.le_refl 0) (Nat.le_refl 0) hh
set_option maxHeartbeats 4000000 in
set_option maxRecDepth 100000 in
theorem bX0_let_54 {l : Launch} {Q : Option am_W → ah_H → Prop} {S : ah_H} (v0 : Nat) (v2 : Int) (h2 : am_r v2) (v3 : Int) (h3 : am_r v3) (v4 : Int) (h4 : am_r v4) (v5 : Int) (h5 : am_r v5)
    (hh : ((8 ≤ v5) →
        ((v4 = 0) →
          Q (some (am_I 0)) S) ∧
        ((¬ v4 = 0) →
          Q (some (am_I 1)) S)) ∧
      ((¬ 8 ≤ v5) →
        ((8 ≤ v3) →
          ((v4 = 0) →
            Q (some (am_I 0)) S) ∧
          ((¬ v4 = 0) →
            Q (some (am_I 1)) S)) ∧
        ((¬ 8 ≤ v3) →
          kX0_isNeighbour l [am_I v3, am_I v5] S (am_qz fun b14 G13 =>
            ((b14 = false) →
              VX0_let l Q 54 [(0, am_R v0), (2, am_I v2), (3, am_I v3), (4, am_I (am_and v4 1)), (5, am_I (v5 + 1))] [] G13) ∧
            ((b14 = true) →
              (∃ fs18, (G13.1 v0 = some (.inl (1, fs18))) ∧
              kX0_isSafe l [am_R v0, am_I v2, am_I v5] G13 (am_qz fun b21 G20 =>
                ((b21 = false) →
                  VX0_let l Q 54 [(0, am_R v0), (2, am_I v2), (3, am_I v3), (4, am_I (am_and v4 0)), (5, am_I (v5 + 1))] [] G20) ∧
                ((b21 = true) →
                  VX0_let l Q 54 [(0, am_R v0), (2, am_I v2), (3, am_I v3), (4, am_I (am_and v4 1)), (5, am_I (v5 + 1))] [] G20)))))))) : VX0_let l Q 54 [(0, am_R v0), (2, am_I v2), (3, am_I v3), (4, am_I v4), (5, am_I v5)] [] S := by
  refine am_iload dX0_let_54 4 rfl ?_
  refine am_bipush dX0_let_56 (by decide) ?_
  obtain ⟨ha1, hb2⟩ := hh
  refine am_icmp_ge (tgt := 102) dX0_let_58 (by decide) h5 (⟨by decide, by decide⟩) (fun hc3 => ?_) (fun hc3 => ?_)
  · have hh := ha1 hc3
    refine am_iload dX0_let_102 3 rfl ?_
    obtain ⟨ha4, hb5⟩ := hh
    refine am_if_eq (tgt := 111) dX0_let_104 (by decide) h4 (fun hc6 => ?_) (fun hc6 => ?_)
    · have hh := ha4 hc6
      refine am_iconst dX0_let_111 ?_
      exact am_iret rfl dX0_let_112 (Nat.le_refl 0) (Nat.le_refl 0) hh
    · have hh := hb5 hc6
      refine am_iconst dX0_let_107 ?_
      refine am_goto (tgt := 112) dX0_let_108 (by decide) ?_
      exact am_iret rfl dX0_let_112 (Nat.le_refl 0) (Nat.le_refl 0) hh
  · have hh := hb2 hc3
    refine am_iload_n dX0_let_61 rfl 2 rfl ?_
    refine am_bipush dX0_let_62 (by decide) ?_
    obtain ⟨ha7, hb8⟩ := hh
    refine am_icmp_ge (tgt := 102) dX0_let_64 (by decide) h3 (⟨by decide, by decide⟩) (fun hc9 => ?_) (fun hc9 => ?_)
    · have hh := ha7 hc9
      refine am_iload dX0_let_102 3 rfl ?_
      obtain ⟨ha10, hb11⟩ := hh
      refine am_if_eq (tgt := 111) dX0_let_104 (by decide) h4 (fun hc12 => ?_) (fun hc12 => ?_)
      · have hh := ha10 hc12
        refine am_iconst dX0_let_111 ?_
        exact am_iret rfl dX0_let_112 (Nat.le_refl 0) (Nat.le_refl 0) hh
      · have hh := hb11 hc12
        refine am_iconst dX0_let_107 ?_
        refine am_goto (tgt := 112) dX0_let_108 (by decide) ?_
        exact am_iret rfl dX0_let_112 (Nat.le_refl 0) (Nat.le_refl 0) hh
    · have hh := hb8 hc9
      refine am_iload dX0_let_67 3 rfl ?_
      refine am_iload_n dX0_let_69 rfl 2 rfl ?_
      refine am_iload dX0_let_70 4 rfl ?_
      refine am_rSz (n := 2) hh dX0_let_72 (lw_S q588 q589 q90 q590) ⟨⟨by decide, by decide, by decide +kernel⟩, ⟨Nat.le_of_ble_eq_true rfl, Nat.le_of_ble_eq_true rfl⟩⟩ ⟨rfl, rfl⟩ rfl rfl (Nat.le_of_ble_eq_true rfl) ⟨(Nat.le_of_ble_eq_true rfl), (Nat.le_of_ble_eq_true rfl)⟩ (fun b14 G13 hh => ?_)
      obtain ⟨ha15, hb16⟩ := hh
      refine am_ifB_eq (tgt := 88) dX0_let_75 (by decide) (fun hc17 => ?_) (fun hc17 => ?_)
      · have hh := ha15 hc17
        refine am_iconst dX0_let_88 ?_
        refine am_goto (tgt := 93) dX0_let_89 (by decide) ?_
        refine am_iand dX0_let_93 ?_
        refine am_istore dX0_let_94 (by decide) rfl ?_
        refine am_iinc (n := 4) dX0_let_96 rfl (by decide) rfl ?_
        refine am_goto (tgt := 54) dX0_let_99 (by decide) ?_
        refine am_keep [2, 3, 4, 1, 0] rfl ?_
        exact hh
      · have hh := hb16 hc17
        refine am_aload_n dX0_let_78 rfl 0 rfl ?_
        refine am_iload_n dX0_let_79 rfl 1 rfl ?_
        refine am_iload dX0_let_80 4 rfl ?_
        obtain ⟨fs18, ho19, hh⟩ := hh
        refine am_rVz (n := 2) hh dX0_let_82 (lw_V q1147 q1149 qs36 q90 q1150) rfl ⟨⟨by decide, by decide, by decide +kernel⟩, ⟨Nat.le_of_ble_eq_true rfl, Nat.le_of_ble_eq_true rfl⟩⟩ ⟨rfl, rfl⟩ rfl rfl (Nat.le_of_ble_eq_true rfl) ⟨(Nat.le_of_ble_eq_true rfl), (Nat.le_of_ble_eq_true rfl)⟩ (ah_recv ho19 rfl) (fun b21 G20 hh => ?_)
        obtain ⟨ha22, hb23⟩ := hh
        refine am_ifB_eq (tgt := 92) dX0_let_85 (by decide) (fun hc24 => ?_) (fun hc24 => ?_)
        · have hh := ha22 hc24
          refine am_iconst dX0_let_92 ?_
          refine am_iand dX0_let_93 ?_
          refine am_istore dX0_let_94 (by decide) rfl ?_
          refine am_iinc (n := 4) dX0_let_96 rfl (by decide) rfl ?_
          refine am_goto (tgt := 54) dX0_let_99 (by decide) ?_
          refine am_keep [2, 3, 4, 1, 0] rfl ?_
          exact hh
        · have hh := hb23 hc24
          refine am_iconst dX0_let_88 ?_
          refine am_goto (tgt := 93) dX0_let_89 (by decide) ?_
          refine am_iand dX0_let_93 ?_
          refine am_istore dX0_let_94 (by decide) rfl ?_
          refine am_iinc (n := 4) dX0_let_96 rfl (by decide) rfl ?_
          refine am_goto (tgt := 54) dX0_let_99 (by decide) ?_
          refine am_keep [2, 3, 4, 1, 0] rfl ?_
          exact hh
/-! TableArms.isRow([III)Z -/
abbrev VX0_isRow (l : Launch) (Q : Option am_W → ah_H → Prop) (pc : Nat) (lv : List (Nat × am_W)) (st : List am_W) (S : ah_H) : Prop := am_V ah_r l RX0 cX0_isRow 4 (some .boolean) "isRow" (am_rm 3 0 0) (am_E1 ah_r 0 0 Q) pc lv st S 0 0
abbrev kX0_isRow (l : Launch) (as : List am_W) (S : ah_H) (Q : Option am_W → ah_H → Prop) : Prop := am_C ah_r l yX0_isRow (ws_ yX0_isRow cX0_isRow 4 (some .boolean)) (am_rm 3 0 0) 0 0 as S Q
set_option maxHeartbeats 4000000 in
set_option maxRecDepth 100000 in
theorem bX0_isRow {l : Launch} {Q : Option am_W → ah_H → Prop} {S : ah_H} (v0 : Nat) (v1 : Int) (h1 : am_r v1) (v2 : Int) (h2 : am_r v2)
    (hh : VX0_isRow l Q 2 [(0, am_R v0), (1, am_I v1), (2, am_I v2), (3, am_I v1)] [] S) : kX0_isRow l [am_R v0, am_I v1, am_I v2] S Q := by
  refine am_entry (lv := [(0, am_R v0), (1, am_I v1), (2, am_I v2)]) rfl rfl rfl (fun _ => rfl) (fun _ => Nat.le_of_ble_eq_true rfl) ?_
  refine am_iload_n dX0_isRow_0 rfl 1 rfl ?_
  refine am_istore_n dX0_isRow_1 rfl (by decide) rfl ?_
  refine am_keep [1, 2, 3, 0] rfl ?_
  exact hh
set_option maxHeartbeats 4000000 in
set_option maxRecDepth 100000 in
theorem bX0_isRow_2 {l : Launch} {Q : Option am_W → ah_H → Prop} {S : ah_H} (v0 : Nat) (v1 : Int) (h1 : am_r v1) (v2 : Int) (h2 : am_r v2) (v3 : Int) (h3 : am_r v3)
    (hh : (am_r (v1 + v2)) ∧
      (((v1 + v2) ≤ v3) →
        Q (some (am_I (am_b true))) S) ∧
      ((¬ (v1 + v2) ≤ v3) →
        (∃ n5 f6, (S.1 v0 = some (.inr (0, n5, .inl f6))) ∧
        (0 ≤ v3 ∧ v3 < (n5 : Int)) ∧
        kX0_isCell l [am_I (f6 v3.toNat).toInt] S (am_qz fun b10 G9 =>
          ((b10 = false) →
            Q (some (am_I (am_b false))) G9) ∧
          ((b10 = true) →
            ((v3 ≤ v1) →
              VX0_isRow l Q 2 [(0, am_R v0), (1, am_I v1), (2, am_I v2), (3, am_I (v3 + 1))] [] G9) ∧
            ((¬ v3 ≤ v1) →
              (∃ n17 f18, (G9.1 v0 = some (.inr (0, n17, .inl f18))) ∧
              (0 ≤ v3 ∧ v3 < (n17 : Int)) ∧
              (0 ≤ (v3 - 1) ∧ (v3 - 1) < (n17 : Int)) ∧
              ((((f18 v3.toNat).toInt) = ((f18 (v3 - 1).toNat).toInt)) →
                VX0_isRow l Q 2 [(0, am_R v0), (1, am_I v1), (2, am_I v2), (3, am_I (v3 + 1))] [] G9) ∧
              ((¬ ((f18 v3.toNat).toInt) = ((f18 (v3 - 1).toNat).toInt)) →
                kX0_isNeighbour l [am_I (f18 v3.toNat).toInt, am_I (f18 (v3 - 1).toNat).toInt] G9 (am_qz fun b26 G25 =>
                  ((b26 = true) →
                    VX0_isRow l Q 2 [(0, am_R v0), (1, am_I v1), (2, am_I v2), (3, am_I (v3 + 1))] [] G25) ∧
                  ((b26 = false) →
                    Q (some (am_I (am_b false))) G25)))))))))) : VX0_isRow l Q 2 [(0, am_R v0), (1, am_I v1), (2, am_I v2), (3, am_I v3)] [] S := by
  refine am_iload_n dX0_isRow_2 rfl 3 rfl ?_
  refine am_iload_n dX0_isRow_3 rfl 1 rfl ?_
  refine am_iload_n dX0_isRow_4 rfl 2 rfl ?_
  refine am_iadd dX0_isRow_5 ?_
  obtain ⟨o1, hh⟩ := hh
  obtain ⟨ha2, hb3⟩ := hh
  refine am_icmp_ge (tgt := 56) dX0_isRow_6 (by decide) h3 o1 (fun hc4 => ?_) (fun hc4 => ?_)
  · have hh := ha2 hc4
    refine am_iconst dX0_isRow_56 ?_
    exact am_zret (b := true) rfl dX0_isRow_57 (Nat.le_refl 0) (Nat.le_refl 0) hh
  · have hh := hb3 hc4
    refine am_aload_n dX0_isRow_9 rfl 0 rfl ?_
    refine am_iload_n dX0_isRow_10 rfl 3 rfl ?_
    obtain ⟨n5, f6, ha7, hh⟩ := hh
    obtain ⟨o8, hh⟩ := hh
    refine ah_iald ha7 o8.1 o8.2 (v := (f6 v3.toNat).toInt) rfl dX0_isRow_11 ?_
    refine am_rSz (n := 1) hh dX0_isRow_12 (lw_S q447 q448 q90 q449) ⟨⟨by decide, by decide, by decide +kernel⟩, ⟨Nat.le_of_ble_eq_true rfl, Nat.le_of_ble_eq_true rfl⟩⟩ ⟨rfl, rfl⟩ rfl rfl (Nat.le_of_ble_eq_true rfl) ⟨(Nat.le_of_ble_eq_true rfl), (Nat.le_of_ble_eq_true rfl)⟩ (fun b10 G9 hh => ?_)
    obtain ⟨ha11, hb12⟩ := hh
    refine am_ifB_eq (tgt := 48) dX0_isRow_15 (by decide) (fun hc13 => ?_) (fun hc13 => ?_)
    · have hh := ha11 hc13
      refine am_iconst dX0_isRow_48 ?_
      exact am_zret (b := false) rfl dX0_isRow_49 (Nat.le_refl 0) (Nat.le_refl 0) hh
    · have hh := hb12 hc13
      refine am_iload_n dX0_isRow_18 rfl 3 rfl ?_
      refine am_iload_n dX0_isRow_19 rfl 1 rfl ?_
      obtain ⟨ha14, hb15⟩ := hh
      refine am_icmp_le (tgt := 50) dX0_isRow_20 (by decide) h3 h1 (fun hc16 => ?_) (fun hc16 => ?_)
      · have hh := ha14 hc16
        refine am_iinc (n := 3) dX0_isRow_50 rfl (by decide) rfl ?_
        refine am_goto (tgt := 2) dX0_isRow_53 (by decide) ?_
        refine am_keep [1, 2, 3, 0] rfl ?_
        exact hh
      · have hh := hb15 hc16
        refine am_aload_n dX0_isRow_23 rfl 0 rfl ?_
        refine am_iload_n dX0_isRow_24 rfl 3 rfl ?_
        obtain ⟨n17, f18, ha19, hh⟩ := hh
        obtain ⟨o20, hh⟩ := hh
        refine ah_iald ha19 o20.1 o20.2 (v := (f18 v3.toNat).toInt) rfl dX0_isRow_25 ?_
        refine am_aload_n dX0_isRow_26 rfl 0 rfl ?_
        refine am_iload_n dX0_isRow_27 rfl 3 rfl ?_
        refine am_iconst dX0_isRow_28 ?_
        refine am_isub dX0_isRow_29 ?_
        obtain ⟨o21, hh⟩ := hh
        refine ah_iald ha19 o21.1 o21.2 (v := (f18 (v3 - 1).toNat).toInt) rfl dX0_isRow_30 ?_
        obtain ⟨ha22, hb23⟩ := hh
        refine am_icmp_eq (tgt := 50) dX0_isRow_31 (by decide) (am_rt _) (am_rt _) (fun hc24 => ?_) (fun hc24 => ?_)
        · have hh := ha22 hc24
          refine am_iinc (n := 3) dX0_isRow_50 rfl (by decide) rfl ?_
          refine am_goto (tgt := 2) dX0_isRow_53 (by decide) ?_
          refine am_keep [1, 2, 3, 0] rfl ?_
          exact hh
        · have hh := hb23 hc24
          refine am_aload_n dX0_isRow_34 rfl 0 rfl ?_
          refine am_iload_n dX0_isRow_35 rfl 3 rfl ?_
          refine ah_iald ha19 o20.1 o20.2 (v := (f18 v3.toNat).toInt) rfl dX0_isRow_36 ?_
          refine am_aload_n dX0_isRow_37 rfl 0 rfl ?_
          refine am_iload_n dX0_isRow_38 rfl 3 rfl ?_
          refine am_iconst dX0_isRow_39 ?_
          refine am_isub dX0_isRow_40 ?_
          refine ah_iald ha19 o21.1 o21.2 (v := (f18 (v3 - 1).toNat).toInt) rfl dX0_isRow_41 ?_
          refine am_rSz (n := 2) hh dX0_isRow_42 (lw_S q588 q589 q90 q590) ⟨⟨by decide, by decide, by decide +kernel⟩, ⟨Nat.le_of_ble_eq_true rfl, Nat.le_of_ble_eq_true rfl⟩⟩ ⟨rfl, rfl⟩ rfl rfl (Nat.le_of_ble_eq_true rfl) ⟨(Nat.le_of_ble_eq_true rfl), (Nat.le_of_ble_eq_true rfl)⟩ (fun b26 G25 hh => ?_)
          obtain ⟨ha27, hb28⟩ := hh
          refine am_ifB_ne (tgt := 50) dX0_isRow_45 (by decide) (fun hc29 => ?_) (fun hc29 => ?_)
          · have hh := ha27 hc29
            refine am_iinc (n := 3) dX0_isRow_50 rfl (by decide) rfl ?_
            refine am_goto (tgt := 2) dX0_isRow_53 (by decide) ?_
            refine am_keep [1, 2, 3, 0] rfl ?_
            exact hh
          · have hh := hb28 hc29
            refine am_iconst dX0_isRow_48 ?_
            exact am_zret (b := false) rfl dX0_isRow_49 (Nat.le_refl 0) (Nat.le_refl 0) hh
