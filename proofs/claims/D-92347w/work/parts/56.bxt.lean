/-! TableArms.must(ZI)V -/
abbrev VX0_must (l : Launch) (mc ms : Nat) (Q : Option am_W → ah_H → Prop) (QX : String → Nat → ah_H → Prop) (pc : Nat) (lv : List (Nat × am_W)) (st : List am_W) (S : ah_H) (cells slots : Nat) : Prop := am_V ah_r l RX0 cX0_must 2 none "must" (am_rm 5 mc ms) (am_E2 ah_r mc ms Q QX) pc lv st S cells slots
abbrev kX0_must (l : Launch) (mc ms : Nat) (as : List am_W) (S : ah_H) (Q : Option am_W → ah_H → Prop) (QX : String → Nat → ah_H → Prop) : Prop := am_T ah_r l yX0_must (ws_ yX0_must cX0_must 2 none) (am_rm 5 mc ms) mc ms as S Q QX
set_option maxHeartbeats 4000000 in
set_option maxRecDepth 100000 in
theorem bX0_must {l : Launch} {mc ms : Nat} {Q : Option am_W → ah_H → Prop} {QX : String → Nat → ah_H → Prop} {S : ah_H} (v0 : Bool) (v1 : Int) (h1 : am_r v1)
    (hh : ((v0 = true) →
        Q none S) ∧
      ((v0 = false) →
        (1 ≤ mc) ∧
        (7 ≤ ms) ∧
        (∀ G6, G6 = ah_mk S (.inl (4, ah_dX4)) →
        kX4_init l [am_R S.2, am_I v1] G6 (am_qv fun G8 =>
          (∃ fs9, (G8.1 S.2 = some (.inl (4, fs9))) ∧
          (ah_X ≤ S.2) ∧
          QX "TableArms$Finding" S.2 G8))))) : kX0_must l mc ms [am_I (am_b v0), am_I v1] S Q QX := by
  refine am_entryT (lv := [(0, am_I (am_b v0)), (1, am_I v1)]) rfl rfl rfl (fun _ => rfl) (fun _ => Nat.le_of_ble_eq_true rfl) ?_
  refine am_iload_n dX0_must_0 rfl 0 rfl ?_
  obtain ⟨ha1, hb2⟩ := hh
  refine am_ifB_ne (tgt := 13) dX0_must_1 (by decide) (fun hc3 => ?_) (fun hc3 => ?_)
  · have hh := ha1 hc3
    refine am_e12 ?_; exact am_vret rfl dX0_must_13 (Nat.zero_le _) (Nat.zero_le _) hh
  · have hh := hb2 hc3
    obtain ⟨o4, hh⟩ := hh
    obtain ⟨o5, hh⟩ := hh
    refine ah_new (ci := 4) (fs := ah_dX4) tyX4 rfl in_X4 tyX4_ok q280 q293 q99 ah_dX4_ok o4 o5 dX0_must_4 ?_
    have hh := hh _ rfl
    refine am_dup dX0_must_7 rfl ?_
    refine am_iload_n dX0_must_8 rfl 1 rfl ?_
    refine am_rIv (n := 1) hh dX0_must_9 q332 q333 q99 q334 rfl ⟨⟨by decide, by decide, by decide +kernel⟩, ⟨Nat.le_of_ble_eq_true rfl, Nat.le_of_ble_eq_true rfl⟩⟩ ⟨rfl, rfl⟩ rfl rfl (Nat.le_of_ble_eq_true rfl) ⟨o4, o5⟩ (fun G8 hh => ?_)
    obtain ⟨fs9, ho10, hh⟩ := hh
    obtain ⟨o11, hh⟩ := hh
    refine am_athrow dX0_must_12 (ah_thrown ho10 o11 rfl) ?_
    exact am_xout [] (by decide +kernel) (by decide +kernel) o4 o5 hh
/-! TableArms.sheetAt(I)LTableArms$Sheet; -/
abbrev VX0_sheetAt (l : Launch) (mc ms : Nat) (Q : Option am_W → ah_H → Prop) (QX : String → Nat → ah_H → Prop) (pc : Nat) (lv : List (Nat × am_W)) (st : List am_W) (S : ah_H) (cells slots : Nat) : Prop := am_V ah_r l RX0 cX0_sheetAt 2 (some (Jvm.ClassFile.FieldType.object "TableArms$Sheet")) "sheetAt" (am_rm 6 mc ms) (am_E2 ah_r mc ms Q QX) pc lv st S cells slots
abbrev kX0_sheetAt (l : Launch) (mc ms : Nat) (as : List am_W) (S : ah_H) (Q : Option am_W → ah_H → Prop) (QX : String → Nat → ah_H → Prop) : Prop := am_T ah_r l yX0_sheetAt (ws_ yX0_sheetAt cX0_sheetAt 2 (some (Jvm.ClassFile.FieldType.object "TableArms$Sheet"))) (am_rm 6 mc ms) mc ms as S Q QX
set_option maxHeartbeats 4000000 in
set_option maxRecDepth 100000 in
theorem bX0_sheetAt {l : Launch} {mc ms : Nat} {Q : Option am_W → ah_H → Prop} {QX : String → Nat → ah_H → Prop} {S : ah_H} (v0 : Nat) (v1 : Int) (h1 : am_r v1)
    (hh : (∃ fs1, (S.1 v0 = some (.inl (1, fs1))) ∧
      (∃ x4, (fs1[0]? = some (am_R x4)) ∧
      (∃ n5 f6, (S.1 x4 = some (.inr (4, n5, .inr f6))) ∧
      (0 ≤ v1 ∧ v1 < (n5 : Int)) ∧
      (∀ x9, x9 = f6 v1.toNat →
      ((x9 = none) →
        (∃ mc13 ms14 : Nat, ((0 + mc13) ≤ mc ∧ (0 + ms14) ≤ ms) ∧
        kX0_must l mc13 ms14 [am_I (am_b false), am_I 1] S (am_qv fun G17 =>
          (∃ fs20, (G17.1 v0 = some (.inl (1, fs20))) ∧
          (∃ x23, (fs20[0]? = some (am_R x23)) ∧
          (∃ n24 f25, (G17.1 x23 = some (.inr (4, n24, .inr f25))) ∧
          (0 ≤ v1 ∧ v1 < (n24 : Int)) ∧
          (∃ y28, (f25 v1.toNat = some y28) ∧
          Q (some (am_R y28)) G17))))) (fun ex j G17 =>
          QX ex j G17))) ∧
      ((¬ x9 = none) →
        (∃ mc30 ms31 : Nat, ((0 + mc30) ≤ mc ∧ (0 + ms31) ≤ ms) ∧
        kX0_must l mc30 ms31 [am_I (am_b true), am_I 1] S (am_qv fun G34 =>
          (∃ fs37, (G34.1 v0 = some (.inl (1, fs37))) ∧
          (∃ x40, (fs37[0]? = some (am_R x40)) ∧
          (∃ n41 f42, (G34.1 x40 = some (.inr (4, n41, .inr f42))) ∧
          (0 ≤ v1 ∧ v1 < (n41 : Int)) ∧
          (∃ y45, (f42 v1.toNat = some y45) ∧
          Q (some (am_R y45)) G34))))) (fun ex j G34 =>
          QX ex j G34)))))))) : kX0_sheetAt l mc ms [am_R v0, am_I v1] S Q QX := by
  refine am_entryT (lv := [(0, am_R v0), (1, am_I v1)]) rfl rfl rfl (fun _ => rfl) (fun _ => Nat.le_of_ble_eq_true rfl) ?_
  refine am_aload_n dX0_sheetAt_0 rfl 0 rfl ?_
  obtain ⟨fs1, ho2, hh⟩ := hh
  obtain ⟨x4, hv3, hh⟩ := hh
  refine ah_get ho2 hv3 rfl in_X0 (by decide) q209 (Or.inl rfl) dX0_sheetAt_1 ?_
  refine am_iload_n dX0_sheetAt_4 rfl 1 rfl ?_
  obtain ⟨n5, f6, ha7, hh⟩ := hh
  obtain ⟨o8, hh⟩ := hh
  have hh := hh _ rfl
  refine ah_aald ha7 (by decide) o8.1 o8.2 rfl dX0_sheetAt_5 ?_
  obtain ⟨ha10, hb11⟩ := hh
  refine am_ifnull (tgt := 13) dX0_sheetAt_6 (by decide) (fun hc12 => ?_) (fun hc12 => ?_)
  · have hh := ha10 hc12
    refine am_iconst dX0_sheetAt_13 ?_
    refine am_iconst dX0_sheetAt_14 ?_
    obtain ⟨mc13, ms14, ⟨o15, o16⟩, hh⟩ := hh
    refine am_tS (n := 2) hh dX0_sheetAt_15 (lw_S q290 q291 q90 q292) ⟨⟨by decide, by decide, by decide +kernel⟩, ⟨Nat.le_of_ble_eq_true rfl, Nat.le_of_ble_eq_true rfl⟩⟩ ⟨rfl, rfl⟩ rfl rfl (Nat.le_of_ble_eq_true rfl) ⟨o15, o16⟩ (fun v G17 hn18 => ?_) (fun ex j G17 hx19 => ?_)
    · obtain ⟨rfl, hh⟩ := hn18
      refine am_aload_n dX0_sheetAt_18 rfl 0 rfl ?_
      obtain ⟨fs20, ho21, hh⟩ := hh
      obtain ⟨x23, hv22, hh⟩ := hh
      refine ah_get ho21 hv22 rfl in_X0 (by decide) q209 (Or.inl rfl) dX0_sheetAt_19 ?_
      refine am_iload_n dX0_sheetAt_22 rfl 1 rfl ?_
      obtain ⟨n24, f25, ha26, hh⟩ := hh
      obtain ⟨o27, hh⟩ := hh
      obtain ⟨y28, hy29, hh⟩ := hh
      refine ah_aald ha26 (by decide) o27.1 o27.2 hy29 dX0_sheetAt_23 ?_
      refine am_e12 ?_; exact am_aret rfl (by first | exact Or.inl ⟨_, rfl⟩ | exact Or.inr ⟨_, rfl⟩) dX0_sheetAt_24 o15 o16 hh
    · have hh := hx19
      exact am_xout [] (by decide +kernel) (by decide +kernel) o15 o16 hh
  · have hh := hb11 hc12
    refine am_iconst dX0_sheetAt_9 ?_
    refine am_goto (tgt := 14) dX0_sheetAt_10 (by decide) ?_
    refine am_iconst dX0_sheetAt_14 ?_
    obtain ⟨mc30, ms31, ⟨o32, o33⟩, hh⟩ := hh
    refine am_tS (n := 2) hh dX0_sheetAt_15 (lw_S q290 q291 q90 q292) ⟨⟨by decide, by decide, by decide +kernel⟩, ⟨Nat.le_of_ble_eq_true rfl, Nat.le_of_ble_eq_true rfl⟩⟩ ⟨rfl, rfl⟩ rfl rfl (Nat.le_of_ble_eq_true rfl) ⟨o32, o33⟩ (fun v G34 hn35 => ?_) (fun ex j G34 hx36 => ?_)
    · obtain ⟨rfl, hh⟩ := hn35
      refine am_aload_n dX0_sheetAt_18 rfl 0 rfl ?_
      obtain ⟨fs37, ho38, hh⟩ := hh
      obtain ⟨x40, hv39, hh⟩ := hh
      refine ah_get ho38 hv39 rfl in_X0 (by decide) q209 (Or.inl rfl) dX0_sheetAt_19 ?_
      refine am_iload_n dX0_sheetAt_22 rfl 1 rfl ?_
      obtain ⟨n41, f42, ha43, hh⟩ := hh
      obtain ⟨o44, hh⟩ := hh
      obtain ⟨y45, hy46, hh⟩ := hh
      refine ah_aald ha43 (by decide) o44.1 o44.2 hy46 dX0_sheetAt_23 ?_
      refine am_e12 ?_; exact am_aret rfl (by first | exact Or.inl ⟨_, rfl⟩ | exact Or.inr ⟨_, rfl⟩) dX0_sheetAt_24 o32 o33 hh
    · have hh := hx36
      exact am_xout [] (by decide +kernel) (by decide +kernel) o32 o33 hh
/-! TableArms$Sheet.row(II)[I -/
abbrev VX5_row (l : Launch) (mc ms : Nat) (Q : Option am_W → ah_H → Prop) (QX : String → Nat → ah_H → Prop) (pc : Nat) (lv : List (Nat × am_W)) (st : List am_W) (S : ah_H) (cells slots : Nat) : Prop := am_V ah_r l RX5 cX5_row 4 (some (Jvm.ClassFile.FieldType.array Jvm.ClassFile.FieldType.int)) "row" (am_rm 6 mc ms) (am_E2 ah_r mc ms Q QX) pc lv st S cells slots
abbrev kX5_row (l : Launch) (mc ms : Nat) (as : List am_W) (S : ah_H) (Q : Option am_W → ah_H → Prop) (QX : String → Nat → ah_H → Prop) : Prop := am_T ah_r l yX5_row (ws_ yX5_row cX5_row 4 (some (Jvm.ClassFile.FieldType.array Jvm.ClassFile.FieldType.int))) (am_rm 6 mc ms) mc ms as S Q QX
set_option maxHeartbeats 4000000 in
set_option maxRecDepth 100000 in
theorem bX5_row {l : Launch} {mc ms : Nat} {Q : Option am_W → ah_H → Prop} {QX : String → Nat → ah_H → Prop} {S : ah_H} (v0 : Nat) (v1 : Int) (h1 : am_r v1) (v2 : Int) (h2 : am_r v2)
    (hh : ((v1 < 0) →
        (∃ mc4 ms5 : Nat, ((0 + mc4) ≤ mc ∧ (0 + ms5) ≤ ms) ∧
        kX0_must l mc4 ms5 [am_I (am_b false), am_I 2] S (am_qv fun G8 =>
          VX5_row l mc ms Q QX 28 [(0, am_R v0), (1, am_I v1), (2, am_I v2)] [] G8 (0 + mc4) (0 + ms5)) (fun ex j G8 =>
          QX ex j G8))) ∧
      ((¬ v1 < 0) →
        (∃ fs11, (S.1 v0 = some (.inl (5, fs11))) ∧
        (∃ x14, (fs11[1]? = some (am_R x14)) ∧
        (∃ n15 f16, (S.1 x14 = some (.inr (0, n15, .inl f16))) ∧
        (am_r64 (v1 + v2)) ∧
        (((n15 : Int) < (v1 + v2)) →
          (∃ mc23 ms24 : Nat, ((0 + mc23) ≤ mc ∧ (0 + ms24) ≤ ms) ∧
          kX0_must l mc23 ms24 [am_I (am_b false), am_I 2] S (am_qv fun G27 =>
            VX5_row l mc ms Q QX 28 [(0, am_R v0), (1, am_I v1), (2, am_I v2)] [] G27 (0 + mc23) (0 + ms24)) (fun ex j G27 =>
            QX ex j G27))) ∧
        ((¬ (n15 : Int) < (v1 + v2)) →
          (∃ mc30 ms31 : Nat, ((0 + mc30) ≤ mc ∧ (0 + ms31) ≤ ms) ∧
          kX0_must l mc30 ms31 [am_I (am_b true), am_I 2] S (am_qv fun G34 =>
            VX5_row l mc ms Q QX 28 [(0, am_R v0), (1, am_I v1), (2, am_I v2)] [] G34 (0 + mc30) (0 + ms31)) (fun ex j G34 =>
            QX ex j G34)))))))) : kX5_row l mc ms [am_R v0, am_I v1, am_I v2] S Q QX := by
  refine am_entryT (lv := [(0, am_R v0), (1, am_I v1), (2, am_I v2)]) rfl rfl rfl (fun _ => rfl) (fun _ => Nat.le_of_ble_eq_true rfl) ?_
  refine am_iload_n dX5_row_0 rfl 1 rfl ?_
  obtain ⟨ha1, hb2⟩ := hh
  refine am_if_lt (tgt := 23) dX5_row_1 (by decide) h1 (fun hc3 => ?_) (fun hc3 => ?_)
  · have hh := ha1 hc3
    refine am_iconst dX5_row_23 ?_
    refine am_iconst dX5_row_24 ?_
    obtain ⟨mc4, ms5, ⟨o6, o7⟩, hh⟩ := hh
    refine am_tSN (n := 2) hh dX5_row_25 (am_nwin q726 rfl) q291 q90 q292 ⟨⟨by decide, by decide, by decide +kernel⟩, ⟨Nat.le_of_ble_eq_true rfl, Nat.le_of_ble_eq_true rfl⟩⟩ ⟨rfl, rfl⟩ rfl rfl (Nat.le_of_ble_eq_true rfl) ⟨o6, o7⟩ (fun v G8 hn9 => ?_) (fun ex j G8 hx10 => ?_)
    · obtain ⟨rfl, hh⟩ := hn9
      exact hh
    · have hh := hx10
      exact am_xout [] (by decide +kernel) (by decide +kernel) o6 o7 hh
  · have hh := hb2 hc3
    refine am_iload_n dX5_row_4 rfl 1 rfl ?_
    refine am_i2l_ h1 dX5_row_5 ?_
    refine am_iload_n dX5_row_6 rfl 2 rfl ?_
    refine am_i2l_ h2 dX5_row_7 ?_
    refine am_ladd dX5_row_8 ?_
    refine am_aload_n dX5_row_9 rfl 0 rfl ?_
    obtain ⟨fs11, ho12, hh⟩ := hh
    obtain ⟨x14, hv13, hh⟩ := hh
    refine ah_get ho12 hv13 rfl in_X5 (by decide) q365 (Or.inl rfl) dX5_row_10 ?_
    obtain ⟨n15, f16, ha17, hh⟩ := hh
    refine ah_alen ha17 dX5_row_13 (fun hn18 => ?_)
    refine am_i2l_ hn18 dX5_row_14 ?_
    obtain ⟨o19, hh⟩ := hh
    refine am_lcmp o19 (am_r64_of hn18) dX5_row_15 ?_
    obtain ⟨ha20, hb21⟩ := hh
    refine am_cmp_gt (tgt := 23) dX5_row_16 (by decide) (fun hc22 => ?_) (fun hc22 => ?_)
    · have hh := ha20 hc22
      refine am_iconst dX5_row_23 ?_
      refine am_iconst dX5_row_24 ?_
      obtain ⟨mc23, ms24, ⟨o25, o26⟩, hh⟩ := hh
      refine am_tSN (n := 2) hh dX5_row_25 (am_nwin q726 rfl) q291 q90 q292 ⟨⟨by decide, by decide, by decide +kernel⟩, ⟨Nat.le_of_ble_eq_true rfl, Nat.le_of_ble_eq_true rfl⟩⟩ ⟨rfl, rfl⟩ rfl rfl (Nat.le_of_ble_eq_true rfl) ⟨o25, o26⟩ (fun v G27 hn28 => ?_) (fun ex j G27 hx29 => ?_)
      · obtain ⟨rfl, hh⟩ := hn28
        exact hh
      · have hh := hx29
        exact am_xout [] (by decide +kernel) (by decide +kernel) o25 o26 hh
    · have hh := hb21 hc22
      refine am_iconst dX5_row_19 ?_
      refine am_goto (tgt := 24) dX5_row_20 (by decide) ?_
      refine am_iconst dX5_row_24 ?_
      obtain ⟨mc30, ms31, ⟨o32, o33⟩, hh⟩ := hh
      refine am_tSN (n := 2) hh dX5_row_25 (am_nwin q726 rfl) q291 q90 q292 ⟨⟨by decide, by decide, by decide +kernel⟩, ⟨Nat.le_of_ble_eq_true rfl, Nat.le_of_ble_eq_true rfl⟩⟩ ⟨rfl, rfl⟩ rfl rfl (Nat.le_of_ble_eq_true rfl) ⟨o32, o33⟩ (fun v G34 hn35 => ?_) (fun ex j G34 hx36 => ?_)
      · obtain ⟨rfl, hh⟩ := hn35
        exact hh
      · have hh := hx36
        exact am_xout [] (by decide +kernel) (by decide +kernel) o32 o33 hh
set_option maxHeartbeats 4000000 in
set_option maxRecDepth 100000 in
theorem bX5_row_28 {l : Launch} {mc ms : Nat} {Q : Option am_W → ah_H → Prop} {QX : String → Nat → ah_H → Prop} {S : ah_H} (v0 : Nat) (v1 : Int) (h1 : am_r v1) (v2 : Int) (h2 : am_r v2) (cs ss : Nat)
    (hh : (0 ≤ v2 ∧ v2 < 100000) ∧
      ((cs + 1) ≤ mc) ∧
      ((ss + v2.toNat) ≤ ms) ∧
      (∀ G4, G4 = ah_mk S (.inr (0, v2.toNat, .inl (fun _ => 0))) →
      (∃ fs6, (G4.1 v0 = some (.inl (5, fs6))) ∧
      (∃ x9, (fs6[1]? = some (am_R x9)) ∧
      (∃ n10 f11, (G4.1 x9 = some (.inr (0, n10, .inl f11))) ∧
      (∃ n13 f14, (G4.1 S.2 = some (.inr (0, n13, .inl f14))) ∧
      (ah_X ≤ x9) ∧
      (ah_X ≤ S.2) ∧
      (0 ≤ v1) ∧
      (0 ≤ v2) ∧
      (v1 + v2 ≤ (n10 : Int)) ∧
      (0 + v2 ≤ (n13 : Int)) ∧
      (∀ G22, G22 = ah_cp G4 S.2 0 n13 f11 f14 v1 0 v2 →
      Q (some (am_R S.2)) G22))))))) : VX5_row l mc ms Q QX 28 [(0, am_R v0), (1, am_I v1), (2, am_I v2)] [] S cs ss := by
  refine am_iload_n dX5_row_28 rfl 2 rfl ?_
  obtain ⟨o1, hh⟩ := hh
  obtain ⟨o2, hh⟩ := hh
  obtain ⟨o3, hh⟩ := hh
  refine ah_newa (k := 0) (ty := .int) rfl rfl (by decide) q165 o1.1 o1.2 o2 o3 dX5_row_29 ?_
  have hh := hh _ rfl
  refine am_astore_n dX5_row_31 rfl (by decide) rfl ?_
  refine am_aload_n dX5_row_32 rfl 1 rfl ?_
  obtain ⟨fs6, ho7, hh⟩ := hh
  obtain ⟨x9, hv8, hh⟩ := hh
  refine ah_get ho7 hv8 rfl in_X5 (by decide) q365 (Or.inl rfl) dX5_row_33 ?_
  refine am_iload_n dX5_row_36 rfl 2 rfl ?_
  refine am_aload_n dX5_row_37 rfl 0 rfl ?_
  refine am_iconst dX5_row_38 ?_
  refine am_iload_n dX5_row_39 rfl 3 rfl ?_
  obtain ⟨n10, f11, ha12, hh⟩ := hh
  obtain ⟨n13, f14, ha15, hh⟩ := hh
  obtain ⟨o16, hh⟩ := hh
  obtain ⟨o17, hh⟩ := hh
  obtain ⟨o18, hh⟩ := hh
  obtain ⟨o19, hh⟩ := hh
  obtain ⟨o20, hh⟩ := hh
  obtain ⟨o21, hh⟩ := hh
  refine ah_copy ha12 o16 ha15 o17 (by decide) o18 (by decide) o19 o20 o21 (fun _ _ => rfl) q727 q433 q432 q105 (Nat.le_of_ble_eq_true rfl) (Nat.le_of_ble_eq_true rfl) dX5_row_40 ?_
  have hh := hh _ rfl
  refine am_aload_n dX5_row_43 rfl 0 rfl ?_
  refine am_e12 ?_; exact am_aret rfl (by first | exact Or.inl ⟨_, rfl⟩ | exact Or.inr ⟨_, rfl⟩) dX5_row_44 o2 o3 hh
/-! TableArms$Reader.must(ZI)V -/
abbrev VX7_must (l : Launch) (mc ms : Nat) (Q : Option am_W → ah_H → Prop) (QX : String → Nat → ah_H → Prop) (pc : Nat) (lv : List (Nat × am_W)) (st : List am_W) (S : ah_H) (cells slots : Nat) : Prop := am_V ah_r l RX7 cX7_must 3 none "must" (am_rm 5 mc ms) (am_E2 ah_r mc ms Q QX) pc lv st S cells slots
abbrev kX7_must (l : Launch) (mc ms : Nat) (as : List am_W) (S : ah_H) (Q : Option am_W → ah_H → Prop) (QX : String → Nat → ah_H → Prop) : Prop := am_T ah_r l yX7_must (ws_ yX7_must cX7_must 3 none) (am_rm 5 mc ms) mc ms as S Q QX
set_option maxHeartbeats 4000000 in
set_option maxRecDepth 100000 in
theorem bX7_must {l : Launch} {mc ms : Nat} {Q : Option am_W → ah_H → Prop} {QX : String → Nat → ah_H → Prop} {S : ah_H} (v0 : Nat) (v1 : Bool) (v2 : Int) (h2 : am_r v2)
    (hh : ((v1 = true) →
        Q none S) ∧
      ((v1 = false) →
        (1 ≤ mc) ∧
        (8 ≤ ms) ∧
        (∀ G6, G6 = ah_mk S (.inl (8, ah_dX8)) →
        (∃ fs8, (G6.1 v0 = some (.inl (7, fs8))) ∧
        (∃ z11, (fs8[5]? = some (am_I z11) ∧ am_r z11) ∧
        kX8_init l [am_R S.2, am_I v2, am_I z11] G6 (am_qv fun G13 =>
          (∃ fs14, (G13.1 S.2 = some (.inl (8, fs14))) ∧
          (ah_X ≤ S.2) ∧
          QX "TableArms$Fault" S.2 G13))))))) : kX7_must l mc ms [am_R v0, am_I (am_b v1), am_I v2] S Q QX := by
  refine am_entryT (lv := [(0, am_R v0), (1, am_I (am_b v1)), (2, am_I v2)]) rfl rfl rfl (fun _ => rfl) (fun _ => Nat.le_of_ble_eq_true rfl) ?_
  refine am_iload_n dX7_must_0 rfl 1 rfl ?_
  obtain ⟨ha1, hb2⟩ := hh
  refine am_ifB_ne (tgt := 17) dX7_must_1 (by decide) (fun hc3 => ?_) (fun hc3 => ?_)
  · have hh := ha1 hc3
    refine am_e12 ?_; exact am_vret rfl dX7_must_17 (Nat.zero_le _) (Nat.zero_le _) hh
  · have hh := hb2 hc3
    obtain ⟨o4, hh⟩ := hh
    obtain ⟨o5, hh⟩ := hh
    refine ah_new (ci := 8) (fs := ah_dX8) tyX8 rfl in_X8 tyX8_ok q1057 q1058 q118 ah_dX8_ok o4 o5 dX7_must_4 ?_
    have hh := hh _ rfl
    refine am_dup dX7_must_7 rfl ?_
    refine am_iload_n dX7_must_8 rfl 2 rfl ?_
    refine am_aload_n dX7_must_9 rfl 0 rfl ?_
    obtain ⟨fs8, ho9, hh⟩ := hh
    obtain ⟨z11, ⟨hv10, hr12⟩, hh⟩ := hh
    refine ah_get ho9 hv10 rfl in_X7 (by decide) q830 (Or.inl rfl) dX7_must_10 ?_
    refine am_rIv (n := 2) hh dX7_must_13 q1066 q1067 q118 q1068 rfl ⟨⟨by decide, by decide, by decide +kernel⟩, ⟨Nat.le_of_ble_eq_true rfl, Nat.le_of_ble_eq_true rfl⟩⟩ ⟨rfl, rfl⟩ rfl rfl (Nat.le_of_ble_eq_true rfl) ⟨o4, o5⟩ (fun G13 hh => ?_)
    obtain ⟨fs14, ho15, hh⟩ := hh
    obtain ⟨o16, hh⟩ := hh
    refine am_athrow dX7_must_16 (ah_thrown ho15 o16 rfl) ?_
    exact am_xout [] (by decide +kernel) (by decide +kernel) o4 o5 hh
/-! TableArms$Reader.figure(I)I -/
abbrev VX7_figure (l : Launch) (mc ms : Nat) (Q : Option am_W → ah_H → Prop) (QX : String → Nat → ah_H → Prop) (pc : Nat) (lv : List (Nat × am_W)) (st : List am_W) (S : ah_H) (cells slots : Nat) : Prop := am_V ah_r l RX7 cX7_figure 3 (some .int) "figure" (am_rm 9 mc ms) (am_E2 ah_r mc ms Q QX) pc lv st S cells slots
abbrev kX7_figure (l : Launch) (mc ms : Nat) (as : List am_W) (S : ah_H) (Q : Option am_W → ah_H → Prop) (QX : String → Nat → ah_H → Prop) : Prop := am_T ah_r l yX7_figure (ws_ yX7_figure cX7_figure 3 (some .int)) (am_rm 9 mc ms) mc ms as S Q QX
set_option maxHeartbeats 4000000 in
set_option maxRecDepth 100000 in
theorem bX7_figure {l : Launch} {mc ms : Nat} {Q : Option am_W → ah_H → Prop} {QX : String → Nat → ah_H → Prop} {S : ah_H} (v0 : Nat) (v1 : Int) (h1 : am_r v1)
    (hh : (∃ fs1, (S.1 v0 = some (.inl (7, fs1))) ∧
      (∃ z4, (fs1[4]? = some (am_I z4) ∧ am_r z4) ∧
      ((¬ z4 = 2) →
        (∃ mc9 ms10 : Nat, ((0 + mc9) ≤ mc ∧ (0 + ms10) ≤ ms) ∧
        kX7_must l mc9 ms10 [am_R v0, am_I (am_b false), am_I 1] S (am_qv fun G13 =>
          (∃ fs16, (G13.1 v0 = some (.inl (7, fs16))) ∧
          (∃ z19, (fs16[6]? = some (am_I z19) ∧ am_r z19) ∧
          ((v1 < z19) →
            (∃ mc24 ms25 : Nat, (((0 + mc9) + mc24) ≤ mc ∧ ((0 + ms10) + ms25) ≤ ms) ∧
            kX7_must l mc24 ms25 [am_R v0, am_I (am_b false), am_I 2] G13 (am_qv fun G28 =>
              (∃ fs31, (G28.1 v0 = some (.inl (7, fs31))) ∧
              (∃ z34, (fs31[6]? = some (am_I z34) ∧ am_r z34) ∧
              (∃ mc36 ms37 : Nat, ((((0 + mc9) + mc24) + mc36) ≤ mc ∧ (((0 + ms10) + ms25) + ms37) ≤ ms) ∧
              kX7_next l mc36 ms37 [am_R v0] G28 (am_qv fun G40 =>
                Q (some (am_I z34)) G40))))) (fun ex j G28 =>
              QX ex j G28))) ∧
          ((¬ v1 < z19) →
            (∃ mc41 ms42 : Nat, (((0 + mc9) + mc41) ≤ mc ∧ ((0 + ms10) + ms42) ≤ ms) ∧
            kX7_must l mc41 ms42 [am_R v0, am_I (am_b true), am_I 2] G13 (am_qv fun G45 =>
              (∃ fs48, (G45.1 v0 = some (.inl (7, fs48))) ∧
              (∃ z51, (fs48[6]? = some (am_I z51) ∧ am_r z51) ∧
              (∃ mc53 ms54 : Nat, ((((0 + mc9) + mc41) + mc53) ≤ mc ∧ (((0 + ms10) + ms42) + ms54) ≤ ms) ∧
              kX7_next l mc53 ms54 [am_R v0] G45 (am_qv fun G57 =>
                Q (some (am_I z51)) G57))))) (fun ex j G45 =>
              QX ex j G45)))))) (fun ex j G13 =>
          QX ex j G13))) ∧
      ((z4 = 2) →
        (∃ mc58 ms59 : Nat, ((0 + mc58) ≤ mc ∧ (0 + ms59) ≤ ms) ∧
        kX7_must l mc58 ms59 [am_R v0, am_I (am_b true), am_I 1] S (am_qv fun G62 =>
          (∃ fs65, (G62.1 v0 = some (.inl (7, fs65))) ∧
          (∃ z68, (fs65[6]? = some (am_I z68) ∧ am_r z68) ∧
          ((v1 < z68) →
            (∃ mc73 ms74 : Nat, (((0 + mc58) + mc73) ≤ mc ∧ ((0 + ms59) + ms74) ≤ ms) ∧
            kX7_must l mc73 ms74 [am_R v0, am_I (am_b false), am_I 2] G62 (am_qv fun G77 =>
              (∃ fs80, (G77.1 v0 = some (.inl (7, fs80))) ∧
              (∃ z83, (fs80[6]? = some (am_I z83) ∧ am_r z83) ∧
              (∃ mc85 ms86 : Nat, ((((0 + mc58) + mc73) + mc85) ≤ mc ∧ (((0 + ms59) + ms74) + ms86) ≤ ms) ∧
              kX7_next l mc85 ms86 [am_R v0] G77 (am_qv fun G89 =>
                Q (some (am_I z83)) G89))))) (fun ex j G77 =>
              QX ex j G77))) ∧
          ((¬ v1 < z68) →
            (∃ mc90 ms91 : Nat, (((0 + mc58) + mc90) ≤ mc ∧ ((0 + ms59) + ms91) ≤ ms) ∧
            kX7_must l mc90 ms91 [am_R v0, am_I (am_b true), am_I 2] G62 (am_qv fun G94 =>
              (∃ fs97, (G94.1 v0 = some (.inl (7, fs97))) ∧
              (∃ z100, (fs97[6]? = some (am_I z100) ∧ am_r z100) ∧
              (∃ mc102 ms103 : Nat, ((((0 + mc58) + mc90) + mc102) ≤ mc ∧ (((0 + ms59) + ms91) + ms103) ≤ ms) ∧
              kX7_next l mc102 ms103 [am_R v0] G94 (am_qv fun G106 =>
                Q (some (am_I z100)) G106))))) (fun ex j G94 =>
              QX ex j G94)))))) (fun ex j G62 =>
          QX ex j G62)))))) : kX7_figure l mc ms [am_R v0, am_I v1] S Q QX := by
  refine am_entryT (lv := [(0, am_R v0), (1, am_I v1)]) rfl rfl rfl (fun _ => rfl) (fun _ => Nat.le_of_ble_eq_true rfl) ?_
  refine am_aload_n dX7_figure_0 rfl 0 rfl ?_
  refine am_aload_n dX7_figure_1 rfl 0 rfl ?_
  obtain ⟨fs1, ho2, hh⟩ := hh
  obtain ⟨z4, ⟨hv3, hr5⟩, hh⟩ := hh
  refine ah_get ho2 hv3 rfl in_X7 (by decide) q829 (Or.inl rfl) dX7_figure_2 ?_
  refine am_iconst dX7_figure_5 ?_
  obtain ⟨ha6, hb7⟩ := hh
  refine am_icmp_ne (tgt := 13) dX7_figure_6 (by decide) hr5 (⟨by decide, by decide⟩) (fun hc8 => ?_) (fun hc8 => ?_)
  · have hh := ha6 hc8
    refine am_iconst dX7_figure_13 ?_
    refine am_iconst dX7_figure_14 ?_
    obtain ⟨mc9, ms10, ⟨o11, o12⟩, hh⟩ := hh
    refine am_tV (n := 2) hh dX7_figure_15 (lw_V q1053 q1055 qs28 q113 q1056) rfl ⟨⟨by decide, by decide, by decide +kernel⟩, ⟨Nat.le_of_ble_eq_true rfl, Nat.le_of_ble_eq_true rfl⟩⟩ ⟨rfl, rfl⟩ rfl rfl (Nat.le_of_ble_eq_true rfl) ⟨o11, o12⟩ (ah_recv ho2 rfl) (fun v G13 hn14 => ?_) (fun ex j G13 hx15 => ?_)
    · obtain ⟨rfl, hh⟩ := hn14
      refine am_aload_n dX7_figure_18 rfl 0 rfl ?_
      refine am_aload_n dX7_figure_19 rfl 0 rfl ?_
      obtain ⟨fs16, ho17, hh⟩ := hh
      obtain ⟨z19, ⟨hv18, hr20⟩, hh⟩ := hh
      refine ah_get ho17 hv18 rfl in_X7 (by decide) q831 (Or.inl rfl) dX7_figure_20 ?_
      refine am_iload_n dX7_figure_23 rfl 1 rfl ?_
      obtain ⟨ha21, hb22⟩ := hh
      refine am_icmp_gt (tgt := 31) dX7_figure_24 (by decide) hr20 h1 (fun hc23 => ?_) (fun hc23 => ?_)
      · have hh := ha21 hc23
        refine am_iconst dX7_figure_31 ?_
        refine am_iconst dX7_figure_32 ?_
        obtain ⟨mc24, ms25, ⟨o26, o27⟩, hh⟩ := hh
        refine am_tV (n := 2) hh dX7_figure_33 (lw_V q1053 q1055 qs28 q113 q1056) rfl ⟨⟨by decide, by decide, by decide +kernel⟩, ⟨Nat.le_of_ble_eq_true rfl, Nat.le_of_ble_eq_true rfl⟩⟩ ⟨rfl, rfl⟩ rfl rfl (Nat.le_of_ble_eq_true rfl) ⟨o26, o27⟩ (ah_recv ho17 rfl) (fun v G28 hn29 => ?_) (fun ex j G28 hx30 => ?_)
        · obtain ⟨rfl, hh⟩ := hn29
          refine am_aload_n dX7_figure_36 rfl 0 rfl ?_
          obtain ⟨fs31, ho32, hh⟩ := hh
          obtain ⟨z34, ⟨hv33, hr35⟩, hh⟩ := hh
          refine ah_get ho32 hv33 rfl in_X7 (by decide) q831 (Or.inl rfl) dX7_figure_37 ?_
          refine am_istore_n dX7_figure_40 rfl (by decide) rfl ?_
          refine am_aload_n dX7_figure_41 rfl 1 rfl ?_
          obtain ⟨mc36, ms37, ⟨o38, o39⟩, hh⟩ := hh
          refine am_rVv (n := 0) hh dX7_figure_42 (lw_V q858 q860 qs25 q113 q861) rfl ⟨⟨by decide, by decide, by decide +kernel⟩, ⟨Nat.le_of_ble_eq_true rfl, Nat.le_of_ble_eq_true rfl⟩⟩ ⟨rfl, rfl⟩ rfl rfl (Nat.le_of_ble_eq_true rfl) ⟨o38, o39⟩ (ah_recv ho32 rfl) (fun G40 hh => ?_)
          refine am_iload_n dX7_figure_45 rfl 0 rfl ?_
          refine am_e12 ?_; exact am_iret rfl dX7_figure_46 o38 o39 hh
        · have hh := hx30
          exact am_xout [] (by decide +kernel) (by decide +kernel) o26 o27 hh
      · have hh := hb22 hc23
        refine am_iconst dX7_figure_27 ?_
        refine am_goto (tgt := 32) dX7_figure_28 (by decide) ?_
        refine am_iconst dX7_figure_32 ?_
        obtain ⟨mc41, ms42, ⟨o43, o44⟩, hh⟩ := hh
        refine am_tV (n := 2) hh dX7_figure_33 (lw_V q1053 q1055 qs28 q113 q1056) rfl ⟨⟨by decide, by decide, by decide +kernel⟩, ⟨Nat.le_of_ble_eq_true rfl, Nat.le_of_ble_eq_true rfl⟩⟩ ⟨rfl, rfl⟩ rfl rfl (Nat.le_of_ble_eq_true rfl) ⟨o43, o44⟩ (ah_recv ho17 rfl) (fun v G45 hn46 => ?_) (fun ex j G45 hx47 => ?_)
        · obtain ⟨rfl, hh⟩ := hn46
          refine am_aload_n dX7_figure_36 rfl 0 rfl ?_
          obtain ⟨fs48, ho49, hh⟩ := hh
          obtain ⟨z51, ⟨hv50, hr52⟩, hh⟩ := hh
          refine ah_get ho49 hv50 rfl in_X7 (by decide) q831 (Or.inl rfl) dX7_figure_37 ?_
          refine am_istore_n dX7_figure_40 rfl (by decide) rfl ?_
          refine am_aload_n dX7_figure_41 rfl 1 rfl ?_
          obtain ⟨mc53, ms54, ⟨o55, o56⟩, hh⟩ := hh
          refine am_rVv (n := 0) hh dX7_figure_42 (lw_V q858 q860 qs25 q113 q861) rfl ⟨⟨by decide, by decide, by decide +kernel⟩, ⟨Nat.le_of_ble_eq_true rfl, Nat.le_of_ble_eq_true rfl⟩⟩ ⟨rfl, rfl⟩ rfl rfl (Nat.le_of_ble_eq_true rfl) ⟨o55, o56⟩ (ah_recv ho49 rfl) (fun G57 hh => ?_)
          refine am_iload_n dX7_figure_45 rfl 0 rfl ?_
          refine am_e12 ?_; exact am_iret rfl dX7_figure_46 o55 o56 hh
        · have hh := hx47
          exact am_xout [] (by decide +kernel) (by decide +kernel) o43 o44 hh
    · have hh := hx15
      exact am_xout [] (by decide +kernel) (by decide +kernel) o11 o12 hh
  · have hh := hb7 hc8
    refine am_iconst dX7_figure_9 ?_
    refine am_goto (tgt := 14) dX7_figure_10 (by decide) ?_
    refine am_iconst dX7_figure_14 ?_
    obtain ⟨mc58, ms59, ⟨o60, o61⟩, hh⟩ := hh
    refine am_tV (n := 2) hh dX7_figure_15 (lw_V q1053 q1055 qs28 q113 q1056) rfl ⟨⟨by decide, by decide, by decide +kernel⟩, ⟨Nat.le_of_ble_eq_true rfl, Nat.le_of_ble_eq_true rfl⟩⟩ ⟨rfl, rfl⟩ rfl rfl (Nat.le_of_ble_eq_true rfl) ⟨o60, o61⟩ (ah_recv ho2 rfl) (fun v G62 hn63 => ?_) (fun ex j G62 hx64 => ?_)
    · obtain ⟨rfl, hh⟩ := hn63
      refine am_aload_n dX7_figure_18 rfl 0 rfl ?_
      refine am_aload_n dX7_figure_19 rfl 0 rfl ?_
      obtain ⟨fs65, ho66, hh⟩ := hh
      obtain ⟨z68, ⟨hv67, hr69⟩, hh⟩ := hh
      refine ah_get ho66 hv67 rfl in_X7 (by decide) q831 (Or.inl rfl) dX7_figure_20 ?_
      refine am_iload_n dX7_figure_23 rfl 1 rfl ?_
      obtain ⟨ha70, hb71⟩ := hh
      refine am_icmp_gt (tgt := 31) dX7_figure_24 (by decide) hr69 h1 (fun hc72 => ?_) (fun hc72 => ?_)
      · have hh := ha70 hc72
        refine am_iconst dX7_figure_31 ?_
        refine am_iconst dX7_figure_32 ?_
        obtain ⟨mc73, ms74, ⟨o75, o76⟩, hh⟩ := hh
        refine am_tV (n := 2) hh dX7_figure_33 (lw_V q1053 q1055 qs28 q113 q1056) rfl ⟨⟨by decide, by decide, by decide +kernel⟩, ⟨Nat.le_of_ble_eq_true rfl, Nat.le_of_ble_eq_true rfl⟩⟩ ⟨rfl, rfl⟩ rfl rfl (Nat.le_of_ble_eq_true rfl) ⟨o75, o76⟩ (ah_recv ho66 rfl) (fun v G77 hn78 => ?_) (fun ex j G77 hx79 => ?_)
        · obtain ⟨rfl, hh⟩ := hn78
          refine am_aload_n dX7_figure_36 rfl 0 rfl ?_
          obtain ⟨fs80, ho81, hh⟩ := hh
          obtain ⟨z83, ⟨hv82, hr84⟩, hh⟩ := hh
          refine ah_get ho81 hv82 rfl in_X7 (by decide) q831 (Or.inl rfl) dX7_figure_37 ?_
          refine am_istore_n dX7_figure_40 rfl (by decide) rfl ?_
          refine am_aload_n dX7_figure_41 rfl 1 rfl ?_
          obtain ⟨mc85, ms86, ⟨o87, o88⟩, hh⟩ := hh
          refine am_rVv (n := 0) hh dX7_figure_42 (lw_V q858 q860 qs25 q113 q861) rfl ⟨⟨by decide, by decide, by decide +kernel⟩, ⟨Nat.le_of_ble_eq_true rfl, Nat.le_of_ble_eq_true rfl⟩⟩ ⟨rfl, rfl⟩ rfl rfl (Nat.le_of_ble_eq_true rfl) ⟨o87, o88⟩ (ah_recv ho81 rfl) (fun G89 hh => ?_)
          refine am_iload_n dX7_figure_45 rfl 0 rfl ?_
          refine am_e12 ?_; exact am_iret rfl dX7_figure_46 o87 o88 hh
        · have hh := hx79
          exact am_xout [] (by decide +kernel) (by decide +kernel) o75 o76 hh
      · have hh := hb71 hc72
        refine am_iconst dX7_figure_27 ?_
        refine am_goto (tgt := 32) dX7_figure_28 (by decide) ?_
        refine am_iconst dX7_figure_32 ?_
        obtain ⟨mc90, ms91, ⟨o92, o93⟩, hh⟩ := hh
        refine am_tV (n := 2) hh dX7_figure_33 (lw_V q1053 q1055 qs28 q113 q1056) rfl ⟨⟨by decide, by decide, by decide +kernel⟩, ⟨Nat.le_of_ble_eq_true rfl, Nat.le_of_ble_eq_true rfl⟩⟩ ⟨rfl, rfl⟩ rfl rfl (Nat.le_of_ble_eq_true rfl) ⟨o92, o93⟩ (ah_recv ho66 rfl) (fun v G94 hn95 => ?_) (fun ex j G94 hx96 => ?_)
        · obtain ⟨rfl, hh⟩ := hn95
          refine am_aload_n dX7_figure_36 rfl 0 rfl ?_
          obtain ⟨fs97, ho98, hh⟩ := hh
          obtain ⟨z100, ⟨hv99, hr101⟩, hh⟩ := hh
          refine ah_get ho98 hv99 rfl in_X7 (by decide) q831 (Or.inl rfl) dX7_figure_37 ?_
          refine am_istore_n dX7_figure_40 rfl (by decide) rfl ?_
          refine am_aload_n dX7_figure_41 rfl 1 rfl ?_
          obtain ⟨mc102, ms103, ⟨o104, o105⟩, hh⟩ := hh
          refine am_rVv (n := 0) hh dX7_figure_42 (lw_V q858 q860 qs25 q113 q861) rfl ⟨⟨by decide, by decide, by decide +kernel⟩, ⟨Nat.le_of_ble_eq_true rfl, Nat.le_of_ble_eq_true rfl⟩⟩ ⟨rfl, rfl⟩ rfl rfl (Nat.le_of_ble_eq_true rfl) ⟨o104, o105⟩ (ah_recv ho98 rfl) (fun G106 hh => ?_)
          refine am_iload_n dX7_figure_45 rfl 0 rfl ?_
          refine am_e12 ?_; exact am_iret rfl dX7_figure_46 o104 o105 hh
        · have hh := hx96
          exact am_xout [] (by decide +kernel) (by decide +kernel) o92 o93 hh
    · have hh := hx64
      exact am_xout [] (by decide +kernel) (by decide +kernel) o60 o61 hh
/-! TableArms$Reader.word([Ljava/lang/String;)I -/
abbrev VX7_word (l : Launch) (mc ms : Nat) (Q : Option am_W → ah_H → Prop) (QX : String → Nat → ah_H → Prop) (pc : Nat) (lv : List (Nat × am_W)) (st : List am_W) (S : ah_H) (cells slots : Nat) : Prop := am_V ah_r l RX7 cX7_word 3 (some .int) "word" (am_rm 9 mc ms) (am_E2 ah_r mc ms Q QX) pc lv st S cells slots
abbrev kX7_word (l : Launch) (mc ms : Nat) (as : List am_W) (S : ah_H) (Q : Option am_W → ah_H → Prop) (QX : String → Nat → ah_H → Prop) : Prop := am_T ah_r l yX7_word (ws_ yX7_word cX7_word 3 (some .int)) (am_rm 9 mc ms) mc ms as S Q QX
set_option maxHeartbeats 4000000 in
set_option maxRecDepth 100000 in
theorem bX7_word {l : Launch} {mc ms : Nat} {Q : Option am_W → ah_H → Prop} {QX : String → Nat → ah_H → Prop} {S : ah_H} (v0 : Nat) (v1 : Nat)
    (hh : VX7_word l mc ms Q QX 2 [(0, am_R v0), (1, am_R v1), (2, am_I 0)] [] S 0 0) : kX7_word l mc ms [am_R v0, am_R v1] S Q QX := by
  refine am_entryT (lv := [(0, am_R v0), (1, am_R v1)]) rfl rfl rfl (fun _ => rfl) (fun _ => Nat.le_of_ble_eq_true rfl) ?_
  refine am_iconst dX7_word_0 ?_
  refine am_istore_n dX7_word_1 rfl (by decide) rfl ?_
  refine am_keep [1, 2, 0] rfl ?_
  exact hh
set_option maxHeartbeats 4000000 in
set_option maxRecDepth 100000 in
theorem bX7_word_2 {l : Launch} {mc ms : Nat} {Q : Option am_W → ah_H → Prop} {QX : String → Nat → ah_H → Prop} {S : ah_H} (v0 : Nat) (v1 : Nat) (v2 : Int) (h2 : am_r v2) (cs ss : Nat)
    (hh : (∃ n1 f2, (S.1 v1 = some (.inr (6, n1, .inr f2))) ∧
      (((n1 : Int) ≤ v2) →
        (((n1 : Int) ≤ v2) →
          (∃ mc12 ms13 : Nat, ((cs + mc12) ≤ mc ∧ (ss + ms13) ≤ ms) ∧
          (∃ fs16, (S.1 v0 = some (.inl (7, fs16))) ∧
          kX7_must l mc12 ms13 [am_R v0, am_I (am_b false), am_I 1] S (am_qv fun G18 =>
            (∃ mc21 ms22 : Nat, (((cs + mc12) + mc21) ≤ mc ∧ ((ss + ms13) + ms22) ≤ ms) ∧
            (∃ fs25, (G18.1 v0 = some (.inl (7, fs25))) ∧
            kX7_next l mc21 ms22 [am_R v0] G18 (am_qv fun G27 =>
              Q (some (am_I v2)) G27)))) (fun ex j G18 =>
            QX ex j G18)))) ∧
        ((¬ (n1 : Int) ≤ v2) →
          (∃ mc28 ms29 : Nat, ((cs + mc28) ≤ mc ∧ (ss + ms29) ≤ ms) ∧
          (∃ fs32, (S.1 v0 = some (.inl (7, fs32))) ∧
          kX7_must l mc28 ms29 [am_R v0, am_I (am_b true), am_I 1] S (am_qv fun G34 =>
            (∃ mc37 ms38 : Nat, (((cs + mc28) + mc37) ≤ mc ∧ ((ss + ms29) + ms38) ≤ ms) ∧
            (∃ fs41, (G34.1 v0 = some (.inl (7, fs41))) ∧
            kX7_next l mc37 ms38 [am_R v0] G34 (am_qv fun G43 =>
              Q (some (am_I v2)) G43)))) (fun ex j G34 =>
            QX ex j G34))))) ∧
      ((¬ (n1 : Int) ≤ v2) →
        (0 ≤ v2 ∧ v2 < (n1 : Int)) ∧
        (∃ y45, (f2 v2.toNat = some y45) ∧
        (cs ≤ mc) ∧
        (ss ≤ ms) ∧
        (∃ fs49, (S.1 v0 = some (.inl (7, fs49))) ∧
        kX7_isWord l [am_R v0, am_R y45] S (am_qz fun b52 G51 =>
          ((b52 = true) →
            (∃ n56 f57, (G51.1 v1 = some (.inr (6, n56, .inr f57))) ∧
            (((n56 : Int) ≤ v2) →
              (∃ mc63 ms64 : Nat, ((cs + mc63) ≤ mc ∧ (ss + ms64) ≤ ms) ∧
              (∃ fs67, (G51.1 v0 = some (.inl (7, fs67))) ∧
              kX7_must l mc63 ms64 [am_R v0, am_I (am_b false), am_I 1] G51 (am_qv fun G69 =>
                (∃ mc72 ms73 : Nat, (((cs + mc63) + mc72) ≤ mc ∧ ((ss + ms64) + ms73) ≤ ms) ∧
                (∃ fs76, (G69.1 v0 = some (.inl (7, fs76))) ∧
                kX7_next l mc72 ms73 [am_R v0] G69 (am_qv fun G78 =>
                  Q (some (am_I v2)) G78)))) (fun ex j G69 =>
                QX ex j G69)))) ∧
            ((¬ (n56 : Int) ≤ v2) →
              (∃ mc79 ms80 : Nat, ((cs + mc79) ≤ mc ∧ (ss + ms80) ≤ ms) ∧
              (∃ fs83, (G51.1 v0 = some (.inl (7, fs83))) ∧
              kX7_must l mc79 ms80 [am_R v0, am_I (am_b true), am_I 1] G51 (am_qv fun G85 =>
                (∃ mc88 ms89 : Nat, (((cs + mc79) + mc88) ≤ mc ∧ ((ss + ms80) + ms89) ≤ ms) ∧
                (∃ fs92, (G85.1 v0 = some (.inl (7, fs92))) ∧
                kX7_next l mc88 ms89 [am_R v0] G85 (am_qv fun G94 =>
                  Q (some (am_I v2)) G94)))) (fun ex j G85 =>
                QX ex j G85)))))) ∧
          ((b52 = false) →
            VX7_word l mc ms Q QX 2 [(0, am_R v0), (1, am_R v1), (2, am_I (v2 + 1))] [] G51 cs ss))))))) : VX7_word l mc ms Q QX 2 [(0, am_R v0), (1, am_R v1), (2, am_I v2)] [] S cs ss := by
  refine am_iload_n dX7_word_2 rfl 2 rfl ?_
  refine am_aload_n dX7_word_3 rfl 1 rfl ?_
  obtain ⟨n1, f2, ha3, hh⟩ := hh
  refine ah_alen ha3 dX7_word_4 (fun hn4 => ?_)
  obtain ⟨ha5, hb6⟩ := hh
  refine am_icmp_ge (tgt := 24) dX7_word_5 (by decide) h2 hn4 (fun hc7 => ?_) (fun hc7 => ?_)
  · have hh := ha5 hc7
    refine am_aload_n dX7_word_24 rfl 0 rfl ?_
    refine am_iload_n dX7_word_25 rfl 2 rfl ?_
    refine am_aload_n dX7_word_26 rfl 1 rfl ?_
    refine ah_alen ha3 dX7_word_27 (fun hn8 => ?_)
    obtain ⟨ha9, hb10⟩ := hh
    refine am_icmp_ge (tgt := 35) dX7_word_28 (by decide) h2 hn8 (fun hc11 => ?_) (fun hc11 => ?_)
    · have hh := ha9 hc11
      refine am_iconst dX7_word_35 ?_
      refine am_iconst dX7_word_36 ?_
      obtain ⟨mc12, ms13, ⟨o14, o15⟩, hh⟩ := hh
      obtain ⟨fs16, ho17, hh⟩ := hh
      refine am_tV (n := 2) hh dX7_word_37 (lw_V q1053 q1055 qs28 q113 q1056) rfl ⟨⟨by decide, by decide, by decide +kernel⟩, ⟨Nat.le_of_ble_eq_true rfl, Nat.le_of_ble_eq_true rfl⟩⟩ ⟨rfl, rfl⟩ rfl rfl (Nat.le_of_ble_eq_true rfl) ⟨o14, o15⟩ (ah_recv ho17 rfl) (fun v G18 hn19 => ?_) (fun ex j G18 hx20 => ?_)
      · obtain ⟨rfl, hh⟩ := hn19
        refine am_aload_n dX7_word_40 rfl 0 rfl ?_
        obtain ⟨mc21, ms22, ⟨o23, o24⟩, hh⟩ := hh
        obtain ⟨fs25, ho26, hh⟩ := hh
        refine am_rVv (n := 0) hh dX7_word_41 (lw_V q858 q860 qs25 q113 q861) rfl ⟨⟨by decide, by decide, by decide +kernel⟩, ⟨Nat.le_of_ble_eq_true rfl, Nat.le_of_ble_eq_true rfl⟩⟩ ⟨rfl, rfl⟩ rfl rfl (Nat.le_of_ble_eq_true rfl) ⟨o23, o24⟩ (ah_recv ho26 rfl) (fun G27 hh => ?_)
        refine am_iload_n dX7_word_44 rfl 2 rfl ?_
        refine am_e12 ?_; exact am_iret rfl dX7_word_45 o23 o24 hh
      · have hh := hx20
        exact am_xout [] (by decide +kernel) (by decide +kernel) o14 o15 hh
    · have hh := hb10 hc11
      refine am_iconst dX7_word_31 ?_
      refine am_goto (tgt := 36) dX7_word_32 (by decide) ?_
      refine am_iconst dX7_word_36 ?_
      obtain ⟨mc28, ms29, ⟨o30, o31⟩, hh⟩ := hh
      obtain ⟨fs32, ho33, hh⟩ := hh
      refine am_tV (n := 2) hh dX7_word_37 (lw_V q1053 q1055 qs28 q113 q1056) rfl ⟨⟨by decide, by decide, by decide +kernel⟩, ⟨Nat.le_of_ble_eq_true rfl, Nat.le_of_ble_eq_true rfl⟩⟩ ⟨rfl, rfl⟩ rfl rfl (Nat.le_of_ble_eq_true rfl) ⟨o30, o31⟩ (ah_recv ho33 rfl) (fun v G34 hn35 => ?_) (fun ex j G34 hx36 => ?_)
      · obtain ⟨rfl, hh⟩ := hn35
        refine am_aload_n dX7_word_40 rfl 0 rfl ?_
        obtain ⟨mc37, ms38, ⟨o39, o40⟩, hh⟩ := hh
        obtain ⟨fs41, ho42, hh⟩ := hh
        refine am_rVv (n := 0) hh dX7_word_41 (lw_V q858 q860 qs25 q113 q861) rfl ⟨⟨by decide, by decide, by decide +kernel⟩, ⟨Nat.le_of_ble_eq_true rfl, Nat.le_of_ble_eq_true rfl⟩⟩ ⟨rfl, rfl⟩ rfl rfl (Nat.le_of_ble_eq_true rfl) ⟨o39, o40⟩ (ah_recv ho42 rfl) (fun G43 hh => ?_)
        refine am_iload_n dX7_word_44 rfl 2 rfl ?_
        refine am_e12 ?_; exact am_iret rfl dX7_word_45 o39 o40 hh
      · have hh := hx36
        exact am_xout [] (by decide +kernel) (by decide +kernel) o30 o31 hh
  · have hh := hb6 hc7
    refine am_aload_n dX7_word_8 rfl 0 rfl ?_
    refine am_aload_n dX7_word_9 rfl 1 rfl ?_
    refine am_iload_n dX7_word_10 rfl 2 rfl ?_
    obtain ⟨o44, hh⟩ := hh
    obtain ⟨y45, hy46, hh⟩ := hh
    refine ah_aald ha3 (by decide) o44.1 o44.2 hy46 dX7_word_11 ?_
    obtain ⟨o47, hh⟩ := hh
    obtain ⟨o48, hh⟩ := hh
    obtain ⟨fs49, ho50, hh⟩ := hh
    refine am_rVz (n := 1) hh dX7_word_12 (lw_V q1038 q1040 qs27 q113 q1041) rfl ⟨⟨by decide, by decide, by decide +kernel⟩, ⟨Nat.le_of_ble_eq_true rfl, Nat.le_of_ble_eq_true rfl⟩⟩ ⟨rfl, rfl⟩ rfl rfl (Nat.le_of_ble_eq_true rfl) ⟨o47, o48⟩ (ah_recv ho50 rfl) (fun b52 G51 hh => ?_)
    obtain ⟨ha53, hb54⟩ := hh
    refine am_ifB_ne (tgt := 24) dX7_word_15 (by decide) (fun hc55 => ?_) (fun hc55 => ?_)
    · have hh := ha53 hc55
      refine am_aload_n dX7_word_24 rfl 0 rfl ?_
      refine am_iload_n dX7_word_25 rfl 2 rfl ?_
      refine am_aload_n dX7_word_26 rfl 1 rfl ?_
      obtain ⟨n56, f57, ha58, hh⟩ := hh
      refine ah_alen ha58 dX7_word_27 (fun hn59 => ?_)
      obtain ⟨ha60, hb61⟩ := hh
      refine am_icmp_ge (tgt := 35) dX7_word_28 (by decide) h2 hn59 (fun hc62 => ?_) (fun hc62 => ?_)
      · have hh := ha60 hc62
        refine am_iconst dX7_word_35 ?_
        refine am_iconst dX7_word_36 ?_
        obtain ⟨mc63, ms64, ⟨o65, o66⟩, hh⟩ := hh
        obtain ⟨fs67, ho68, hh⟩ := hh
        refine am_tV (n := 2) hh dX7_word_37 (lw_V q1053 q1055 qs28 q113 q1056) rfl ⟨⟨by decide, by decide, by decide +kernel⟩, ⟨Nat.le_of_ble_eq_true rfl, Nat.le_of_ble_eq_true rfl⟩⟩ ⟨rfl, rfl⟩ rfl rfl (Nat.le_of_ble_eq_true rfl) ⟨o65, o66⟩ (ah_recv ho68 rfl) (fun v G69 hn70 => ?_) (fun ex j G69 hx71 => ?_)
        · obtain ⟨rfl, hh⟩ := hn70
          refine am_aload_n dX7_word_40 rfl 0 rfl ?_
          obtain ⟨mc72, ms73, ⟨o74, o75⟩, hh⟩ := hh
          obtain ⟨fs76, ho77, hh⟩ := hh
          refine am_rVv (n := 0) hh dX7_word_41 (lw_V q858 q860 qs25 q113 q861) rfl ⟨⟨by decide, by decide, by decide +kernel⟩, ⟨Nat.le_of_ble_eq_true rfl, Nat.le_of_ble_eq_true rfl⟩⟩ ⟨rfl, rfl⟩ rfl rfl (Nat.le_of_ble_eq_true rfl) ⟨o74, o75⟩ (ah_recv ho77 rfl) (fun G78 hh => ?_)
          refine am_iload_n dX7_word_44 rfl 2 rfl ?_
          refine am_e12 ?_; exact am_iret rfl dX7_word_45 o74 o75 hh
        · have hh := hx71
          exact am_xout [] (by decide +kernel) (by decide +kernel) o65 o66 hh
      · have hh := hb61 hc62
        refine am_iconst dX7_word_31 ?_
        refine am_goto (tgt := 36) dX7_word_32 (by decide) ?_
        refine am_iconst dX7_word_36 ?_
        obtain ⟨mc79, ms80, ⟨o81, o82⟩, hh⟩ := hh
        obtain ⟨fs83, ho84, hh⟩ := hh
        refine am_tV (n := 2) hh dX7_word_37 (lw_V q1053 q1055 qs28 q113 q1056) rfl ⟨⟨by decide, by decide, by decide +kernel⟩, ⟨Nat.le_of_ble_eq_true rfl, Nat.le_of_ble_eq_true rfl⟩⟩ ⟨rfl, rfl⟩ rfl rfl (Nat.le_of_ble_eq_true rfl) ⟨o81, o82⟩ (ah_recv ho84 rfl) (fun v G85 hn86 => ?_) (fun ex j G85 hx87 => ?_)
        · obtain ⟨rfl, hh⟩ := hn86
          refine am_aload_n dX7_word_40 rfl 0 rfl ?_
          obtain ⟨mc88, ms89, ⟨o90, o91⟩, hh⟩ := hh
          obtain ⟨fs92, ho93, hh⟩ := hh
          refine am_rVv (n := 0) hh dX7_word_41 (lw_V q858 q860 qs25 q113 q861) rfl ⟨⟨by decide, by decide, by decide +kernel⟩, ⟨Nat.le_of_ble_eq_true rfl, Nat.le_of_ble_eq_true rfl⟩⟩ ⟨rfl, rfl⟩ rfl rfl (Nat.le_of_ble_eq_true rfl) ⟨o90, o91⟩ (ah_recv ho93 rfl) (fun G94 hh => ?_)
          refine am_iload_n dX7_word_44 rfl 2 rfl ?_
          refine am_e12 ?_; exact am_iret rfl dX7_word_45 o90 o91 hh
        · have hh := hx87
          exact am_xout [] (by decide +kernel) (by decide +kernel) o81 o82 hh
    · have hh := hb54 hc55
      refine am_iinc (n := 2) dX7_word_18 rfl (by decide) rfl ?_
      refine am_goto (tgt := 2) dX7_word_21 (by decide) ?_
      refine am_keep [1, 2, 0] rfl ?_
      exact hh
/-! TableArms$Reader.never()LTableArms$Never; -/
abbrev VX7_never (l : Launch) (mc ms : Nat) (Q : Option am_W → ah_H → Prop) (QX : String → Nat → ah_H → Prop) (pc : Nat) (lv : List (Nat × am_W)) (st : List am_W) (S : ah_H) (cells slots : Nat) : Prop := am_V ah_r l RX7 cX7_never 3 (some (Jvm.ClassFile.FieldType.object "TableArms$Never")) "never" (am_rm 10 mc ms) (am_E2 ah_r mc ms Q QX) pc lv st S cells slots
abbrev kX7_never (l : Launch) (mc ms : Nat) (as : List am_W) (S : ah_H) (Q : Option am_W → ah_H → Prop) (QX : String → Nat → ah_H → Prop) : Prop := am_T ah_r l yX7_never (ws_ yX7_never cX7_never 3 (some (Jvm.ClassFile.FieldType.object "TableArms$Never"))) (am_rm 10 mc ms) mc ms as S Q QX
set_option maxHeartbeats 4000000 in
set_option maxRecDepth 100000 in
theorem bX7_never {l : Launch} {mc ms : Nat} {Q : Option am_W → ah_H → Prop} {QX : String → Nat → ah_H → Prop} {S : ah_H} (v0 : Nat)
    (hh : (∃ mc1 ms2 : Nat, ((0 + mc1) ≤ mc ∧ (0 + ms2) ≤ ms) ∧
      (∃ fs5, (S.1 v0 = some (.inl (7, fs5))) ∧
      kX7_word l mc1 ms2 [am_R v0, am_R 2] S (am_qi fun r10 G7 =>
        (∃ mc12 ms13 : Nat, (((0 + mc1) + mc12) ≤ mc ∧ ((0 + ms2) + ms13) ≤ ms) ∧
        (∃ fs16, (G7.1 v0 = some (.inl (7, fs16))) ∧
        kX7_word l mc12 ms13 [am_R v0, am_R 3] G7 (am_qi fun r21 G18 =>
          ((((0 + mc1) + mc12) + 1) ≤ mc) ∧
          ((((0 + ms2) + ms13) + 3) ≤ ms) ∧
          (∀ G25, G25 = ah_mk G18 (.inl (9, ah_dX9)) →
          ((¬ r21 = 3) →
            (∃ mc30 ms31 : Nat, (((((0 + mc1) + mc12) + 1) + mc30) ≤ mc ∧ ((((0 + ms2) + ms13) + 3) + ms31) ≤ ms) ∧
            (∃ fs34, (G25.1 v0 = some (.inl (7, fs34))) ∧
            kX7_word l mc30 ms31 [am_R v0, am_R 2] G25 (am_qi fun r39 G36 =>
              kX9_init l [am_R G18.2, am_I r21, am_I r10, am_I r39] G36 (am_qv fun G41 =>
                Q (some (am_R G18.2)) G41)) (fun ex j G36 =>
              QX ex j G36)))) ∧
          ((r21 = 3) →
            (∃ mc42 ms43 : Nat, (((((0 + mc1) + mc12) + 1) + mc42) ≤ mc ∧ ((((0 + ms2) + ms13) + 3) + ms43) ≤ ms) ∧
            (∃ fs46, (G25.1 v0 = some (.inl (7, fs46))) ∧
            kX7_figure l mc42 ms43 [am_R v0, am_I 7] G25 (am_qi fun r51 G48 =>
              kX9_init l [am_R G18.2, am_I r21, am_I r10, am_I r51] G48 (am_qv fun G53 =>
                Q (some (am_R G18.2)) G53)) (fun ex j G48 =>
              QX ex j G48)))))) (fun ex j G18 =>
          QX ex j G18)))) (fun ex j G7 =>
        QX ex j G7)))) : kX7_never l mc ms [am_R v0] S Q QX := by
  refine am_entryT (lv := [(0, am_R v0)]) rfl rfl rfl (fun _ => rfl) (fun _ => Nat.le_of_ble_eq_true rfl) ?_
  refine am_aload_n dX7_never_0 rfl 0 rfl ?_
  refine ah_getsN (v := am_R 2) (List.mem_of_getElem? (i := 2) rfl) (am_nwin q1084 rfl) dX7_never_1 ?_
  obtain ⟨mc1, ms2, ⟨o3, o4⟩, hh⟩ := hh
  obtain ⟨fs5, ho6, hh⟩ := hh
  refine am_tV (n := 1) hh dX7_never_4 (lw_V q1086 q1088 qs30 q113 q1089) rfl ⟨⟨by decide, by decide, by decide +kernel⟩, ⟨Nat.le_of_ble_eq_true rfl, Nat.le_of_ble_eq_true rfl⟩⟩ ⟨rfl, rfl⟩ rfl rfl (Nat.le_of_ble_eq_true rfl) ⟨o3, o4⟩ (ah_recv ho6 rfl) (fun v G7 hn8 => ?_) (fun ex j G7 hx9 => ?_)
  · obtain ⟨r10, rfl, hr11, hh⟩ := hn8
    refine am_istore_n dX7_never_7 rfl (by decide) rfl ?_
    refine am_aload_n dX7_never_8 rfl 1 rfl ?_
    refine ah_getsN (v := am_R 3) (List.mem_of_getElem? (i := 3) rfl) (am_nwin q1090 rfl) dX7_never_9 ?_
    obtain ⟨mc12, ms13, ⟨o14, o15⟩, hh⟩ := hh
    obtain ⟨fs16, ho17, hh⟩ := hh
    refine am_tV (n := 1) hh dX7_never_12 (lw_V q1086 q1088 qs30 q113 q1089) rfl ⟨⟨by decide, by decide, by decide +kernel⟩, ⟨Nat.le_of_ble_eq_true rfl, Nat.le_of_ble_eq_true rfl⟩⟩ ⟨rfl, rfl⟩ rfl rfl (Nat.le_of_ble_eq_true rfl) ⟨o14, o15⟩ (ah_recv ho17 rfl) (fun v G18 hn19 => ?_) (fun ex j G18 hx20 => ?_)
    · obtain ⟨r21, rfl, hr22, hh⟩ := hn19
      refine am_istore_n dX7_never_15 rfl (by decide) rfl ?_
      obtain ⟨o23, hh⟩ := hh
      obtain ⟨o24, hh⟩ := hh
      refine ah_new (ci := 9) (fs := ah_dX9) tyX9 rfl in_X9 tyX9_ok q1092 q1093 q119 ah_dX9_ok o23 o24 dX7_never_16 ?_
      have hh := hh _ rfl
      refine am_dup dX7_never_19 rfl ?_
      refine am_iload_n dX7_never_20 rfl 0 rfl ?_
      refine am_iload_n dX7_never_21 rfl 1 rfl ?_
      refine am_iload_n dX7_never_22 rfl 0 rfl ?_
      refine am_iconst dX7_never_23 ?_
      obtain ⟨ha27, hb28⟩ := hh
      refine am_icmp_ne (tgt := 36) dX7_never_24 (by decide) hr22 (⟨by decide, by decide⟩) (fun hc29 => ?_) (fun hc29 => ?_)
      · have hh := ha27 hc29
        refine am_aload_n dX7_never_36 rfl 2 rfl ?_
        refine ah_getsN (v := am_R 2) (List.mem_of_getElem? (i := 2) rfl) (am_nwin q1084 rfl) dX7_never_37 ?_
        obtain ⟨mc30, ms31, ⟨o32, o33⟩, hh⟩ := hh
        obtain ⟨fs34, ho35, hh⟩ := hh
        refine am_tV (n := 1) hh dX7_never_40 (lw_V q1086 q1088 qs30 q113 q1089) rfl ⟨⟨by decide, by decide, by decide +kernel⟩, ⟨Nat.le_of_ble_eq_true rfl, Nat.le_of_ble_eq_true rfl⟩⟩ ⟨rfl, rfl⟩ rfl rfl (Nat.le_of_ble_eq_true rfl) ⟨o32, o33⟩ (ah_recv ho35 rfl) (fun v G36 hn37 => ?_) (fun ex j G36 hx38 => ?_)
        · obtain ⟨r39, rfl, hr40, hh⟩ := hn37
          refine am_rIv (n := 3) hh dX7_never_43 q1098 q1099 q119 q1100 rfl ⟨⟨by decide, by decide, by decide +kernel⟩, ⟨Nat.le_of_ble_eq_true rfl, Nat.le_of_ble_eq_true rfl⟩⟩ ⟨rfl, rfl⟩ rfl rfl (Nat.le_of_ble_eq_true rfl) ⟨o32, o33⟩ (fun G41 hh => ?_)
          refine am_e12 ?_; exact am_aret rfl (by first | exact Or.inl ⟨_, rfl⟩ | exact Or.inr ⟨_, rfl⟩) dX7_never_46 o32 o33 hh
        · have hh := hx38
          exact am_xout [] (by decide +kernel) (by decide +kernel) o32 o33 hh
      · have hh := hb28 hc29
        refine am_aload_n dX7_never_27 rfl 2 rfl ?_
        refine am_bipush dX7_never_28 (by decide) ?_
        obtain ⟨mc42, ms43, ⟨o44, o45⟩, hh⟩ := hh
        obtain ⟨fs46, ho47, hh⟩ := hh
        refine am_tV (n := 1) hh dX7_never_30 (lw_V q1094 q1096 qs31 q113 q1097) rfl ⟨⟨by decide, by decide, by decide +kernel⟩, ⟨Nat.le_of_ble_eq_true rfl, Nat.le_of_ble_eq_true rfl⟩⟩ ⟨rfl, rfl⟩ rfl rfl (Nat.le_of_ble_eq_true rfl) ⟨o44, o45⟩ (ah_recv ho47 rfl) (fun v G48 hn49 => ?_) (fun ex j G48 hx50 => ?_)
        · obtain ⟨r51, rfl, hr52, hh⟩ := hn49
          refine am_goto (tgt := 43) dX7_never_33 (by decide) ?_
          refine am_rIv (n := 3) hh dX7_never_43 q1098 q1099 q119 q1100 rfl ⟨⟨by decide, by decide, by decide +kernel⟩, ⟨Nat.le_of_ble_eq_true rfl, Nat.le_of_ble_eq_true rfl⟩⟩ ⟨rfl, rfl⟩ rfl rfl (Nat.le_of_ble_eq_true rfl) ⟨o44, o45⟩ (fun G53 hh => ?_)
          refine am_e12 ?_; exact am_aret rfl (by first | exact Or.inl ⟨_, rfl⟩ | exact Or.inr ⟨_, rfl⟩) dX7_never_46 o44 o45 hh
        · have hh := hx50
          exact am_xout [] (by decide +kernel) (by decide +kernel) o44 o45 hh
    · have hh := hx20
      exact am_xout [] (by decide +kernel) (by decide +kernel) o14 o15 hh
  · have hh := hx9
    exact am_xout [] (by decide +kernel) (by decide +kernel) o3 o4 hh
/-! TableArms$Reader.most()LTableArms$Never; -/
abbrev VX7_most (l : Launch) (mc ms : Nat) (Q : Option am_W → ah_H → Prop) (QX : String → Nat → ah_H → Prop) (pc : Nat) (lv : List (Nat × am_W)) (st : List am_W) (S : ah_H) (cells slots : Nat) : Prop := am_V ah_r l RX7 cX7_most 2 (some (Jvm.ClassFile.FieldType.object "TableArms$Never")) "most" (am_rm 10 mc ms) (am_E2 ah_r mc ms Q QX) pc lv st S cells slots
abbrev kX7_most (l : Launch) (mc ms : Nat) (as : List am_W) (S : ah_H) (Q : Option am_W → ah_H → Prop) (QX : String → Nat → ah_H → Prop) : Prop := am_T ah_r l yX7_most (ws_ yX7_most cX7_most 2 (some (Jvm.ClassFile.FieldType.object "TableArms$Never"))) (am_rm 10 mc ms) mc ms as S Q QX
set_option maxHeartbeats 4000000 in
set_option maxRecDepth 100000 in
theorem bX7_most {l : Launch} {mc ms : Nat} {Q : Option am_W → ah_H → Prop} {QX : String → Nat → ah_H → Prop} {S : ah_H} (v0 : Nat)
    (hh : (∃ mc1 ms2 : Nat, ((0 + mc1) ≤ mc ∧ (0 + ms2) ≤ ms) ∧
      (∃ fs5, (S.1 v0 = some (.inl (7, fs5))) ∧
      kX7_figure l mc1 ms2 [am_R v0, am_I 7] S (am_qi fun r10 G7 =>
        (((0 + mc1) + 1) ≤ mc) ∧
        (((0 + ms2) + 3) ≤ ms) ∧
        (∀ G14, G14 = ah_mk G7 (.inl (9, ah_dX9)) →
        (∃ mc16 ms17 : Nat, ((((0 + mc1) + 1) + mc16) ≤ mc ∧ (((0 + ms2) + 3) + ms17) ≤ ms) ∧
        (∃ fs20, (G14.1 v0 = some (.inl (7, fs20))) ∧
        kX7_figure l mc16 ms17 [am_R v0, am_I 200] G14 (am_qi fun r25 G22 =>
          kX9_init l [am_R G7.2, am_I 4, am_I r10, am_I r25] G22 (am_qv fun G27 =>
            Q (some (am_R G7.2)) G27)) (fun ex j G22 =>
          QX ex j G22))))) (fun ex j G7 =>
        QX ex j G7)))) : kX7_most l mc ms [am_R v0] S Q QX := by
  refine am_entryT (lv := [(0, am_R v0)]) rfl rfl rfl (fun _ => rfl) (fun _ => Nat.le_of_ble_eq_true rfl) ?_
  refine am_aload_n dX7_most_0 rfl 0 rfl ?_
  refine am_bipush dX7_most_1 (by decide) ?_
  obtain ⟨mc1, ms2, ⟨o3, o4⟩, hh⟩ := hh
  obtain ⟨fs5, ho6, hh⟩ := hh
  refine am_tV (n := 1) hh dX7_most_3 (lw_V q1094 q1096 qs31 q113 q1097) rfl ⟨⟨by decide, by decide, by decide +kernel⟩, ⟨Nat.le_of_ble_eq_true rfl, Nat.le_of_ble_eq_true rfl⟩⟩ ⟨rfl, rfl⟩ rfl rfl (Nat.le_of_ble_eq_true rfl) ⟨o3, o4⟩ (ah_recv ho6 rfl) (fun v G7 hn8 => ?_) (fun ex j G7 hx9 => ?_)
  · obtain ⟨r10, rfl, hr11, hh⟩ := hn8
    refine am_istore_n dX7_most_6 rfl (by decide) rfl ?_
    obtain ⟨o12, hh⟩ := hh
    obtain ⟨o13, hh⟩ := hh
    refine ah_new (ci := 9) (fs := ah_dX9) tyX9 rfl in_X9 tyX9_ok q1092 q1093 q119 ah_dX9_ok o12 o13 dX7_most_7 ?_
    have hh := hh _ rfl
    refine am_dup dX7_most_10 rfl ?_
    refine am_iconst dX7_most_11 ?_
    refine am_iload_n dX7_most_12 rfl 0 rfl ?_
    refine am_aload_n dX7_most_13 rfl 1 rfl ?_
    refine am_sipush dX7_most_14 (by decide) ?_
    obtain ⟨mc16, ms17, ⟨o18, o19⟩, hh⟩ := hh
    obtain ⟨fs20, ho21, hh⟩ := hh
    refine am_tV (n := 1) hh dX7_most_17 (lw_V q1094 q1096 qs31 q113 q1097) rfl ⟨⟨by decide, by decide, by decide +kernel⟩, ⟨Nat.le_of_ble_eq_true rfl, Nat.le_of_ble_eq_true rfl⟩⟩ ⟨rfl, rfl⟩ rfl rfl (Nat.le_of_ble_eq_true rfl) ⟨o18, o19⟩ (ah_recv ho21 rfl) (fun v G22 hn23 => ?_) (fun ex j G22 hx24 => ?_)
    · obtain ⟨r25, rfl, hr26, hh⟩ := hn23
      refine am_rIv (n := 3) hh dX7_most_20 q1098 q1099 q119 q1100 rfl ⟨⟨by decide, by decide, by decide +kernel⟩, ⟨Nat.le_of_ble_eq_true rfl, Nat.le_of_ble_eq_true rfl⟩⟩ ⟨rfl, rfl⟩ rfl rfl (Nat.le_of_ble_eq_true rfl) ⟨o18, o19⟩ (fun G27 hh => ?_)
      refine am_e12 ?_; exact am_aret rfl (by first | exact Or.inl ⟨_, rfl⟩ | exact Or.inr ⟨_, rfl⟩) dX7_most_23 o18 o19 hh
    · have hh := hx24
      exact am_xout [] (by decide +kernel) (by decide +kernel) o18 o19 hh
  · have hh := hx9
    exact am_xout [] (by decide +kernel) (by decide +kernel) o3 o4 hh
/-! TableArms$Reader.all()V -/
abbrev VX7_all (l : Launch) (mc ms : Nat) (Q : Option am_W → ah_H → Prop) (QX : String → Nat → ah_H → Prop) (pc : Nat) (lv : List (Nat × am_W)) (st : List am_W) (S : ah_H) (cells slots : Nat) : Prop := am_V ah_r l RX7 cX7_all 2 none "all" (am_rm 11 mc ms) (am_E2 ah_r mc ms Q QX) pc lv st S cells slots
abbrev kX7_all (l : Launch) (mc ms : Nat) (as : List am_W) (S : ah_H) (Q : Option am_W → ah_H → Prop) (QX : String → Nat → ah_H → Prop) : Prop := am_T ah_r l yX7_all (ws_ yX7_all cX7_all 2 none) (am_rm 11 mc ms) mc ms as S Q QX
set_option maxHeartbeats 4000000 in
set_option maxRecDepth 100000 in
theorem bX7_all {l : Launch} {mc ms : Nat} {Q : Option am_W → ah_H → Prop} {QX : String → Nat → ah_H → Prop} {S : ah_H} (v0 : Nat)
    (hh : (∃ mc1 ms2 : Nat, ((0 + mc1) ≤ mc ∧ (0 + ms2) ≤ ms) ∧
      (∃ fs5, (S.1 v0 = some (.inl (7, fs5))) ∧
      kX7_next l mc1 ms2 [am_R v0] S (am_qv fun G7 =>
        VX7_all l mc ms Q QX 4 [(0, am_R v0)] [] G7 (0 + mc1) (0 + ms2))))) : kX7_all l mc ms [am_R v0] S Q QX := by
  refine am_entryT (lv := [(0, am_R v0)]) rfl rfl rfl (fun _ => rfl) (fun _ => Nat.le_of_ble_eq_true rfl) ?_
  refine am_aload_n dX7_all_0 rfl 0 rfl ?_
  obtain ⟨mc1, ms2, ⟨o3, o4⟩, hh⟩ := hh
  obtain ⟨fs5, ho6, hh⟩ := hh
  refine am_rVv (n := 0) hh dX7_all_1 (lw_V q858 q860 qs25 q113 q861) rfl ⟨⟨by decide, by decide, by decide +kernel⟩, ⟨Nat.le_of_ble_eq_true rfl, Nat.le_of_ble_eq_true rfl⟩⟩ ⟨rfl, rfl⟩ rfl rfl (Nat.le_of_ble_eq_true rfl) ⟨o3, o4⟩ (ah_recv ho6 rfl) (fun G7 hh => ?_)
  exact hh
set_option maxHeartbeats 4000000 in
set_option maxRecDepth 100000 in
theorem bX7_all_4 {l : Launch} {mc ms : Nat} {Q : Option am_W → ah_H → Prop} {QX : String → Nat → ah_H → Prop} {S : ah_H} (v0 : Nat) (cs ss : Nat)
    (hh : (cs ≤ mc) ∧
      (ss ≤ ms) ∧
      (∃ fs3, (S.1 v0 = some (.inl (7, fs3))) ∧
      kX7_isWord l [am_R v0, am_R 13] S (am_qz fun b6 G5 =>
        ((b6 = true) →
          VX7_all l mc ms Q QX 22 [(0, am_R v0)] [] G5 cs ss) ∧
        ((b6 = false) →
          (∃ fs10, (G5.1 v0 = some (.inl (7, fs10))) ∧
          kX7_isWord l [am_R v0, am_R 14] G5 (am_qz fun b13 G12 =>
            ((b13 = false) →
              VX7_all l mc ms Q QX 109 [(0, am_R v0)] [] G12 cs ss) ∧
            ((b13 = true) →
              VX7_all l mc ms Q QX 22 [(0, am_R v0)] [] G12 cs ss))))))) : VX7_all l mc ms Q QX 4 [(0, am_R v0)] [] S cs ss := by
  refine am_aload_n dX7_all_4 rfl 0 rfl ?_
  refine ah_ldcS (List.mem_of_getElem? (i := 1) rfl) dX7_all_5 ?_
  obtain ⟨o1, hh⟩ := hh
  obtain ⟨o2, hh⟩ := hh
  obtain ⟨fs3, ho4, hh⟩ := hh
  refine am_rVz (n := 1) hh dX7_all_7 (lw_V q1038 q1040 qs27 q113 q1041) rfl ⟨⟨by decide, by decide, by decide +kernel⟩, ⟨Nat.le_of_ble_eq_true rfl, Nat.le_of_ble_eq_true rfl⟩⟩ ⟨rfl, rfl⟩ rfl rfl (Nat.le_of_ble_eq_true rfl) ⟨o1, o2⟩ (ah_recv ho4 rfl) (fun b6 G5 hh => ?_)
  obtain ⟨ha7, hb8⟩ := hh
  refine am_ifB_ne (tgt := 22) dX7_all_10 (by decide) (fun hc9 => ?_) (fun hc9 => ?_)
  · have hh := ha7 hc9
    exact hh
  · have hh := hb8 hc9
    refine am_aload_n dX7_all_13 rfl 0 rfl ?_
    refine ah_ldcS (List.mem_of_getElem? (i := 2) rfl) dX7_all_14 ?_
    obtain ⟨fs10, ho11, hh⟩ := hh
    refine am_rVz (n := 1) hh dX7_all_16 (lw_V q1038 q1040 qs27 q113 q1041) rfl ⟨⟨by decide, by decide, by decide +kernel⟩, ⟨Nat.le_of_ble_eq_true rfl, Nat.le_of_ble_eq_true rfl⟩⟩ ⟨rfl, rfl⟩ rfl rfl (Nat.le_of_ble_eq_true rfl) ⟨o1, o2⟩ (ah_recv ho11 rfl) (fun b13 G12 hh => ?_)
    obtain ⟨ha14, hb15⟩ := hh
    refine am_ifB_eq (tgt := 109) dX7_all_19 (by decide) (fun hc16 => ?_) (fun hc16 => ?_)
    · have hh := ha14 hc16
      exact hh
    · have hh := hb15 hc16
      exact hh
set_option maxHeartbeats 4000000 in
set_option maxRecDepth 100000 in
theorem bX7_all_22 {l : Launch} {mc ms : Nat} {Q : Option am_W → ah_H → Prop} {QX : String → Nat → ah_H → Prop} {S : ah_H} (v0 : Nat) (cs ss : Nat)
    (hh : (∃ fs1, (S.1 v0 = some (.inl (7, fs1))) ∧
      (∃ x4, (fs1[8]? = some (am_R x4)) ∧
      (cs ≤ mc) ∧
      (ss ≤ ms) ∧
      (∃ fs7, (S.1 x4 = some (.inl (15, fs7))) ∧
      kJ2_size l [am_R x4] S (am_qi fun r10 G9 =>
        (∃ fs12, (G9.1 v0 = some (.inl (7, fs12))) ∧
        (∃ z15, (fs12[2]? = some (am_I z15) ∧ am_r z15) ∧
        ((z15 ≤ r10) →
          (∃ mc20 ms21 : Nat, ((cs + mc20) ≤ mc ∧ (ss + ms21) ≤ ms) ∧
          kX7_must l mc20 ms21 [am_R v0, am_I (am_b false), am_I 3] G9 (am_qv fun G24 =>
            VX7_all l mc ms Q QX 48 [(0, am_R v0)] [] G24 (cs + mc20) (ss + ms21)) (fun ex j G24 =>
            QX ex j G24))) ∧
        ((¬ z15 ≤ r10) →
          (∃ mc27 ms28 : Nat, ((cs + mc27) ≤ mc ∧ (ss + ms28) ≤ ms) ∧
          kX7_must l mc27 ms28 [am_R v0, am_I (am_b true), am_I 3] G9 (am_qv fun G31 =>
            VX7_all l mc ms Q QX 48 [(0, am_R v0)] [] G31 (cs + mc27) (ss + ms28)) (fun ex j G31 =>
            QX ex j G31)))))))))) : VX7_all l mc ms Q QX 22 [(0, am_R v0)] [] S cs ss := by
  refine am_aload_n dX7_all_22 rfl 0 rfl ?_
  refine am_aload_n dX7_all_23 rfl 0 rfl ?_
  obtain ⟨fs1, ho2, hh⟩ := hh
  obtain ⟨x4, hv3, hh⟩ := hh
  refine ah_get ho2 hv3 rfl in_X7 (by decide) q833 (Or.inl rfl) dX7_all_24 ?_
  obtain ⟨o5, hh⟩ := hh
  obtain ⟨o6, hh⟩ := hh
  obtain ⟨fs7, ho8, hh⟩ := hh
  refine am_rFi (n := 0) hh dX7_all_27 (ci := 15) rfl ⟨q613, q612, q618, q616, q614⟩ q1052 q615 q617 q94 q619 ⟨by decide, by decide, by decide +kernel⟩ ⟨Nat.le_of_ble_eq_true rfl, Nat.le_of_ble_eq_true rfl⟩ ⟨rfl, rfl⟩ rfl rfl (Nat.le_of_ble_eq_true rfl) ⟨o5, o6⟩ (ah_recv ho8 rfl) (fun r10 G9 hr11 hh => ?_)
  refine am_aload_n dX7_all_32 rfl 0 rfl ?_
  obtain ⟨fs12, ho13, hh⟩ := hh
  obtain ⟨z15, ⟨hv14, hr16⟩, hh⟩ := hh
  refine ah_get ho13 hv14 rfl in_X7 (by decide) q827 (Or.inl rfl) dX7_all_33 ?_
  obtain ⟨ha17, hb18⟩ := hh
  refine am_icmp_ge (tgt := 43) dX7_all_36 (by decide) hr11 hr16 (fun hc19 => ?_) (fun hc19 => ?_)
  · have hh := ha17 hc19
    refine am_iconst dX7_all_43 ?_
    refine am_iconst dX7_all_44 ?_
    obtain ⟨mc20, ms21, ⟨o22, o23⟩, hh⟩ := hh
    refine am_tV (n := 2) hh dX7_all_45 (lw_V q1053 q1055 qs28 q113 q1056) rfl ⟨⟨by decide, by decide, by decide +kernel⟩, ⟨Nat.le_of_ble_eq_true rfl, Nat.le_of_ble_eq_true rfl⟩⟩ ⟨rfl, rfl⟩ rfl rfl (Nat.le_of_ble_eq_true rfl) ⟨o22, o23⟩ (ah_recv ho13 rfl) (fun v G24 hn25 => ?_) (fun ex j G24 hx26 => ?_)
    · obtain ⟨rfl, hh⟩ := hn25
      exact hh
    · have hh := hx26
      exact am_xout [] (by decide +kernel) (by decide +kernel) o22 o23 hh
  · have hh := hb18 hc19
    refine am_iconst dX7_all_39 ?_
    refine am_goto (tgt := 44) dX7_all_40 (by decide) ?_
    refine am_iconst dX7_all_44 ?_
    obtain ⟨mc27, ms28, ⟨o29, o30⟩, hh⟩ := hh
    refine am_tV (n := 2) hh dX7_all_45 (lw_V q1053 q1055 qs28 q113 q1056) rfl ⟨⟨by decide, by decide, by decide +kernel⟩, ⟨Nat.le_of_ble_eq_true rfl, Nat.le_of_ble_eq_true rfl⟩⟩ ⟨rfl, rfl⟩ rfl rfl (Nat.le_of_ble_eq_true rfl) ⟨o29, o30⟩ (ah_recv ho13 rfl) (fun v G31 hn32 => ?_) (fun ex j G31 hx33 => ?_)
    · obtain ⟨rfl, hh⟩ := hn32
      exact hh
    · have hh := hx33
      exact am_xout [] (by decide +kernel) (by decide +kernel) o29 o30 hh
set_option maxHeartbeats 4000000 in
set_option maxRecDepth 100000 in
theorem bX7_all_109 {l : Launch} {mc ms : Nat} {Q : Option am_W → ah_H → Prop} {QX : String → Nat → ah_H → Prop} {S : ah_H} (v0 : Nat) (cs ss : Nat)
    (hh : (∃ fs1, (S.1 v0 = some (.inl (7, fs1))) ∧
      (∃ z4, (fs1[4]? = some (am_I z4) ∧ am_r z4) ∧
      ((¬ z4 = 0) →
        (∃ mc9 ms10 : Nat, ((cs + mc9) ≤ mc ∧ (ss + ms10) ≤ ms) ∧
        kX7_must l mc9 ms10 [am_R v0, am_I (am_b false), am_I 1] S (am_qv fun G13 =>
          Q none G13) (fun ex j G13 =>
          QX ex j G13))) ∧
      ((z4 = 0) →
        (∃ mc16 ms17 : Nat, ((cs + mc16) ≤ mc ∧ (ss + ms17) ≤ ms) ∧
        kX7_must l mc16 ms17 [am_R v0, am_I (am_b true), am_I 1] S (am_qv fun G20 =>
          Q none G20) (fun ex j G20 =>
          QX ex j G20)))))) : VX7_all l mc ms Q QX 109 [(0, am_R v0)] [] S cs ss := by
  refine am_aload_n dX7_all_109 rfl 0 rfl ?_
  refine am_aload_n dX7_all_110 rfl 0 rfl ?_
  obtain ⟨fs1, ho2, hh⟩ := hh
  obtain ⟨z4, ⟨hv3, hr5⟩, hh⟩ := hh
  refine ah_get ho2 hv3 rfl in_X7 (by decide) q829 (Or.inl rfl) dX7_all_111 ?_
  obtain ⟨ha6, hb7⟩ := hh
  refine am_if_ne (tgt := 121) dX7_all_114 (by decide) hr5 (fun hc8 => ?_) (fun hc8 => ?_)
  · have hh := ha6 hc8
    refine am_iconst dX7_all_121 ?_
    refine am_iconst dX7_all_122 ?_
    obtain ⟨mc9, ms10, ⟨o11, o12⟩, hh⟩ := hh
    refine am_tV (n := 2) hh dX7_all_123 (lw_V q1053 q1055 qs28 q113 q1056) rfl ⟨⟨by decide, by decide, by decide +kernel⟩, ⟨Nat.le_of_ble_eq_true rfl, Nat.le_of_ble_eq_true rfl⟩⟩ ⟨rfl, rfl⟩ rfl rfl (Nat.le_of_ble_eq_true rfl) ⟨o11, o12⟩ (ah_recv ho2 rfl) (fun v G13 hn14 => ?_) (fun ex j G13 hx15 => ?_)
    · obtain ⟨rfl, hh⟩ := hn14
      refine am_e12 ?_; exact am_vret rfl dX7_all_126 o11 o12 hh
    · have hh := hx15
      exact am_xout [] (by decide +kernel) (by decide +kernel) o11 o12 hh
  · have hh := hb7 hc8
    refine am_iconst dX7_all_117 ?_
    refine am_goto (tgt := 122) dX7_all_118 (by decide) ?_
    refine am_iconst dX7_all_122 ?_
    obtain ⟨mc16, ms17, ⟨o18, o19⟩, hh⟩ := hh
    refine am_tV (n := 2) hh dX7_all_123 (lw_V q1053 q1055 qs28 q113 q1056) rfl ⟨⟨by decide, by decide, by decide +kernel⟩, ⟨Nat.le_of_ble_eq_true rfl, Nat.le_of_ble_eq_true rfl⟩⟩ ⟨rfl, rfl⟩ rfl rfl (Nat.le_of_ble_eq_true rfl) ⟨o18, o19⟩ (ah_recv ho2 rfl) (fun v G20 hn21 => ?_) (fun ex j G20 hx22 => ?_)
    · obtain ⟨rfl, hh⟩ := hn21
      refine am_e12 ?_; exact am_vret rfl dX7_all_126 o18 o19 hh
    · have hh := hx22
      exact am_xout [] (by decide +kernel) (by decide +kernel) o18 o19 hh
set_option maxHeartbeats 4000000 in
set_option maxRecDepth 100000 in
theorem bX7_all_48 {l : Launch} {mc ms : Nat} {Q : Option am_W → ah_H → Prop} {QX : String → Nat → ah_H → Prop} {S : ah_H} (v0 : Nat) (cs ss : Nat)
    (hh : (cs ≤ mc) ∧
      (ss ≤ ms) ∧
      (∃ fs3, (S.1 v0 = some (.inl (7, fs3))) ∧
      kX7_isWord l [am_R v0, am_R 13] S (am_qz fun b6 G5 =>
        (∃ mc7 ms8 : Nat, ((cs + mc7) ≤ mc ∧ (ss + ms8) ≤ ms) ∧
        (∃ fs11, (G5.1 v0 = some (.inl (7, fs11))) ∧
        kX7_next l mc7 ms8 [am_R v0] G5 (am_qv fun G13 =>
          (∃ fs14, (G13.1 v0 = some (.inl (7, fs14))) ∧
          (∃ x17, (fs14[8]? = some (am_R x17)) ∧
          ((b6 = false) →
            (∃ mc21 ms22 : Nat, (((cs + mc7) + mc21) ≤ mc ∧ ((ss + ms8) + ms22) ≤ ms) ∧
            kX7_most l mc21 ms22 [am_R v0] G13 (am_qo fun a28 G25 => ∃ y29, a28 = some y29 ∧
              (∃ mc30 ms31 : Nat, ((((cs + mc7) + mc21) + mc30) ≤ mc ∧ (((ss + ms8) + ms22) + ms31) ≤ ms) ∧
              (∃ fs34, (G25.1 x17 = some (.inl (15, fs34))) ∧
              kJ2_add l mc30 ms31 [am_R x17, am_R y29] G25 (am_qz fun b37 G36 =>
                VX7_all l mc ms Q QX 84 [(0, am_R v0)] [] G36 (((cs + mc7) + mc21) + mc30) (((ss + ms8) + ms22) + ms31))))) (fun ex j G25 =>
              QX ex j G25))) ∧
          ((b6 = true) →
            (∃ mc38 ms39 : Nat, (((cs + mc7) + mc38) ≤ mc ∧ ((ss + ms8) + ms39) ≤ ms) ∧
            kX7_never l mc38 ms39 [am_R v0] G13 (am_qo fun a45 G42 => ∃ y46, a45 = some y46 ∧
              (∃ mc47 ms48 : Nat, ((((cs + mc7) + mc38) + mc47) ≤ mc ∧ (((ss + ms8) + ms39) + ms48) ≤ ms) ∧
              (∃ fs51, (G42.1 x17 = some (.inl (15, fs51))) ∧
              kJ2_add l mc47 ms48 [am_R x17, am_R y46] G42 (am_qz fun b54 G53 =>
                VX7_all l mc ms Q QX 84 [(0, am_R v0)] [] G53 (((cs + mc7) + mc38) + mc47) (((ss + ms8) + ms39) + ms48))))) (fun ex j G42 =>
              QX ex j G42))))))))))) : VX7_all l mc ms Q QX 48 [(0, am_R v0)] [] S cs ss := by
  refine am_aload_n dX7_all_48 rfl 0 rfl ?_
  refine ah_ldcS (List.mem_of_getElem? (i := 1) rfl) dX7_all_49 ?_
  obtain ⟨o1, hh⟩ := hh
  obtain ⟨o2, hh⟩ := hh
  obtain ⟨fs3, ho4, hh⟩ := hh
  refine am_rVz (n := 1) hh dX7_all_51 (lw_V q1038 q1040 qs27 q113 q1041) rfl ⟨⟨by decide, by decide, by decide +kernel⟩, ⟨Nat.le_of_ble_eq_true rfl, Nat.le_of_ble_eq_true rfl⟩⟩ ⟨rfl, rfl⟩ rfl rfl (Nat.le_of_ble_eq_true rfl) ⟨o1, o2⟩ (ah_recv ho4 rfl) (fun b6 G5 hh => ?_)
  refine am_istore_n dX7_all_54 rfl (by decide) rfl ?_
  refine am_aload_n dX7_all_55 rfl 1 rfl ?_
  obtain ⟨mc7, ms8, ⟨o9, o10⟩, hh⟩ := hh
  obtain ⟨fs11, ho12, hh⟩ := hh
  refine am_rVv (n := 0) hh dX7_all_56 (lw_V q858 q860 qs25 q113 q861) rfl ⟨⟨by decide, by decide, by decide +kernel⟩, ⟨Nat.le_of_ble_eq_true rfl, Nat.le_of_ble_eq_true rfl⟩⟩ ⟨rfl, rfl⟩ rfl rfl (Nat.le_of_ble_eq_true rfl) ⟨o9, o10⟩ (ah_recv ho12 rfl) (fun G13 hh => ?_)
  refine am_aload_n dX7_all_59 rfl 1 rfl ?_
  obtain ⟨fs14, ho15, hh⟩ := hh
  obtain ⟨x17, hv16, hh⟩ := hh
  refine ah_get ho15 hv16 rfl in_X7 (by decide) q833 (Or.inl rfl) dX7_all_60 ?_
  refine am_iload_n dX7_all_63 rfl 0 rfl ?_
  obtain ⟨ha18, hb19⟩ := hh
  refine am_ifB_eq (tgt := 74) dX7_all_64 (by decide) (fun hc20 => ?_) (fun hc20 => ?_)
  · have hh := ha18 hc20
    refine am_aload_n dX7_all_74 rfl 1 rfl ?_
    obtain ⟨mc21, ms22, ⟨o23, o24⟩, hh⟩ := hh
    refine am_tV (n := 0) hh dX7_all_75 (lw_V q1115 q1117 qs32 q113 q1118) rfl ⟨⟨by decide, by decide, by decide +kernel⟩, ⟨Nat.le_of_ble_eq_true rfl, Nat.le_of_ble_eq_true rfl⟩⟩ ⟨rfl, rfl⟩ rfl rfl (Nat.le_of_ble_eq_true rfl) ⟨o23, o24⟩ (ah_recv ho15 rfl) (fun v G25 hn26 => ?_) (fun ex j G25 hx27 => ?_)
    · obtain ⟨a28, rfl, y29, rfl, hh⟩ := hn26
      obtain ⟨mc30, ms31, ⟨o32, o33⟩, hh⟩ := hh
      obtain ⟨fs34, ho35, hh⟩ := hh
      refine am_rFz (n := 1) hh dX7_all_78 (ci := 15) rfl ⟨q650, q649, q654, q652, q614⟩ q1120 q651 q653 q94 q655 ⟨by decide, by decide, by decide +kernel⟩ ⟨Nat.le_of_ble_eq_true rfl, Nat.le_of_ble_eq_true rfl⟩ ⟨rfl, rfl⟩ rfl rfl (Nat.le_of_ble_eq_true rfl) ⟨o32, o33⟩ (ah_recv ho35 rfl) (fun b37 G36 hh => ?_)
      refine am_pop dX7_all_83 rfl ?_
      refine am_keep [1] rfl ?_
      exact hh
    · have hh := hx27
      exact am_xout [] (by decide +kernel) (by decide +kernel) o23 o24 hh
  · have hh := hb19 hc20
    refine am_aload_n dX7_all_67 rfl 1 rfl ?_
    obtain ⟨mc38, ms39, ⟨o40, o41⟩, hh⟩ := hh
    refine am_tV (n := 0) hh dX7_all_68 (lw_V q1080 q1082 qs29 q113 q1083) rfl ⟨⟨by decide, by decide, by decide +kernel⟩, ⟨Nat.le_of_ble_eq_true rfl, Nat.le_of_ble_eq_true rfl⟩⟩ ⟨rfl, rfl⟩ rfl rfl (Nat.le_of_ble_eq_true rfl) ⟨o40, o41⟩ (ah_recv ho15 rfl) (fun v G42 hn43 => ?_) (fun ex j G42 hx44 => ?_)
    · obtain ⟨a45, rfl, y46, rfl, hh⟩ := hn43
      refine am_goto (tgt := 78) dX7_all_71 (by decide) ?_
      obtain ⟨mc47, ms48, ⟨o49, o50⟩, hh⟩ := hh
      obtain ⟨fs51, ho52, hh⟩ := hh
      refine am_rFz (n := 1) hh dX7_all_78 (ci := 15) rfl ⟨q650, q649, q654, q652, q614⟩ q1120 q651 q653 q94 q655 ⟨by decide, by decide, by decide +kernel⟩ ⟨Nat.le_of_ble_eq_true rfl, Nat.le_of_ble_eq_true rfl⟩ ⟨rfl, rfl⟩ rfl rfl (Nat.le_of_ble_eq_true rfl) ⟨o49, o50⟩ (ah_recv ho52 rfl) (fun b54 G53 hh => ?_)
      refine am_pop dX7_all_83 rfl ?_
      refine am_keep [1] rfl ?_
      exact hh
    · have hh := hx44
      exact am_xout [] (by decide +kernel) (by decide +kernel) o40 o41 hh
set_option maxHeartbeats 4000000 in
set_option maxRecDepth 100000 in
theorem bX7_all_84 {l : Launch} {mc ms : Nat} {Q : Option am_W → ah_H → Prop} {QX : String → Nat → ah_H → Prop} {S : ah_H} (v0 : Nat) (cs ss : Nat)
    (hh : (∃ fs1, (S.1 v0 = some (.inl (7, fs1))) ∧
      (∃ z4, (fs1[4]? = some (am_I z4) ∧ am_r z4) ∧
      ((¬ z4 = 3) →
        (∃ mc9 ms10 : Nat, ((cs + mc9) ≤ mc ∧ (ss + ms10) ≤ ms) ∧
        kX7_must l mc9 ms10 [am_R v0, am_I (am_b false), am_I 1] S (am_qv fun G13 =>
          VX7_all l mc ms Q QX 102 [(0, am_R v0)] [] G13 (cs + mc9) (ss + ms10)) (fun ex j G13 =>
          QX ex j G13))) ∧
      ((z4 = 3) →
        (∃ mc16 ms17 : Nat, ((cs + mc16) ≤ mc ∧ (ss + ms17) ≤ ms) ∧
        kX7_must l mc16 ms17 [am_R v0, am_I (am_b true), am_I 1] S (am_qv fun G20 =>
          VX7_all l mc ms Q QX 102 [(0, am_R v0)] [] G20 (cs + mc16) (ss + ms17)) (fun ex j G20 =>
          QX ex j G20)))))) : VX7_all l mc ms Q QX 84 [(0, am_R v0)] [] S cs ss := by
  refine am_aload_n dX7_all_84 rfl 0 rfl ?_
  refine am_aload_n dX7_all_85 rfl 0 rfl ?_
  obtain ⟨fs1, ho2, hh⟩ := hh
  obtain ⟨z4, ⟨hv3, hr5⟩, hh⟩ := hh
  refine ah_get ho2 hv3 rfl in_X7 (by decide) q829 (Or.inl rfl) dX7_all_86 ?_
  refine am_iconst dX7_all_89 ?_
  obtain ⟨ha6, hb7⟩ := hh
  refine am_icmp_ne (tgt := 97) dX7_all_90 (by decide) hr5 (⟨by decide, by decide⟩) (fun hc8 => ?_) (fun hc8 => ?_)
  · have hh := ha6 hc8
    refine am_iconst dX7_all_97 ?_
    refine am_iconst dX7_all_98 ?_
    obtain ⟨mc9, ms10, ⟨o11, o12⟩, hh⟩ := hh
    refine am_tV (n := 2) hh dX7_all_99 (lw_V q1053 q1055 qs28 q113 q1056) rfl ⟨⟨by decide, by decide, by decide +kernel⟩, ⟨Nat.le_of_ble_eq_true rfl, Nat.le_of_ble_eq_true rfl⟩⟩ ⟨rfl, rfl⟩ rfl rfl (Nat.le_of_ble_eq_true rfl) ⟨o11, o12⟩ (ah_recv ho2 rfl) (fun v G13 hn14 => ?_) (fun ex j G13 hx15 => ?_)
    · obtain ⟨rfl, hh⟩ := hn14
      exact hh
    · have hh := hx15
      exact am_xout [] (by decide +kernel) (by decide +kernel) o11 o12 hh
  · have hh := hb7 hc8
    refine am_iconst dX7_all_93 ?_
    refine am_goto (tgt := 98) dX7_all_94 (by decide) ?_
    refine am_iconst dX7_all_98 ?_
    obtain ⟨mc16, ms17, ⟨o18, o19⟩, hh⟩ := hh
    refine am_tV (n := 2) hh dX7_all_99 (lw_V q1053 q1055 qs28 q113 q1056) rfl ⟨⟨by decide, by decide, by decide +kernel⟩, ⟨Nat.le_of_ble_eq_true rfl, Nat.le_of_ble_eq_true rfl⟩⟩ ⟨rfl, rfl⟩ rfl rfl (Nat.le_of_ble_eq_true rfl) ⟨o18, o19⟩ (ah_recv ho2 rfl) (fun v G20 hn21 => ?_) (fun ex j G20 hx22 => ?_)
    · obtain ⟨rfl, hh⟩ := hn21
      exact hh
    · have hh := hx22
      exact am_xout [] (by decide +kernel) (by decide +kernel) o18 o19 hh
set_option maxHeartbeats 4000000 in
set_option maxRecDepth 100000 in
theorem bX7_all_102 {l : Launch} {mc ms : Nat} {Q : Option am_W → ah_H → Prop} {QX : String → Nat → ah_H → Prop} {S : ah_H} (v0 : Nat) (cs ss : Nat)
    (hh : (∃ mc1 ms2 : Nat, ((cs + mc1) ≤ mc ∧ (ss + ms2) ≤ ms) ∧
      (∃ fs5, (S.1 v0 = some (.inl (7, fs5))) ∧
      kX7_next l mc1 ms2 [am_R v0] S (am_qv fun G7 =>
        VX7_all l mc ms Q QX 4 [(0, am_R v0)] [] G7 (cs + mc1) (ss + ms2))))) : VX7_all l mc ms Q QX 102 [(0, am_R v0)] [] S cs ss := by
  refine am_aload_n dX7_all_102 rfl 0 rfl ?_
  obtain ⟨mc1, ms2, ⟨o3, o4⟩, hh⟩ := hh
  obtain ⟨fs5, ho6, hh⟩ := hh
  refine am_rVv (n := 0) hh dX7_all_103 (lw_V q858 q860 qs25 q113 q861) rfl ⟨⟨by decide, by decide, by decide +kernel⟩, ⟨Nat.le_of_ble_eq_true rfl, Nat.le_of_ble_eq_true rfl⟩⟩ ⟨rfl, rfl⟩ rfl rfl (Nat.le_of_ble_eq_true rfl) ⟨o3, o4⟩ (ah_recv ho6 rfl) (fun G7 hh => ?_)
  refine am_goto (tgt := 4) dX7_all_106 (by decide) ?_
  exact hh
/-! TableArms.sheet(III)I -/
abbrev VX0_sheet (l : Launch) (mc ms : Nat) (Q : Option am_W → ah_H → Prop) (pc : Nat) (lv : List (Nat × am_W)) (st : List am_W) (S : ah_H) (cells slots : Nat) : Prop := am_V ah_r l RX0 cX0_sheet 5 (some .int) "sheet" (am_rm 6 mc ms) (am_E1 ah_r mc ms Q) pc lv st S cells slots
abbrev kX0_sheet (l : Launch) (mc ms : Nat) (as : List am_W) (S : ah_H) (Q : Option am_W → ah_H → Prop) : Prop := am_C ah_r l yX0_sheet (wsW_ yX0_sheet cX0_sheet 5 (some .int) [(28, 61, 62, 114)]) (am_rm 6 mc ms) mc ms as S Q
set_option maxHeartbeats 4000000 in
set_option maxRecDepth 100000 in
theorem bX0_sheet {l : Launch} {mc ms : Nat} {Q : Option am_W → ah_H → Prop} {S : ah_H} (v0 : Nat) (v1 : Int) (h1 : am_r v1) (v2 : Int) (h2 : am_r v2) (v3 : Int) (h3 : am_r v3)
    (hh : kX0_isSheet l [am_I v1] S (am_qz fun b2 G1 =>
        ((b2 = false) →
          Q (some (am_I (-1000001))) G1) ∧
        ((b2 = true) →
          kX0_isIn l [am_J v2, am_J 0, am_J 2] G1 (am_qz fun b7 G6 =>
            ((b7 = false) →
              Q (some (am_I (-1000001))) G6) ∧
            ((b7 = true) →
              ((v3 ≤ 40) →
                ((v3 < 0) →
                  (∃ mc17 ms18 : Nat, ((0 + mc17) ≤ mc ∧ (0 + ms18) ≤ ms) ∧
                  kX0_must l mc17 ms18 [am_I (am_b false), am_I 4] G6 (am_qv fun G21 =>
                    (∃ fs24, (G21.1 v0 = some (.inl (1, fs24))) ∧
                    (∃ x27, (fs24[0]? = some (am_R x27)) ∧
                    (((0 + mc17) + 1) ≤ mc) ∧
                    (((0 + ms18) + 2) ≤ ms) ∧
                    (∀ G30, G30 = ah_mk G21 (.inl (5, ah_dX5)) →
                    (∃ mc32 ms33 : Nat, ((((0 + mc17) + 1) + mc32) ≤ mc ∧ (((0 + ms18) + 2) + ms33) ≤ ms) ∧
                    kX5_init l mc32 ms33 [am_R G21.2, am_I v2, am_I v3] G30 (am_qv fun G36 =>
                      (∃ n37 f38, (G36.1 x27 = some (.inr (4, n37, .inr f38))) ∧
                      (ah_X ≤ x27) ∧
                      (0 ≤ v1 ∧ v1 < (n37 : Int)) ∧
                      (ah_is G36 (some G21.2) "TableArms$Sheet") ∧
                      (∀ G43, G43 = ah_sr G36 x27 4 n37 f38 v1 (some G21.2) →
                      (∃ fs45, (G43.1 v0 = some (.inl (1, fs45))) ∧
                      kX0_well l [am_R v0, am_I v3] G43 (am_qi fun r48 G47 =>
                        Q (some (am_I r48)) G47)))))))))) (fun ex j G21 =>
                    (ex = "TableArms$Finding") ∧
                    (∃ fs51, (G21.1 v0 = some (.inl (1, fs51))) ∧
                    kX0_found l [am_R v0, am_R j] G21 (am_qi fun r54 G53 =>
                      Q (some (am_I r54)) G53))))) ∧
                ((¬ v3 < 0) →
                  (∃ mc56 ms57 : Nat, ((0 + mc56) ≤ mc ∧ (0 + ms57) ≤ ms) ∧
                  kX0_must l mc56 ms57 [am_I (am_b true), am_I 4] G6 (am_qv fun G60 =>
                    (∃ fs63, (G60.1 v0 = some (.inl (1, fs63))) ∧
                    (∃ x66, (fs63[0]? = some (am_R x66)) ∧
                    (((0 + mc56) + 1) ≤ mc) ∧
                    (((0 + ms57) + 2) ≤ ms) ∧
                    (∀ G69, G69 = ah_mk G60 (.inl (5, ah_dX5)) →
                    (∃ mc71 ms72 : Nat, ((((0 + mc56) + 1) + mc71) ≤ mc ∧ (((0 + ms57) + 2) + ms72) ≤ ms) ∧
                    kX5_init l mc71 ms72 [am_R G60.2, am_I v2, am_I v3] G69 (am_qv fun G75 =>
                      (∃ n76 f77, (G75.1 x66 = some (.inr (4, n76, .inr f77))) ∧
                      (ah_X ≤ x66) ∧
                      (0 ≤ v1 ∧ v1 < (n76 : Int)) ∧
                      (ah_is G75 (some G60.2) "TableArms$Sheet") ∧
                      (∀ G82, G82 = ah_sr G75 x66 4 n76 f77 v1 (some G60.2) →
                      (∃ fs84, (G82.1 v0 = some (.inl (1, fs84))) ∧
                      kX0_well l [am_R v0, am_I v3] G82 (am_qi fun r87 G86 =>
                        Q (some (am_I r87)) G86)))))))))) (fun ex j G60 =>
                    (ex = "TableArms$Finding") ∧
                    (∃ fs90, (G60.1 v0 = some (.inl (1, fs90))) ∧
                    kX0_found l [am_R v0, am_R j] G60 (am_qi fun r93 G92 =>
                      Q (some (am_I r93)) G92)))))) ∧
              ((¬ v3 ≤ 40) →
                Q (some (am_I (-1000001))) G6)))))) : kX0_sheet l mc ms [am_R v0, am_I v1, am_I v2, am_I v3] S Q := by
  refine am_entryW [(28, 61, 62, 114)] (lv := [(0, am_R v0), (1, am_I v1), (2, am_I v2), (3, am_I v3)]) rfl rfl rfl (fun _ => rfl) (fun _ => Nat.le_of_ble_eq_true rfl) ?_
  refine am_iload_n dX0_sheet_0 rfl 1 rfl ?_
  refine am_rSz (n := 1) hh dX0_sheet_1 (lw_S q281 q282 q90 q283) ⟨⟨by decide, by decide, by decide +kernel⟩, ⟨Nat.le_of_ble_eq_true rfl, Nat.le_of_ble_eq_true rfl⟩⟩ ⟨rfl, rfl⟩ rfl rfl (Nat.le_of_ble_eq_true rfl) ⟨(Nat.zero_le _), (Nat.zero_le _)⟩ (fun b2 G1 hh => ?_)
  obtain ⟨ha3, hb4⟩ := hh
  refine am_ifB_eq (tgt := 25) dX0_sheet_4 (by decide) (fun hc5 => ?_) (fun hc5 => ?_)
  · have hh := ha3 hc5
    refine am_ldc (z := -1000001) q289 (by decide) dX0_sheet_25 ?_
    exact am_iret rfl dX0_sheet_27 (Nat.zero_le _) (Nat.zero_le _) hh
  · have hh := hb4 hc5
    refine am_iload_n dX0_sheet_7 rfl 2 rfl ?_
    refine am_i2l_ h2 dX0_sheet_8 ?_
    refine am_lconst (z := 0) dX0_sheet_9 (by decide) ?_
    refine am_ldc2 (z := 2) q288 (by decide) dX0_sheet_10 ?_
    refine am_rSz (n := 3) hh dX0_sheet_13 (lw_S q285 q286 q90 q287) ⟨⟨by decide, by decide, by decide +kernel⟩, ⟨Nat.le_of_ble_eq_true rfl, Nat.le_of_ble_eq_true rfl⟩⟩ ⟨rfl, rfl⟩ rfl rfl (Nat.le_of_ble_eq_true rfl) ⟨(Nat.zero_le _), (Nat.zero_le _)⟩ (fun b7 G6 hh => ?_)
    obtain ⟨ha8, hb9⟩ := hh
    refine am_ifB_eq (tgt := 25) dX0_sheet_16 (by decide) (fun hc10 => ?_) (fun hc10 => ?_)
    · have hh := ha8 hc10
      refine am_ldc (z := -1000001) q289 (by decide) dX0_sheet_25 ?_
      exact am_iret rfl dX0_sheet_27 (Nat.zero_le _) (Nat.zero_le _) hh
    · have hh := hb9 hc10
      refine am_iload_n dX0_sheet_19 rfl 3 rfl ?_
      refine am_bipush dX0_sheet_20 (by decide) ?_
      obtain ⟨ha11, hb12⟩ := hh
      refine am_icmp_le (tgt := 28) dX0_sheet_22 (by decide) h3 (⟨by decide, by decide⟩) (fun hc13 => ?_) (fun hc13 => ?_)
      · have hh := ha11 hc13
        refine am_iload_n dX0_sheet_28 rfl 3 rfl ?_
        obtain ⟨ha14, hb15⟩ := hh
        refine am_if_lt (tgt := 36) dX0_sheet_29 (by decide) h3 (fun hc16 => ?_) (fun hc16 => ?_)
        · have hh := ha14 hc16
          refine am_iconst dX0_sheet_36 ?_
          refine am_iconst dX0_sheet_37 ?_
          obtain ⟨mc17, ms18, ⟨o19, o20⟩, hh⟩ := hh
          refine am_tS (n := 2) hh dX0_sheet_38 (lw_S q290 q291 q90 q292) ⟨⟨by decide, by decide, by decide +kernel⟩, ⟨Nat.le_of_ble_eq_true rfl, Nat.le_of_ble_eq_true rfl⟩⟩ ⟨rfl, rfl⟩ rfl rfl (Nat.le_of_ble_eq_true rfl) ⟨o19, o20⟩ (fun v G21 hn22 => ?_) (fun ex j G21 hx23 => ?_)
          · obtain ⟨rfl, hh⟩ := hn22
            refine am_aload_n dX0_sheet_41 rfl 0 rfl ?_
            obtain ⟨fs24, ho25, hh⟩ := hh
            obtain ⟨x27, hv26, hh⟩ := hh
            refine ah_get ho25 hv26 rfl in_X0 (by decide) q209 (Or.inl rfl) dX0_sheet_42 ?_
            refine am_iload_n dX0_sheet_45 rfl 1 rfl ?_
            obtain ⟨o28, hh⟩ := hh
            obtain ⟨o29, hh⟩ := hh
            refine ah_new (ci := 5) (fs := ah_dX5) tyX5 rfl in_X5 tyX5_ok q135 q358 q100 ah_dX5_ok o28 o29 dX0_sheet_46 ?_
            have hh := hh _ rfl
            refine am_dup dX0_sheet_49 rfl ?_
            refine am_iload_n dX0_sheet_50 rfl 2 rfl ?_
            refine am_iload_n dX0_sheet_51 rfl 3 rfl ?_
            obtain ⟨mc32, ms33, ⟨o34, o35⟩, hh⟩ := hh
            refine am_rIv (n := 2) hh dX0_sheet_52 q359 q360 q100 q361 rfl ⟨⟨by decide, by decide, by decide +kernel⟩, ⟨Nat.le_of_ble_eq_true rfl, Nat.le_of_ble_eq_true rfl⟩⟩ ⟨rfl, rfl⟩ rfl rfl (Nat.le_of_ble_eq_true rfl) ⟨o34, o35⟩ (fun G36 hh => ?_)
            obtain ⟨n37, f38, ha39, hh⟩ := hh
            obtain ⟨o40, hh⟩ := hh
            obtain ⟨o41, hh⟩ := hh
            obtain ⟨o42, hh⟩ := hh
            refine ah_aast ha39 o40 rfl o41.1 o41.2 o42 dX0_sheet_55 ?_
            have hh := hh _ rfl
            refine am_aload_n dX0_sheet_56 rfl 0 rfl ?_
            refine am_iload_n dX0_sheet_57 rfl 3 rfl ?_
            obtain ⟨fs45, ho46, hh⟩ := hh
            refine am_rVi (n := 1) hh dX0_sheet_58 (lw_V q372 q374 qs1 q90 q375) rfl ⟨⟨by decide, by decide, by decide +kernel⟩, ⟨Nat.le_of_ble_eq_true rfl, Nat.le_of_ble_eq_true rfl⟩⟩ ⟨rfl, rfl⟩ rfl rfl (Nat.le_of_ble_eq_true rfl) ⟨o34, o35⟩ (ah_recv ho46 rfl) (fun r48 G47 hr49 hh => ?_)
            exact am_iret rfl dX0_sheet_61 o34 o35 hh
          · have hh := hx23
            obtain ⟨he50, hh⟩ := hh
            subst he50
            refine am_xcatch (hpc := 62) [(28, 61, 62, 114)] (by decide +kernel) [] ⟨28, 61, 62, 114⟩ _ rfl (by decide +kernel) (by decide +kernel) (by decide) q280 (am_nwin q294 rfl) rfl ?_
            refine am_astore dX0_sheet_62 (by decide) rfl ?_
            refine am_aload_n dX0_sheet_64 rfl 1 rfl ?_
            refine am_aload dX0_sheet_65 0 rfl ?_
            obtain ⟨fs51, ho52, hh⟩ := hh
            refine am_rVi (n := 1) hh dX0_sheet_67 (lw_V q376 q378 qs2 q90 q379) rfl ⟨⟨by decide, by decide, by decide +kernel⟩, ⟨Nat.le_of_ble_eq_true rfl, Nat.le_of_ble_eq_true rfl⟩⟩ ⟨rfl, rfl⟩ rfl rfl (Nat.le_of_ble_eq_true rfl) ⟨o19, o20⟩ (ah_recv ho52 rfl) (fun r54 G53 hr55 hh => ?_)
            exact am_iret rfl dX0_sheet_70 o19 o20 hh
        · have hh := hb15 hc16
          refine am_iconst dX0_sheet_32 ?_
          refine am_goto (tgt := 37) dX0_sheet_33 (by decide) ?_
          refine am_iconst dX0_sheet_37 ?_
          obtain ⟨mc56, ms57, ⟨o58, o59⟩, hh⟩ := hh
          refine am_tS (n := 2) hh dX0_sheet_38 (lw_S q290 q291 q90 q292) ⟨⟨by decide, by decide, by decide +kernel⟩, ⟨Nat.le_of_ble_eq_true rfl, Nat.le_of_ble_eq_true rfl⟩⟩ ⟨rfl, rfl⟩ rfl rfl (Nat.le_of_ble_eq_true rfl) ⟨o58, o59⟩ (fun v G60 hn61 => ?_) (fun ex j G60 hx62 => ?_)
          · obtain ⟨rfl, hh⟩ := hn61
            refine am_aload_n dX0_sheet_41 rfl 0 rfl ?_
            obtain ⟨fs63, ho64, hh⟩ := hh
            obtain ⟨x66, hv65, hh⟩ := hh
            refine ah_get ho64 hv65 rfl in_X0 (by decide) q209 (Or.inl rfl) dX0_sheet_42 ?_
            refine am_iload_n dX0_sheet_45 rfl 1 rfl ?_
            obtain ⟨o67, hh⟩ := hh
            obtain ⟨o68, hh⟩ := hh
            refine ah_new (ci := 5) (fs := ah_dX5) tyX5 rfl in_X5 tyX5_ok q135 q358 q100 ah_dX5_ok o67 o68 dX0_sheet_46 ?_
            have hh := hh _ rfl
            refine am_dup dX0_sheet_49 rfl ?_
            refine am_iload_n dX0_sheet_50 rfl 2 rfl ?_
            refine am_iload_n dX0_sheet_51 rfl 3 rfl ?_
            obtain ⟨mc71, ms72, ⟨o73, o74⟩, hh⟩ := hh
            refine am_rIv (n := 2) hh dX0_sheet_52 q359 q360 q100 q361 rfl ⟨⟨by decide, by decide, by decide +kernel⟩, ⟨Nat.le_of_ble_eq_true rfl, Nat.le_of_ble_eq_true rfl⟩⟩ ⟨rfl, rfl⟩ rfl rfl (Nat.le_of_ble_eq_true rfl) ⟨o73, o74⟩ (fun G75 hh => ?_)
            obtain ⟨n76, f77, ha78, hh⟩ := hh
            obtain ⟨o79, hh⟩ := hh
            obtain ⟨o80, hh⟩ := hh
            obtain ⟨o81, hh⟩ := hh
            refine ah_aast ha78 o79 rfl o80.1 o80.2 o81 dX0_sheet_55 ?_
            have hh := hh _ rfl
            refine am_aload_n dX0_sheet_56 rfl 0 rfl ?_
            refine am_iload_n dX0_sheet_57 rfl 3 rfl ?_
            obtain ⟨fs84, ho85, hh⟩ := hh
            refine am_rVi (n := 1) hh dX0_sheet_58 (lw_V q372 q374 qs1 q90 q375) rfl ⟨⟨by decide, by decide, by decide +kernel⟩, ⟨Nat.le_of_ble_eq_true rfl, Nat.le_of_ble_eq_true rfl⟩⟩ ⟨rfl, rfl⟩ rfl rfl (Nat.le_of_ble_eq_true rfl) ⟨o73, o74⟩ (ah_recv ho85 rfl) (fun r87 G86 hr88 hh => ?_)
            exact am_iret rfl dX0_sheet_61 o73 o74 hh
          · have hh := hx62
            obtain ⟨he89, hh⟩ := hh
            subst he89
            refine am_xcatch (hpc := 62) [(28, 61, 62, 114)] (by decide +kernel) [] ⟨28, 61, 62, 114⟩ _ rfl (by decide +kernel) (by decide +kernel) (by decide) q280 (am_nwin q294 rfl) rfl ?_
            refine am_astore dX0_sheet_62 (by decide) rfl ?_
            refine am_aload_n dX0_sheet_64 rfl 1 rfl ?_
            refine am_aload dX0_sheet_65 0 rfl ?_
            obtain ⟨fs90, ho91, hh⟩ := hh
            refine am_rVi (n := 1) hh dX0_sheet_67 (lw_V q376 q378 qs2 q90 q379) rfl ⟨⟨by decide, by decide, by decide +kernel⟩, ⟨Nat.le_of_ble_eq_true rfl, Nat.le_of_ble_eq_true rfl⟩⟩ ⟨rfl, rfl⟩ rfl rfl (Nat.le_of_ble_eq_true rfl) ⟨o58, o59⟩ (ah_recv ho91 rfl) (fun r93 G92 hr94 hh => ?_)
            exact am_iret rfl dX0_sheet_70 o58 o59 hh
      · have hh := hb12 hc13
        refine am_ldc (z := -1000001) q289 (by decide) dX0_sheet_25 ?_
        exact am_iret rfl dX0_sheet_27 (Nat.zero_le _) (Nat.zero_le _) hh
/-! TableArms.set(III)I -/
abbrev VX0_set (l : Launch) (mc ms : Nat) (Q : Option am_W → ah_H → Prop) (pc : Nat) (lv : List (Nat × am_W)) (st : List am_W) (S : ah_H) (cells slots : Nat) : Prop := am_V ah_r l RX0 cX0_set 5 (some .int) "set" (am_rm 7 mc ms) (am_E1 ah_r mc ms Q) pc lv st S cells slots
abbrev kX0_set (l : Launch) (mc ms : Nat) (as : List am_W) (S : ah_H) (Q : Option am_W → ah_H → Prop) : Prop := am_C ah_r l yX0_set (wsW_ yX0_set cX0_set 5 (some .int) [(10, 60, 61, 114)]) (am_rm 7 mc ms) mc ms as S Q
set_option maxHeartbeats 4000000 in
set_option maxRecDepth 100000 in
theorem bX0_set {l : Launch} {mc ms : Nat} {Q : Option am_W → ah_H → Prop} {S : ah_H} (v0 : Nat) (v1 : Int) (h1 : am_r v1) (v2 : Int) (h2 : am_r v2) (v3 : Int) (h3 : am_r v3)
    (hh : kX0_isSheet l [am_I v1] S (am_qz fun b2 G1 =>
        ((b2 = true) →
          (∃ mc6 ms7 : Nat, ((0 + mc6) ≤ mc ∧ (0 + ms7) ≤ ms) ∧
          (∃ fs10, (G1.1 v0 = some (.inl (1, fs10))) ∧
          kX0_sheetAt l mc6 ms7 [am_R v0, am_I v1] G1 (am_qo fun a15 G12 => ∃ y16, a15 = some y16 ∧
            (∃ fs17, (G12.1 y16 = some (.inl (5, fs17))) ∧
            (∃ x20, (fs17[1]? = some (am_R x20)) ∧
            (∃ n21 f22, (G12.1 x20 = some (.inr (0, n21, .inl f22))) ∧
            (am_r ((n21 : Int) - 1)) ∧
            kX0_isIn l [am_J v2, am_J 0, am_J ((n21 : Int) - 1)] G12 (am_qz fun b27 G26 =>
              (∃ mc28 ms29 : Nat, (((0 + mc6) + mc28) ≤ mc ∧ ((0 + ms7) + ms29) ≤ ms) ∧
              kX0_must l mc28 ms29 [am_I (am_b b27), am_I 2] G26 (am_qv fun G32 =>
                (∃ fs35, (G32.1 y16 = some (.inl (5, fs35))) ∧
                (∃ x38, (fs35[1]? = some (am_R x38)) ∧
                kX5_cut l [am_R y16, am_I v3] G32 (am_qi fun r40 G39 =>
                  (∃ n42 f43, (G39.1 x38 = some (.inr (0, n42, .inl f43))) ∧
                  (ah_X ≤ x38) ∧
                  (0 ≤ v2 ∧ v2 < (n42 : Int)) ∧
                  (∀ G47, G47 = ah_si G39 x38 0 n42 f43 v2 (Int32.ofInt r40) →
                  (∃ fs49, (G47.1 y16 = some (.inl (5, fs49))) ∧
                  (∃ x52, (fs49[1]? = some (am_R x52)) ∧
                  (∃ n53 f54, (G47.1 x52 = some (.inr (0, n53, .inl f54))) ∧
                  (0 ≤ v2 ∧ v2 < (n53 : Int)) ∧
                  (∃ fs57, (G47.1 v0 = some (.inl (1, fs57))) ∧
                  kX0_well l [am_R v0, am_I (f54 v2.toNat).toInt] G47 (am_qi fun r60 G59 =>
                    Q (some (am_I r60)) G59))))))))))) (fun ex j G32 =>
                (ex = "TableArms$Finding") ∧
                (∃ fs63, (G32.1 v0 = some (.inl (1, fs63))) ∧
                kX0_found l [am_R v0, am_R j] G32 (am_qi fun r66 G65 =>
                  Q (some (am_I r66)) G65))))))))) (fun ex j G12 =>
            (ex = "TableArms$Finding") ∧
            (∃ fs69, (G12.1 v0 = some (.inl (1, fs69))) ∧
            kX0_found l [am_R v0, am_R j] G12 (am_qi fun r72 G71 =>
              Q (some (am_I r72)) G71)))))) ∧
        ((b2 = false) →
          Q (some (am_I (-1000001))) G1))) : kX0_set l mc ms [am_R v0, am_I v1, am_I v2, am_I v3] S Q := by
  refine am_entryW [(10, 60, 61, 114)] (lv := [(0, am_R v0), (1, am_I v1), (2, am_I v2), (3, am_I v3)]) rfl rfl rfl (fun _ => rfl) (fun _ => Nat.le_of_ble_eq_true rfl) ?_
  refine am_iload_n dX0_set_0 rfl 1 rfl ?_
  refine am_rSz (n := 1) hh dX0_set_1 (lw_S q281 q282 q90 q283) ⟨⟨by decide, by decide, by decide +kernel⟩, ⟨Nat.le_of_ble_eq_true rfl, Nat.le_of_ble_eq_true rfl⟩⟩ ⟨rfl, rfl⟩ rfl rfl (Nat.le_of_ble_eq_true rfl) ⟨(Nat.zero_le _), (Nat.zero_le _)⟩ (fun b2 G1 hh => ?_)
  obtain ⟨ha3, hb4⟩ := hh
  refine am_ifB_ne (tgt := 10) dX0_set_4 (by decide) (fun hc5 => ?_) (fun hc5 => ?_)
  · have hh := ha3 hc5
    refine am_aload_n dX0_set_10 rfl 0 rfl ?_
    refine am_iload_n dX0_set_11 rfl 1 rfl ?_
    obtain ⟨mc6, ms7, ⟨o8, o9⟩, hh⟩ := hh
    obtain ⟨fs10, ho11, hh⟩ := hh
    refine am_tV (n := 1) hh dX0_set_12 (lw_V q385 q387 qs3 q90 q388) rfl ⟨⟨by decide, by decide, by decide +kernel⟩, ⟨Nat.le_of_ble_eq_true rfl, Nat.le_of_ble_eq_true rfl⟩⟩ ⟨rfl, rfl⟩ rfl rfl (Nat.le_of_ble_eq_true rfl) ⟨o8, o9⟩ (ah_recv ho11 rfl) (fun v G12 hn13 => ?_) (fun ex j G12 hx14 => ?_)
    · obtain ⟨a15, rfl, y16, rfl, hh⟩ := hn13
      refine am_astore dX0_set_15 (by decide) rfl ?_
      refine am_iload_n dX0_set_17 rfl 3 rfl ?_
      refine am_i2l_ h2 dX0_set_18 ?_
      refine am_lconst (z := 0) dX0_set_19 (by decide) ?_
      refine am_aload dX0_set_20 0 rfl ?_
      obtain ⟨fs17, ho18, hh⟩ := hh
      obtain ⟨x20, hv19, hh⟩ := hh
      refine ah_get ho18 hv19 rfl in_X5 (by decide) q366 (Or.inl rfl) dX0_set_22 ?_
      obtain ⟨n21, f22, ha23, hh⟩ := hh
      refine ah_alen ha23 dX0_set_25 (fun hn24 => ?_)
      refine am_iconst dX0_set_26 ?_
      refine am_isub dX0_set_27 ?_
      obtain ⟨o25, hh⟩ := hh
      refine am_i2l_ o25 dX0_set_28 ?_
      refine am_rSz (n := 3) hh dX0_set_29 (lw_S q285 q286 q90 q287) ⟨⟨by decide, by decide, by decide +kernel⟩, ⟨Nat.le_of_ble_eq_true rfl, Nat.le_of_ble_eq_true rfl⟩⟩ ⟨rfl, rfl⟩ rfl rfl (Nat.le_of_ble_eq_true rfl) ⟨o8, o9⟩ (fun b27 G26 hh => ?_)
      refine am_iconst dX0_set_32 ?_
      obtain ⟨mc28, ms29, ⟨o30, o31⟩, hh⟩ := hh
      refine am_tS (n := 2) hh dX0_set_33 (lw_S q290 q291 q90 q292) ⟨⟨by decide, by decide, by decide +kernel⟩, ⟨Nat.le_of_ble_eq_true rfl, Nat.le_of_ble_eq_true rfl⟩⟩ ⟨rfl, rfl⟩ rfl rfl (Nat.le_of_ble_eq_true rfl) ⟨o30, o31⟩ (fun v G32 hn33 => ?_) (fun ex j G32 hx34 => ?_)
      · obtain ⟨rfl, hh⟩ := hn33
        refine am_aload dX0_set_36 0 rfl ?_
        obtain ⟨fs35, ho36, hh⟩ := hh
        obtain ⟨x38, hv37, hh⟩ := hh
        refine ah_get ho36 hv37 rfl in_X5 (by decide) q366 (Or.inl rfl) dX0_set_38 ?_
        refine am_iload_n dX0_set_41 rfl 3 rfl ?_
        refine am_aload dX0_set_42 0 rfl ?_
        refine am_iload_n dX0_set_44 rfl 4 rfl ?_
        refine am_rVi (n := 1) hh dX0_set_45 (lw_V q389 q390 q391 q100 q392) rfl ⟨⟨by decide, by decide, by decide +kernel⟩, ⟨Nat.le_of_ble_eq_true rfl, Nat.le_of_ble_eq_true rfl⟩⟩ ⟨rfl, rfl⟩ rfl rfl (Nat.le_of_ble_eq_true rfl) ⟨o30, o31⟩ (ah_recv ho36 rfl) (fun r40 G39 hr41 hh => ?_)
        obtain ⟨n42, f43, ha44, hh⟩ := hh
        obtain ⟨o45, hh⟩ := hh
        obtain ⟨o46, hh⟩ := hh
        refine ah_iast ha44 o45 o46.1 o46.2 dX0_set_48 ?_
        have hh := hh _ rfl
        refine am_aload_n dX0_set_49 rfl 1 rfl ?_
        refine am_aload dX0_set_50 0 rfl ?_
        obtain ⟨fs49, ho50, hh⟩ := hh
        obtain ⟨x52, hv51, hh⟩ := hh
        refine ah_get ho50 hv51 rfl in_X5 (by decide) q366 (Or.inl rfl) dX0_set_52 ?_
        refine am_iload_n dX0_set_55 rfl 3 rfl ?_
        obtain ⟨n53, f54, ha55, hh⟩ := hh
        obtain ⟨o56, hh⟩ := hh
        refine ah_iald ha55 o56.1 o56.2 (v := (f54 v2.toNat).toInt) rfl dX0_set_56 ?_
        obtain ⟨fs57, ho58, hh⟩ := hh
        refine am_rVi (n := 1) hh dX0_set_57 (lw_V q372 q374 qs1 q90 q375) rfl ⟨⟨by decide, by decide, by decide +kernel⟩, ⟨Nat.le_of_ble_eq_true rfl, Nat.le_of_ble_eq_true rfl⟩⟩ ⟨rfl, rfl⟩ rfl rfl (Nat.le_of_ble_eq_true rfl) ⟨o30, o31⟩ (ah_recv ho58 rfl) (fun r60 G59 hr61 hh => ?_)
        exact am_iret rfl dX0_set_60 o30 o31 hh
      · have hh := hx34
        obtain ⟨he62, hh⟩ := hh
        subst he62
        refine am_xcatch (hpc := 61) [(10, 60, 61, 114)] (by decide +kernel) [] ⟨10, 60, 61, 114⟩ _ rfl (by decide +kernel) (by decide +kernel) (by decide) q280 (am_nwin q294 rfl) rfl ?_
        refine am_astore dX0_set_61 (by decide) rfl ?_
        refine am_aload_n dX0_set_63 rfl 1 rfl ?_
        refine am_aload dX0_set_64 0 rfl ?_
        obtain ⟨fs63, ho64, hh⟩ := hh
        refine am_rVi (n := 1) hh dX0_set_66 (lw_V q376 q378 qs2 q90 q379) rfl ⟨⟨by decide, by decide, by decide +kernel⟩, ⟨Nat.le_of_ble_eq_true rfl, Nat.le_of_ble_eq_true rfl⟩⟩ ⟨rfl, rfl⟩ rfl rfl (Nat.le_of_ble_eq_true rfl) ⟨o30, o31⟩ (ah_recv ho64 rfl) (fun r66 G65 hr67 hh => ?_)
        exact am_iret rfl dX0_set_69 o30 o31 hh
    · have hh := hx14
      obtain ⟨he68, hh⟩ := hh
      subst he68
      refine am_xcatch (hpc := 61) [(10, 60, 61, 114)] (by decide +kernel) [] ⟨10, 60, 61, 114⟩ _ rfl (by decide +kernel) (by decide +kernel) (by decide) q280 (am_nwin q294 rfl) rfl ?_
      refine am_astore dX0_set_61 (by decide) rfl ?_
      refine am_aload_n dX0_set_63 rfl 1 rfl ?_
      refine am_aload dX0_set_64 0 rfl ?_
      obtain ⟨fs69, ho70, hh⟩ := hh
      refine am_rVi (n := 1) hh dX0_set_66 (lw_V q376 q378 qs2 q90 q379) rfl ⟨⟨by decide, by decide, by decide +kernel⟩, ⟨Nat.le_of_ble_eq_true rfl, Nat.le_of_ble_eq_true rfl⟩⟩ ⟨rfl, rfl⟩ rfl rfl (Nat.le_of_ble_eq_true rfl) ⟨o8, o9⟩ (ah_recv ho70 rfl) (fun r72 G71 hr73 hh => ?_)
      exact am_iret rfl dX0_set_69 o8 o9 hh
  · have hh := hb4 hc5
    refine am_ldc (z := -1000001) q289 (by decide) dX0_set_7 ?_
    exact am_iret rfl dX0_set_9 (Nat.zero_le _) (Nat.zero_le _) hh
/-! TableArms.drop(I)I -/
abbrev VX0_drop (l : Launch) (mc ms : Nat) (Q : Option am_W → ah_H → Prop) (pc : Nat) (lv : List (Nat × am_W)) (st : List am_W) (S : ah_H) (cells slots : Nat) : Prop := am_V ah_r l RX0 cX0_drop 3 (some .int) "drop" (am_rm 7 mc ms) (am_E1 ah_r mc ms Q) pc lv st S cells slots
abbrev kX0_drop (l : Launch) (mc ms : Nat) (as : List am_W) (S : ah_H) (Q : Option am_W → ah_H → Prop) : Prop := am_C ah_r l yX0_drop (wsW_ yX0_drop cX0_drop 3 (some .int) [(10, 32, 33, 114)]) (am_rm 7 mc ms) mc ms as S Q
set_option maxHeartbeats 4000000 in
set_option maxRecDepth 100000 in
theorem bX0_drop {l : Launch} {mc ms : Nat} {Q : Option am_W → ah_H → Prop} {S : ah_H} (v0 : Nat) (v1 : Int) (h1 : am_r v1)
    (hh : kX0_isSheet l [am_I v1] S (am_qz fun b2 G1 =>
        ((b2 = true) →
          (∃ mc6 ms7 : Nat, ((0 + mc6) ≤ mc ∧ (0 + ms7) ≤ ms) ∧
          (∃ fs10, (G1.1 v0 = some (.inl (1, fs10))) ∧
          kX0_sheetAt l mc6 ms7 [am_R v0, am_I v1] G1 (am_qo fun a15 G12 => ∃ y16, a15 = some y16 ∧
            (∃ fs17, (G12.1 y16 = some (.inl (5, fs17))) ∧
            (∃ x20, (fs17[1]? = some (am_R x20)) ∧
            (∃ n21 f22, (G12.1 x20 = some (.inr (0, n21, .inl f22))) ∧
            (∃ fs25, (G12.1 v0 = some (.inl (1, fs25))) ∧
            (∃ x28, (fs25[0]? = some (am_R x28)) ∧
            (∃ n29 f30, (G12.1 x28 = some (.inr (4, n29, .inr f30))) ∧
            (ah_X ≤ x28) ∧
            (0 ≤ v1 ∧ v1 < (n29 : Int)) ∧
            (ah_is G12 none "TableArms$Sheet") ∧
            (∀ G35, G35 = ah_sr G12 x28 4 n29 f30 v1 none →
            (∃ fs37, (G35.1 v0 = some (.inl (1, fs37))) ∧
            kX0_well l [am_R v0, am_I (n21 : Int)] G35 (am_qi fun r40 G39 =>
              Q (some (am_I r40)) G39)))))))))) (fun ex j G12 =>
            (ex = "TableArms$Finding") ∧
            (∃ fs43, (G12.1 v0 = some (.inl (1, fs43))) ∧
            kX0_found l [am_R v0, am_R j] G12 (am_qi fun r46 G45 =>
              Q (some (am_I r46)) G45)))))) ∧
        ((b2 = false) →
          Q (some (am_I (-1000001))) G1))) : kX0_drop l mc ms [am_R v0, am_I v1] S Q := by
  refine am_entryW [(10, 32, 33, 114)] (lv := [(0, am_R v0), (1, am_I v1)]) rfl rfl rfl (fun _ => rfl) (fun _ => Nat.le_of_ble_eq_true rfl) ?_
  refine am_iload_n dX0_drop_0 rfl 1 rfl ?_
  refine am_rSz (n := 1) hh dX0_drop_1 (lw_S q281 q282 q90 q283) ⟨⟨by decide, by decide, by decide +kernel⟩, ⟨Nat.le_of_ble_eq_true rfl, Nat.le_of_ble_eq_true rfl⟩⟩ ⟨rfl, rfl⟩ rfl rfl (Nat.le_of_ble_eq_true rfl) ⟨(Nat.zero_le _), (Nat.zero_le _)⟩ (fun b2 G1 hh => ?_)
  obtain ⟨ha3, hb4⟩ := hh
  refine am_ifB_ne (tgt := 10) dX0_drop_4 (by decide) (fun hc5 => ?_) (fun hc5 => ?_)
  · have hh := ha3 hc5
    refine am_aload_n dX0_drop_10 rfl 0 rfl ?_
    refine am_iload_n dX0_drop_11 rfl 1 rfl ?_
    obtain ⟨mc6, ms7, ⟨o8, o9⟩, hh⟩ := hh
    obtain ⟨fs10, ho11, hh⟩ := hh
    refine am_tV (n := 1) hh dX0_drop_12 (lw_V q385 q387 qs3 q90 q388) rfl ⟨⟨by decide, by decide, by decide +kernel⟩, ⟨Nat.le_of_ble_eq_true rfl, Nat.le_of_ble_eq_true rfl⟩⟩ ⟨rfl, rfl⟩ rfl rfl (Nat.le_of_ble_eq_true rfl) ⟨o8, o9⟩ (ah_recv ho11 rfl) (fun v G12 hn13 => ?_) (fun ex j G12 hx14 => ?_)
    · obtain ⟨a15, rfl, y16, rfl, hh⟩ := hn13
      obtain ⟨fs17, ho18, hh⟩ := hh
      obtain ⟨x20, hv19, hh⟩ := hh
      refine ah_get ho18 hv19 rfl in_X5 (by decide) q366 (Or.inl rfl) dX0_drop_15 ?_
      obtain ⟨n21, f22, ha23, hh⟩ := hh
      refine ah_alen ha23 dX0_drop_18 (fun hn24 => ?_)
      refine am_istore_n dX0_drop_19 rfl (by decide) rfl ?_
      refine am_aload_n dX0_drop_20 rfl 1 rfl ?_
      obtain ⟨fs25, ho26, hh⟩ := hh
      obtain ⟨x28, hv27, hh⟩ := hh
      refine ah_get ho26 hv27 rfl in_X0 (by decide) q209 (Or.inl rfl) dX0_drop_21 ?_
      refine am_iload_n dX0_drop_24 rfl 2 rfl ?_
      refine am_aconst_null dX0_drop_25 ?_
      obtain ⟨n29, f30, ha31, hh⟩ := hh
      obtain ⟨o32, hh⟩ := hh
      obtain ⟨o33, hh⟩ := hh
      obtain ⟨o34, hh⟩ := hh
      refine ah_aast ha31 o32 rfl o33.1 o33.2 o34 dX0_drop_26 ?_
      have hh := hh _ rfl
      refine am_aload_n dX0_drop_27 rfl 1 rfl ?_
      refine am_iload_n dX0_drop_28 rfl 0 rfl ?_
      obtain ⟨fs37, ho38, hh⟩ := hh
      refine am_rVi (n := 1) hh dX0_drop_29 (lw_V q372 q374 qs1 q90 q375) rfl ⟨⟨by decide, by decide, by decide +kernel⟩, ⟨Nat.le_of_ble_eq_true rfl, Nat.le_of_ble_eq_true rfl⟩⟩ ⟨rfl, rfl⟩ rfl rfl (Nat.le_of_ble_eq_true rfl) ⟨o8, o9⟩ (ah_recv ho38 rfl) (fun r40 G39 hr41 hh => ?_)
      exact am_iret rfl dX0_drop_32 o8 o9 hh
    · have hh := hx14
      obtain ⟨he42, hh⟩ := hh
      subst he42
      refine am_xcatch (hpc := 33) [(10, 32, 33, 114)] (by decide +kernel) [] ⟨10, 32, 33, 114⟩ _ rfl (by decide +kernel) (by decide +kernel) (by decide) q280 (am_nwin q294 rfl) rfl ?_
      refine am_astore_n dX0_drop_33 rfl (by decide) rfl ?_
      refine am_aload_n dX0_drop_34 rfl 1 rfl ?_
      refine am_aload_n dX0_drop_35 rfl 0 rfl ?_
      obtain ⟨fs43, ho44, hh⟩ := hh
      refine am_rVi (n := 1) hh dX0_drop_36 (lw_V q376 q378 qs2 q90 q379) rfl ⟨⟨by decide, by decide, by decide +kernel⟩, ⟨Nat.le_of_ble_eq_true rfl, Nat.le_of_ble_eq_true rfl⟩⟩ ⟨rfl, rfl⟩ rfl rfl (Nat.le_of_ble_eq_true rfl) ⟨o8, o9⟩ (ah_recv ho44 rfl) (fun r46 G45 hr47 hh => ?_)
      exact am_iret rfl dX0_drop_39 o8 o9 hh
  · have hh := hb4 hc5
    refine am_ldc (z := -1000001) q289 (by decide) dX0_drop_7 ?_
    exact am_iret rfl dX0_drop_9 (Nat.zero_le _) (Nat.zero_le _) hh
/-! TableArms.lessons(III)I -/
abbrev VX0_lessons (l : Launch) (mc ms : Nat) (Q : Option am_W → ah_H → Prop) (pc : Nat) (lv : List (Nat × am_W)) (st : List am_W) (S : ah_H) (cells slots : Nat) : Prop := am_V ah_r l RX0 cX0_lessons 7 (some .int) "lessons" (am_rm 9 mc ms) (am_E1 ah_r mc ms Q) pc lv st S cells slots
abbrev kX0_lessons (l : Launch) (mc ms : Nat) (as : List am_W) (S : ah_H) (Q : Option am_W → ah_H → Prop) : Prop := am_C ah_r l yX0_lessons (wsW_ yX0_lessons cX0_lessons 7 (some .int) [(22, 105, 106, 114)]) (am_rm 9 mc ms) mc ms as S Q
set_option maxHeartbeats 4000000 in
set_option maxRecDepth 100000 in
theorem bX0_lessons {l : Launch} {mc ms : Nat} {Q : Option am_W → ah_H → Prop} {S : ah_H} (v0 : Nat) (v1 : Int) (h1 : am_r v1) (v2 : Int) (h2 : am_r v2) (v3 : Int) (h3 : am_r v3)
    (hh : kX0_isSheet l [am_I v1] S (am_qz fun b2 G1 =>
        ((b2 = false) →
          Q (some (am_I (-1000001))) G1) ∧
        ((b2 = true) →
          kX0_isIn l [am_J v3, am_J 1, am_J 4] G1 (am_qz fun b7 G6 =>
            ((b7 = true) →
              (∃ mc11 ms12 : Nat, ((0 + mc11) ≤ mc ∧ (0 + ms12) ≤ ms) ∧
              (∃ fs15, (G6.1 v0 = some (.inl (1, fs15))) ∧
              kX0_sheetAt l mc11 ms12 [am_R v0, am_I v1] G6 (am_qo fun a20 G17 => ∃ y21, a20 = some y21 ∧
                (∃ mc22 ms23 : Nat, (((0 + mc11) + mc22) ≤ mc ∧ ((0 + ms12) + ms23) ≤ ms) ∧
                (∃ fs26, (G17.1 y21 = some (.inl (5, fs26))) ∧
                kX5_row l mc22 ms23 [am_R y21, am_I v2, am_I (4 * v3)] G17 (am_qo fun a31 G28 => ∃ y32, a31 = some y32 ∧
                  VX0_lessons l mc ms Q 42 [(0, am_R v0), (4, am_R y32), (5, am_I 0), (6, am_I 0)] [] G28 ((0 + mc11) + mc22) ((0 + ms12) + ms23)) (fun ex j G28 =>
                  (ex = "TableArms$Finding") ∧
                  (∃ fs34, (G28.1 v0 = some (.inl (1, fs34))) ∧
                  kX0_found l [am_R v0, am_R j] G28 (am_qi fun r37 G36 =>
                    Q (some (am_I r37)) G36)))))) (fun ex j G17 =>
                (ex = "TableArms$Finding") ∧
                (∃ fs40, (G17.1 v0 = some (.inl (1, fs40))) ∧
                kX0_found l [am_R v0, am_R j] G17 (am_qi fun r43 G42 =>
                  Q (some (am_I r43)) G42)))))) ∧
            ((b7 = false) →
              Q (some (am_I (-1000001))) G6))))) : kX0_lessons l mc ms [am_R v0, am_I v1, am_I v2, am_I v3] S Q := by
  refine am_entryW [(22, 105, 106, 114)] (lv := [(0, am_R v0), (1, am_I v1), (2, am_I v2), (3, am_I v3)]) rfl rfl rfl (fun _ => rfl) (fun _ => Nat.le_of_ble_eq_true rfl) ?_
  refine am_iload_n dX0_lessons_0 rfl 1 rfl ?_
  refine am_rSz (n := 1) hh dX0_lessons_1 (lw_S q281 q282 q90 q283) ⟨⟨by decide, by decide, by decide +kernel⟩, ⟨Nat.le_of_ble_eq_true rfl, Nat.le_of_ble_eq_true rfl⟩⟩ ⟨rfl, rfl⟩ rfl rfl (Nat.le_of_ble_eq_true rfl) ⟨(Nat.zero_le _), (Nat.zero_le _)⟩ (fun b2 G1 hh => ?_)
  obtain ⟨ha3, hb4⟩ := hh
  refine am_ifB_eq (tgt := 19) dX0_lessons_4 (by decide) (fun hc5 => ?_) (fun hc5 => ?_)
  · have hh := ha3 hc5
    refine am_ldc (z := -1000001) q289 (by decide) dX0_lessons_19 ?_
    exact am_iret rfl dX0_lessons_21 (Nat.zero_le _) (Nat.zero_le _) hh
  · have hh := hb4 hc5
    refine am_iload_n dX0_lessons_7 rfl 3 rfl ?_
    refine am_i2l_ h3 dX0_lessons_8 ?_
    refine am_lconst (z := 1) dX0_lessons_9 (by decide) ?_
    refine am_ldc2 (z := 4) q721 (by decide) dX0_lessons_10 ?_
    refine am_rSz (n := 3) hh dX0_lessons_13 (lw_S q285 q286 q90 q287) ⟨⟨by decide, by decide, by decide +kernel⟩, ⟨Nat.le_of_ble_eq_true rfl, Nat.le_of_ble_eq_true rfl⟩⟩ ⟨rfl, rfl⟩ rfl rfl (Nat.le_of_ble_eq_true rfl) ⟨(Nat.zero_le _), (Nat.zero_le _)⟩ (fun b7 G6 hh => ?_)
    obtain ⟨ha8, hb9⟩ := hh
    refine am_ifB_ne (tgt := 22) dX0_lessons_16 (by decide) (fun hc10 => ?_) (fun hc10 => ?_)
    · have hh := ha8 hc10
      refine am_aload_n dX0_lessons_22 rfl 0 rfl ?_
      refine am_iload_n dX0_lessons_23 rfl 1 rfl ?_
      obtain ⟨mc11, ms12, ⟨o13, o14⟩, hh⟩ := hh
      obtain ⟨fs15, ho16, hh⟩ := hh
      refine am_tV (n := 1) hh dX0_lessons_24 (lw_V q385 q387 qs3 q90 q388) rfl ⟨⟨by decide, by decide, by decide +kernel⟩, ⟨Nat.le_of_ble_eq_true rfl, Nat.le_of_ble_eq_true rfl⟩⟩ ⟨rfl, rfl⟩ rfl rfl (Nat.le_of_ble_eq_true rfl) ⟨o13, o14⟩ (ah_recv ho16 rfl) (fun v G17 hn18 => ?_) (fun ex j G17 hx19 => ?_)
      · obtain ⟨a20, rfl, y21, rfl, hh⟩ := hn18
        refine am_iload_n dX0_lessons_27 rfl 2 rfl ?_
        refine am_iconst dX0_lessons_28 ?_
        refine am_iload_n dX0_lessons_29 rfl 3 rfl ?_
        refine am_imul dX0_lessons_30 ?_
        obtain ⟨mc22, ms23, ⟨o24, o25⟩, hh⟩ := hh
        obtain ⟨fs26, ho27, hh⟩ := hh
        refine am_tV (n := 2) hh dX0_lessons_31 (lw_V q722 q723 q724 q100 q725) rfl ⟨⟨by decide, by decide, by decide +kernel⟩, ⟨Nat.le_of_ble_eq_true rfl, Nat.le_of_ble_eq_true rfl⟩⟩ ⟨rfl, rfl⟩ rfl rfl (Nat.le_of_ble_eq_true rfl) ⟨o24, o25⟩ (ah_recv ho27 rfl) (fun v G28 hn29 => ?_) (fun ex j G28 hx30 => ?_)
        · obtain ⟨a31, rfl, y32, rfl, hh⟩ := hn29
          refine am_astore dX0_lessons_34 (by decide) rfl ?_
          refine am_iconst dX0_lessons_36 ?_
          refine am_istore dX0_lessons_37 (by decide) rfl ?_
          refine am_iconst dX0_lessons_39 ?_
          refine am_istore dX0_lessons_40 (by decide) rfl ?_
          refine am_keep [3, 2, 1, 0] rfl ?_
          exact hh
        · have hh := hx30
          obtain ⟨he33, hh⟩ := hh
          subst he33
          refine am_xcatch (hpc := 106) [(22, 105, 106, 114)] (by decide +kernel) [] ⟨22, 105, 106, 114⟩ _ rfl (by decide +kernel) (by decide +kernel) (by decide) q280 (am_nwin q294 rfl) rfl ?_
          refine am_astore dX0_lessons_106 (by decide) rfl ?_
          refine am_aload_n dX0_lessons_108 rfl 1 rfl ?_
          refine am_aload dX0_lessons_109 0 rfl ?_
          obtain ⟨fs34, ho35, hh⟩ := hh
          refine am_rVi (n := 1) hh dX0_lessons_111 (lw_V q376 q378 qs2 q90 q379) rfl ⟨⟨by decide, by decide, by decide +kernel⟩, ⟨Nat.le_of_ble_eq_true rfl, Nat.le_of_ble_eq_true rfl⟩⟩ ⟨rfl, rfl⟩ rfl rfl (Nat.le_of_ble_eq_true rfl) ⟨o24, o25⟩ (ah_recv ho35 rfl) (fun r37 G36 hr38 hh => ?_)
          exact am_iret rfl dX0_lessons_114 o24 o25 hh
      · have hh := hx19
        obtain ⟨he39, hh⟩ := hh
        subst he39
        refine am_xcatch (hpc := 106) [(22, 105, 106, 114)] (by decide +kernel) [] ⟨22, 105, 106, 114⟩ _ rfl (by decide +kernel) (by decide +kernel) (by decide) q280 (am_nwin q294 rfl) rfl ?_
        refine am_astore dX0_lessons_106 (by decide) rfl ?_
        refine am_aload_n dX0_lessons_108 rfl 1 rfl ?_
        refine am_aload dX0_lessons_109 0 rfl ?_
        obtain ⟨fs40, ho41, hh⟩ := hh
        refine am_rVi (n := 1) hh dX0_lessons_111 (lw_V q376 q378 qs2 q90 q379) rfl ⟨⟨by decide, by decide, by decide +kernel⟩, ⟨Nat.le_of_ble_eq_true rfl, Nat.le_of_ble_eq_true rfl⟩⟩ ⟨rfl, rfl⟩ rfl rfl (Nat.le_of_ble_eq_true rfl) ⟨o13, o14⟩ (ah_recv ho41 rfl) (fun r43 G42 hr44 hh => ?_)
        exact am_iret rfl dX0_lessons_114 o13 o14 hh
    · have hh := hb9 hc10
      refine am_ldc (z := -1000001) q289 (by decide) dX0_lessons_19 ?_
      exact am_iret rfl dX0_lessons_21 (Nat.zero_le _) (Nat.zero_le _) hh
set_option maxHeartbeats 4000000 in
set_option maxRecDepth 100000 in
theorem bX0_lessons_42 {l : Launch} {mc ms : Nat} {Q : Option am_W → ah_H → Prop} {S : ah_H} (v0 : Nat) (v4 : Nat) (v5 : Int) (h5 : am_r v5) (v6 : Int) (h6 : am_r v6) (cs ss : Nat)
    (hh : (∃ n1 f2, (S.1 v4 = some (.inr (0, n1, .inl f2))) ∧
      (((n1 : Int) ≤ v6) →
        (cs ≤ mc) ∧
        (ss ≤ ms) ∧
        (∃ fs10, (S.1 v0 = some (.inl (1, fs10))) ∧
        kX0_well l [am_R v0, am_I v5] S (am_qi fun r13 G12 =>
          Q (some (am_I r13)) G12))) ∧
      ((¬ (n1 : Int) ≤ v6) →
        (0 ≤ v6 ∧ v6 < (n1 : Int)) ∧
        (0 ≤ (v6 + 1) ∧ (v6 + 1) < (n1 : Int)) ∧
        (0 ≤ (v6 + 2) ∧ (v6 + 2) < (n1 : Int)) ∧
        (0 ≤ (v6 + 3) ∧ (v6 + 3) < (n1 : Int)) ∧
        (∃ mc19 ms20 : Nat, ((cs + mc19) ≤ mc ∧ (ss + ms20) ≤ ms) ∧
        (∃ fs23, (S.1 v0 = some (.inl (1, fs23))) ∧
        kX0_lesson l mc19 ms20 [am_R v0, am_I (f2 v6.toNat).toInt, am_I (f2 (v6 + 1).toNat).toInt, am_I (f2 (v6 + 2).toNat).toInt, am_I (f2 (v6 + 3).toNat).toInt] S (am_qi fun r26 G25 =>
          ((r26 < 0) →
            VX0_lessons l mc ms Q 42 [(0, am_R v0), (4, am_R v4), (5, am_I (v5 + 0)), (6, am_I (v6 + 4))] [] G25 (cs + mc19) (ss + ms20)) ∧
          ((¬ r26 < 0) →
            VX0_lessons l mc ms Q 42 [(0, am_R v0), (4, am_R v4), (5, am_I (v5 + 1)), (6, am_I (v6 + 4))] [] G25 (cs + mc19) (ss + ms20)))))))) : VX0_lessons l mc ms Q 42 [(0, am_R v0), (4, am_R v4), (5, am_I v5), (6, am_I v6)] [] S cs ss := by
  refine am_iload dX0_lessons_42 3 rfl ?_
  refine am_aload dX0_lessons_44 1 rfl ?_
  obtain ⟨n1, f2, ha3, hh⟩ := hh
  refine ah_alen ha3 dX0_lessons_46 (fun hn4 => ?_)
  obtain ⟨ha5, hb6⟩ := hh
  refine am_icmp_ge (tgt := 99) dX0_lessons_47 (by decide) h6 hn4 (fun hc7 => ?_) (fun hc7 => ?_)
  · have hh := ha5 hc7
    refine am_aload_n dX0_lessons_99 rfl 0 rfl ?_
    refine am_iload dX0_lessons_100 2 rfl ?_
    obtain ⟨o8, hh⟩ := hh
    obtain ⟨o9, hh⟩ := hh
    obtain ⟨fs10, ho11, hh⟩ := hh
    refine am_rVi (n := 1) hh dX0_lessons_102 (lw_V q372 q374 qs1 q90 q375) rfl ⟨⟨by decide, by decide, by decide +kernel⟩, ⟨Nat.le_of_ble_eq_true rfl, Nat.le_of_ble_eq_true rfl⟩⟩ ⟨rfl, rfl⟩ rfl rfl (Nat.le_of_ble_eq_true rfl) ⟨o8, o9⟩ (ah_recv ho11 rfl) (fun r13 G12 hr14 hh => ?_)
    exact am_iret rfl dX0_lessons_105 o8 o9 hh
  · have hh := hb6 hc7
    refine am_iload dX0_lessons_50 2 rfl ?_
    refine am_aload_n dX0_lessons_52 rfl 0 rfl ?_
    refine am_aload dX0_lessons_53 1 rfl ?_
    refine am_iload dX0_lessons_55 3 rfl ?_
    obtain ⟨o15, hh⟩ := hh
    refine ah_iald ha3 o15.1 o15.2 (v := (f2 v6.toNat).toInt) rfl dX0_lessons_57 ?_
    refine am_aload dX0_lessons_58 1 rfl ?_
    refine am_iload dX0_lessons_60 3 rfl ?_
    refine am_iconst dX0_lessons_62 ?_
    refine am_iadd dX0_lessons_63 ?_
    obtain ⟨o16, hh⟩ := hh
    refine ah_iald ha3 o16.1 o16.2 (v := (f2 (v6 + 1).toNat).toInt) rfl dX0_lessons_64 ?_
    refine am_aload dX0_lessons_65 1 rfl ?_
    refine am_iload dX0_lessons_67 3 rfl ?_
    refine am_iconst dX0_lessons_69 ?_
    refine am_iadd dX0_lessons_70 ?_
    obtain ⟨o17, hh⟩ := hh
    refine ah_iald ha3 o17.1 o17.2 (v := (f2 (v6 + 2).toNat).toInt) rfl dX0_lessons_71 ?_
    refine am_aload dX0_lessons_72 1 rfl ?_
    refine am_iload dX0_lessons_74 3 rfl ?_
    refine am_iconst dX0_lessons_76 ?_
    refine am_iadd dX0_lessons_77 ?_
    obtain ⟨o18, hh⟩ := hh
    refine ah_iald ha3 o18.1 o18.2 (v := (f2 (v6 + 3).toNat).toInt) rfl dX0_lessons_78 ?_
    obtain ⟨mc19, ms20, ⟨o21, o22⟩, hh⟩ := hh
    obtain ⟨fs23, ho24, hh⟩ := hh
    refine am_rVi (n := 4) hh dX0_lessons_79 (lw_V q728 q606 q607 q90 q608) rfl ⟨⟨by decide, by decide, by decide +kernel⟩, ⟨Nat.le_of_ble_eq_true rfl, Nat.le_of_ble_eq_true rfl⟩⟩ ⟨rfl, rfl⟩ rfl rfl (Nat.le_of_ble_eq_true rfl) ⟨o21, o22⟩ (ah_recv ho24 rfl) (fun r26 G25 hr27 hh => ?_)
    obtain ⟨ha28, hb29⟩ := hh
    refine am_if_lt (tgt := 89) dX0_lessons_82 (by decide) hr27 (fun hc30 => ?_) (fun hc30 => ?_)
    · have hh := ha28 hc30
      refine am_iconst dX0_lessons_89 ?_
      refine am_iadd dX0_lessons_90 ?_
      refine am_istore dX0_lessons_91 (by decide) rfl ?_
      refine am_iinc (n := 3) dX0_lessons_93 rfl (by decide) rfl ?_
      refine am_goto (tgt := 42) dX0_lessons_96 (by decide) ?_
      refine am_keep [2, 3, 1, 0] rfl ?_
      exact hh
    · have hh := hb29 hc30
      refine am_iconst dX0_lessons_85 ?_
      refine am_goto (tgt := 90) dX0_lessons_86 (by decide) ?_
      refine am_iadd dX0_lessons_90 ?_
      refine am_istore dX0_lessons_91 (by decide) rfl ?_
      refine am_iinc (n := 3) dX0_lessons_93 rfl (by decide) rfl ?_
      refine am_goto (tgt := 42) dX0_lessons_96 (by decide) ?_
      refine am_keep [2, 3, 1, 0] rfl ?_
      exact hh
/-! TableArms.ways(IIII)I -/
abbrev VX0_ways (l : Launch) (mc ms : Nat) (Q : Option am_W → ah_H → Prop) (pc : Nat) (lv : List (Nat × am_W)) (st : List am_W) (S : ah_H) (cells slots : Nat) : Prop := am_V ah_r l RX0 cX0_ways 6 (some .int) "ways" (am_rm 7 mc ms) (am_E1 ah_r mc ms Q) pc lv st S cells slots
abbrev kX0_ways (l : Launch) (mc ms : Nat) (as : List am_W) (S : ah_H) (Q : Option am_W → ah_H → Prop) : Prop := am_C ah_r l yX0_ways (wsW_ yX0_ways cX0_ways 6 (some .int) [(35, 73, 88, 114), (74, 87, 88, 114)]) (am_rm 7 mc ms) mc ms as S Q
set_option maxHeartbeats 4000000 in
set_option maxRecDepth 100000 in
theorem bX0_ways {l : Launch} {mc ms : Nat} {Q : Option am_W → ah_H → Prop} {S : ah_H} (v0 : Nat) (v1 : Int) (h1 : am_r v1) (v2 : Int) (h2 : am_r v2) (v3 : Int) (h3 : am_r v3) (v4 : Int) (h4 : am_r v4)
    (hh : kX0_isSheet l [am_I v1] S (am_qz fun b2 G1 =>
        ((b2 = false) →
          Q (some (am_I (-1000001))) G1) ∧
        ((b2 = true) →
          kX0_isIn l [am_J v3, am_J 1, am_J 12] G1 (am_qz fun b7 G6 =>
            ((b7 = false) →
              Q (some (am_I (-1000001))) G6) ∧
            ((b7 = true) →
              kX0_isIn l [am_J v4, am_J 1, am_J 12] G6 (am_qz fun b12 G11 =>
                ((b12 = true) →
                  (∃ mc16 ms17 : Nat, ((0 + mc16) ≤ mc ∧ (0 + ms17) ≤ ms) ∧
                  (∃ fs20, (G11.1 v0 = some (.inl (1, fs20))) ∧
                  kX0_sheetAt l mc16 ms17 [am_R v0, am_I v1] G11 (am_qo fun a25 G22 => ∃ y26, a25 = some y26 ∧
                    (∃ mc27 ms28 : Nat, (((0 + mc16) + mc27) ≤ mc ∧ ((0 + ms17) + ms28) ≤ ms) ∧
                    (∃ fs31, (G22.1 y26 = some (.inl (5, fs31))) ∧
                    kX5_row l mc27 ms28 [am_R y26, am_I v2, am_I (v3 + v4)] G22 (am_qo fun a36 G33 => ∃ y37, a36 = some y37 ∧
                      kX0_isRow l [am_R y37, am_I 0, am_I v3] G33 (am_qz fun b39 G38 =>
                        ((b39 = false) →
                          Q (some (am_I (-1000001))) G38) ∧
                        ((b39 = true) →
                          kX0_isRow l [am_R y37, am_I v3, am_I v4] G38 (am_qz fun b44 G43 =>
                            ((b44 = true) →
                              (∃ fs48, (G43.1 v0 = some (.inl (1, fs48))) ∧
                              kX0_fewest l [am_R v0, am_R y37, am_I v3, am_I v4] G43 (am_qi fun r51 G50 =>
                                (∃ fs53, (G50.1 v0 = some (.inl (1, fs53))) ∧
                                kX0_well l [am_R v0, am_I r51] G50 (am_qi fun r56 G55 =>
                                  Q (some (am_I r56)) G55))))) ∧
                            ((b44 = false) →
                              Q (some (am_I (-1000001))) G43))))) (fun ex j G33 =>
                      (ex = "TableArms$Finding") ∧
                      (∃ fs59, (G33.1 v0 = some (.inl (1, fs59))) ∧
                      kX0_found l [am_R v0, am_R j] G33 (am_qi fun r62 G61 =>
                        Q (some (am_I r62)) G61)))))) (fun ex j G22 =>
                    (ex = "TableArms$Finding") ∧
                    (∃ fs65, (G22.1 v0 = some (.inl (1, fs65))) ∧
                    kX0_found l [am_R v0, am_R j] G22 (am_qi fun r68 G67 =>
                      Q (some (am_I r68)) G67)))))) ∧
                ((b12 = false) →
                  Q (some (am_I (-1000001))) G11))))))) : kX0_ways l mc ms [am_R v0, am_I v1, am_I v2, am_I v3, am_I v4] S Q := by
  refine am_entryW [(35, 73, 88, 114), (74, 87, 88, 114)] (lv := [(0, am_R v0), (1, am_I v1), (2, am_I v2), (3, am_I v3), (4, am_I v4)]) rfl rfl rfl (fun _ => rfl) (fun _ => Nat.le_of_ble_eq_true rfl) ?_
  refine am_iload_n dX0_ways_0 rfl 1 rfl ?_
  refine am_rSz (n := 1) hh dX0_ways_1 (lw_S q281 q282 q90 q283) ⟨⟨by decide, by decide, by decide +kernel⟩, ⟨Nat.le_of_ble_eq_true rfl, Nat.le_of_ble_eq_true rfl⟩⟩ ⟨rfl, rfl⟩ rfl rfl (Nat.le_of_ble_eq_true rfl) ⟨(Nat.zero_le _), (Nat.zero_le _)⟩ (fun b2 G1 hh => ?_)
  obtain ⟨ha3, hb4⟩ := hh
  refine am_ifB_eq (tgt := 32) dX0_ways_4 (by decide) (fun hc5 => ?_) (fun hc5 => ?_)
  · have hh := ha3 hc5
    refine am_ldc (z := -1000001) q289 (by decide) dX0_ways_32 ?_
    exact am_iret rfl dX0_ways_34 (Nat.zero_le _) (Nat.zero_le _) hh
  · have hh := hb4 hc5
    refine am_iload_n dX0_ways_7 rfl 3 rfl ?_
    refine am_i2l_ h3 dX0_ways_8 ?_
    refine am_lconst (z := 1) dX0_ways_9 (by decide) ?_
    refine am_ldc2 (z := 12) q1155 (by decide) dX0_ways_10 ?_
    refine am_rSz (n := 3) hh dX0_ways_13 (lw_S q285 q286 q90 q287) ⟨⟨by decide, by decide, by decide +kernel⟩, ⟨Nat.le_of_ble_eq_true rfl, Nat.le_of_ble_eq_true rfl⟩⟩ ⟨rfl, rfl⟩ rfl rfl (Nat.le_of_ble_eq_true rfl) ⟨(Nat.zero_le _), (Nat.zero_le _)⟩ (fun b7 G6 hh => ?_)
    obtain ⟨ha8, hb9⟩ := hh
    refine am_ifB_eq (tgt := 32) dX0_ways_16 (by decide) (fun hc10 => ?_) (fun hc10 => ?_)
    · have hh := ha8 hc10
      refine am_ldc (z := -1000001) q289 (by decide) dX0_ways_32 ?_
      exact am_iret rfl dX0_ways_34 (Nat.zero_le _) (Nat.zero_le _) hh
    · have hh := hb9 hc10
      refine am_iload dX0_ways_19 4 rfl ?_
      refine am_i2l_ h4 dX0_ways_21 ?_
      refine am_lconst (z := 1) dX0_ways_22 (by decide) ?_
      refine am_ldc2 (z := 12) q1155 (by decide) dX0_ways_23 ?_
      refine am_rSz (n := 3) hh dX0_ways_26 (lw_S q285 q286 q90 q287) ⟨⟨by decide, by decide, by decide +kernel⟩, ⟨Nat.le_of_ble_eq_true rfl, Nat.le_of_ble_eq_true rfl⟩⟩ ⟨rfl, rfl⟩ rfl rfl (Nat.le_of_ble_eq_true rfl) ⟨(Nat.zero_le _), (Nat.zero_le _)⟩ (fun b12 G11 hh => ?_)
      obtain ⟨ha13, hb14⟩ := hh
      refine am_ifB_ne (tgt := 35) dX0_ways_29 (by decide) (fun hc15 => ?_) (fun hc15 => ?_)
      · have hh := ha13 hc15
        refine am_aload_n dX0_ways_35 rfl 0 rfl ?_
        refine am_iload_n dX0_ways_36 rfl 1 rfl ?_
        obtain ⟨mc16, ms17, ⟨o18, o19⟩, hh⟩ := hh
        obtain ⟨fs20, ho21, hh⟩ := hh
        refine am_tV (n := 1) hh dX0_ways_37 (lw_V q385 q387 qs3 q90 q388) rfl ⟨⟨by decide, by decide, by decide +kernel⟩, ⟨Nat.le_of_ble_eq_true rfl, Nat.le_of_ble_eq_true rfl⟩⟩ ⟨rfl, rfl⟩ rfl rfl (Nat.le_of_ble_eq_true rfl) ⟨o18, o19⟩ (ah_recv ho21 rfl) (fun v G22 hn23 => ?_) (fun ex j G22 hx24 => ?_)
        · obtain ⟨a25, rfl, y26, rfl, hh⟩ := hn23
          refine am_iload_n dX0_ways_40 rfl 2 rfl ?_
          refine am_iload_n dX0_ways_41 rfl 3 rfl ?_
          refine am_iload dX0_ways_42 4 rfl ?_
          refine am_iadd dX0_ways_44 ?_
          obtain ⟨mc27, ms28, ⟨o29, o30⟩, hh⟩ := hh
          obtain ⟨fs31, ho32, hh⟩ := hh
          refine am_tV (n := 2) hh dX0_ways_45 (lw_V q722 q723 q724 q100 q725) rfl ⟨⟨by decide, by decide, by decide +kernel⟩, ⟨Nat.le_of_ble_eq_true rfl, Nat.le_of_ble_eq_true rfl⟩⟩ ⟨rfl, rfl⟩ rfl rfl (Nat.le_of_ble_eq_true rfl) ⟨o29, o30⟩ (ah_recv ho32 rfl) (fun v G33 hn34 => ?_) (fun ex j G33 hx35 => ?_)
          · obtain ⟨a36, rfl, y37, rfl, hh⟩ := hn34
            refine am_astore dX0_ways_48 (by decide) rfl ?_
            refine am_aload dX0_ways_50 0 rfl ?_
            refine am_iconst dX0_ways_52 ?_
            refine am_iload_n dX0_ways_53 rfl 4 rfl ?_
            refine am_rSz (n := 3) hh dX0_ways_54 (lw_S q1156 q1157 q90 q1158) ⟨⟨by decide, by decide, by decide +kernel⟩, ⟨Nat.le_of_ble_eq_true rfl, Nat.le_of_ble_eq_true rfl⟩⟩ ⟨rfl, rfl⟩ rfl rfl (Nat.le_of_ble_eq_true rfl) ⟨o29, o30⟩ (fun b39 G38 hh => ?_)
            obtain ⟨ha40, hb41⟩ := hh
            refine am_ifB_eq (tgt := 71) dX0_ways_57 (by decide) (fun hc42 => ?_) (fun hc42 => ?_)
            · have hh := ha40 hc42
              refine am_ldc (z := -1000001) q289 (by decide) dX0_ways_71 ?_
              exact am_iret rfl dX0_ways_73 o29 o30 hh
            · have hh := hb41 hc42
              refine am_aload dX0_ways_60 0 rfl ?_
              refine am_iload_n dX0_ways_62 rfl 4 rfl ?_
              refine am_iload dX0_ways_63 5 rfl ?_
              refine am_rSz (n := 3) hh dX0_ways_65 (lw_S q1156 q1157 q90 q1158) ⟨⟨by decide, by decide, by decide +kernel⟩, ⟨Nat.le_of_ble_eq_true rfl, Nat.le_of_ble_eq_true rfl⟩⟩ ⟨rfl, rfl⟩ rfl rfl (Nat.le_of_ble_eq_true rfl) ⟨o29, o30⟩ (fun b44 G43 hh => ?_)
              obtain ⟨ha45, hb46⟩ := hh
              refine am_ifB_ne (tgt := 74) dX0_ways_68 (by decide) (fun hc47 => ?_) (fun hc47 => ?_)
              · have hh := ha45 hc47
                refine am_aload_n dX0_ways_74 rfl 1 rfl ?_
                refine am_aload_n dX0_ways_75 rfl 1 rfl ?_
                refine am_aload dX0_ways_76 0 rfl ?_
                refine am_iload_n dX0_ways_78 rfl 4 rfl ?_
                refine am_iload dX0_ways_79 5 rfl ?_
                obtain ⟨fs48, ho49, hh⟩ := hh
                refine am_rVi (n := 3) hh dX0_ways_81 (lw_V q1159 q1161 qs37 q90 q1162) rfl ⟨⟨by decide, by decide, by decide +kernel⟩, ⟨Nat.le_of_ble_eq_true rfl, Nat.le_of_ble_eq_true rfl⟩⟩ ⟨rfl, rfl⟩ rfl rfl (Nat.le_of_ble_eq_true rfl) ⟨o29, o30⟩ (ah_recv ho49 rfl) (fun r51 G50 hr52 hh => ?_)
                obtain ⟨fs53, ho54, hh⟩ := hh
                refine am_rVi (n := 1) hh dX0_ways_84 (lw_V q372 q374 qs1 q90 q375) rfl ⟨⟨by decide, by decide, by decide +kernel⟩, ⟨Nat.le_of_ble_eq_true rfl, Nat.le_of_ble_eq_true rfl⟩⟩ ⟨rfl, rfl⟩ rfl rfl (Nat.le_of_ble_eq_true rfl) ⟨o29, o30⟩ (ah_recv ho54 rfl) (fun r56 G55 hr57 hh => ?_)
                exact am_iret rfl dX0_ways_87 o29 o30 hh
              · have hh := hb46 hc47
                refine am_ldc (z := -1000001) q289 (by decide) dX0_ways_71 ?_
                exact am_iret rfl dX0_ways_73 o29 o30 hh
          · have hh := hx35
            obtain ⟨he58, hh⟩ := hh
            subst he58
            refine am_xcatch (hpc := 88) [(35, 73, 88, 114), (74, 87, 88, 114)] (by decide +kernel) [] ⟨35, 73, 88, 114⟩ _ rfl (by decide +kernel) (by decide +kernel) (by decide) q280 (am_nwin q294 rfl) rfl ?_
            refine am_astore dX0_ways_88 (by decide) rfl ?_
            refine am_aload_n dX0_ways_90 rfl 1 rfl ?_
            refine am_aload dX0_ways_91 0 rfl ?_
            obtain ⟨fs59, ho60, hh⟩ := hh
            refine am_rVi (n := 1) hh dX0_ways_93 (lw_V q376 q378 qs2 q90 q379) rfl ⟨⟨by decide, by decide, by decide +kernel⟩, ⟨Nat.le_of_ble_eq_true rfl, Nat.le_of_ble_eq_true rfl⟩⟩ ⟨rfl, rfl⟩ rfl rfl (Nat.le_of_ble_eq_true rfl) ⟨o29, o30⟩ (ah_recv ho60 rfl) (fun r62 G61 hr63 hh => ?_)
            exact am_iret rfl dX0_ways_96 o29 o30 hh
        · have hh := hx24
          obtain ⟨he64, hh⟩ := hh
          subst he64
          refine am_xcatch (hpc := 88) [(35, 73, 88, 114), (74, 87, 88, 114)] (by decide +kernel) [] ⟨35, 73, 88, 114⟩ _ rfl (by decide +kernel) (by decide +kernel) (by decide) q280 (am_nwin q294 rfl) rfl ?_
          refine am_astore dX0_ways_88 (by decide) rfl ?_
          refine am_aload_n dX0_ways_90 rfl 1 rfl ?_
          refine am_aload dX0_ways_91 0 rfl ?_
          obtain ⟨fs65, ho66, hh⟩ := hh
          refine am_rVi (n := 1) hh dX0_ways_93 (lw_V q376 q378 qs2 q90 q379) rfl ⟨⟨by decide, by decide, by decide +kernel⟩, ⟨Nat.le_of_ble_eq_true rfl, Nat.le_of_ble_eq_true rfl⟩⟩ ⟨rfl, rfl⟩ rfl rfl (Nat.le_of_ble_eq_true rfl) ⟨o18, o19⟩ (ah_recv ho66 rfl) (fun r68 G67 hr69 hh => ?_)
          exact am_iret rfl dX0_ways_96 o18 o19 hh
      · have hh := hb14 hc15
        refine am_ldc (z := -1000001) q289 (by decide) dX0_ways_32 ?_
        exact am_iret rfl dX0_ways_34 (Nat.zero_le _) (Nat.zero_le _) hh
/-! TableArms.nevers()I -/
abbrev VX0_nevers (l : Launch) (mc ms : Nat) (Q : Option am_W → ah_H → Prop) (pc : Nat) (lv : List (Nat × am_W)) (st : List am_W) (S : ah_H) (cells slots : Nat) : Prop := am_V ah_r l RX0 cX0_nevers 3 (some .int) "nevers" (am_rm 12 mc ms) (am_E1 ah_r mc ms Q) pc lv st S cells slots
abbrev kX0_nevers (l : Launch) (mc ms : Nat) (as : List am_W) (S : ah_H) (Q : Option am_W → ah_H → Prop) : Prop := am_C ah_r l yX0_nevers (wsW_ yX0_nevers cX0_nevers 3 (some .int) [(33, 37, 40, 375)]) (am_rm 12 mc ms) mc ms as S Q
set_option maxHeartbeats 4000000 in
set_option maxRecDepth 100000 in
theorem bX0_nevers {l : Launch} {mc ms : Nat} {Q : Option am_W → ah_H → Prop} {S : ah_H} (v0 : Nat)
    (hh : (1 ≤ mc) ∧
      (9 ≤ ms) ∧
      (∀ G3, G3 = ah_mk S (.inl (7, ah_dX7)) →
      (∃ fs5, (G3.1 v0 = some (.inl (1, fs5))) ∧
      (∃ x8, (fs5[12]? = some (am_R x8)) ∧
      (∃ z10, (fs5[13]? = some (am_I z10) ∧ am_r z10) ∧
      (∃ x13, (fs5[15]? = some (am_R x13)) ∧
      (∃ fs14, (G3.1 x13 = some (.inl (15, fs14))) ∧
      kJ2_size l [am_R x13] G3 (am_qi fun r17 G16 =>
        (∃ mc19 ms20 : Nat, ((1 + mc19) ≤ mc ∧ (9 + ms20) ≤ ms) ∧
        kX7_init l mc19 ms20 [am_R S.2, am_R x8, am_I z10, am_I (16 - r17)] G16 (am_qv fun G23 =>
          (∃ fs24, (G23.1 v0 = some (.inl (1, fs24))) ∧
          (ah_X ≤ v0) ∧
          (13 < fs24.length) ∧
          (∀ G28, G28 = ah_sf G23 v0 1 fs24 13 (am_I 0) →
          (∃ mc30 ms31 : Nat, (((1 + mc19) + mc30) ≤ mc ∧ ((9 + ms20) + ms31) ≤ ms) ∧
          (∃ fs34, (G28.1 S.2 = some (.inl (7, fs34))) ∧
          kX7_all l mc30 ms31 [am_R S.2] G28 (am_qv fun G36 =>
            VX0_nevers l mc ms Q 60 [(0, am_R v0), (1, am_R S.2), (2, am_I 0)] [] G36 ((1 + mc19) + mc30) ((9 + ms20) + ms31)) (fun ex j G36 =>
            (ex = "TableArms$Fault") ∧
            (∃ fs40, (G36.1 j = some (.inl (8, fs40))) ∧
            (∃ z43, (fs40[6]? = some (am_I z43) ∧ am_r z43) ∧
            (∃ fs45, (G36.1 v0 = some (.inl (1, fs45))) ∧
            (14 < fs45.length) ∧
            (∀ G48, G48 = ah_sf G36 v0 1 fs45 14 (am_I z43) →
            (∃ fs50, (G48.1 j = some (.inl (8, fs50))) ∧
            (∃ z53, (fs50[7]? = some (am_I z53) ∧ am_r z53) ∧
            Q (some (am_I ((-1000100) - z53))) G48))))))))))))))))))))) : kX0_nevers l mc ms [am_R v0] S Q := by
  refine am_entryW [(33, 37, 40, 375)] (lv := [(0, am_R v0)]) rfl rfl rfl (fun _ => rfl) (fun _ => Nat.le_of_ble_eq_true rfl) ?_
  obtain ⟨o1, hh⟩ := hh
  obtain ⟨o2, hh⟩ := hh
  refine ah_new (ci := 7) (fs := ah_dX7) tyX7 rfl in_X7 tyX7_ok q816 q817 q113 ah_dX7_ok o1 o2 dX0_nevers_0 ?_
  have hh := hh _ rfl
  refine am_dup dX0_nevers_3 rfl ?_
  refine am_aload_n dX0_nevers_4 rfl 0 rfl ?_
  obtain ⟨fs5, ho6, hh⟩ := hh
  obtain ⟨x8, hv7, hh⟩ := hh
  refine ah_get ho6 hv7 rfl in_X0 (by decide) q226 (Or.inl rfl) dX0_nevers_5 ?_
  refine am_aload_n dX0_nevers_8 rfl 0 rfl ?_
  obtain ⟨z10, ⟨hv9, hr11⟩, hh⟩ := hh
  refine ah_get ho6 hv9 rfl in_X0 (by decide) q227 (Or.inl rfl) dX0_nevers_9 ?_
  refine am_bipush dX0_nevers_12 (by decide) ?_
  refine am_aload_n dX0_nevers_14 rfl 0 rfl ?_
  obtain ⟨x13, hv12, hh⟩ := hh
  refine ah_get ho6 hv12 rfl in_X0 (by decide) q229 (Or.inl rfl) dX0_nevers_15 ?_
  obtain ⟨fs14, ho15, hh⟩ := hh
  refine am_rFi (n := 0) hh dX0_nevers_18 (ci := 15) rfl ⟨q613, q612, q618, q616, q614⟩ q611 q615 q617 q94 q619 ⟨by decide, by decide, by decide +kernel⟩ ⟨Nat.le_of_ble_eq_true rfl, Nat.le_of_ble_eq_true rfl⟩ ⟨rfl, rfl⟩ rfl rfl (Nat.le_of_ble_eq_true rfl) ⟨o1, o2⟩ (ah_recv ho15 rfl) (fun r17 G16 hr18 hh => ?_)
  refine am_isub dX0_nevers_23 ?_
  obtain ⟨mc19, ms20, ⟨o21, o22⟩, hh⟩ := hh
  refine am_rIv (n := 3) hh dX0_nevers_24 q818 q819 q113 q820 rfl ⟨⟨by decide, by decide, by decide +kernel⟩, ⟨Nat.le_of_ble_eq_true rfl, Nat.le_of_ble_eq_true rfl⟩⟩ ⟨rfl, rfl⟩ rfl rfl (Nat.le_of_ble_eq_true rfl) ⟨o21, o22⟩ (fun G23 hh => ?_)
  refine am_astore_n dX0_nevers_27 rfl (by decide) rfl ?_
  refine am_aload_n dX0_nevers_28 rfl 1 rfl ?_
  refine am_iconst dX0_nevers_29 ?_
  obtain ⟨fs24, ho25, hh⟩ := hh
  obtain ⟨o26, hh⟩ := hh
  obtain ⟨o27, hh⟩ := hh
  refine ah_put (ty := tyX0 13) ho25 o26 o27 rfl in_X0 tyX0 tyX0_ok nmX0 (by decide) q227 (Or.inl rfl) rfl (tyX0_ok 13 (by decide)) ah_fit_int dX0_nevers_30 ?_
  have hh := hh _ rfl
  refine am_aload_n dX0_nevers_33 rfl 0 rfl ?_
  obtain ⟨mc30, ms31, ⟨o32, o33⟩, hh⟩ := hh
  obtain ⟨fs34, ho35, hh⟩ := hh
  refine am_tV (n := 0) hh dX0_nevers_34 (lw_V q854 q855 q856 q113 q857) rfl ⟨⟨by decide, by decide, by decide +kernel⟩, ⟨Nat.le_of_ble_eq_true rfl, Nat.le_of_ble_eq_true rfl⟩⟩ ⟨rfl, rfl⟩ rfl rfl (Nat.le_of_ble_eq_true rfl) ⟨o32, o33⟩ (ah_recv ho35 rfl) (fun v G36 hn37 => ?_) (fun ex j G36 hx38 => ?_)
  · obtain ⟨rfl, hh⟩ := hn37
    refine am_goto (tgt := 58) dX0_nevers_37 (by decide) ?_
    refine am_iconst dX0_nevers_58 ?_
    refine am_istore_n dX0_nevers_59 rfl (by decide) rfl ?_
    refine am_keep [2, 1, 0] rfl ?_
    exact hh
  · have hh := hx38
    obtain ⟨he39, hh⟩ := hh
    subst he39
    refine am_xcatch (hpc := 40) [(33, 37, 40, 375)] (by decide +kernel) [] ⟨33, 37, 40, 375⟩ _ rfl (by decide +kernel) (by decide +kernel) (by decide) q815 (am_nwin q1059 rfl) rfl ?_
    refine am_astore_n dX0_nevers_40 rfl (by decide) rfl ?_
    refine am_aload_n dX0_nevers_41 rfl 2 rfl ?_
    refine am_aload_n dX0_nevers_42 rfl 0 rfl ?_
    obtain ⟨fs40, ho41, hh⟩ := hh
    obtain ⟨z43, ⟨hv42, hr44⟩, hh⟩ := hh
    refine ah_get ho41 hv42 rfl in_X8 (by decide) q1071 (Or.inl rfl) dX0_nevers_43 ?_
    obtain ⟨fs45, ho46, hh⟩ := hh
    obtain ⟨o47, hh⟩ := hh
    refine ah_put (ty := tyX0 14) ho46 o26 o47 rfl in_X0 tyX0 tyX0_ok nmX0 (by decide) q228 (Or.inl rfl) rfl (tyX0_ok 14 (by decide)) ah_fit_int dX0_nevers_46 ?_
    have hh := hh _ rfl
    refine am_ldcw (z := -1000100) q1121 (by decide) dX0_nevers_49 ?_
    refine am_aload_n dX0_nevers_52 rfl 0 rfl ?_
    obtain ⟨fs50, ho51, hh⟩ := hh
    obtain ⟨z53, ⟨hv52, hr54⟩, hh⟩ := hh
    refine ah_get ho51 hv52 rfl in_X8 (by decide) q1073 (Or.inl rfl) dX0_nevers_53 ?_
    refine am_isub dX0_nevers_56 ?_
    exact am_iret rfl dX0_nevers_57 o32 o33 hh
set_option maxHeartbeats 4000000 in
set_option maxRecDepth 100000 in
theorem bX0_nevers_60 {l : Launch} {mc ms : Nat} {Q : Option am_W → ah_H → Prop} {S : ah_H} (v0 : Nat) (v1 : Nat) (v2 : Int) (h2 : am_r v2) (cs ss : Nat)
    (hh : (∃ fs1, (S.1 v1 = some (.inl (7, fs1))) ∧
      (∃ x4, (fs1[8]? = some (am_R x4)) ∧
      (cs ≤ mc) ∧
      (ss ≤ ms) ∧
      (∃ fs7, (S.1 x4 = some (.inl (15, fs7))) ∧
      kJ2_size l [am_R x4] S (am_qi fun r10 G9 =>
        ((r10 ≤ v2) →
          (∃ fs15, (G9.1 v0 = some (.inl (1, fs15))) ∧
          (∃ x18, (fs15[15]? = some (am_R x18)) ∧
          (∃ fs19, (G9.1 x18 = some (.inl (15, fs19))) ∧
          kJ2_size l [am_R x18] G9 (am_qi fun r22 G21 =>
            Q (some (am_I r22)) G21))))) ∧
        ((¬ r10 ≤ v2) →
          (∃ fs24, (G9.1 v0 = some (.inl (1, fs24))) ∧
          (∃ x27, (fs24[15]? = some (am_R x27)) ∧
          (∃ fs28, (G9.1 v1 = some (.inl (7, fs28))) ∧
          (∃ x31, (fs28[8]? = some (am_R x31)) ∧
          (∃ fs32, (G9.1 x31 = some (.inl (15, fs32))) ∧
          kJ2_get l [am_R x31, am_I v2] G9 (am_qo fun a35 G34 => ∃ y36, a35 = some y36 ∧
            (ah_is G34 (some y36) "TableArms$Never") ∧
            (∃ mc38 ms39 : Nat, ((cs + mc38) ≤ mc ∧ (ss + ms39) ≤ ms) ∧
            (∃ fs42, (G34.1 x27 = some (.inl (15, fs42))) ∧
            kJ2_add l mc38 ms39 [am_R x27, am_R y36] G34 (am_qz fun b45 G44 =>
              VX0_nevers l mc ms Q 60 [(0, am_R v0), (1, am_R v1), (2, am_I (v2 + 1))] [] G44 (cs + mc38) (ss + ms39)))))))))))))))) : VX0_nevers l mc ms Q 60 [(0, am_R v0), (1, am_R v1), (2, am_I v2)] [] S cs ss := by
  refine am_iload_n dX0_nevers_60 rfl 2 rfl ?_
  refine am_aload_n dX0_nevers_61 rfl 1 rfl ?_
  obtain ⟨fs1, ho2, hh⟩ := hh
  obtain ⟨x4, hv3, hh⟩ := hh
  refine ah_get ho2 hv3 rfl in_X7 (by decide) q834 (Or.inl rfl) dX0_nevers_62 ?_
  obtain ⟨o5, hh⟩ := hh
  obtain ⟨o6, hh⟩ := hh
  obtain ⟨fs7, ho8, hh⟩ := hh
  refine am_rFi (n := 0) hh dX0_nevers_65 (ci := 15) rfl ⟨q613, q612, q618, q616, q614⟩ q611 q615 q617 q94 q619 ⟨by decide, by decide, by decide +kernel⟩ ⟨Nat.le_of_ble_eq_true rfl, Nat.le_of_ble_eq_true rfl⟩ ⟨rfl, rfl⟩ rfl rfl (Nat.le_of_ble_eq_true rfl) ⟨o5, o6⟩ (ah_recv ho8 rfl) (fun r10 G9 hr11 hh => ?_)
  obtain ⟨ha12, hb13⟩ := hh
  refine am_icmp_ge (tgt := 102) dX0_nevers_70 (by decide) h2 hr11 (fun hc14 => ?_) (fun hc14 => ?_)
  · have hh := ha12 hc14
    refine am_aload_n dX0_nevers_102 rfl 0 rfl ?_
    obtain ⟨fs15, ho16, hh⟩ := hh
    obtain ⟨x18, hv17, hh⟩ := hh
    refine ah_get ho16 hv17 rfl in_X0 (by decide) q229 (Or.inl rfl) dX0_nevers_103 ?_
    obtain ⟨fs19, ho20, hh⟩ := hh
    refine am_rFi (n := 0) hh dX0_nevers_106 (ci := 15) rfl ⟨q613, q612, q618, q616, q614⟩ q611 q615 q617 q94 q619 ⟨by decide, by decide, by decide +kernel⟩ ⟨Nat.le_of_ble_eq_true rfl, Nat.le_of_ble_eq_true rfl⟩ ⟨rfl, rfl⟩ rfl rfl (Nat.le_of_ble_eq_true rfl) ⟨o5, o6⟩ (ah_recv ho20 rfl) (fun r22 G21 hr23 hh => ?_)
    exact am_iret rfl dX0_nevers_111 o5 o6 hh
  · have hh := hb13 hc14
    refine am_aload_n dX0_nevers_73 rfl 0 rfl ?_
    obtain ⟨fs24, ho25, hh⟩ := hh
    obtain ⟨x27, hv26, hh⟩ := hh
    refine ah_get ho25 hv26 rfl in_X0 (by decide) q229 (Or.inl rfl) dX0_nevers_74 ?_
    refine am_aload_n dX0_nevers_77 rfl 1 rfl ?_
    obtain ⟨fs28, ho29, hh⟩ := hh
    obtain ⟨x31, hv30, hh⟩ := hh
    refine ah_get ho29 hv30 rfl in_X7 (by decide) q834 (Or.inl rfl) dX0_nevers_78 ?_
    refine am_iload_n dX0_nevers_81 rfl 2 rfl ?_
    obtain ⟨fs32, ho33, hh⟩ := hh
    refine am_rFo (n := 1) hh dX0_nevers_82 (ci := 15) rfl ⟨q736, q735, q740, q738, q614⟩ q734 q737 q739 q94 q741 ⟨by decide, by decide, by decide +kernel⟩ ⟨Nat.le_of_ble_eq_true rfl, Nat.le_of_ble_eq_true rfl⟩ ⟨rfl, rfl⟩ rfl rfl (Nat.le_of_ble_eq_true rfl) ⟨o5, o6⟩ (ah_recv ho33 rfl) (fun a35 G34 hh => ?_)
    obtain ⟨y36, rfl, hh⟩ := hh
    obtain ⟨o37, hh⟩ := hh
    refine ah_cast q1122 o37 dX0_nevers_87 ?_
    obtain ⟨mc38, ms39, ⟨o40, o41⟩, hh⟩ := hh
    obtain ⟨fs42, ho43, hh⟩ := hh
    refine am_rFz (n := 1) hh dX0_nevers_90 (ci := 15) rfl ⟨q650, q649, q654, q652, q614⟩ q648 q651 q653 q94 q655 ⟨by decide, by decide, by decide +kernel⟩ ⟨Nat.le_of_ble_eq_true rfl, Nat.le_of_ble_eq_true rfl⟩ ⟨rfl, rfl⟩ rfl rfl (Nat.le_of_ble_eq_true rfl) ⟨o40, o41⟩ (ah_recv ho43 rfl) (fun b45 G44 hh => ?_)
    refine am_pop dX0_nevers_95 rfl ?_
    refine am_iinc (n := 2) dX0_nevers_96 rfl (by decide) rfl ?_
    refine am_goto (tgt := 60) dX0_nevers_99 (by decide) ?_
    refine am_keep [1, 2, 0] rfl ?_
    exact hh
