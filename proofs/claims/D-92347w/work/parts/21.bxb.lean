/-! TableArms$Table.<init>()V -/
abbrev VX1_init (l : Launch) (mc ms : Nat) (Q : Option am_W → ah_H → Prop) (pc : Nat) (lv : List (Nat × am_W)) (st : List am_W) (S : ah_H) (cells slots : Nat) : Prop := am_V ah_r l RX1 cX1_init 1 none "<init>" (am_rm 2 mc ms) (am_E1 ah_r mc ms Q) pc lv st S cells slots
abbrev kX1_init (l : Launch) (mc ms : Nat) (as : List am_W) (S : ah_H) (Q : Option am_W → ah_H → Prop) : Prop := am_C ah_r l yX1_init (ws_ yX1_init cX1_init 1 none) (am_rm 2 mc ms) mc ms as S Q
set_option maxHeartbeats 4000000 in
set_option maxRecDepth 100000 in
theorem bX1_init {l : Launch} {mc ms : Nat} {Q : Option am_W → ah_H → Prop} {S : ah_H} (v0 : Nat)
    (hh : (1 ≤ mc) ∧
      (48 ≤ ms) ∧
      (∀ G3, G3 = ah_mk S (.inr (0, 48, .inl (fun _ => 0))) →
      (∃ fs5, (G3.1 v0 = some (.inl (2, fs5))) ∧
      (ah_X ≤ v0) ∧
      (0 < fs5.length) ∧
      (∀ G9, G9 = ah_sf G3 v0 2 fs5 0 (am_R S.2) →
      (2 ≤ mc) ∧
      (56 ≤ ms) ∧
      (∀ G13, G13 = ah_mk G9 (.inr (0, 8, .inl (fun _ => 0))) →
      (∃ fs15, (G13.1 v0 = some (.inl (2, fs15))) ∧
      (1 < fs15.length) ∧
      (∀ G18, G18 = ah_sf G13 v0 2 fs15 1 (am_R G9.2) →
      (3 ≤ mc) ∧
      (62 ≤ ms) ∧
      (∀ G22, G22 = ah_mk G18 (.inr (0, 6, .inl (fun _ => 0))) →
      (∃ fs24, (G22.1 v0 = some (.inl (2, fs24))) ∧
      (2 < fs24.length) ∧
      (∀ G27, G27 = ah_sf G22 v0 2 fs24 2 (am_R G18.2) →
      (4 ≤ mc) ∧
      (68 ≤ ms) ∧
      (∀ G31, G31 = ah_mk G27 (.inr (0, 6, .inl (fun _ => 0))) →
      (∃ fs33, (G31.1 v0 = some (.inl (2, fs33))) ∧
      (3 < fs33.length) ∧
      (∀ G36, G36 = ah_sf G31 v0 2 fs33 3 (am_R G27.2) →
      (5 ≤ mc) ∧
      (74 ≤ ms) ∧
      (∀ G40, G40 = ah_mk G36 (.inr (0, 6, .inl (fun _ => 0))) →
      (∃ fs42, (G40.1 v0 = some (.inl (2, fs42))) ∧
      (4 < fs42.length) ∧
      (∀ G45, G45 = ah_sf G40 v0 2 fs42 4 (am_R G36.2) →
      Q none G45)))))))))))))))) : kX1_init l mc ms [am_R v0] S Q := by
  refine am_entry (lv := [(0, am_R v0)]) rfl rfl rfl (fun _ => rfl) (fun _ => Nat.le_of_ble_eq_true rfl) ?_
  refine am_aload_n dX1_init_0 rfl 0 rfl ?_
  refine am_objInit q142 q133 q134 dX1_init_1 (Nat.le_of_ble_eq_true rfl) (Nat.le_of_ble_eq_true rfl) ?_
  refine am_aload_n dX1_init_4 rfl 0 rfl ?_
  refine am_bipush dX1_init_5 (by decide) ?_
  obtain ⟨o1, hh⟩ := hh
  obtain ⟨o2, hh⟩ := hh
  refine ah_newa (k := 0) (ty := .int) rfl rfl (by decide) q165 (by decide) (by decide) o1 o2 dX1_init_7 ?_
  have hh := hh _ rfl
  obtain ⟨fs5, ho6, hh⟩ := hh
  obtain ⟨o7, hh⟩ := hh
  obtain ⟨o8, hh⟩ := hh
  refine ah_putF (ty := tyX1 0) ho6 o7 o8 rfl in_X1 tyX1 tyX1_ok nmX1 (by decide) q143 rfl rfl rfl (tyX1_ok 0 (by decide)) (ah_fit_ref (Or.inr ⟨_, rfl⟩)) dX1_init_9 ?_
  have hh := hh _ rfl
  refine am_aload_n dX1_init_12 rfl 0 rfl ?_
  refine am_bipush dX1_init_13 (by decide) ?_
  obtain ⟨o11, hh⟩ := hh
  obtain ⟨o12, hh⟩ := hh
  refine ah_newa (k := 0) (ty := .int) rfl rfl (by decide) q165 (by decide) (by decide) o11 o12 dX1_init_15 ?_
  have hh := hh _ rfl
  obtain ⟨fs15, ho16, hh⟩ := hh
  obtain ⟨o17, hh⟩ := hh
  refine ah_putF (ty := tyX1 1) ho16 o7 o17 rfl in_X1 tyX1 tyX1_ok nmX1 (by decide) q144 rfl rfl rfl (tyX1_ok 1 (by decide)) (ah_fit_ref (Or.inr ⟨_, rfl⟩)) dX1_init_17 ?_
  have hh := hh _ rfl
  refine am_aload_n dX1_init_20 rfl 0 rfl ?_
  refine am_bipush dX1_init_21 (by decide) ?_
  obtain ⟨o20, hh⟩ := hh
  obtain ⟨o21, hh⟩ := hh
  refine ah_newa (k := 0) (ty := .int) rfl rfl (by decide) q165 (by decide) (by decide) o20 o21 dX1_init_23 ?_
  have hh := hh _ rfl
  obtain ⟨fs24, ho25, hh⟩ := hh
  obtain ⟨o26, hh⟩ := hh
  refine ah_putF (ty := tyX1 2) ho25 o7 o26 rfl in_X1 tyX1 tyX1_ok nmX1 (by decide) q146 rfl rfl rfl (tyX1_ok 2 (by decide)) (ah_fit_ref (Or.inr ⟨_, rfl⟩)) dX1_init_25 ?_
  have hh := hh _ rfl
  refine am_aload_n dX1_init_28 rfl 0 rfl ?_
  refine am_bipush dX1_init_29 (by decide) ?_
  obtain ⟨o29, hh⟩ := hh
  obtain ⟨o30, hh⟩ := hh
  refine ah_newa (k := 0) (ty := .int) rfl rfl (by decide) q165 (by decide) (by decide) o29 o30 dX1_init_31 ?_
  have hh := hh _ rfl
  obtain ⟨fs33, ho34, hh⟩ := hh
  obtain ⟨o35, hh⟩ := hh
  refine ah_putF (ty := tyX1 3) ho34 o7 o35 rfl in_X1 tyX1 tyX1_ok nmX1 (by decide) q148 rfl rfl rfl (tyX1_ok 3 (by decide)) (ah_fit_ref (Or.inr ⟨_, rfl⟩)) dX1_init_33 ?_
  have hh := hh _ rfl
  refine am_aload_n dX1_init_36 rfl 0 rfl ?_
  refine am_bipush dX1_init_37 (by decide) ?_
  obtain ⟨o38, hh⟩ := hh
  obtain ⟨o39, hh⟩ := hh
  refine ah_newa (k := 0) (ty := .int) rfl rfl (by decide) q165 (by decide) (by decide) o38 o39 dX1_init_39 ?_
  have hh := hh _ rfl
  obtain ⟨fs42, ho43, hh⟩ := hh
  obtain ⟨o44, hh⟩ := hh
  refine ah_putF (ty := tyX1 4) ho43 o7 o44 rfl in_X1 tyX1 tyX1_ok nmX1 (by decide) q151 rfl rfl rfl (tyX1_ok 4 (by decide)) (ah_fit_ref (Or.inr ⟨_, rfl⟩)) dX1_init_41 ?_
  have hh := hh _ rfl
  exact am_vret rfl dX1_init_44 o38 o39 hh
/-! TableArms$Trail.<init>()V -/
abbrev VX2_init (l : Launch) (mc ms : Nat) (Q : Option am_W → ah_H → Prop) (pc : Nat) (lv : List (Nat × am_W)) (st : List am_W) (S : ah_H) (cells slots : Nat) : Prop := am_V ah_r l RX2 cX2_init 1 none "<init>" (am_rm 2 mc ms) (am_E1 ah_r mc ms Q) pc lv st S cells slots
abbrev kX2_init (l : Launch) (mc ms : Nat) (as : List am_W) (S : ah_H) (Q : Option am_W → ah_H → Prop) : Prop := am_C ah_r l yX2_init (ws_ yX2_init cX2_init 1 none) (am_rm 2 mc ms) mc ms as S Q
set_option maxHeartbeats 4000000 in
set_option maxRecDepth 100000 in
theorem bX2_init {l : Launch} {mc ms : Nat} {Q : Option am_W → ah_H → Prop} {S : ah_H} (v0 : Nat)
    (hh : (1 ≤ mc) ∧
      (16 ≤ ms) ∧
      (∀ G3, G3 = ah_mk S (.inr (0, 16, .inl (fun _ => 0))) →
      (∃ fs5, (G3.1 v0 = some (.inl (3, fs5))) ∧
      (ah_X ≤ v0) ∧
      (0 < fs5.length) ∧
      (∀ G9, G9 = ah_sf G3 v0 3 fs5 0 (am_R S.2) →
      Q none G9)))) : kX2_init l mc ms [am_R v0] S Q := by
  refine am_entry (lv := [(0, am_R v0)]) rfl rfl rfl (fun _ => rfl) (fun _ => Nat.le_of_ble_eq_true rfl) ?_
  refine am_aload_n dX2_init_0 rfl 0 rfl ?_
  refine am_objInit q198 q133 q134 dX2_init_1 (Nat.le_of_ble_eq_true rfl) (Nat.le_of_ble_eq_true rfl) ?_
  refine am_aload_n dX2_init_4 rfl 0 rfl ?_
  refine am_bipush dX2_init_5 (by decide) ?_
  obtain ⟨o1, hh⟩ := hh
  obtain ⟨o2, hh⟩ := hh
  refine ah_newa (k := 0) (ty := .int) rfl rfl (by decide) q165 (by decide) (by decide) o1 o2 dX2_init_7 ?_
  have hh := hh _ rfl
  obtain ⟨fs5, ho6, hh⟩ := hh
  obtain ⟨o7, hh⟩ := hh
  obtain ⟨o8, hh⟩ := hh
  refine ah_putF (ty := tyX2 0) ho6 o7 o8 rfl in_X2 tyX2 tyX2_ok nmX2 (by decide) q199 rfl rfl rfl (tyX2_ok 0 (by decide)) (ah_fit_ref (Or.inr ⟨_, rfl⟩)) dX2_init_9 ?_
  have hh := hh _ rfl
  exact am_vret rfl dX2_init_12 o1 o2 hh
/-! TableArms.<init>()V -/
abbrev VX0_init (l : Launch) (mc ms : Nat) (Q : Option am_W → ah_H → Prop) (pc : Nat) (lv : List (Nat × am_W)) (st : List am_W) (S : ah_H) (cells slots : Nat) : Prop := am_V ah_r l RX0 cX0_init 2 none "<init>" (am_rm 5 mc ms) (am_E1 ah_r mc ms Q) pc lv st S cells slots
abbrev kX0_init (l : Launch) (mc ms : Nat) (as : List am_W) (S : ah_H) (Q : Option am_W → ah_H → Prop) : Prop := am_C ah_r l yX0_init (ws_ yX0_init cX0_init 2 none) (am_rm 5 mc ms) mc ms as S Q
set_option maxHeartbeats 4000000 in
set_option maxRecDepth 100000 in
theorem bX0_init {l : Launch} {mc ms : Nat} {Q : Option am_W → ah_H → Prop} {S : ah_H} (v0 : Nat)
    (hh : (1 ≤ mc) ∧
      (8 ≤ ms) ∧
      (∀ G3, G3 = ah_mk S (.inr (4, 8, .inr (fun _ => none))) →
      (∃ fs5, (G3.1 v0 = some (.inl (1, fs5))) ∧
      (ah_X ≤ v0) ∧
      (0 < fs5.length) ∧
      (∀ G9, G9 = ah_sf G3 v0 1 fs5 0 (am_R S.2) →
      (2 ≤ mc) ∧
      (14 ≤ ms) ∧
      (∀ G13, G13 = ah_mk G9 (.inr (0, 6, .inl (fun _ => 0))) →
      (∃ fs15, (G13.1 v0 = some (.inl (1, fs15))) ∧
      (2 < fs15.length) ∧
      (∀ G18, G18 = ah_sf G13 v0 1 fs15 2 (am_R G9.2) →
      (3 ≤ mc) ∧
      (20 ≤ ms) ∧
      (∀ G22, G22 = ah_mk G18 (.inr (0, 6, .inl (fun _ => 0))) →
      (∃ fs24, (G22.1 v0 = some (.inl (1, fs24))) ∧
      (3 < fs24.length) ∧
      (∀ G27, G27 = ah_sf G22 v0 1 fs24 3 (am_R G18.2) →
      (4 ≤ mc) ∧
      (25 ≤ ms) ∧
      (∀ G31, G31 = ah_mk G27 (.inl (2, ah_dX1)) →
      (∃ mc33 ms34 : Nat, ((4 + mc33) ≤ mc ∧ (25 + ms34) ≤ ms) ∧
      kX1_init l mc33 ms34 [am_R G27.2] G31 (am_qv fun G37 =>
        (∃ fs38, (G37.1 v0 = some (.inl (1, fs38))) ∧
        (4 < fs38.length) ∧
        (∀ G41, G41 = ah_sf G37 v0 1 fs38 4 (am_R G27.2) →
        (((4 + mc33) + 1) ≤ mc) ∧
        (((25 + ms34) + 8) ≤ ms) ∧
        (∀ G45, G45 = ah_mk G41 (.inr (3, 8, .inr (fun _ => none))) →
        (∃ fs47, (G45.1 v0 = some (.inl (1, fs47))) ∧
        (5 < fs47.length) ∧
        (∀ G50, G50 = ah_sf G45 v0 1 fs47 5 (am_R G41.2) →
        ((((4 + mc33) + 1) + 1) ≤ mc) ∧
        ((((25 + ms34) + 8) + 5) ≤ ms) ∧
        (∀ G54, G54 = ah_mk G50 (.inl (2, ah_dX1)) →
        (∃ mc56 ms57 : Nat, (((((4 + mc33) + 1) + 1) + mc56) ≤ mc ∧ ((((25 + ms34) + 8) + 5) + ms57) ≤ ms) ∧
        kX1_init l mc56 ms57 [am_R G50.2] G54 (am_qv fun G60 =>
          (∃ fs61, (G60.1 v0 = some (.inl (1, fs61))) ∧
          (7 < fs61.length) ∧
          (∀ G64, G64 = ah_sf G60 v0 1 fs61 7 (am_R G50.2) →
          ((((((4 + mc33) + 1) + 1) + mc56) + 1) ≤ mc) ∧
          ((((((25 + ms34) + 8) + 5) + ms57) + 2) ≤ ms) ∧
          (∀ G68, G68 = ah_mk G64 (.inr (3, 2, .inr (fun _ => none))) →
          (((((((4 + mc33) + 1) + 1) + mc56) + 1) + 1) ≤ mc) ∧
          (((((((25 + ms34) + 8) + 5) + ms57) + 2) + 5) ≤ ms) ∧
          (∀ G72, G72 = ah_mk G68 (.inl (2, ah_dX1)) →
          (∃ mc74 ms75 : Nat, ((((((((4 + mc33) + 1) + 1) + mc56) + 1) + 1) + mc74) ≤ mc ∧ (((((((25 + ms34) + 8) + 5) + ms57) + 2) + 5) + ms75) ≤ ms) ∧
          kX1_init l mc74 ms75 [am_R G68.2] G72 (am_qv fun G78 =>
            (∃ n79 f80, (G78.1 G64.2 = some (.inr (3, n79, .inr f80))) ∧
            (ah_X ≤ G64.2) ∧
            (0 < (n79 : Int)) ∧
            (ah_is G78 (some G68.2) "TableArms$Table") ∧
            (∀ G85, G85 = ah_sr G78 G64.2 3 n79 f80 0 (some G68.2) →
            (((((((((4 + mc33) + 1) + 1) + mc56) + 1) + 1) + mc74) + 1) ≤ mc) ∧
            (((((((((25 + ms34) + 8) + 5) + ms57) + 2) + 5) + ms75) + 5) ≤ ms) ∧
            (∀ G89, G89 = ah_mk G85 (.inl (2, ah_dX1)) →
            (∃ mc91 ms92 : Nat, ((((((((((4 + mc33) + 1) + 1) + mc56) + 1) + 1) + mc74) + 1) + mc91) ≤ mc ∧ (((((((((25 + ms34) + 8) + 5) + ms57) + 2) + 5) + ms75) + 5) + ms92) ≤ ms) ∧
            kX1_init l mc91 ms92 [am_R G85.2] G89 (am_qv fun G95 =>
              (∃ n96 f97, (G95.1 G64.2 = some (.inr (3, n96, .inr f97))) ∧
              (1 < (n96 : Int)) ∧
              (ah_is G95 (some G85.2) "TableArms$Table") ∧
              (∀ G101, G101 = ah_sr G95 G64.2 3 n96 f97 1 (some G85.2) →
              (∃ fs103, (G101.1 v0 = some (.inl (1, fs103))) ∧
              (8 < fs103.length) ∧
              (∀ G106, G106 = ah_sf G101 v0 1 fs103 8 (am_R G64.2) →
              (((((((((((4 + mc33) + 1) + 1) + mc56) + 1) + 1) + mc74) + 1) + mc91) + 1) ≤ mc) ∧
              (((((((((((25 + ms34) + 8) + 5) + ms57) + 2) + 5) + ms75) + 5) + ms92) + 96) ≤ ms) ∧
              (∀ G110, G110 = ah_mk G106 (.inr (3, 96, .inr (fun _ => none))) →
              (∃ fs112, (G110.1 v0 = some (.inl (1, fs112))) ∧
              (9 < fs112.length) ∧
              (∀ G115, G115 = ah_sf G110 v0 1 fs112 9 (am_R G106.2) →
              ((((((((((((4 + mc33) + 1) + 1) + mc56) + 1) + 1) + mc74) + 1) + mc91) + 1) + 1) ≤ mc) ∧
              ((((((((((((25 + ms34) + 8) + 5) + ms57) + 2) + 5) + ms75) + 5) + ms92) + 96) + 2) ≤ ms) ∧
              (∀ G119, G119 = ah_mk G115 (.inr (0, 2, .inl (fun _ => 0))) →
              (∃ n121 f122, (G119.1 G115.2 = some (.inr (0, n121, .inl f122))) ∧
              (ah_X ≤ G115.2) ∧
              (0 < (n121 : Int)) ∧
              (∀ G126, G126 = ah_si G119 G115.2 0 n121 f122 0 (Int32.ofInt 255) →
              (∃ n128 f129, (G126.1 G115.2 = some (.inr (0, n128, .inl f129))) ∧
              (1 < (n128 : Int)) ∧
              (∀ G132, G132 = ah_si G126 G115.2 0 n128 f129 1 (Int32.ofInt 255) →
              (∃ fs134, (G132.1 v0 = some (.inl (1, fs134))) ∧
              (10 < fs134.length) ∧
              (∀ G137, G137 = ah_sf G132 v0 1 fs134 10 (am_R G115.2) →
              (((((((((((((4 + mc33) + 1) + 1) + mc56) + 1) + 1) + mc74) + 1) + mc91) + 1) + 1) + 1) ≤ mc) ∧
              (((((((((((((25 + ms34) + 8) + 5) + ms57) + 2) + 5) + ms75) + 5) + ms92) + 96) + 2) + 3) ≤ ms) ∧
              (∀ G141, G141 = ah_mk G137 (.inl (15, ah_dJ2)) →
              kJ2_init l [am_R G137.2] G141 (am_qv fun G143 =>
                (∃ fs144, (G143.1 v0 = some (.inl (1, fs144))) ∧
                (11 < fs144.length) ∧
                (∀ G147, G147 = ah_sf G143 v0 1 fs144 11 (am_R G137.2) →
                ((((((((((((((4 + mc33) + 1) + 1) + mc56) + 1) + 1) + mc74) + 1) + mc91) + 1) + 1) + 1) + 1) ≤ mc) ∧
                ((((((((((((((25 + ms34) + 8) + 5) + ms57) + 2) + 5) + ms75) + 5) + ms92) + 96) + 2) + 3) + 300) ≤ ms) ∧
                (∀ G151, G151 = ah_mk G147 (.inr (2, 300, .inl (fun _ => 0))) →
                (∃ fs153, (G151.1 v0 = some (.inl (1, fs153))) ∧
                (12 < fs153.length) ∧
                (∀ G156, G156 = ah_sf G151 v0 1 fs153 12 (am_R G147.2) →
                (((((((((((((((4 + mc33) + 1) + 1) + mc56) + 1) + 1) + mc74) + 1) + mc91) + 1) + 1) + 1) + 1) + 1) ≤ mc) ∧
                (((((((((((((((25 + ms34) + 8) + 5) + ms57) + 2) + 5) + ms75) + 5) + ms92) + 96) + 2) + 3) + 300) + 3) ≤ ms) ∧
                (∀ G160, G160 = ah_mk G156 (.inl (15, ah_dJ2)) →
                kJ2_init l [am_R G156.2] G160 (am_qv fun G162 =>
                  (∃ fs163, (G162.1 v0 = some (.inl (1, fs163))) ∧
                  (15 < fs163.length) ∧
                  (∀ G166, G166 = ah_sf G162 v0 1 fs163 15 (am_R G156.2) →
                  ((((((((((((((((4 + mc33) + 1) + 1) + mc56) + 1) + 1) + mc74) + 1) + mc91) + 1) + 1) + 1) + 1) + 1) + 1) ≤ mc) ∧
                  ((((((((((((((((25 + ms34) + 8) + 5) + ms57) + 2) + 5) + ms75) + 5) + ms92) + 96) + 2) + 3) + 300) + 3) + 2) ≤ ms) ∧
                  (∀ G170, G170 = ah_mk G166 (.inl (3, ah_dX2)) →
                  (∃ mc172 ms173 : Nat, (((((((((((((((((4 + mc33) + 1) + 1) + mc56) + 1) + 1) + mc74) + 1) + mc91) + 1) + 1) + 1) + 1) + 1) + 1) + mc172) ≤ mc ∧ ((((((((((((((((25 + ms34) + 8) + 5) + ms57) + 2) + 5) + ms75) + 5) + ms92) + 96) + 2) + 3) + 300) + 3) + 2) + ms173) ≤ ms) ∧
                  kX2_init l mc172 ms173 [am_R G166.2] G170 (am_qv fun G176 =>
                    (∃ fs177, (G176.1 v0 = some (.inl (1, fs177))) ∧
                    (16 < fs177.length) ∧
                    (∀ G180, G180 = ah_sf G176 v0 1 fs177 16 (am_R G166.2) →
                    ((((((((((((((((((4 + mc33) + 1) + 1) + mc56) + 1) + 1) + mc74) + 1) + mc91) + 1) + 1) + 1) + 1) + 1) + 1) + mc172) + 1) ≤ mc) ∧
                    ((((((((((((((((((25 + ms34) + 8) + 5) + ms57) + 2) + 5) + ms75) + 5) + ms92) + 96) + 2) + 3) + 300) + 3) + 2) + ms173) + 96) ≤ ms) ∧
                    (∀ G184, G184 = ah_mk G180 (.inr (1, 96, .inl (fun _ => 0))) →
                    (∃ fs186, (G184.1 v0 = some (.inl (1, fs186))) ∧
                    (18 < fs186.length) ∧
                    (∀ G189, G189 = ah_sf G184 v0 1 fs186 18 (am_R G180.2) →
                    (((((((((((((((((((4 + mc33) + 1) + 1) + mc56) + 1) + 1) + mc74) + 1) + mc91) + 1) + 1) + 1) + 1) + 1) + 1) + mc172) + 1) + 1) ≤ mc) ∧
                    (((((((((((((((((((25 + ms34) + 8) + 5) + ms57) + 2) + 5) + ms75) + 5) + ms92) + 96) + 2) + 3) + 300) + 3) + 2) + ms173) + 96) + 144) ≤ ms) ∧
                    (∀ G193, G193 = ah_mk G189 (.inr (0, 144, .inl (fun _ => 0))) →
                    (∃ fs195, (G193.1 v0 = some (.inl (1, fs195))) ∧
                    (19 < fs195.length) ∧
                    (∀ G198, G198 = ah_sf G193 v0 1 fs195 19 (am_R G189.2) →
                    VX0_init l mc ms Q 177 [(0, am_R v0), (1, am_I 0)] [] G198 ((((((((((((((((((4 + mc33) + 1) + 1) + mc56) + 1) + 1) + mc74) + 1) + mc91) + 1) + 1) + 1) + 1) + 1) + 1) + mc172) + 1) + 1) ((((((((((((((((((25 + ms34) + 8) + 5) + ms57) + 2) + 5) + ms75) + 5) + ms92) + 96) + 2) + 3) + 300) + 3) + 2) + ms173) + 96) + 144))))))))))))))))))))))))))))))))))))))))))))))))))))))))))))))))))))) : kX0_init l mc ms [am_R v0] S Q := by
  refine am_entry (lv := [(0, am_R v0)]) rfl rfl rfl (fun _ => rfl) (fun _ => Nat.le_of_ble_eq_true rfl) ?_
  refine am_aload_n dX0_init_0 rfl 0 rfl ?_
  refine am_objInit q132 q133 q134 dX0_init_1 (Nat.le_of_ble_eq_true rfl) (Nat.le_of_ble_eq_true rfl) ?_
  refine am_aload_n dX0_init_4 rfl 0 rfl ?_
  refine am_bipush dX0_init_5 (by decide) ?_
  obtain ⟨o1, hh⟩ := hh
  obtain ⟨o2, hh⟩ := hh
  refine ah_anew (k := 4) (C := "TableArms$Sheet") rfl (by decide) q135 q136 (by decide) (by decide) o1 o2 dX0_init_7 ?_
  have hh := hh _ rfl
  obtain ⟨fs5, ho6, hh⟩ := hh
  obtain ⟨o7, hh⟩ := hh
  obtain ⟨o8, hh⟩ := hh
  refine ah_putF (ty := tyX0 0) ho6 o7 o8 rfl in_X0 tyX0 tyX0_ok nmX0 (by decide) q209 rfl rfl rfl (tyX0_ok 0 (by decide)) (ah_fit_ref (Or.inr ⟨_, rfl⟩)) dX0_init_10 ?_
  have hh := hh _ rfl
  refine am_aload_n dX0_init_13 rfl 0 rfl ?_
  refine am_bipush dX0_init_14 (by decide) ?_
  obtain ⟨o11, hh⟩ := hh
  obtain ⟨o12, hh⟩ := hh
  refine ah_newa (k := 0) (ty := .int) rfl rfl (by decide) q165 (by decide) (by decide) o11 o12 dX0_init_16 ?_
  have hh := hh _ rfl
  obtain ⟨fs15, ho16, hh⟩ := hh
  obtain ⟨o17, hh⟩ := hh
  refine ah_putF (ty := tyX0 2) ho16 o7 o17 rfl in_X0 tyX0 tyX0_ok nmX0 (by decide) q211 rfl rfl rfl (tyX0_ok 2 (by decide)) (ah_fit_ref (Or.inr ⟨_, rfl⟩)) dX0_init_18 ?_
  have hh := hh _ rfl
  refine am_aload_n dX0_init_21 rfl 0 rfl ?_
  refine am_bipush dX0_init_22 (by decide) ?_
  obtain ⟨o20, hh⟩ := hh
  obtain ⟨o21, hh⟩ := hh
  refine ah_newa (k := 0) (ty := .int) rfl rfl (by decide) q165 (by decide) (by decide) o20 o21 dX0_init_24 ?_
  have hh := hh _ rfl
  obtain ⟨fs24, ho25, hh⟩ := hh
  obtain ⟨o26, hh⟩ := hh
  refine ah_putF (ty := tyX0 3) ho25 o7 o26 rfl in_X0 tyX0 tyX0_ok nmX0 (by decide) q214 rfl rfl rfl (tyX0_ok 3 (by decide)) (ah_fit_ref (Or.inr ⟨_, rfl⟩)) dX0_init_26 ?_
  have hh := hh _ rfl
  refine am_aload_n dX0_init_29 rfl 0 rfl ?_
  obtain ⟨o29, hh⟩ := hh
  obtain ⟨o30, hh⟩ := hh
  refine ah_new (ci := 2) (fs := ah_dX1) tyX1 rfl in_X1 tyX1_ok q137 q138 q91 ah_dX1_ok o29 o30 dX0_init_30 ?_
  have hh := hh _ rfl
  refine am_dup dX0_init_33 rfl ?_
  obtain ⟨mc33, ms34, ⟨o35, o36⟩, hh⟩ := hh
  refine am_rINv (n := 0) hh dX0_init_34 (am_nwin q139 rfl) q140 q91 q141 rfl ⟨⟨by decide, by decide, by decide +kernel⟩, ⟨Nat.le_of_ble_eq_true rfl, Nat.le_of_ble_eq_true rfl⟩⟩ ⟨rfl, rfl⟩ rfl rfl (Nat.le_of_ble_eq_true rfl) ⟨o35, o36⟩ (fun G37 hh => ?_)
  obtain ⟨fs38, ho39, hh⟩ := hh
  obtain ⟨o40, hh⟩ := hh
  refine ah_putF (ty := tyX0 4) ho39 o7 o40 rfl in_X0 tyX0 tyX0_ok nmX0 (by decide) q215 rfl rfl rfl (tyX0_ok 4 (by decide)) (ah_fit_ref (Or.inl ⟨_, rfl⟩)) dX0_init_37 ?_
  have hh := hh _ rfl
  refine am_aload_n dX0_init_40 rfl 0 rfl ?_
  refine am_bipush dX0_init_41 (by decide) ?_
  obtain ⟨o43, hh⟩ := hh
  obtain ⟨o44, hh⟩ := hh
  refine ah_anew (k := 3) (C := "TableArms$Table") rfl (by decide) q137 q166 (by decide) (by decide) o43 o44 dX0_init_43 ?_
  have hh := hh _ rfl
  obtain ⟨fs47, ho48, hh⟩ := hh
  obtain ⟨o49, hh⟩ := hh
  refine ah_putF (ty := tyX0 5) ho48 o7 o49 rfl in_X0 tyX0 tyX0_ok nmX0 (by decide) q219 rfl rfl rfl (tyX0_ok 5 (by decide)) (ah_fit_ref (Or.inr ⟨_, rfl⟩)) dX0_init_46 ?_
  have hh := hh _ rfl
  refine am_aload_n dX0_init_49 rfl 0 rfl ?_
  obtain ⟨o52, hh⟩ := hh
  obtain ⟨o53, hh⟩ := hh
  refine ah_new (ci := 2) (fs := ah_dX1) tyX1 rfl in_X1 tyX1_ok q137 q138 q91 ah_dX1_ok o52 o53 dX0_init_50 ?_
  have hh := hh _ rfl
  refine am_dup dX0_init_53 rfl ?_
  obtain ⟨mc56, ms57, ⟨o58, o59⟩, hh⟩ := hh
  refine am_rINv (n := 0) hh dX0_init_54 (am_nwin q139 rfl) q140 q91 q141 rfl ⟨⟨by decide, by decide, by decide +kernel⟩, ⟨Nat.le_of_ble_eq_true rfl, Nat.le_of_ble_eq_true rfl⟩⟩ ⟨rfl, rfl⟩ rfl rfl (Nat.le_of_ble_eq_true rfl) ⟨o58, o59⟩ (fun G60 hh => ?_)
  obtain ⟨fs61, ho62, hh⟩ := hh
  obtain ⟨o63, hh⟩ := hh
  refine ah_putF (ty := tyX0 7) ho62 o7 o63 rfl in_X0 tyX0 tyX0_ok nmX0 (by decide) q221 rfl rfl rfl (tyX0_ok 7 (by decide)) (ah_fit_ref (Or.inl ⟨_, rfl⟩)) dX0_init_57 ?_
  have hh := hh _ rfl
  refine am_aload_n dX0_init_60 rfl 0 rfl ?_
  refine am_iconst dX0_init_61 ?_
  obtain ⟨o66, hh⟩ := hh
  obtain ⟨o67, hh⟩ := hh
  refine ah_anew (k := 3) (C := "TableArms$Table") rfl (by decide) q137 q166 (by decide) (by decide) o66 o67 dX0_init_62 ?_
  have hh := hh _ rfl
  refine am_dup dX0_init_65 rfl ?_
  refine am_iconst dX0_init_66 ?_
  obtain ⟨o70, hh⟩ := hh
  obtain ⟨o71, hh⟩ := hh
  refine ah_new (ci := 2) (fs := ah_dX1) tyX1 rfl in_X1 tyX1_ok q137 q138 q91 ah_dX1_ok o70 o71 dX0_init_67 ?_
  have hh := hh _ rfl
  refine am_dup dX0_init_70 rfl ?_
  obtain ⟨mc74, ms75, ⟨o76, o77⟩, hh⟩ := hh
  refine am_rINv (n := 0) hh dX0_init_71 (am_nwin q139 rfl) q140 q91 q141 rfl ⟨⟨by decide, by decide, by decide +kernel⟩, ⟨Nat.le_of_ble_eq_true rfl, Nat.le_of_ble_eq_true rfl⟩⟩ ⟨rfl, rfl⟩ rfl rfl (Nat.le_of_ble_eq_true rfl) ⟨o76, o77⟩ (fun G78 hh => ?_)
  obtain ⟨n79, f80, ha81, hh⟩ := hh
  obtain ⟨o82, hh⟩ := hh
  obtain ⟨o83, hh⟩ := hh
  obtain ⟨o84, hh⟩ := hh
  refine ah_aast ha81 o82 rfl (by decide) o83 o84 dX0_init_74 ?_
  have hh := hh _ rfl
  refine am_dup dX0_init_75 rfl ?_
  refine am_iconst dX0_init_76 ?_
  obtain ⟨o87, hh⟩ := hh
  obtain ⟨o88, hh⟩ := hh
  refine ah_new (ci := 2) (fs := ah_dX1) tyX1 rfl in_X1 tyX1_ok q137 q138 q91 ah_dX1_ok o87 o88 dX0_init_77 ?_
  have hh := hh _ rfl
  refine am_dup dX0_init_80 rfl ?_
  obtain ⟨mc91, ms92, ⟨o93, o94⟩, hh⟩ := hh
  refine am_rINv (n := 0) hh dX0_init_81 (am_nwin q139 rfl) q140 q91 q141 rfl ⟨⟨by decide, by decide, by decide +kernel⟩, ⟨Nat.le_of_ble_eq_true rfl, Nat.le_of_ble_eq_true rfl⟩⟩ ⟨rfl, rfl⟩ rfl rfl (Nat.le_of_ble_eq_true rfl) ⟨o93, o94⟩ (fun G95 hh => ?_)
  obtain ⟨n96, f97, ha98, hh⟩ := hh
  obtain ⟨o99, hh⟩ := hh
  obtain ⟨o100, hh⟩ := hh
  refine ah_aast ha98 o82 rfl (by decide) o99 o100 dX0_init_84 ?_
  have hh := hh _ rfl
  obtain ⟨fs103, ho104, hh⟩ := hh
  obtain ⟨o105, hh⟩ := hh
  refine ah_putF (ty := tyX0 8) ho104 o7 o105 rfl in_X0 tyX0 tyX0_ok nmX0 (by decide) q222 rfl rfl rfl (tyX0_ok 8 (by decide)) (ah_fit_ref (Or.inr ⟨_, rfl⟩)) dX0_init_85 ?_
  have hh := hh _ rfl
  refine am_aload_n dX0_init_88 rfl 0 rfl ?_
  refine am_bipush dX0_init_89 (by decide) ?_
  obtain ⟨o108, hh⟩ := hh
  obtain ⟨o109, hh⟩ := hh
  refine ah_anew (k := 3) (C := "TableArms$Table") rfl (by decide) q137 q166 (by decide) (by decide) o108 o109 dX0_init_91 ?_
  have hh := hh _ rfl
  obtain ⟨fs112, ho113, hh⟩ := hh
  obtain ⟨o114, hh⟩ := hh
  refine ah_putF (ty := tyX0 9) ho113 o7 o114 rfl in_X0 tyX0 tyX0_ok nmX0 (by decide) q223 rfl rfl rfl (tyX0_ok 9 (by decide)) (ah_fit_ref (Or.inr ⟨_, rfl⟩)) dX0_init_94 ?_
  have hh := hh _ rfl
  refine am_aload_n dX0_init_97 rfl 0 rfl ?_
  refine am_iconst dX0_init_98 ?_
  obtain ⟨o117, hh⟩ := hh
  obtain ⟨o118, hh⟩ := hh
  refine ah_newa (k := 0) (ty := .int) rfl rfl (by decide) q165 (by decide) (by decide) o117 o118 dX0_init_99 ?_
  have hh := hh _ rfl
  refine am_dup dX0_init_101 rfl ?_
  refine am_iconst dX0_init_102 ?_
  refine am_sipush dX0_init_103 (by decide) ?_
  obtain ⟨n121, f122, ha123, hh⟩ := hh
  obtain ⟨o124, hh⟩ := hh
  obtain ⟨o125, hh⟩ := hh
  refine ah_iast ha123 o124 (by decide) o125 dX0_init_106 ?_
  have hh := hh _ rfl
  refine am_dup dX0_init_107 rfl ?_
  refine am_iconst dX0_init_108 ?_
  refine am_sipush dX0_init_109 (by decide) ?_
  obtain ⟨n128, f129, ha130, hh⟩ := hh
  obtain ⟨o131, hh⟩ := hh
  refine ah_iast ha130 o124 (by decide) o131 dX0_init_112 ?_
  have hh := hh _ rfl
  obtain ⟨fs134, ho135, hh⟩ := hh
  obtain ⟨o136, hh⟩ := hh
  refine ah_putF (ty := tyX0 10) ho135 o7 o136 rfl in_X0 tyX0 tyX0_ok nmX0 (by decide) q224 rfl rfl rfl (tyX0_ok 10 (by decide)) (ah_fit_ref (Or.inr ⟨_, rfl⟩)) dX0_init_113 ?_
  have hh := hh _ rfl
  refine am_aload_n dX0_init_116 rfl 0 rfl ?_
  obtain ⟨o139, hh⟩ := hh
  obtain ⟨o140, hh⟩ := hh
  refine ah_new (ci := 15) (fs := ah_dJ2) tyJ2 rfl in_J2 tyJ2_ok q167 q168 q94 ah_dJ2_ok o139 o140 dX0_init_117 ?_
  have hh := hh _ rfl
  refine am_dup dX0_init_120 rfl ?_
  refine am_rIv (n := 0) hh dX0_init_121 q169 q170 q94 q171 rfl ⟨⟨by decide, by decide, by decide +kernel⟩, ⟨Nat.le_of_ble_eq_true rfl, Nat.le_of_ble_eq_true rfl⟩⟩ ⟨rfl, rfl⟩ rfl rfl (Nat.le_of_ble_eq_true rfl) ⟨o139, o140⟩ (fun G143 hh => ?_)
  obtain ⟨fs144, ho145, hh⟩ := hh
  obtain ⟨o146, hh⟩ := hh
  refine ah_putF (ty := tyX0 11) ho145 o7 o146 rfl in_X0 tyX0 tyX0_ok nmX0 (by decide) q225 rfl rfl rfl (tyX0_ok 11 (by decide)) (ah_fit_ref (Or.inl ⟨_, rfl⟩)) dX0_init_124 ?_
  have hh := hh _ rfl
  refine am_aload_n dX0_init_127 rfl 0 rfl ?_
  refine am_sipush dX0_init_128 (by decide) ?_
  obtain ⟨o149, hh⟩ := hh
  obtain ⟨o150, hh⟩ := hh
  refine ah_newa (k := 2) (ty := .byte) rfl rfl (by decide) q208 (by decide) (by decide) o149 o150 dX0_init_131 ?_
  have hh := hh _ rfl
  obtain ⟨fs153, ho154, hh⟩ := hh
  obtain ⟨o155, hh⟩ := hh
  refine ah_putF (ty := tyX0 12) ho154 o7 o155 rfl in_X0 tyX0 tyX0_ok nmX0 (by decide) q226 rfl rfl rfl (tyX0_ok 12 (by decide)) (ah_fit_ref (Or.inr ⟨_, rfl⟩)) dX0_init_133 ?_
  have hh := hh _ rfl
  refine am_aload_n dX0_init_136 rfl 0 rfl ?_
  obtain ⟨o158, hh⟩ := hh
  obtain ⟨o159, hh⟩ := hh
  refine ah_new (ci := 15) (fs := ah_dJ2) tyJ2 rfl in_J2 tyJ2_ok q167 q168 q94 ah_dJ2_ok o158 o159 dX0_init_137 ?_
  have hh := hh _ rfl
  refine am_dup dX0_init_140 rfl ?_
  refine am_rIv (n := 0) hh dX0_init_141 q169 q170 q94 q171 rfl ⟨⟨by decide, by decide, by decide +kernel⟩, ⟨Nat.le_of_ble_eq_true rfl, Nat.le_of_ble_eq_true rfl⟩⟩ ⟨rfl, rfl⟩ rfl rfl (Nat.le_of_ble_eq_true rfl) ⟨o158, o159⟩ (fun G162 hh => ?_)
  obtain ⟨fs163, ho164, hh⟩ := hh
  obtain ⟨o165, hh⟩ := hh
  refine ah_putF (ty := tyX0 15) ho164 o7 o165 rfl in_X0 tyX0 tyX0_ok nmX0 (by decide) q229 rfl rfl rfl (tyX0_ok 15 (by decide)) (ah_fit_ref (Or.inl ⟨_, rfl⟩)) dX0_init_144 ?_
  have hh := hh _ rfl
  refine am_aload_n dX0_init_147 rfl 0 rfl ?_
  obtain ⟨o168, hh⟩ := hh
  obtain ⟨o169, hh⟩ := hh
  refine ah_new (ci := 3) (fs := ah_dX2) tyX2 rfl in_X2 tyX2_ok q193 q194 q95 ah_dX2_ok o168 o169 dX0_init_148 ?_
  have hh := hh _ rfl
  refine am_dup dX0_init_151 rfl ?_
  obtain ⟨mc172, ms173, ⟨o174, o175⟩, hh⟩ := hh
  refine am_rINv (n := 0) hh dX0_init_152 (am_nwin q195 rfl) q196 q95 q197 rfl ⟨⟨by decide, by decide, by decide +kernel⟩, ⟨Nat.le_of_ble_eq_true rfl, Nat.le_of_ble_eq_true rfl⟩⟩ ⟨rfl, rfl⟩ rfl rfl (Nat.le_of_ble_eq_true rfl) ⟨o174, o175⟩ (fun G176 hh => ?_)
  obtain ⟨fs177, ho178, hh⟩ := hh
  obtain ⟨o179, hh⟩ := hh
  refine ah_put (ty := tyX0 16) ho178 o7 o179 rfl in_X0 tyX0 tyX0_ok nmX0 (by decide) q230 (Or.inl rfl) rfl (tyX0_ok 16 (by decide)) (ah_fit_ref (Or.inl ⟨_, rfl⟩)) dX0_init_155 ?_
  have hh := hh _ rfl
  refine am_aload_n dX0_init_158 rfl 0 rfl ?_
  refine am_bipush dX0_init_159 (by decide) ?_
  obtain ⟨o182, hh⟩ := hh
  obtain ⟨o183, hh⟩ := hh
  refine ah_newa (k := 1) (ty := .boolean) rfl rfl (by decide) q275 (by decide) (by decide) o182 o183 dX0_init_161 ?_
  have hh := hh _ rfl
  obtain ⟨fs186, ho187, hh⟩ := hh
  obtain ⟨o188, hh⟩ := hh
  refine ah_putF (ty := tyX0 18) ho187 o7 o188 rfl in_X0 tyX0 tyX0_ok nmX0 (by decide) q232 rfl rfl rfl (tyX0_ok 18 (by decide)) (ah_fit_ref (Or.inr ⟨_, rfl⟩)) dX0_init_163 ?_
  have hh := hh _ rfl
  refine am_aload_n dX0_init_166 rfl 0 rfl ?_
  refine am_sipush dX0_init_167 (by decide) ?_
  obtain ⟨o191, hh⟩ := hh
  obtain ⟨o192, hh⟩ := hh
  refine ah_newa (k := 0) (ty := .int) rfl rfl (by decide) q165 (by decide) (by decide) o191 o192 dX0_init_170 ?_
  have hh := hh _ rfl
  obtain ⟨fs195, ho196, hh⟩ := hh
  obtain ⟨o197, hh⟩ := hh
  refine ah_putF (ty := tyX0 19) ho196 o7 o197 rfl in_X0 tyX0 tyX0_ok nmX0 (by decide) q233 rfl rfl rfl (tyX0_ok 19 (by decide)) (ah_fit_ref (Or.inr ⟨_, rfl⟩)) dX0_init_172 ?_
  have hh := hh _ rfl
  refine am_iconst dX0_init_175 ?_
  refine am_istore_n dX0_init_176 rfl (by decide) rfl ?_
  refine am_keep [1, 0] rfl ?_
  exact hh
set_option maxHeartbeats 4000000 in
set_option maxRecDepth 100000 in
theorem bX0_init_177 {l : Launch} {mc ms : Nat} {Q : Option am_W → ah_H → Prop} {S : ah_H} (v0 : Nat) (v1 : Int) (h1 : am_r v1) (cs ss : Nat)
    (hh : ((96 ≤ v1) →
        (cs ≤ mc) ∧
        (ss ≤ ms) ∧
        Q none S) ∧
      ((¬ 96 ≤ v1) →
        (∃ fs6, (S.1 v0 = some (.inl (1, fs6))) ∧
        (∃ x9, (fs6[9]? = some (am_R x9)) ∧
        ((cs + 1) ≤ mc) ∧
        ((ss + 5) ≤ ms) ∧
        (∀ G12, G12 = ah_mk S (.inl (2, ah_dX1)) →
        (∃ mc14 ms15 : Nat, (((cs + 1) + mc14) ≤ mc ∧ ((ss + 5) + ms15) ≤ ms) ∧
        kX1_init l mc14 ms15 [am_R S.2] G12 (am_qv fun G18 =>
          (∃ n19 f20, (G18.1 x9 = some (.inr (3, n19, .inr f20))) ∧
          (ah_X ≤ x9) ∧
          (0 ≤ v1 ∧ v1 < (n19 : Int)) ∧
          (ah_is G18 (some S.2) "TableArms$Table") ∧
          (∀ G25, G25 = ah_sr G18 x9 3 n19 f20 v1 (some S.2) →
          VX0_init l mc ms Q 177 [(0, am_R v0), (1, am_I (v1 + 1))] [] G25 ((cs + 1) + mc14) ((ss + 5) + ms15)))))))))) : VX0_init l mc ms Q 177 [(0, am_R v0), (1, am_I v1)] [] S cs ss := by
  refine am_iload_n dX0_init_177 rfl 1 rfl ?_
  refine am_bipush dX0_init_178 (by decide) ?_
  obtain ⟨ha1, hb2⟩ := hh
  refine am_icmp_ge (tgt := 202) dX0_init_180 (by decide) h1 (⟨by decide, by decide⟩) (fun hc3 => ?_) (fun hc3 => ?_)
  · have hh := ha1 hc3
    obtain ⟨o4, hh⟩ := hh
    obtain ⟨o5, hh⟩ := hh
    exact am_vret rfl dX0_init_202 o4 o5 hh
  · have hh := hb2 hc3
    refine am_aload_n dX0_init_183 rfl 0 rfl ?_
    obtain ⟨fs6, ho7, hh⟩ := hh
    obtain ⟨x9, hv8, hh⟩ := hh
    refine ah_get ho7 hv8 rfl in_X0 (by decide) q223 (Or.inl rfl) dX0_init_184 ?_
    refine am_iload_n dX0_init_187 rfl 1 rfl ?_
    obtain ⟨o10, hh⟩ := hh
    obtain ⟨o11, hh⟩ := hh
    refine ah_new (ci := 2) (fs := ah_dX1) tyX1 rfl in_X1 tyX1_ok q137 q138 q91 ah_dX1_ok o10 o11 dX0_init_188 ?_
    have hh := hh _ rfl
    refine am_dup dX0_init_191 rfl ?_
    obtain ⟨mc14, ms15, ⟨o16, o17⟩, hh⟩ := hh
    refine am_rINv (n := 0) hh dX0_init_192 (am_nwin q139 rfl) q140 q91 q141 rfl ⟨⟨by decide, by decide, by decide +kernel⟩, ⟨Nat.le_of_ble_eq_true rfl, Nat.le_of_ble_eq_true rfl⟩⟩ ⟨rfl, rfl⟩ rfl rfl (Nat.le_of_ble_eq_true rfl) ⟨o16, o17⟩ (fun G18 hh => ?_)
    obtain ⟨n19, f20, ha21, hh⟩ := hh
    obtain ⟨o22, hh⟩ := hh
    obtain ⟨o23, hh⟩ := hh
    obtain ⟨o24, hh⟩ := hh
    refine ah_aast ha21 o22 rfl o23.1 o23.2 o24 dX0_init_195 ?_
    have hh := hh _ rfl
    refine am_iinc (n := 1) dX0_init_196 rfl (by decide) rfl ?_
    refine am_goto (tgt := 177) dX0_init_199 (by decide) ?_
    refine am_keep [1, 0] rfl ?_
    exact hh
/-! TableArms.isIn(JJJ)Z -/
abbrev VX0_isIn (l : Launch) (Q : Option am_W → ah_H → Prop) (pc : Nat) (lv : List (Nat × am_W)) (st : List am_W) (S : ah_H) : Prop := am_V ah_r l RX0 cX0_isIn 6 (some .boolean) "isIn" (am_rm 1 0 0) (am_E1 ah_r 0 0 Q) pc lv st S 0 0
abbrev kX0_isIn (l : Launch) (as : List am_W) (S : ah_H) (Q : Option am_W → ah_H → Prop) : Prop := am_C ah_r l yX0_isIn (ws_ yX0_isIn cX0_isIn 6 (some .boolean)) (am_rm 1 0 0) 0 0 as S Q
set_option maxHeartbeats 4000000 in
set_option maxRecDepth 100000 in
theorem bX0_isIn {l : Launch} {Q : Option am_W → ah_H → Prop} {S : ah_H} (v0 : Int) (h0 : am_r64 v0) (v2 : Int) (h2 : am_r64 v2) (v4 : Int) (h4 : am_r64 v4)
    (hh : ((v0 < v2) →
        Q (some (am_I (am_b false))) S) ∧
      ((¬ v0 < v2) →
        ((v4 < v0) →
          Q (some (am_I (am_b false))) S) ∧
        ((¬ v4 < v0) →
          Q (some (am_I (am_b true))) S))) : kX0_isIn l [am_J v0, am_J v2, am_J v4] S Q := by
  refine am_entry (lv := [(0, am_J v0), (2, am_J v2), (4, am_J v4)]) rfl rfl rfl (fun _ => rfl) (fun _ => Nat.le_of_ble_eq_true rfl) ?_
  refine am_lload_n dX0_isIn_0 rfl 0 rfl ?_
  refine am_lload_n dX0_isIn_1 rfl 1 rfl ?_
  refine am_lcmp h0 h2 dX0_isIn_2 ?_
  obtain ⟨ha1, hb2⟩ := hh
  refine am_cmp_lt (tgt := 17) dX0_isIn_3 (by decide) (fun hc3 => ?_) (fun hc3 => ?_)
  · have hh := ha1 hc3
    refine am_iconst dX0_isIn_17 ?_
    exact am_zret (b := false) rfl dX0_isIn_18 (Nat.le_refl 0) (Nat.le_refl 0) hh
  · have hh := hb2 hc3
    refine am_lload_n dX0_isIn_6 rfl 0 rfl ?_
    refine am_lload dX0_isIn_7 2 rfl ?_
    refine am_lcmp h0 h4 dX0_isIn_9 ?_
    obtain ⟨ha4, hb5⟩ := hh
    refine am_cmp_gt (tgt := 17) dX0_isIn_10 (by decide) (fun hc6 => ?_) (fun hc6 => ?_)
    · have hh := ha4 hc6
      refine am_iconst dX0_isIn_17 ?_
      exact am_zret (b := false) rfl dX0_isIn_18 (Nat.le_refl 0) (Nat.le_refl 0) hh
    · have hh := hb5 hc6
      refine am_iconst dX0_isIn_13 ?_
      refine am_goto (tgt := 18) dX0_isIn_14 (by decide) ?_
      exact am_zret (b := true) rfl dX0_isIn_18 (Nat.le_refl 0) (Nat.le_refl 0) hh
/-! TableArms.isSheet(I)Z -/
abbrev VX0_isSheet (l : Launch) (Q : Option am_W → ah_H → Prop) (pc : Nat) (lv : List (Nat × am_W)) (st : List am_W) (S : ah_H) : Prop := am_V ah_r l RX0 cX0_isSheet 1 (some .boolean) "isSheet" (am_rm 2 0 0) (am_E1 ah_r 0 0 Q) pc lv st S 0 0
abbrev kX0_isSheet (l : Launch) (as : List am_W) (S : ah_H) (Q : Option am_W → ah_H → Prop) : Prop := am_C ah_r l yX0_isSheet (ws_ yX0_isSheet cX0_isSheet 1 (some .boolean)) (am_rm 2 0 0) 0 0 as S Q
set_option maxHeartbeats 4000000 in
set_option maxRecDepth 100000 in
theorem bX0_isSheet {l : Launch} {Q : Option am_W → ah_H → Prop} {S : ah_H} (v0 : Int) (h0 : am_r v0)
    (hh : kX0_isIn l [am_J v0, am_J 0, am_J 7] S (am_qz fun b2 G1 =>
        Q (some (am_I (am_b b2))) G1)) : kX0_isSheet l [am_I v0] S Q := by
  refine am_entry (lv := [(0, am_I v0)]) rfl rfl rfl (fun _ => rfl) (fun _ => Nat.le_of_ble_eq_true rfl) ?_
  refine am_iload_n dX0_isSheet_0 rfl 0 rfl ?_
  refine am_i2l_ h0 dX0_isSheet_1 ?_
  refine am_lconst (z := 0) dX0_isSheet_2 (by decide) ?_
  refine am_ldc2 (z := 7) q284 (by decide) dX0_isSheet_3 ?_
  refine am_rSz (n := 3) hh dX0_isSheet_6 (lw_S q285 q286 q90 q287) ⟨⟨by decide, by decide, by decide +kernel⟩, ⟨Nat.le_of_ble_eq_true rfl, Nat.le_of_ble_eq_true rfl⟩⟩ ⟨rfl, rfl⟩ rfl rfl (Nat.le_of_ble_eq_true rfl) ⟨(Nat.le_of_ble_eq_true rfl), (Nat.le_of_ble_eq_true rfl)⟩ (fun b2 G1 hh => ?_)
  exact am_zret (b := b2) rfl dX0_isSheet_9 (Nat.le_refl 0) (Nat.le_refl 0) hh
/-! TableArms$Finding.<init>(I)V -/
abbrev VX4_init (l : Launch) (Q : Option am_W → ah_H → Prop) (pc : Nat) (lv : List (Nat × am_W)) (st : List am_W) (S : ah_H) : Prop := am_V ah_r l RX4 cX4_init 2 none "<init>" (am_rm 4 0 0) (am_E1 ah_r 0 0 Q) pc lv st S 0 0
abbrev kX4_init (l : Launch) (as : List am_W) (S : ah_H) (Q : Option am_W → ah_H → Prop) : Prop := am_C ah_r l yX4_init (ws_ yX4_init cX4_init 2 none) (am_rm 4 0 0) 0 0 as S Q
set_option maxHeartbeats 4000000 in
set_option maxRecDepth 100000 in
theorem bX4_init {l : Launch} {Q : Option am_W → ah_H → Prop} {S : ah_H} (v0 : Nat) (v1 : Int) (h1 : am_r v1)
    (hh : kJ4_init l [am_R v0, am_O none, am_O none, am_I (am_b false), am_I (am_b false)] S (am_qv fun G1 =>
        (∃ fs2, (G1.1 v0 = some (.inl (4, fs2))) ∧
        (ah_X ≤ v0) ∧
        (6 < fs2.length) ∧
        (∀ G6, G6 = ah_sf G1 v0 4 fs2 6 (am_I v1) →
        Q none G6)))) : kX4_init l [am_R v0, am_I v1] S Q := by
  refine am_entry (lv := [(0, am_R v0), (1, am_I v1)]) rfl rfl rfl (fun _ => rfl) (fun _ => Nat.le_of_ble_eq_true rfl) ?_
  refine am_aload_n dX4_init_0 rfl 0 rfl ?_
  refine am_aconst_null dX4_init_1 ?_
  refine am_aconst_null dX4_init_2 ?_
  refine am_iconst dX4_init_3 ?_
  refine am_iconst dX4_init_4 ?_
  refine am_rIv (n := 4) hh dX4_init_5 q335 q336 q98 q337 rfl ⟨⟨by decide, by decide, by decide +kernel⟩, ⟨Nat.le_of_ble_eq_true rfl, Nat.le_of_ble_eq_true rfl⟩⟩ ⟨rfl, rfl⟩ rfl rfl (Nat.le_of_ble_eq_true rfl) ⟨(Nat.le_of_ble_eq_true rfl), (Nat.le_of_ble_eq_true rfl)⟩ (fun G1 hh => ?_)
  refine am_aload_n dX4_init_8 rfl 0 rfl ?_
  refine am_iload_n dX4_init_9 rfl 1 rfl ?_
  obtain ⟨fs2, ho3, hh⟩ := hh
  obtain ⟨o4, hh⟩ := hh
  obtain ⟨o5, hh⟩ := hh
  refine ah_putF (ty := tyX4 6) ho3 o4 o5 rfl in_X4 tyX4 tyX4_ok nmX4 (by decide) q341 rfl rfl rfl (tyX4_ok 6 (by decide)) ah_fit_int dX4_init_10 ?_
  have hh := hh _ rfl
  exact am_vret rfl dX4_init_13 (Nat.le_refl 0) (Nat.le_refl 0) hh
/-! TableArms$Sheet.<init>(II)V -/
abbrev VX5_init (l : Launch) (mc ms : Nat) (Q : Option am_W → ah_H → Prop) (pc : Nat) (lv : List (Nat × am_W)) (st : List am_W) (S : ah_H) (cells slots : Nat) : Prop := am_V ah_r l RX5 cX5_init 3 none "<init>" (am_rm 2 mc ms) (am_E1 ah_r mc ms Q) pc lv st S cells slots
abbrev kX5_init (l : Launch) (mc ms : Nat) (as : List am_W) (S : ah_H) (Q : Option am_W → ah_H → Prop) : Prop := am_C ah_r l yX5_init (ws_ yX5_init cX5_init 3 none) (am_rm 2 mc ms) mc ms as S Q
set_option maxHeartbeats 4000000 in
set_option maxRecDepth 100000 in
theorem bX5_init {l : Launch} {mc ms : Nat} {Q : Option am_W → ah_H → Prop} {S : ah_H} (v0 : Nat) (v1 : Int) (h1 : am_r v1) (v2 : Int) (h2 : am_r v2)
    (hh : (∃ fs1, (S.1 v0 = some (.inl (5, fs1))) ∧
      (ah_X ≤ v0) ∧
      (0 < fs1.length) ∧
      (∀ G5, G5 = ah_sf S v0 5 fs1 0 (am_I v1) →
      (0 ≤ v2 ∧ v2 < 100000) ∧
      (1 ≤ mc) ∧
      ((0 + v2.toNat) ≤ ms) ∧
      (∀ G10, G10 = ah_mk G5 (.inr (0, v2.toNat, .inl (fun _ => 0))) →
      (∃ fs12, (G10.1 v0 = some (.inl (5, fs12))) ∧
      (1 < fs12.length) ∧
      (∀ G15, G15 = ah_sf G10 v0 5 fs12 1 (am_R G5.2) →
      Q none G15)))))) : kX5_init l mc ms [am_R v0, am_I v1, am_I v2] S Q := by
  refine am_entry (lv := [(0, am_R v0), (1, am_I v1), (2, am_I v2)]) rfl rfl rfl (fun _ => rfl) (fun _ => Nat.le_of_ble_eq_true rfl) ?_
  refine am_aload_n dX5_init_0 rfl 0 rfl ?_
  refine am_objInit q362 q133 q134 dX5_init_1 (Nat.le_of_ble_eq_true rfl) (Nat.le_of_ble_eq_true rfl) ?_
  refine am_aload_n dX5_init_4 rfl 0 rfl ?_
  refine am_iload_n dX5_init_5 rfl 1 rfl ?_
  obtain ⟨fs1, ho2, hh⟩ := hh
  obtain ⟨o3, hh⟩ := hh
  obtain ⟨o4, hh⟩ := hh
  refine ah_putF (ty := tyX5 0) ho2 o3 o4 rfl in_X5 tyX5 tyX5_ok nmX5 (by decide) q363 rfl rfl rfl (tyX5_ok 0 (by decide)) ah_fit_int dX5_init_6 ?_
  have hh := hh _ rfl
  refine am_aload_n dX5_init_9 rfl 0 rfl ?_
  refine am_iload_n dX5_init_10 rfl 2 rfl ?_
  obtain ⟨o7, hh⟩ := hh
  obtain ⟨o8, hh⟩ := hh
  obtain ⟨o9, hh⟩ := hh
  refine ah_newa (k := 0) (ty := .int) rfl rfl (by decide) q165 o7.1 o7.2 o8 o9 dX5_init_11 ?_
  have hh := hh _ rfl
  obtain ⟨fs12, ho13, hh⟩ := hh
  obtain ⟨o14, hh⟩ := hh
  refine ah_putF (ty := tyX5 1) ho13 o3 o14 rfl in_X5 tyX5 tyX5_ok nmX5 (by decide) q365 rfl rfl rfl (tyX5_ok 1 (by decide)) (ah_fit_ref (Or.inr ⟨_, rfl⟩)) dX5_init_13 ?_
  have hh := hh _ rfl
  exact am_vret rfl dX5_init_16 o8 o9 hh
/-! TableArms.well(I)I -/
abbrev VX0_well (l : Launch) (Q : Option am_W → ah_H → Prop) (pc : Nat) (lv : List (Nat × am_W)) (st : List am_W) (S : ah_H) : Prop := am_V ah_r l RX0 cX0_well 2 (some .int) "well" (am_rm 1 0 0) (am_E1 ah_r 0 0 Q) pc lv st S 0 0
abbrev kX0_well (l : Launch) (as : List am_W) (S : ah_H) (Q : Option am_W → ah_H → Prop) : Prop := am_C ah_r l yX0_well (ws_ yX0_well cX0_well 2 (some .int)) (am_rm 1 0 0) 0 0 as S Q
set_option maxHeartbeats 4000000 in
set_option maxRecDepth 100000 in
theorem bX0_well {l : Launch} {Q : Option am_W → ah_H → Prop} {S : ah_H} (v0 : Nat) (v1 : Int) (h1 : am_r v1)
    (hh : (∃ fs1, (S.1 v0 = some (.inl (1, fs1))) ∧
      (ah_X ≤ v0) ∧
      (17 < fs1.length) ∧
      (∀ G5, G5 = ah_sf S v0 1 fs1 17 (am_I 0) →
      Q (some (am_I v1)) G5))) : kX0_well l [am_R v0, am_I v1] S Q := by
  refine am_entry (lv := [(0, am_R v0), (1, am_I v1)]) rfl rfl rfl (fun _ => rfl) (fun _ => Nat.le_of_ble_eq_true rfl) ?_
  refine am_aload_n dX0_well_0 rfl 0 rfl ?_
  refine am_iconst dX0_well_1 ?_
  obtain ⟨fs1, ho2, hh⟩ := hh
  obtain ⟨o3, hh⟩ := hh
  obtain ⟨o4, hh⟩ := hh
  refine ah_put (ty := tyX0 17) ho2 o3 o4 rfl in_X0 tyX0 tyX0_ok nmX0 (by decide) q231 (Or.inl rfl) rfl (tyX0_ok 17 (by decide)) ah_fit_int dX0_well_2 ?_
  have hh := hh _ rfl
  refine am_iload_n dX0_well_5 rfl 1 rfl ?_
  exact am_iret rfl dX0_well_6 (Nat.le_refl 0) (Nat.le_refl 0) hh
/-! TableArms.found(LTableArms$Finding;)I -/
abbrev VX0_found (l : Launch) (Q : Option am_W → ah_H → Prop) (pc : Nat) (lv : List (Nat × am_W)) (st : List am_W) (S : ah_H) : Prop := am_V ah_r l RX0 cX0_found 2 (some .int) "found" (am_rm 1 0 0) (am_E1 ah_r 0 0 Q) pc lv st S 0 0
abbrev kX0_found (l : Launch) (as : List am_W) (S : ah_H) (Q : Option am_W → ah_H → Prop) : Prop := am_C ah_r l yX0_found (ws_ yX0_found cX0_found 2 (some .int)) (am_rm 1 0 0) 0 0 as S Q
set_option maxHeartbeats 4000000 in
set_option maxRecDepth 100000 in
theorem bX0_found {l : Launch} {Q : Option am_W → ah_H → Prop} {S : ah_H} (v0 : Nat) (v1 : Nat)
    (hh : (∃ fs1, (S.1 v1 = some (.inl (4, fs1))) ∧
      (∃ z4, (fs1[6]? = some (am_I z4) ∧ am_r z4) ∧
      (∃ fs6, (S.1 v0 = some (.inl (1, fs6))) ∧
      (ah_X ≤ v0) ∧
      (17 < fs6.length) ∧
      (∀ G10, G10 = ah_sf S v0 1 fs6 17 (am_I z4) →
      (∃ fs12, (G10.1 v1 = some (.inl (4, fs12))) ∧
      (∃ z15, (fs12[6]? = some (am_I z15) ∧ am_r z15) ∧
      Q (some (am_I ((-1000010) - z15))) G10))))))) : kX0_found l [am_R v0, am_R v1] S Q := by
  refine am_entry (lv := [(0, am_R v0), (1, am_R v1)]) rfl rfl rfl (fun _ => rfl) (fun _ => Nat.le_of_ble_eq_true rfl) ?_
  refine am_aload_n dX0_found_0 rfl 0 rfl ?_
  refine am_aload_n dX0_found_1 rfl 1 rfl ?_
  obtain ⟨fs1, ho2, hh⟩ := hh
  obtain ⟨z4, ⟨hv3, hr5⟩, hh⟩ := hh
  refine ah_get ho2 hv3 rfl in_X4 (by decide) q342 (Or.inl rfl) dX0_found_2 ?_
  obtain ⟨fs6, ho7, hh⟩ := hh
  obtain ⟨o8, hh⟩ := hh
  obtain ⟨o9, hh⟩ := hh
  refine ah_put (ty := tyX0 17) ho7 o8 o9 rfl in_X0 tyX0 tyX0_ok nmX0 (by decide) q231 (Or.inl rfl) rfl (tyX0_ok 17 (by decide)) ah_fit_int dX0_found_5 ?_
  have hh := hh _ rfl
  refine am_ldc (z := -1000010) q380 (by decide) dX0_found_8 ?_
  refine am_aload_n dX0_found_10 rfl 1 rfl ?_
  obtain ⟨fs12, ho13, hh⟩ := hh
  obtain ⟨z15, ⟨hv14, hr16⟩, hh⟩ := hh
  refine ah_get ho13 hv14 rfl in_X4 (by decide) q342 (Or.inl rfl) dX0_found_11 ?_
  refine am_isub dX0_found_14 ?_
  exact am_iret rfl dX0_found_15 (Nat.le_refl 0) (Nat.le_refl 0) hh
/-! TableArms$Sheet.cut(I)I -/
abbrev VX5_cut (l : Launch) (Q : Option am_W → ah_H → Prop) (pc : Nat) (lv : List (Nat × am_W)) (st : List am_W) (S : ah_H) : Prop := am_V ah_r l RX5 cX5_cut 2 (some .int) "cut" (am_rm 1 0 0) (am_E1 ah_r 0 0 Q) pc lv st S 0 0
abbrev kX5_cut (l : Launch) (as : List am_W) (S : ah_H) (Q : Option am_W → ah_H → Prop) : Prop := am_C ah_r l yX5_cut (ws_ yX5_cut cX5_cut 2 (some .int)) (am_rm 1 0 0) 0 0 as S Q
set_option maxHeartbeats 4000000 in
set_option maxRecDepth 100000 in
theorem bX5_cut {l : Launch} {Q : Option am_W → ah_H → Prop} {S : ah_H} (v0 : Nat) (v1 : Int) (h1 : am_r v1)
    (hh : (∃ fs1, (S.1 v0 = some (.inl (5, fs1))) ∧
      (∃ z4, (fs1[0]? = some (am_I z4) ∧ am_r z4) ∧
      ((¬ z4 = 0) →
        ((¬ z4 = 1) →
          Q (some (am_I v1)) S) ∧
        ((z4 = 1) →
          Q (some (am_I (am_i2s v1))) S)) ∧
      ((z4 = 0) →
        Q (some (am_I (am_i2b v1))) S)))) : kX5_cut l [am_R v0, am_I v1] S Q := by
  refine am_entry (lv := [(0, am_R v0), (1, am_I v1)]) rfl rfl rfl (fun _ => rfl) (fun _ => Nat.le_of_ble_eq_true rfl) ?_
  refine am_aload_n dX5_cut_0 rfl 0 rfl ?_
  obtain ⟨fs1, ho2, hh⟩ := hh
  obtain ⟨z4, ⟨hv3, hr5⟩, hh⟩ := hh
  refine ah_get ho2 hv3 rfl in_X5 (by decide) q363 (Or.inl rfl) dX5_cut_1 ?_
  obtain ⟨ha6, hb7⟩ := hh
  refine am_if_ne (tgt := 12) dX5_cut_4 (by decide) hr5 (fun hc8 => ?_) (fun hc8 => ?_)
  · have hh := ha6 hc8
    refine am_aload_n dX5_cut_12 rfl 0 rfl ?_
    refine ah_get ho2 hv3 rfl in_X5 (by decide) q363 (Or.inl rfl) dX5_cut_13 ?_
    refine am_iconst dX5_cut_16 ?_
    obtain ⟨ha9, hb10⟩ := hh
    refine am_icmp_ne (tgt := 25) dX5_cut_17 (by decide) hr5 (⟨by decide, by decide⟩) (fun hc11 => ?_) (fun hc11 => ?_)
    · have hh := ha9 hc11
      refine am_iload_n dX5_cut_25 rfl 1 rfl ?_
      exact am_iret rfl dX5_cut_26 (Nat.le_refl 0) (Nat.le_refl 0) hh
    · have hh := hb10 hc11
      refine am_iload_n dX5_cut_20 rfl 1 rfl ?_
      refine am_i2s_ dX5_cut_21 ?_
      refine am_goto (tgt := 26) dX5_cut_22 (by decide) ?_
      exact am_iret rfl dX5_cut_26 (Nat.le_refl 0) (Nat.le_refl 0) hh
  · have hh := hb7 hc8
    refine am_iload_n dX5_cut_7 rfl 1 rfl ?_
    refine am_i2b_ dX5_cut_8 ?_
    refine am_goto (tgt := 26) dX5_cut_9 (by decide) ?_
    exact am_iret rfl dX5_cut_26 (Nat.le_refl 0) (Nat.le_refl 0) hh
/-! TableArms.isSort(I)Z -/
abbrev VX0_isSort (l : Launch) (Q : Option am_W → ah_H → Prop) (pc : Nat) (lv : List (Nat × am_W)) (st : List am_W) (S : ah_H) : Prop := am_V ah_r l RX0 cX0_isSort 1 (some .boolean) "isSort" (am_rm 2 0 0) (am_E1 ah_r 0 0 Q) pc lv st S 0 0
abbrev kX0_isSort (l : Launch) (as : List am_W) (S : ah_H) (Q : Option am_W → ah_H → Prop) : Prop := am_C ah_r l yX0_isSort (ws_ yX0_isSort cX0_isSort 1 (some .boolean)) (am_rm 2 0 0) 0 0 as S Q
set_option maxHeartbeats 4000000 in
set_option maxRecDepth 100000 in
theorem bX0_isSort {l : Launch} {Q : Option am_W → ah_H → Prop} {S : ah_H} (v0 : Int) (h0 : am_r v0)
    (hh : kX0_isIn l [am_J v0, am_J 0, am_J 3] S (am_qz fun b2 G1 =>
        Q (some (am_I (am_b b2))) G1)) : kX0_isSort l [am_I v0] S Q := by
  refine am_entry (lv := [(0, am_I v0)]) rfl rfl rfl (fun _ => rfl) (fun _ => Nat.le_of_ble_eq_true rfl) ?_
  refine am_iload_n dX0_isSort_0 rfl 0 rfl ?_
  refine am_i2l_ h0 dX0_isSort_1 ?_
  refine am_lconst (z := 0) dX0_isSort_2 (by decide) ?_
  refine am_ldc2 (z := 3) q445 (by decide) dX0_isSort_3 ?_
  refine am_rSz (n := 3) hh dX0_isSort_6 (lw_S q285 q286 q90 q287) ⟨⟨by decide, by decide, by decide +kernel⟩, ⟨Nat.le_of_ble_eq_true rfl, Nat.le_of_ble_eq_true rfl⟩⟩ ⟨rfl, rfl⟩ rfl rfl (Nat.le_of_ble_eq_true rfl) ⟨(Nat.le_of_ble_eq_true rfl), (Nat.le_of_ble_eq_true rfl)⟩ (fun b2 G1 hh => ?_)
  exact am_zret (b := b2) rfl dX0_isSort_9 (Nat.le_refl 0) (Nat.le_refl 0) hh
/-! TableArms.isCell(I)Z -/
abbrev VX0_isCell (l : Launch) (Q : Option am_W → ah_H → Prop) (pc : Nat) (lv : List (Nat × am_W)) (st : List am_W) (S : ah_H) : Prop := am_V ah_r l RX0 cX0_isCell 1 (some .boolean) "isCell" (am_rm 2 0 0) (am_E1 ah_r 0 0 Q) pc lv st S 0 0
abbrev kX0_isCell (l : Launch) (as : List am_W) (S : ah_H) (Q : Option am_W → ah_H → Prop) : Prop := am_C ah_r l yX0_isCell (ws_ yX0_isCell cX0_isCell 1 (some .boolean)) (am_rm 2 0 0) 0 0 as S Q
set_option maxHeartbeats 4000000 in
set_option maxRecDepth 100000 in
theorem bX0_isCell {l : Launch} {Q : Option am_W → ah_H → Prop} {S : ah_H} (v0 : Int) (h0 : am_r v0)
    (hh : kX0_isIn l [am_J v0, am_J 0, am_J 7] S (am_qz fun b2 G1 =>
        Q (some (am_I (am_b b2))) G1)) : kX0_isCell l [am_I v0] S Q := by
  refine am_entry (lv := [(0, am_I v0)]) rfl rfl rfl (fun _ => rfl) (fun _ => Nat.le_of_ble_eq_true rfl) ?_
  refine am_iload_n dX0_isCell_0 rfl 0 rfl ?_
  refine am_i2l_ h0 dX0_isCell_1 ?_
  refine am_lconst (z := 0) dX0_isCell_2 (by decide) ?_
  refine am_ldc2 (z := 7) q284 (by decide) dX0_isCell_3 ?_
  refine am_rSz (n := 3) hh dX0_isCell_6 (lw_S q285 q286 q90 q287) ⟨⟨by decide, by decide, by decide +kernel⟩, ⟨Nat.le_of_ble_eq_true rfl, Nat.le_of_ble_eq_true rfl⟩⟩ ⟨rfl, rfl⟩ rfl rfl (Nat.le_of_ble_eq_true rfl) ⟨(Nat.le_of_ble_eq_true rfl), (Nat.le_of_ble_eq_true rfl)⟩ (fun b2 G1 hh => ?_)
  exact am_zret (b := b2) rfl dX0_isCell_9 (Nat.le_refl 0) (Nat.le_refl 0) hh
/-! TableArms$Table.push(II)V -/
abbrev VX1_push (l : Launch) (Q : Option am_W → ah_H → Prop) (pc : Nat) (lv : List (Nat × am_W)) (st : List am_W) (S : ah_H) : Prop := am_V ah_r l RX1 cX1_push 3 none "push" (am_rm 1 0 0) (am_E1 ah_r 0 0 Q) pc lv st S 0 0
abbrev kX1_push (l : Launch) (as : List am_W) (S : ah_H) (Q : Option am_W → ah_H → Prop) : Prop := am_C ah_r l yX1_push (ws_ yX1_push cX1_push 3 none) (am_rm 1 0 0) 0 0 as S Q
set_option maxHeartbeats 4000000 in
set_option maxRecDepth 100000 in
theorem bX1_push {l : Launch} {Q : Option am_W → ah_H → Prop} {S : ah_H} (v0 : Nat) (v1 : Int) (h1 : am_r v1) (v2 : Int) (h2 : am_r v2)
    (hh : (∃ fs1, (S.1 v0 = some (.inl (2, fs1))) ∧
      (∃ x4, (fs1[0]? = some (am_R x4)) ∧
      (∃ x6, (fs1[1]? = some (am_R x6)) ∧
      (∃ n7 f8, (S.1 x6 = some (.inr (0, n7, .inl f8))) ∧
      (0 ≤ v2 ∧ v2 < (n7 : Int)) ∧
      (ah_X ≤ x6) ∧
      (∀ G12, G12 = ah_si S x6 0 n7 f8 v2 (Int32.ofInt ((f8 v2.toNat).toInt + 1)) →
      (∃ n14 f15, (G12.1 x4 = some (.inr (0, n14, .inl f15))) ∧
      (ah_X ≤ x4) ∧
      (0 ≤ ((6 * v2) + (f8 v2.toNat).toInt) ∧ ((6 * v2) + (f8 v2.toNat).toInt) < (n14 : Int)) ∧
      (∀ G19, G19 = ah_si G12 x4 0 n14 f15 ((6 * v2) + (f8 v2.toNat).toInt) (Int32.ofInt v1) →
      (∃ fs21, (G19.1 v0 = some (.inl (2, fs21))) ∧
      (∃ x24, (fs21[2]? = some (am_R x24)) ∧
      (∃ n25 f26, (G19.1 x24 = some (.inr (0, n25, .inl f26))) ∧
      (ah_X ≤ x24) ∧
      (0 ≤ v1 ∧ v1 < (n25 : Int)) ∧
      (∀ G30, G30 = ah_si G19 x24 0 n25 f26 v1 (Int32.ofInt v2) →
      (∃ fs32, (G30.1 v0 = some (.inl (2, fs32))) ∧
      (∃ x35, (fs32[3]? = some (am_R x35)) ∧
      (∃ n36 f37, (G30.1 x35 = some (.inr (0, n36, .inl f37))) ∧
      (ah_X ≤ x35) ∧
      (0 ≤ v1 ∧ v1 < (n36 : Int)) ∧
      (∀ G41, G41 = ah_si G30 x35 0 n36 f37 v1 (Int32.ofInt (-1000000)) →
      Q none G41)))))))))))))))) : kX1_push l [am_R v0, am_I v1, am_I v2] S Q := by
  refine am_entry (lv := [(0, am_R v0), (1, am_I v1), (2, am_I v2)]) rfl rfl rfl (fun _ => rfl) (fun _ => Nat.le_of_ble_eq_true rfl) ?_
  refine am_aload_n dX1_push_0 rfl 0 rfl ?_
  obtain ⟨fs1, ho2, hh⟩ := hh
  obtain ⟨x4, hv3, hh⟩ := hh
  refine ah_get ho2 hv3 rfl in_X1 (by decide) q143 (Or.inl rfl) dX1_push_1 ?_
  refine am_bipush dX1_push_4 (by decide) ?_
  refine am_iload_n dX1_push_6 rfl 2 rfl ?_
  refine am_imul dX1_push_7 ?_
  refine am_aload_n dX1_push_8 rfl 0 rfl ?_
  obtain ⟨x6, hv5, hh⟩ := hh
  refine ah_get ho2 hv5 rfl in_X1 (by decide) q144 (Or.inl rfl) dX1_push_9 ?_
  refine am_iload_n dX1_push_12 rfl 2 rfl ?_
  refine am_dup2 dX1_push_13 rfl rfl ?_
  obtain ⟨n7, f8, ha9, hh⟩ := hh
  obtain ⟨o10, hh⟩ := hh
  refine ah_iald ha9 o10.1 o10.2 (v := (f8 v2.toNat).toInt) rfl dX1_push_14 ?_
  refine am_dup_x2 dX1_push_15 rfl rfl rfl ?_
  refine am_iconst dX1_push_16 ?_
  refine am_iadd dX1_push_17 ?_
  obtain ⟨o11, hh⟩ := hh
  refine ah_iast ha9 o11 o10.1 o10.2 dX1_push_18 ?_
  have hh := hh _ rfl
  refine am_iadd dX1_push_19 ?_
  refine am_iload_n dX1_push_20 rfl 1 rfl ?_
  obtain ⟨n14, f15, ha16, hh⟩ := hh
  obtain ⟨o17, hh⟩ := hh
  obtain ⟨o18, hh⟩ := hh
  refine ah_iast ha16 o17 o18.1 o18.2 dX1_push_21 ?_
  have hh := hh _ rfl
  refine am_aload_n dX1_push_22 rfl 0 rfl ?_
  obtain ⟨fs21, ho22, hh⟩ := hh
  obtain ⟨x24, hv23, hh⟩ := hh
  refine ah_get ho22 hv23 rfl in_X1 (by decide) q146 (Or.inl rfl) dX1_push_23 ?_
  refine am_iload_n dX1_push_26 rfl 1 rfl ?_
  refine am_iload_n dX1_push_27 rfl 2 rfl ?_
  obtain ⟨n25, f26, ha27, hh⟩ := hh
  obtain ⟨o28, hh⟩ := hh
  obtain ⟨o29, hh⟩ := hh
  refine ah_iast ha27 o28 o29.1 o29.2 dX1_push_28 ?_
  have hh := hh _ rfl
  refine am_aload_n dX1_push_29 rfl 0 rfl ?_
  obtain ⟨fs32, ho33, hh⟩ := hh
  obtain ⟨x35, hv34, hh⟩ := hh
  refine ah_get ho33 hv34 rfl in_X1 (by decide) q148 (Or.inl rfl) dX1_push_30 ?_
  refine am_iload_n dX1_push_33 rfl 1 rfl ?_
  refine am_ldc (z := -1000000) q455 (by decide) dX1_push_34 ?_
  obtain ⟨n36, f37, ha38, hh⟩ := hh
  obtain ⟨o39, hh⟩ := hh
  obtain ⟨o40, hh⟩ := hh
  refine ah_iast ha38 o39 o40.1 o40.2 dX1_push_36 ?_
  have hh := hh _ rfl
  exact am_vret rfl dX1_push_37 (Nat.le_refl 0) (Nat.le_refl 0) hh
/-! TableArms$Table.begin(II)V -/
abbrev VX1_begin (l : Launch) (Q : Option am_W → ah_H → Prop) (pc : Nat) (lv : List (Nat × am_W)) (st : List am_W) (S : ah_H) : Prop := am_V ah_r l RX1 cX1_begin 3 none "begin" (am_rm 2 0 0) (am_E1 ah_r 0 0 Q) pc lv st S 0 0
abbrev kX1_begin (l : Launch) (as : List am_W) (S : ah_H) (Q : Option am_W → ah_H → Prop) : Prop := am_C ah_r l yX1_begin (ws_ yX1_begin cX1_begin 3 none) (am_rm 2 0 0) 0 0 as S Q
set_option maxHeartbeats 4000000 in
set_option maxRecDepth 100000 in
theorem bX1_begin {l : Launch} {Q : Option am_W → ah_H → Prop} {S : ah_H} (v0 : Nat) (v1 : Int) (h1 : am_r v1) (v2 : Int) (h2 : am_r v2)
    (hh : (∃ fs1, (S.1 v0 = some (.inl (2, fs1))) ∧
      (∃ x4, (fs1[4]? = some (am_R x4)) ∧
      (∃ n5 f6, (S.1 x4 = some (.inr (0, n5, .inl f6))) ∧
      (ah_X ≤ x4) ∧
      (0 ≤ v1 ∧ v1 < (n5 : Int)) ∧
      (∀ G10, G10 = ah_si S x4 0 n5 f6 v1 (Int32.ofInt (-1000000)) →
      (∃ fs12, (G10.1 v0 = some (.inl (2, fs12))) ∧
      kX1_push l [am_R v0, am_I v1, am_I v2] G10 (am_qv fun G14 =>
        Q none G14))))))) : kX1_begin l [am_R v0, am_I v1, am_I v2] S Q := by
  refine am_entry (lv := [(0, am_R v0), (1, am_I v1), (2, am_I v2)]) rfl rfl rfl (fun _ => rfl) (fun _ => Nat.le_of_ble_eq_true rfl) ?_
  refine am_aload_n dX1_begin_0 rfl 0 rfl ?_
  obtain ⟨fs1, ho2, hh⟩ := hh
  obtain ⟨x4, hv3, hh⟩ := hh
  refine ah_get ho2 hv3 rfl in_X1 (by decide) q151 (Or.inl rfl) dX1_begin_1 ?_
  refine am_iload_n dX1_begin_4 rfl 1 rfl ?_
  refine am_ldc (z := -1000000) q455 (by decide) dX1_begin_5 ?_
  obtain ⟨n5, f6, ha7, hh⟩ := hh
  obtain ⟨o8, hh⟩ := hh
  obtain ⟨o9, hh⟩ := hh
  refine ah_iast ha7 o8 o9.1 o9.2 dX1_begin_7 ?_
  have hh := hh _ rfl
  refine am_aload_n dX1_begin_8 rfl 0 rfl ?_
  refine am_iload_n dX1_begin_9 rfl 1 rfl ?_
  refine am_iload_n dX1_begin_10 rfl 2 rfl ?_
  obtain ⟨fs12, ho13, hh⟩ := hh
  refine am_rVv (n := 2) hh dX1_begin_11 (lw_V q456 q457 q458 q91 q459) rfl ⟨⟨by decide, by decide, by decide +kernel⟩, ⟨Nat.le_of_ble_eq_true rfl, Nat.le_of_ble_eq_true rfl⟩⟩ ⟨rfl, rfl⟩ rfl rfl (Nat.le_of_ble_eq_true rfl) ⟨(Nat.le_of_ble_eq_true rfl), (Nat.le_of_ble_eq_true rfl)⟩ (ah_recv ho13 rfl) (fun G14 hh => ?_)
  exact am_vret rfl dX1_begin_14 (Nat.le_refl 0) (Nat.le_refl 0) hh
/-! TableArms.thing(III)I -/
abbrev VX0_thing (l : Launch) (Q : Option am_W → ah_H → Prop) (pc : Nat) (lv : List (Nat × am_W)) (st : List am_W) (S : ah_H) : Prop := am_V ah_r l RX0 cX0_thing 5 (some .int) "thing" (am_rm 3 0 0) (am_E1 ah_r 0 0 Q) pc lv st S 0 0
abbrev kX0_thing (l : Launch) (as : List am_W) (S : ah_H) (Q : Option am_W → ah_H → Prop) : Prop := am_C ah_r l yX0_thing (ws_ yX0_thing cX0_thing 5 (some .int)) (am_rm 3 0 0) 0 0 as S Q
set_option maxHeartbeats 4000000 in
set_option maxRecDepth 100000 in
theorem bX0_thing {l : Launch} {Q : Option am_W → ah_H → Prop} {S : ah_H} (v0 : Nat) (v1 : Int) (h1 : am_r v1) (v2 : Int) (h2 : am_r v2) (v3 : Int) (h3 : am_r v3)
    (hh : kX0_isSort l [am_I v1] S (am_qz fun b2 G1 =>
        ((b2 = false) →
          Q (some (am_I (-1000001))) G1) ∧
        ((b2 = true) →
          kX0_isIn l [am_J v2, am_J 1, am_J 20] G1 (am_qz fun b7 G6 =>
            ((b7 = false) →
              Q (some (am_I (-1000001))) G6) ∧
            ((b7 = true) →
              kX0_isCell l [am_I v3] G6 (am_qz fun b12 G11 =>
                ((b12 = true) →
                  (∃ fs16, (G11.1 v0 = some (.inl (1, fs16))) ∧
                  (∃ z19, (fs16[1]? = some (am_I z19) ∧ am_r z19) ∧
                  ((¬ z19 = 6) →
                    (∃ x25, (fs16[2]? = some (am_R x25)) ∧
                    (∃ n26 f27, (G11.1 x25 = some (.inr (0, n26, .inl f27))) ∧
                    (ah_X ≤ x25) ∧
                    (0 ≤ z19 ∧ z19 < (n26 : Int)) ∧
                    (∀ G31, G31 = ah_si G11 x25 0 n26 f27 z19 (Int32.ofInt v1) →
                    (∃ fs33, (G31.1 v0 = some (.inl (1, fs33))) ∧
                    (∃ x36, (fs33[3]? = some (am_R x36)) ∧
                    (∃ z38, (fs33[1]? = some (am_I z38) ∧ am_r z38) ∧
                    (∃ n40 f41, (G31.1 x36 = some (.inr (0, n40, .inl f41))) ∧
                    (ah_X ≤ x36) ∧
                    (0 ≤ z38 ∧ z38 < (n40 : Int)) ∧
                    (∀ G45, G45 = ah_si G31 x36 0 n40 f41 z38 (Int32.ofInt v2) →
                    (∃ fs47, (G45.1 v0 = some (.inl (1, fs47))) ∧
                    (∃ x50, (fs47[4]? = some (am_R x50)) ∧
                    (∃ z52, (fs47[1]? = some (am_I z52) ∧ am_r z52) ∧
                    (∃ fs54, (G45.1 x50 = some (.inl (2, fs54))) ∧
                    kX1_begin l [am_R x50, am_I z52, am_I v3] G45 (am_qv fun G56 =>
                      VX0_thing l Q 76 [(0, am_R v0), (3, am_I v3), (4, am_I 0)] [] G56)))))))))))))) ∧
                  ((z19 = 6) →
                    Q (some (am_I (-1000003))) G11)))) ∧
                ((b12 = false) →
                  Q (some (am_I (-1000001))) G11))))))) : kX0_thing l [am_R v0, am_I v1, am_I v2, am_I v3] S Q := by
  refine am_entry (lv := [(0, am_R v0), (1, am_I v1), (2, am_I v2), (3, am_I v3)]) rfl rfl rfl (fun _ => rfl) (fun _ => Nat.le_of_ble_eq_true rfl) ?_
  refine am_iload_n dX0_thing_0 rfl 1 rfl ?_
  refine am_rSz (n := 1) hh dX0_thing_1 (lw_S q442 q443 q90 q444) ⟨⟨by decide, by decide, by decide +kernel⟩, ⟨Nat.le_of_ble_eq_true rfl, Nat.le_of_ble_eq_true rfl⟩⟩ ⟨rfl, rfl⟩ rfl rfl (Nat.le_of_ble_eq_true rfl) ⟨(Nat.le_of_ble_eq_true rfl), (Nat.le_of_ble_eq_true rfl)⟩ (fun b2 G1 hh => ?_)
  obtain ⟨ha3, hb4⟩ := hh
  refine am_ifB_eq (tgt := 26) dX0_thing_4 (by decide) (fun hc5 => ?_) (fun hc5 => ?_)
  · have hh := ha3 hc5
    refine am_ldc (z := -1000001) q289 (by decide) dX0_thing_26 ?_
    exact am_iret rfl dX0_thing_28 (Nat.le_refl 0) (Nat.le_refl 0) hh
  · have hh := hb4 hc5
    refine am_iload_n dX0_thing_7 rfl 2 rfl ?_
    refine am_i2l_ h2 dX0_thing_8 ?_
    refine am_lconst (z := 1) dX0_thing_9 (by decide) ?_
    refine am_ldc2 (z := 20) q446 (by decide) dX0_thing_10 ?_
    refine am_rSz (n := 3) hh dX0_thing_13 (lw_S q285 q286 q90 q287) ⟨⟨by decide, by decide, by decide +kernel⟩, ⟨Nat.le_of_ble_eq_true rfl, Nat.le_of_ble_eq_true rfl⟩⟩ ⟨rfl, rfl⟩ rfl rfl (Nat.le_of_ble_eq_true rfl) ⟨(Nat.le_of_ble_eq_true rfl), (Nat.le_of_ble_eq_true rfl)⟩ (fun b7 G6 hh => ?_)
    obtain ⟨ha8, hb9⟩ := hh
    refine am_ifB_eq (tgt := 26) dX0_thing_16 (by decide) (fun hc10 => ?_) (fun hc10 => ?_)
    · have hh := ha8 hc10
      refine am_ldc (z := -1000001) q289 (by decide) dX0_thing_26 ?_
      exact am_iret rfl dX0_thing_28 (Nat.le_refl 0) (Nat.le_refl 0) hh
    · have hh := hb9 hc10
      refine am_iload_n dX0_thing_19 rfl 3 rfl ?_
      refine am_rSz (n := 1) hh dX0_thing_20 (lw_S q447 q448 q90 q449) ⟨⟨by decide, by decide, by decide +kernel⟩, ⟨Nat.le_of_ble_eq_true rfl, Nat.le_of_ble_eq_true rfl⟩⟩ ⟨rfl, rfl⟩ rfl rfl (Nat.le_of_ble_eq_true rfl) ⟨(Nat.le_of_ble_eq_true rfl), (Nat.le_of_ble_eq_true rfl)⟩ (fun b12 G11 hh => ?_)
      obtain ⟨ha13, hb14⟩ := hh
      refine am_ifB_ne (tgt := 29) dX0_thing_23 (by decide) (fun hc15 => ?_) (fun hc15 => ?_)
      · have hh := ha13 hc15
        refine am_aload_n dX0_thing_29 rfl 0 rfl ?_
        obtain ⟨fs16, ho17, hh⟩ := hh
        obtain ⟨z19, ⟨hv18, hr20⟩, hh⟩ := hh
        refine ah_get ho17 hv18 rfl in_X0 (by decide) q210 (Or.inl rfl) dX0_thing_30 ?_
        refine am_bipush dX0_thing_33 (by decide) ?_
        obtain ⟨ha21, hb22⟩ := hh
        refine am_icmp_ne (tgt := 41) dX0_thing_35 (by decide) hr20 (⟨by decide, by decide⟩) (fun hc23 => ?_) (fun hc23 => ?_)
        · have hh := ha21 hc23
          refine am_aload_n dX0_thing_41 rfl 0 rfl ?_
          obtain ⟨x25, hv24, hh⟩ := hh
          refine ah_get ho17 hv24 rfl in_X0 (by decide) q211 (Or.inl rfl) dX0_thing_42 ?_
          refine am_aload_n dX0_thing_45 rfl 0 rfl ?_
          refine ah_get ho17 hv18 rfl in_X0 (by decide) q210 (Or.inl rfl) dX0_thing_46 ?_
          refine am_iload_n dX0_thing_49 rfl 1 rfl ?_
          obtain ⟨n26, f27, ha28, hh⟩ := hh
          obtain ⟨o29, hh⟩ := hh
          obtain ⟨o30, hh⟩ := hh
          refine ah_iast ha28 o29 o30.1 o30.2 dX0_thing_50 ?_
          have hh := hh _ rfl
          refine am_aload_n dX0_thing_51 rfl 0 rfl ?_
          obtain ⟨fs33, ho34, hh⟩ := hh
          obtain ⟨x36, hv35, hh⟩ := hh
          refine ah_get ho34 hv35 rfl in_X0 (by decide) q214 (Or.inl rfl) dX0_thing_52 ?_
          refine am_aload_n dX0_thing_55 rfl 0 rfl ?_
          obtain ⟨z38, ⟨hv37, hr39⟩, hh⟩ := hh
          refine ah_get ho34 hv37 rfl in_X0 (by decide) q210 (Or.inl rfl) dX0_thing_56 ?_
          refine am_iload_n dX0_thing_59 rfl 2 rfl ?_
          obtain ⟨n40, f41, ha42, hh⟩ := hh
          obtain ⟨o43, hh⟩ := hh
          obtain ⟨o44, hh⟩ := hh
          refine ah_iast ha42 o43 o44.1 o44.2 dX0_thing_60 ?_
          have hh := hh _ rfl
          refine am_aload_n dX0_thing_61 rfl 0 rfl ?_
          obtain ⟨fs47, ho48, hh⟩ := hh
          obtain ⟨x50, hv49, hh⟩ := hh
          refine ah_get ho48 hv49 rfl in_X0 (by decide) q215 (Or.inl rfl) dX0_thing_62 ?_
          refine am_aload_n dX0_thing_65 rfl 0 rfl ?_
          obtain ⟨z52, ⟨hv51, hr53⟩, hh⟩ := hh
          refine ah_get ho48 hv51 rfl in_X0 (by decide) q210 (Or.inl rfl) dX0_thing_66 ?_
          refine am_iload_n dX0_thing_69 rfl 3 rfl ?_
          obtain ⟨fs54, ho55, hh⟩ := hh
          refine am_rVv (n := 2) hh dX0_thing_70 (lw_V q451 q452 q453 q91 q454) rfl ⟨⟨by decide, by decide, by decide +kernel⟩, ⟨Nat.le_of_ble_eq_true rfl, Nat.le_of_ble_eq_true rfl⟩⟩ ⟨rfl, rfl⟩ rfl rfl (Nat.le_of_ble_eq_true rfl) ⟨(Nat.le_of_ble_eq_true rfl), (Nat.le_of_ble_eq_true rfl)⟩ (ah_recv ho55 rfl) (fun G56 hh => ?_)
          refine am_iconst dX0_thing_73 ?_
          refine am_istore dX0_thing_74 (by decide) rfl ?_
          refine am_keep [1, 4, 0] rfl ?_
          exact hh
        · have hh := hb22 hc23
          refine am_ldc (z := -1000003) q450 (by decide) dX0_thing_38 ?_
          exact am_iret rfl dX0_thing_40 (Nat.le_refl 0) (Nat.le_refl 0) hh
      · have hh := hb14 hc15
        refine am_ldc (z := -1000001) q289 (by decide) dX0_thing_26 ?_
        exact am_iret rfl dX0_thing_28 (Nat.le_refl 0) (Nat.le_refl 0) hh
set_option maxHeartbeats 4000000 in
set_option maxRecDepth 100000 in
theorem bX0_thing_76 {l : Launch} {Q : Option am_W → ah_H → Prop} {S : ah_H} (v0 : Nat) (v3 : Int) (h3 : am_r v3) (v4 : Int) (h4 : am_r v4)
    (hh : (∃ fs1, (S.1 v0 = some (.inl (1, fs1))) ∧
      (∃ z4, (fs1[6]? = some (am_I z4) ∧ am_r z4) ∧
      ((z4 ≤ v4) →
        (∃ z10, (fs1[1]? = some (am_I z10) ∧ am_r z10) ∧
        (ah_X ≤ v0) ∧
        (1 < fs1.length) ∧
        (∀ G14, G14 = ah_sf S v0 1 fs1 1 (am_I (z10 + 1)) →
        Q (some (am_I z10)) G14))) ∧
      ((¬ z4 ≤ v4) →
        (∃ x17, (fs1[5]? = some (am_R x17)) ∧
        (∃ n18 f19, (S.1 x17 = some (.inr (3, n18, .inr f19))) ∧
        (0 ≤ v4 ∧ v4 < (n18 : Int)) ∧
        (∃ y22, (f19 v4.toNat = some y22) ∧
        (∃ z25, (fs1[1]? = some (am_I z25) ∧ am_r z25) ∧
        (∃ fs27, (S.1 y22 = some (.inl (2, fs27))) ∧
        kX1_begin l [am_R y22, am_I z25, am_I v3] S (am_qv fun G29 =>
          VX0_thing l Q 76 [(0, am_R v0), (3, am_I v3), (4, am_I (v4 + 1))] [] G29)))))))))) : VX0_thing l Q 76 [(0, am_R v0), (3, am_I v3), (4, am_I v4)] [] S := by
  refine am_iload dX0_thing_76 2 rfl ?_
  refine am_aload_n dX0_thing_78 rfl 0 rfl ?_
  obtain ⟨fs1, ho2, hh⟩ := hh
  obtain ⟨z4, ⟨hv3, hr5⟩, hh⟩ := hh
  refine ah_get ho2 hv3 rfl in_X0 (by decide) q220 (Or.inl rfl) dX0_thing_79 ?_
  obtain ⟨ha6, hb7⟩ := hh
  refine am_icmp_ge (tgt := 106) dX0_thing_82 (by decide) h4 hr5 (fun hc8 => ?_) (fun hc8 => ?_)
  · have hh := ha6 hc8
    refine am_aload_n dX0_thing_106 rfl 0 rfl ?_
    refine am_dup dX0_thing_107 rfl ?_
    obtain ⟨z10, ⟨hv9, hr11⟩, hh⟩ := hh
    refine ah_get ho2 hv9 rfl in_X0 (by decide) q210 (Or.inl rfl) dX0_thing_108 ?_
    refine am_dup_x1 dX0_thing_111 rfl rfl ?_
    refine am_iconst dX0_thing_112 ?_
    refine am_iadd dX0_thing_113 ?_
    obtain ⟨o12, hh⟩ := hh
    obtain ⟨o13, hh⟩ := hh
    refine ah_put (ty := tyX0 1) ho2 o12 o13 rfl in_X0 tyX0 tyX0_ok nmX0 (by decide) q210 (Or.inl rfl) rfl (tyX0_ok 1 (by decide)) ah_fit_int dX0_thing_114 ?_
    have hh := hh _ rfl
    exact am_iret rfl dX0_thing_117 (Nat.le_refl 0) (Nat.le_refl 0) hh
  · have hh := hb7 hc8
    refine am_aload_n dX0_thing_85 rfl 0 rfl ?_
    obtain ⟨x17, hv16, hh⟩ := hh
    refine ah_get ho2 hv16 rfl in_X0 (by decide) q219 (Or.inl rfl) dX0_thing_86 ?_
    refine am_iload dX0_thing_89 2 rfl ?_
    obtain ⟨n18, f19, ha20, hh⟩ := hh
    obtain ⟨o21, hh⟩ := hh
    obtain ⟨y22, hy23, hh⟩ := hh
    refine ah_aald ha20 (by decide) o21.1 o21.2 hy23 dX0_thing_91 ?_
    refine am_aload_n dX0_thing_92 rfl 0 rfl ?_
    obtain ⟨z25, ⟨hv24, hr26⟩, hh⟩ := hh
    refine ah_get ho2 hv24 rfl in_X0 (by decide) q210 (Or.inl rfl) dX0_thing_93 ?_
    refine am_iload_n dX0_thing_96 rfl 1 rfl ?_
    obtain ⟨fs27, ho28, hh⟩ := hh
    refine am_rVv (n := 2) hh dX0_thing_97 (lw_V q451 q452 q453 q91 q454) rfl ⟨⟨by decide, by decide, by decide +kernel⟩, ⟨Nat.le_of_ble_eq_true rfl, Nat.le_of_ble_eq_true rfl⟩⟩ ⟨rfl, rfl⟩ rfl rfl (Nat.le_of_ble_eq_true rfl) ⟨(Nat.le_of_ble_eq_true rfl), (Nat.le_of_ble_eq_true rfl)⟩ (ah_recv ho28 rfl) (fun G29 hh => ?_)
    refine am_iinc (n := 2) dX0_thing_100 rfl (by decide) rfl ?_
    refine am_goto (tgt := 76) dX0_thing_103 (by decide) ?_
    refine am_keep [1, 2, 0] rfl ?_
    exact hh
/-! TableArms.isThing(I)Z -/
abbrev VX0_isThing (l : Launch) (Q : Option am_W → ah_H → Prop) (pc : Nat) (lv : List (Nat × am_W)) (st : List am_W) (S : ah_H) : Prop := am_V ah_r l RX0 cX0_isThing 2 (some .boolean) "isThing" (am_rm 2 0 0) (am_E1 ah_r 0 0 Q) pc lv st S 0 0
abbrev kX0_isThing (l : Launch) (as : List am_W) (S : ah_H) (Q : Option am_W → ah_H → Prop) : Prop := am_C ah_r l yX0_isThing (ws_ yX0_isThing cX0_isThing 2 (some .boolean)) (am_rm 2 0 0) 0 0 as S Q
set_option maxHeartbeats 4000000 in
set_option maxRecDepth 100000 in
theorem bX0_isThing {l : Launch} {Q : Option am_W → ah_H → Prop} {S : ah_H} (v0 : Nat) (v1 : Int) (h1 : am_r v1)
    (hh : (∃ fs1, (S.1 v0 = some (.inl (1, fs1))) ∧
      (∃ z4, (fs1[1]? = some (am_I z4) ∧ am_r z4) ∧
      (am_r (z4 - 1)) ∧
      kX0_isIn l [am_J v1, am_J 0, am_J (z4 - 1)] S (am_qz fun b8 G7 =>
        Q (some (am_I (am_b b8))) G7)))) : kX0_isThing l [am_R v0, am_I v1] S Q := by
  refine am_entry (lv := [(0, am_R v0), (1, am_I v1)]) rfl rfl rfl (fun _ => rfl) (fun _ => Nat.le_of_ble_eq_true rfl) ?_
  refine am_iload_n dX0_isThing_0 rfl 1 rfl ?_
  refine am_i2l_ h1 dX0_isThing_1 ?_
  refine am_lconst (z := 0) dX0_isThing_2 (by decide) ?_
  refine am_aload_n dX0_isThing_3 rfl 0 rfl ?_
  obtain ⟨fs1, ho2, hh⟩ := hh
  obtain ⟨z4, ⟨hv3, hr5⟩, hh⟩ := hh
  refine ah_get ho2 hv3 rfl in_X0 (by decide) q210 (Or.inl rfl) dX0_isThing_4 ?_
  refine am_iconst dX0_isThing_7 ?_
  refine am_isub dX0_isThing_8 ?_
  obtain ⟨o6, hh⟩ := hh
  refine am_i2l_ o6 dX0_isThing_9 ?_
  refine am_rSz (n := 3) hh dX0_isThing_10 (lw_S q285 q286 q90 q287) ⟨⟨by decide, by decide, by decide +kernel⟩, ⟨Nat.le_of_ble_eq_true rfl, Nat.le_of_ble_eq_true rfl⟩⟩ ⟨rfl, rfl⟩ rfl rfl (Nat.le_of_ble_eq_true rfl) ⟨(Nat.le_of_ble_eq_true rfl), (Nat.le_of_ble_eq_true rfl)⟩ (fun b8 G7 hh => ?_)
  exact am_zret (b := b8) rfl dX0_isThing_13 (Nat.le_refl 0) (Nat.le_refl 0) hh
/-! TableArms$Table.cellOf(I)I -/
abbrev VX1_cellOf (l : Launch) (Q : Option am_W → ah_H → Prop) (pc : Nat) (lv : List (Nat × am_W)) (st : List am_W) (S : ah_H) : Prop := am_V ah_r l RX1 cX1_cellOf 2 (some .int) "cellOf" (am_rm 1 0 0) (am_E1 ah_r 0 0 Q) pc lv st S 0 0
abbrev kX1_cellOf (l : Launch) (as : List am_W) (S : ah_H) (Q : Option am_W → ah_H → Prop) : Prop := am_C ah_r l yX1_cellOf (ws_ yX1_cellOf cX1_cellOf 2 (some .int)) (am_rm 1 0 0) 0 0 as S Q
set_option maxHeartbeats 4000000 in
set_option maxRecDepth 100000 in
theorem bX1_cellOf {l : Launch} {Q : Option am_W → ah_H → Prop} {S : ah_H} (v0 : Nat) (v1 : Int) (h1 : am_r v1)
    (hh : (∃ fs1, (S.1 v0 = some (.inl (2, fs1))) ∧
      (∃ x4, (fs1[3]? = some (am_R x4)) ∧
      (∃ n5 f6, (S.1 x4 = some (.inr (0, n5, .inl f6))) ∧
      (0 ≤ v1 ∧ v1 < (n5 : Int)) ∧
      ((¬ ((f6 v1.toNat).toInt) = (-1000000)) →
        (∃ x13, (fs1[2]? = some (am_R x13)) ∧
        (∃ n14 f15, (S.1 x13 = some (.inr (0, n14, .inl f15))) ∧
        (0 ≤ (f6 v1.toNat).toInt ∧ (f6 v1.toNat).toInt < (n14 : Int)) ∧
        Q (some (am_I (f15 ((f6 v1.toNat).toInt).toNat).toInt)) S))) ∧
      ((((f6 v1.toNat).toInt) = (-1000000)) →
        (∃ x19, (fs1[2]? = some (am_R x19)) ∧
        (∃ n20 f21, (S.1 x19 = some (.inr (0, n20, .inl f21))) ∧
        (0 ≤ v1 ∧ v1 < (n20 : Int)) ∧
        Q (some (am_I (f21 v1.toNat).toInt)) S))))))) : kX1_cellOf l [am_R v0, am_I v1] S Q := by
  refine am_entry (lv := [(0, am_R v0), (1, am_I v1)]) rfl rfl rfl (fun _ => rfl) (fun _ => Nat.le_of_ble_eq_true rfl) ?_
  refine am_aload_n dX1_cellOf_0 rfl 0 rfl ?_
  obtain ⟨fs1, ho2, hh⟩ := hh
  obtain ⟨x4, hv3, hh⟩ := hh
  refine ah_get ho2 hv3 rfl in_X1 (by decide) q148 (Or.inl rfl) dX1_cellOf_1 ?_
  refine am_iload_n dX1_cellOf_4 rfl 1 rfl ?_
  obtain ⟨n5, f6, ha7, hh⟩ := hh
  obtain ⟨o8, hh⟩ := hh
  refine ah_iald ha7 o8.1 o8.2 (v := (f6 v1.toNat).toInt) rfl dX1_cellOf_5 ?_
  refine am_ldc (z := -1000000) q455 (by decide) dX1_cellOf_6 ?_
  obtain ⟨ha9, hb10⟩ := hh
  refine am_icmp_ne (tgt := 20) dX1_cellOf_8 (by decide) (am_rt _) (⟨by decide, by decide⟩) (fun hc11 => ?_) (fun hc11 => ?_)
  · have hh := ha9 hc11
    refine am_aload_n dX1_cellOf_20 rfl 0 rfl ?_
    obtain ⟨x13, hv12, hh⟩ := hh
    refine ah_get ho2 hv12 rfl in_X1 (by decide) q146 (Or.inl rfl) dX1_cellOf_21 ?_
    refine am_aload_n dX1_cellOf_24 rfl 0 rfl ?_
    refine ah_get ho2 hv3 rfl in_X1 (by decide) q148 (Or.inl rfl) dX1_cellOf_25 ?_
    refine am_iload_n dX1_cellOf_28 rfl 1 rfl ?_
    refine ah_iald ha7 o8.1 o8.2 (v := (f6 v1.toNat).toInt) rfl dX1_cellOf_29 ?_
    obtain ⟨n14, f15, ha16, hh⟩ := hh
    obtain ⟨o17, hh⟩ := hh
    refine ah_iald ha16 o17.1 o17.2 (v := (f15 ((f6 v1.toNat).toInt).toNat).toInt) rfl dX1_cellOf_30 ?_
    exact am_iret rfl dX1_cellOf_31 (Nat.le_refl 0) (Nat.le_refl 0) hh
  · have hh := hb10 hc11
    refine am_aload_n dX1_cellOf_11 rfl 0 rfl ?_
    obtain ⟨x19, hv18, hh⟩ := hh
    refine ah_get ho2 hv18 rfl in_X1 (by decide) q146 (Or.inl rfl) dX1_cellOf_12 ?_
    refine am_iload_n dX1_cellOf_15 rfl 1 rfl ?_
    obtain ⟨n20, f21, ha22, hh⟩ := hh
    obtain ⟨o23, hh⟩ := hh
    refine ah_iald ha22 o23.1 o23.2 (v := (f21 v1.toNat).toInt) rfl dX1_cellOf_16 ?_
    refine am_goto (tgt := 31) dX1_cellOf_17 (by decide) ?_
    exact am_iret rfl dX1_cellOf_31 (Nat.le_refl 0) (Nat.le_refl 0) hh
/-! TableArms$Table.at(II)I -/
abbrev VX1_at (l : Launch) (Q : Option am_W → ah_H → Prop) (pc : Nat) (lv : List (Nat × am_W)) (st : List am_W) (S : ah_H) : Prop := am_V ah_r l RX1 cX1_at 3 (some .int) "at" (am_rm 1 0 0) (am_E1 ah_r 0 0 Q) pc lv st S 0 0
abbrev kX1_at (l : Launch) (as : List am_W) (S : ah_H) (Q : Option am_W → ah_H → Prop) : Prop := am_C ah_r l yX1_at (ws_ yX1_at cX1_at 3 (some .int)) (am_rm 1 0 0) 0 0 as S Q
set_option maxHeartbeats 4000000 in
set_option maxRecDepth 100000 in
theorem bX1_at {l : Launch} {Q : Option am_W → ah_H → Prop} {S : ah_H} (v0 : Nat) (v1 : Int) (h1 : am_r v1) (v2 : Int) (h2 : am_r v2)
    (hh : (∃ fs1, (S.1 v0 = some (.inl (2, fs1))) ∧
      (∃ x4, (fs1[0]? = some (am_R x4)) ∧
      (∃ n5 f6, (S.1 x4 = some (.inr (0, n5, .inl f6))) ∧
      (0 ≤ ((6 * v1) + v2) ∧ ((6 * v1) + v2) < (n5 : Int)) ∧
      Q (some (am_I (f6 ((6 * v1) + v2).toNat).toInt)) S)))) : kX1_at l [am_R v0, am_I v1, am_I v2] S Q := by
  refine am_entry (lv := [(0, am_R v0), (1, am_I v1), (2, am_I v2)]) rfl rfl rfl (fun _ => rfl) (fun _ => Nat.le_of_ble_eq_true rfl) ?_
  refine am_aload_n dX1_at_0 rfl 0 rfl ?_
  obtain ⟨fs1, ho2, hh⟩ := hh
  obtain ⟨x4, hv3, hh⟩ := hh
  refine ah_get ho2 hv3 rfl in_X1 (by decide) q143 (Or.inl rfl) dX1_at_1 ?_
  refine am_bipush dX1_at_4 (by decide) ?_
  refine am_iload_n dX1_at_6 rfl 1 rfl ?_
  refine am_imul dX1_at_7 ?_
  refine am_iload_n dX1_at_8 rfl 2 rfl ?_
  refine am_iadd dX1_at_9 ?_
  obtain ⟨n5, f6, ha7, hh⟩ := hh
  obtain ⟨o8, hh⟩ := hh
  refine ah_iald ha7 o8.1 o8.2 (v := (f6 ((6 * v1) + v2).toNat).toInt) rfl dX1_at_10 ?_
  exact am_iret rfl dX1_at_11 (Nat.le_refl 0) (Nat.le_refl 0) hh
/-! TableArms$Table.below(I)I -/
abbrev VX1_below (l : Launch) (Q : Option am_W → ah_H → Prop) (pc : Nat) (lv : List (Nat × am_W)) (st : List am_W) (S : ah_H) : Prop := am_V ah_r l RX1 cX1_below 3 (some .int) "below" (am_rm 2 0 0) (am_E1 ah_r 0 0 Q) pc lv st S 0 0
abbrev kX1_below (l : Launch) (as : List am_W) (S : ah_H) (Q : Option am_W → ah_H → Prop) : Prop := am_C ah_r l yX1_below (ws_ yX1_below cX1_below 3 (some .int)) (am_rm 2 0 0) 0 0 as S Q
set_option maxHeartbeats 4000000 in
set_option maxRecDepth 100000 in
theorem bX1_below {l : Launch} {Q : Option am_W → ah_H → Prop} {S : ah_H} (v0 : Nat) (v1 : Int) (h1 : am_r v1)
    (hh : VX1_below l Q 2 [(0, am_R v0), (1, am_I v1), (2, am_I 0)] [] S) : kX1_below l [am_R v0, am_I v1] S Q := by
  refine am_entry (lv := [(0, am_R v0), (1, am_I v1)]) rfl rfl rfl (fun _ => rfl) (fun _ => Nat.le_of_ble_eq_true rfl) ?_
  refine am_iconst dX1_below_0 ?_
  refine am_istore_n dX1_below_1 rfl (by decide) rfl ?_
  refine am_keep [1, 2, 0] rfl ?_
  exact hh
set_option maxHeartbeats 4000000 in
set_option maxRecDepth 100000 in
theorem bX1_below_2 {l : Launch} {Q : Option am_W → ah_H → Prop} {S : ah_H} (v0 : Nat) (v1 : Int) (h1 : am_r v1) (v2 : Int) (h2 : am_r v2)
    (hh : (∃ fs1, (S.1 v0 = some (.inl (2, fs1))) ∧
      (∃ x4, (fs1[2]? = some (am_R x4)) ∧
      (∃ n5 f6, (S.1 x4 = some (.inr (0, n5, .inl f6))) ∧
      (0 ≤ v1 ∧ v1 < (n5 : Int)) ∧
      kX1_at l [am_R v0, am_I (f6 v1.toNat).toInt, am_I v2] S (am_qi fun r10 G9 =>
        ((r10 = v1) →
          Q (some (am_I v2)) G9) ∧
        ((¬ r10 = v1) →
          VX1_below l Q 2 [(0, am_R v0), (1, am_I v1), (2, am_I (v2 + 1))] [] G9)))))) : VX1_below l Q 2 [(0, am_R v0), (1, am_I v1), (2, am_I v2)] [] S := by
  refine am_aload_n dX1_below_2 rfl 0 rfl ?_
  refine am_aload_n dX1_below_3 rfl 0 rfl ?_
  obtain ⟨fs1, ho2, hh⟩ := hh
  obtain ⟨x4, hv3, hh⟩ := hh
  refine ah_get ho2 hv3 rfl in_X1 (by decide) q146 (Or.inl rfl) dX1_below_4 ?_
  refine am_iload_n dX1_below_7 rfl 1 rfl ?_
  obtain ⟨n5, f6, ha7, hh⟩ := hh
  obtain ⟨o8, hh⟩ := hh
  refine ah_iald ha7 o8.1 o8.2 (v := (f6 v1.toNat).toInt) rfl dX1_below_8 ?_
  refine am_iload_n dX1_below_9 rfl 2 rfl ?_
  refine am_rVi (n := 2) hh dX1_below_10 (lw_V q477 q478 q479 q91 q480) rfl ⟨⟨by decide, by decide, by decide +kernel⟩, ⟨Nat.le_of_ble_eq_true rfl, Nat.le_of_ble_eq_true rfl⟩⟩ ⟨rfl, rfl⟩ rfl rfl (Nat.le_of_ble_eq_true rfl) ⟨(Nat.le_of_ble_eq_true rfl), (Nat.le_of_ble_eq_true rfl)⟩ (ah_recv ho2 rfl) (fun r10 G9 hr11 hh => ?_)
  refine am_iload_n dX1_below_13 rfl 1 rfl ?_
  obtain ⟨ha12, hb13⟩ := hh
  refine am_icmp_eq (tgt := 23) dX1_below_14 (by decide) hr11 h1 (fun hc14 => ?_) (fun hc14 => ?_)
  · have hh := ha12 hc14
    refine am_iload_n dX1_below_23 rfl 2 rfl ?_
    exact am_iret rfl dX1_below_24 (Nat.le_refl 0) (Nat.le_refl 0) hh
  · have hh := hb13 hc14
    refine am_iinc (n := 2) dX1_below_17 rfl (by decide) rfl ?_
    refine am_goto (tgt := 2) dX1_below_20 (by decide) ?_
    refine am_keep [1, 2, 0] rfl ?_
    exact hh
/-! TableArms$Table.isClear(I)Z -/
abbrev VX1_isClear (l : Launch) (Q : Option am_W → ah_H → Prop) (pc : Nat) (lv : List (Nat × am_W)) (st : List am_W) (S : ah_H) : Prop := am_V ah_r l RX1 cX1_isClear 2 (some .boolean) "isClear" (am_rm 2 0 0) (am_E1 ah_r 0 0 Q) pc lv st S 0 0
abbrev kX1_isClear (l : Launch) (as : List am_W) (S : ah_H) (Q : Option am_W → ah_H → Prop) : Prop := am_C ah_r l yX1_isClear (ws_ yX1_isClear cX1_isClear 2 (some .boolean)) (am_rm 2 0 0) 0 0 as S Q
set_option maxHeartbeats 4000000 in
set_option maxRecDepth 100000 in
theorem bX1_isClear {l : Launch} {Q : Option am_W → ah_H → Prop} {S : ah_H} (v0 : Nat) (v1 : Int) (h1 : am_r v1)
    (hh : (∃ fs1, (S.1 v0 = some (.inl (2, fs1))) ∧
      (∃ x4, (fs1[2]? = some (am_R x4)) ∧
      (∃ n5 f6, (S.1 x4 = some (.inr (0, n5, .inl f6))) ∧
      (0 ≤ v1 ∧ v1 < (n5 : Int)) ∧
      ((((f6 v1.toNat).toInt) = (-1000000)) →
        Q (some (am_I (am_b false))) S) ∧
      ((¬ ((f6 v1.toNat).toInt) = (-1000000)) →
        (∃ x13, (fs1[1]? = some (am_R x13)) ∧
        (∃ n14 f15, (S.1 x13 = some (.inr (0, n14, .inl f15))) ∧
        (0 ≤ (f6 v1.toNat).toInt ∧ (f6 v1.toNat).toInt < (n14 : Int)) ∧
        kX1_at l [am_R v0, am_I (f6 v1.toNat).toInt, am_I ((f15 ((f6 v1.toNat).toInt).toNat).toInt - 1)] S (am_qi fun r19 G18 =>
          ((¬ r19 = v1) →
            Q (some (am_I (am_b false))) G18) ∧
          ((r19 = v1) →
            Q (some (am_I (am_b true))) G18))))))))) : kX1_isClear l [am_R v0, am_I v1] S Q := by
  refine am_entry (lv := [(0, am_R v0), (1, am_I v1)]) rfl rfl rfl (fun _ => rfl) (fun _ => Nat.le_of_ble_eq_true rfl) ?_
  refine am_aload_n dX1_isClear_0 rfl 0 rfl ?_
  obtain ⟨fs1, ho2, hh⟩ := hh
  obtain ⟨x4, hv3, hh⟩ := hh
  refine ah_get ho2 hv3 rfl in_X1 (by decide) q146 (Or.inl rfl) dX1_isClear_1 ?_
  refine am_iload_n dX1_isClear_4 rfl 1 rfl ?_
  obtain ⟨n5, f6, ha7, hh⟩ := hh
  obtain ⟨o8, hh⟩ := hh
  refine ah_iald ha7 o8.1 o8.2 (v := (f6 v1.toNat).toInt) rfl dX1_isClear_5 ?_
  refine am_ldc (z := -1000000) q455 (by decide) dX1_isClear_6 ?_
  obtain ⟨ha9, hb10⟩ := hh
  refine am_icmp_eq (tgt := 42) dX1_isClear_8 (by decide) (am_rt _) (⟨by decide, by decide⟩) (fun hc11 => ?_) (fun hc11 => ?_)
  · have hh := ha9 hc11
    refine am_iconst dX1_isClear_42 ?_
    exact am_zret (b := false) rfl dX1_isClear_43 (Nat.le_refl 0) (Nat.le_refl 0) hh
  · have hh := hb10 hc11
    refine am_aload_n dX1_isClear_11 rfl 0 rfl ?_
    refine am_aload_n dX1_isClear_12 rfl 0 rfl ?_
    refine ah_get ho2 hv3 rfl in_X1 (by decide) q146 (Or.inl rfl) dX1_isClear_13 ?_
    refine am_iload_n dX1_isClear_16 rfl 1 rfl ?_
    refine ah_iald ha7 o8.1 o8.2 (v := (f6 v1.toNat).toInt) rfl dX1_isClear_17 ?_
    refine am_aload_n dX1_isClear_18 rfl 0 rfl ?_
    obtain ⟨x13, hv12, hh⟩ := hh
    refine ah_get ho2 hv12 rfl in_X1 (by decide) q144 (Or.inl rfl) dX1_isClear_19 ?_
    refine am_aload_n dX1_isClear_22 rfl 0 rfl ?_
    refine ah_get ho2 hv3 rfl in_X1 (by decide) q146 (Or.inl rfl) dX1_isClear_23 ?_
    refine am_iload_n dX1_isClear_26 rfl 1 rfl ?_
    refine ah_iald ha7 o8.1 o8.2 (v := (f6 v1.toNat).toInt) rfl dX1_isClear_27 ?_
    obtain ⟨n14, f15, ha16, hh⟩ := hh
    obtain ⟨o17, hh⟩ := hh
    refine ah_iald ha16 o17.1 o17.2 (v := (f15 ((f6 v1.toNat).toInt).toNat).toInt) rfl dX1_isClear_28 ?_
    refine am_iconst dX1_isClear_29 ?_
    refine am_isub dX1_isClear_30 ?_
    refine am_rVi (n := 2) hh dX1_isClear_31 (lw_V q477 q478 q479 q91 q480) rfl ⟨⟨by decide, by decide, by decide +kernel⟩, ⟨Nat.le_of_ble_eq_true rfl, Nat.le_of_ble_eq_true rfl⟩⟩ ⟨rfl, rfl⟩ rfl rfl (Nat.le_of_ble_eq_true rfl) ⟨(Nat.le_of_ble_eq_true rfl), (Nat.le_of_ble_eq_true rfl)⟩ (ah_recv ho2 rfl) (fun r19 G18 hr20 hh => ?_)
    refine am_iload_n dX1_isClear_34 rfl 1 rfl ?_
    obtain ⟨ha21, hb22⟩ := hh
    refine am_icmp_ne (tgt := 42) dX1_isClear_35 (by decide) hr20 h1 (fun hc23 => ?_) (fun hc23 => ?_)
    · have hh := ha21 hc23
      refine am_iconst dX1_isClear_42 ?_
      exact am_zret (b := false) rfl dX1_isClear_43 (Nat.le_refl 0) (Nat.le_refl 0) hh
    · have hh := hb22 hc23
      refine am_iconst dX1_isClear_38 ?_
      refine am_goto (tgt := 43) dX1_isClear_39 (by decide) ?_
      exact am_zret (b := true) rfl dX1_isClear_43 (Nat.le_refl 0) (Nat.le_refl 0) hh
/-! TableArms.where(II)I -/
abbrev VX0_where (l : Launch) (Q : Option am_W → ah_H → Prop) (pc : Nat) (lv : List (Nat × am_W)) (st : List am_W) (S : ah_H) : Prop := am_V ah_r l RX0 cX0_where 3 (some .int) "where" (am_rm 3 0 0) (am_E1 ah_r 0 0 Q) pc lv st S 0 0
abbrev kX0_where (l : Launch) (as : List am_W) (S : ah_H) (Q : Option am_W → ah_H → Prop) : Prop := am_C ah_r l yX0_where (ws_ yX0_where cX0_where 3 (some .int)) (am_rm 3 0 0) 0 0 as S Q
set_option maxHeartbeats 4000000 in
set_option maxRecDepth 100000 in
theorem bX0_where {l : Launch} {Q : Option am_W → ah_H → Prop} {S : ah_H} (v0 : Nat) (v1 : Int) (h1 : am_r v1) (v2 : Int) (h2 : am_r v2)
    (hh : (∃ fs1, (S.1 v0 = some (.inl (1, fs1))) ∧
      kX0_isThing l [am_R v0, am_I v1] S (am_qz fun b4 G3 =>
        ((b4 = true) →
          ((v2 = 0) →
            (∃ fs17, (G3.1 v0 = some (.inl (1, fs17))) ∧
            (∃ x20, (fs17[2]? = some (am_R x20)) ∧
            (∃ n21 f22, (G3.1 x20 = some (.inr (0, n21, .inl f22))) ∧
            (0 ≤ v1 ∧ v1 < (n21 : Int)) ∧
            Q (some (am_I (f22 v1.toNat).toInt)) G3)))) ∧
          ((v2 = 1) →
            (∃ fs25, (G3.1 v0 = some (.inl (1, fs25))) ∧
            (∃ x28, (fs25[3]? = some (am_R x28)) ∧
            (∃ n29 f30, (G3.1 x28 = some (.inr (0, n29, .inl f30))) ∧
            (0 ≤ v1 ∧ v1 < (n29 : Int)) ∧
            Q (some (am_I (f30 v1.toNat).toInt)) G3)))) ∧
          ((v2 = 2) →
            (∃ fs33, (G3.1 v0 = some (.inl (1, fs33))) ∧
            (∃ x36, (fs33[4]? = some (am_R x36)) ∧
            (∃ fs37, (G3.1 x36 = some (.inl (2, fs37))) ∧
            kX1_cellOf l [am_R x36, am_I v1] G3 (am_qi fun r40 G39 =>
              Q (some (am_I r40)) G39))))) ∧
          ((v2 = 3) →
            (∃ fs42, (G3.1 v0 = some (.inl (1, fs42))) ∧
            (∃ x45, (fs42[4]? = some (am_R x45)) ∧
            (∃ fs46, (G3.1 x45 = some (.inl (2, fs46))) ∧
            (∃ x49, (fs46[3]? = some (am_R x49)) ∧
            (∃ n50 f51, (G3.1 x49 = some (.inr (0, n50, .inl f51))) ∧
            (0 ≤ v1 ∧ v1 < (n50 : Int)) ∧
            ((¬ ((f51 v1.toNat).toInt) = (-1000000)) →
              Q (some (am_I (-1000000))) G3) ∧
            ((((f51 v1.toNat).toInt) = (-1000000)) →
              kX1_below l [am_R x45, am_I v1] G3 (am_qi fun r58 G57 =>
                Q (some (am_I r58)) G57)))))))) ∧
          ((v2 = 4) →
            (∃ fs60, (G3.1 v0 = some (.inl (1, fs60))) ∧
            (∃ x63, (fs60[4]? = some (am_R x63)) ∧
            (∃ fs64, (G3.1 x63 = some (.inl (2, fs64))) ∧
            (∃ x67, (fs64[3]? = some (am_R x67)) ∧
            (∃ n68 f69, (G3.1 x67 = some (.inr (0, n68, .inl f69))) ∧
            (0 ≤ v1 ∧ v1 < (n68 : Int)) ∧
            Q (some (am_I (f69 v1.toNat).toInt)) G3)))))) ∧
          ((v2 = 5) →
            (∃ fs72, (G3.1 v0 = some (.inl (1, fs72))) ∧
            (∃ x75, (fs72[4]? = some (am_R x75)) ∧
            (∃ fs76, (G3.1 x75 = some (.inl (2, fs76))) ∧
            kX1_isClear l [am_R x75, am_I v1] G3 (am_qz fun b79 G78 =>
              ((b79 = false) →
                Q (some (am_I 0)) G78) ∧
              ((b79 = true) →
                Q (some (am_I 1)) G78)))))) ∧
          ((v2 = 6) →
            (∃ fs83, (G3.1 v0 = some (.inl (1, fs83))) ∧
            (∃ x86, (fs83[4]? = some (am_R x86)) ∧
            (∃ fs87, (G3.1 x86 = some (.inl (2, fs87))) ∧
            (∃ x90, (fs87[4]? = some (am_R x90)) ∧
            (∃ n91 f92, (G3.1 x90 = some (.inr (0, n91, .inl f92))) ∧
            (0 ≤ v1 ∧ v1 < (n91 : Int)) ∧
            Q (some (am_I (f92 v1.toNat).toInt)) G3)))))) ∧
          ((v2 < 0 ∨ 6 < v2) →
            Q (some (am_I (-1000001))) G3)) ∧
        ((b4 = false) →
          Q (some (am_I (-1000001))) G3)))) : kX0_where l [am_R v0, am_I v1, am_I v2] S Q := by
  refine am_entry (lv := [(0, am_R v0), (1, am_I v1), (2, am_I v2)]) rfl rfl rfl (fun _ => rfl) (fun _ => Nat.le_of_ble_eq_true rfl) ?_
  refine am_aload_n dX0_where_0 rfl 0 rfl ?_
  refine am_iload_n dX0_where_1 rfl 1 rfl ?_
  obtain ⟨fs1, ho2, hh⟩ := hh
  refine am_rVz (n := 1) hh dX0_where_2 (lw_V q464 q466 qs4 q90 q467) rfl ⟨⟨by decide, by decide, by decide +kernel⟩, ⟨Nat.le_of_ble_eq_true rfl, Nat.le_of_ble_eq_true rfl⟩⟩ ⟨rfl, rfl⟩ rfl rfl (Nat.le_of_ble_eq_true rfl) ⟨(Nat.le_of_ble_eq_true rfl), (Nat.le_of_ble_eq_true rfl)⟩ (ah_recv ho2 rfl) (fun b4 G3 hh => ?_)
  obtain ⟨ha5, hb6⟩ := hh
  refine am_ifB_ne (tgt := 11) dX0_where_5 (by decide) (fun hc7 => ?_) (fun hc7 => ?_)
  · have hh := ha5 hc7
    refine am_iload_n dX0_where_11 rfl 2 rfl ?_
    obtain ⟨ha8, ha9, ha10, ha11, ha12, ha13, ha14, ha15⟩ := hh
    by_cases hc16 : v2 < 0 ∨ 6 < v2
    · have hh := ha15 hc16
      refine am_tabOut (tgt := 144) dX0_where_12 h2 hc16 (by decide) ?_
      refine am_ldc (z := -1000001) q289 (by decide) dX0_where_144 ?_
      exact am_iret rfl dX0_where_146 (Nat.le_refl 0) (Nat.le_refl 0) hh
    have hc16 : v2 = 0 ∨ v2 = 1 ∨ v2 = 2 ∨ v2 = 3 ∨ v2 = 4 ∨ v2 = 5 ∨ v2 = 6 := by omega
    rcases hc16 with hc16 | hc16 | hc16 | hc16 | hc16 | hc16 | hc16
    · have hh := ha8 hc16
      refine am_tabIn (tgt := 56) 0 dX0_where_12 h2 hc16 (by decide) (by decide) rfl (by decide) ?_
      refine am_aload_n dX0_where_56 rfl 0 rfl ?_
      obtain ⟨fs17, ho18, hh⟩ := hh
      obtain ⟨x20, hv19, hh⟩ := hh
      refine ah_get ho18 hv19 rfl in_X0 (by decide) q211 (Or.inl rfl) dX0_where_57 ?_
      refine am_iload_n dX0_where_60 rfl 1 rfl ?_
      obtain ⟨n21, f22, ha23, hh⟩ := hh
      obtain ⟨o24, hh⟩ := hh
      refine ah_iald ha23 o24.1 o24.2 (v := (f22 v1.toNat).toInt) rfl dX0_where_61 ?_
      exact am_iret rfl dX0_where_62 (Nat.le_refl 0) (Nat.le_refl 0) hh
    · have hh := ha9 hc16
      refine am_tabIn (tgt := 63) 1 dX0_where_12 h2 hc16 (by decide) (by decide) rfl (by decide) ?_
      refine am_aload_n dX0_where_63 rfl 0 rfl ?_
      obtain ⟨fs25, ho26, hh⟩ := hh
      obtain ⟨x28, hv27, hh⟩ := hh
      refine ah_get ho26 hv27 rfl in_X0 (by decide) q214 (Or.inl rfl) dX0_where_64 ?_
      refine am_iload_n dX0_where_67 rfl 1 rfl ?_
      obtain ⟨n29, f30, ha31, hh⟩ := hh
      obtain ⟨o32, hh⟩ := hh
      refine ah_iald ha31 o32.1 o32.2 (v := (f30 v1.toNat).toInt) rfl dX0_where_68 ?_
      exact am_iret rfl dX0_where_69 (Nat.le_refl 0) (Nat.le_refl 0) hh
    · have hh := ha10 hc16
      refine am_tabIn (tgt := 70) 2 dX0_where_12 h2 hc16 (by decide) (by decide) rfl (by decide) ?_
      refine am_aload_n dX0_where_70 rfl 0 rfl ?_
      obtain ⟨fs33, ho34, hh⟩ := hh
      obtain ⟨x36, hv35, hh⟩ := hh
      refine ah_get ho34 hv35 rfl in_X0 (by decide) q215 (Or.inl rfl) dX0_where_71 ?_
      refine am_iload_n dX0_where_74 rfl 1 rfl ?_
      obtain ⟨fs37, ho38, hh⟩ := hh
      refine am_rVi (n := 1) hh dX0_where_75 (lw_V q468 q469 q470 q91 q471) rfl ⟨⟨by decide, by decide, by decide +kernel⟩, ⟨Nat.le_of_ble_eq_true rfl, Nat.le_of_ble_eq_true rfl⟩⟩ ⟨rfl, rfl⟩ rfl rfl (Nat.le_of_ble_eq_true rfl) ⟨(Nat.le_of_ble_eq_true rfl), (Nat.le_of_ble_eq_true rfl)⟩ (ah_recv ho38 rfl) (fun r40 G39 hr41 hh => ?_)
      exact am_iret rfl dX0_where_78 (Nat.le_refl 0) (Nat.le_refl 0) hh
    · have hh := ha11 hc16
      refine am_tabIn (tgt := 79) 3 dX0_where_12 h2 hc16 (by decide) (by decide) rfl (by decide) ?_
      refine am_aload_n dX0_where_79 rfl 0 rfl ?_
      obtain ⟨fs42, ho43, hh⟩ := hh
      obtain ⟨x45, hv44, hh⟩ := hh
      refine ah_get ho43 hv44 rfl in_X0 (by decide) q215 (Or.inl rfl) dX0_where_80 ?_
      obtain ⟨fs46, ho47, hh⟩ := hh
      obtain ⟨x49, hv48, hh⟩ := hh
      refine ah_getN ho47 hv48 rfl in_X1 (by decide) (am_nwin q150 rfl) dX0_where_83 ?_
      refine am_iload_n dX0_where_86 rfl 1 rfl ?_
      obtain ⟨n50, f51, ha52, hh⟩ := hh
      obtain ⟨o53, hh⟩ := hh
      refine ah_iald ha52 o53.1 o53.2 (v := (f51 v1.toNat).toInt) rfl dX0_where_87 ?_
      refine am_ldc (z := -1000000) q472 (by decide) dX0_where_88 ?_
      obtain ⟨ha54, hb55⟩ := hh
      refine am_icmp_ne (tgt := 104) dX0_where_90 (by decide) (am_rt _) (⟨by decide, by decide⟩) (fun hc56 => ?_) (fun hc56 => ?_)
      · have hh := ha54 hc56
        refine am_ldc (z := -1000000) q472 (by decide) dX0_where_104 ?_
        exact am_iret rfl dX0_where_106 (Nat.le_refl 0) (Nat.le_refl 0) hh
      · have hh := hb55 hc56
        refine am_aload_n dX0_where_93 rfl 0 rfl ?_
        refine ah_get ho43 hv44 rfl in_X0 (by decide) q215 (Or.inl rfl) dX0_where_94 ?_
        refine am_iload_n dX0_where_97 rfl 1 rfl ?_
        refine am_rVi (n := 1) hh dX0_where_98 (lw_V q473 q474 q475 q91 q476) rfl ⟨⟨by decide, by decide, by decide +kernel⟩, ⟨Nat.le_of_ble_eq_true rfl, Nat.le_of_ble_eq_true rfl⟩⟩ ⟨rfl, rfl⟩ rfl rfl (Nat.le_of_ble_eq_true rfl) ⟨(Nat.le_of_ble_eq_true rfl), (Nat.le_of_ble_eq_true rfl)⟩ (ah_recv ho47 rfl) (fun r58 G57 hr59 hh => ?_)
        refine am_goto (tgt := 106) dX0_where_101 (by decide) ?_
        exact am_iret rfl dX0_where_106 (Nat.le_refl 0) (Nat.le_refl 0) hh
    · have hh := ha12 hc16
      refine am_tabIn (tgt := 107) 4 dX0_where_12 h2 hc16 (by decide) (by decide) rfl (by decide) ?_
      refine am_aload_n dX0_where_107 rfl 0 rfl ?_
      obtain ⟨fs60, ho61, hh⟩ := hh
      obtain ⟨x63, hv62, hh⟩ := hh
      refine ah_get ho61 hv62 rfl in_X0 (by decide) q215 (Or.inl rfl) dX0_where_108 ?_
      obtain ⟨fs64, ho65, hh⟩ := hh
      obtain ⟨x67, hv66, hh⟩ := hh
      refine ah_getN ho65 hv66 rfl in_X1 (by decide) (am_nwin q150 rfl) dX0_where_111 ?_
      refine am_iload_n dX0_where_114 rfl 1 rfl ?_
      obtain ⟨n68, f69, ha70, hh⟩ := hh
      obtain ⟨o71, hh⟩ := hh
      refine ah_iald ha70 o71.1 o71.2 (v := (f69 v1.toNat).toInt) rfl dX0_where_115 ?_
      exact am_iret rfl dX0_where_116 (Nat.le_refl 0) (Nat.le_refl 0) hh
    · have hh := ha13 hc16
      refine am_tabIn (tgt := 117) 5 dX0_where_12 h2 hc16 (by decide) (by decide) rfl (by decide) ?_
      refine am_aload_n dX0_where_117 rfl 0 rfl ?_
      obtain ⟨fs72, ho73, hh⟩ := hh
      obtain ⟨x75, hv74, hh⟩ := hh
      refine ah_get ho73 hv74 rfl in_X0 (by decide) q215 (Or.inl rfl) dX0_where_118 ?_
      refine am_iload_n dX0_where_121 rfl 1 rfl ?_
      obtain ⟨fs76, ho77, hh⟩ := hh
      refine am_rVz (n := 1) hh dX0_where_122 (lw_V q481 q482 q483 q91 q484) rfl ⟨⟨by decide, by decide, by decide +kernel⟩, ⟨Nat.le_of_ble_eq_true rfl, Nat.le_of_ble_eq_true rfl⟩⟩ ⟨rfl, rfl⟩ rfl rfl (Nat.le_of_ble_eq_true rfl) ⟨(Nat.le_of_ble_eq_true rfl), (Nat.le_of_ble_eq_true rfl)⟩ (ah_recv ho77 rfl) (fun b79 G78 hh => ?_)
      obtain ⟨ha80, hb81⟩ := hh
      refine am_ifB_eq (tgt := 132) dX0_where_125 (by decide) (fun hc82 => ?_) (fun hc82 => ?_)
      · have hh := ha80 hc82
        refine am_iconst dX0_where_132 ?_
        exact am_iret rfl dX0_where_133 (Nat.le_refl 0) (Nat.le_refl 0) hh
      · have hh := hb81 hc82
        refine am_iconst dX0_where_128 ?_
        refine am_goto (tgt := 133) dX0_where_129 (by decide) ?_
        exact am_iret rfl dX0_where_133 (Nat.le_refl 0) (Nat.le_refl 0) hh
    · have hh := ha14 hc16
      refine am_tabIn (tgt := 134) 6 dX0_where_12 h2 hc16 (by decide) (by decide) rfl (by decide) ?_
      refine am_aload_n dX0_where_134 rfl 0 rfl ?_
      obtain ⟨fs83, ho84, hh⟩ := hh
      obtain ⟨x86, hv85, hh⟩ := hh
      refine ah_get ho84 hv85 rfl in_X0 (by decide) q215 (Or.inl rfl) dX0_where_135 ?_
      obtain ⟨fs87, ho88, hh⟩ := hh
      obtain ⟨x90, hv89, hh⟩ := hh
      refine ah_getN ho88 hv89 rfl in_X1 (by decide) (am_nwin q153 rfl) dX0_where_138 ?_
      refine am_iload_n dX0_where_141 rfl 1 rfl ?_
      obtain ⟨n91, f92, ha93, hh⟩ := hh
      obtain ⟨o94, hh⟩ := hh
      refine ah_iald ha93 o94.1 o94.2 (v := (f92 v1.toNat).toInt) rfl dX0_where_142 ?_
      exact am_iret rfl dX0_where_143 (Nat.le_refl 0) (Nat.le_refl 0) hh
  · have hh := hb6 hc7
    refine am_ldc (z := -1000001) q289 (by decide) dX0_where_8 ?_
    exact am_iret rfl dX0_where_10 (Nat.le_refl 0) (Nat.le_refl 0) hh
/-! TableArms.pile(II)I -/
abbrev VX0_pile (l : Launch) (Q : Option am_W → ah_H → Prop) (pc : Nat) (lv : List (Nat × am_W)) (st : List am_W) (S : ah_H) : Prop := am_V ah_r l RX0 cX0_pile 3 (some .int) "pile" (am_rm 3 0 0) (am_E1 ah_r 0 0 Q) pc lv st S 0 0
abbrev kX0_pile (l : Launch) (as : List am_W) (S : ah_H) (Q : Option am_W → ah_H → Prop) : Prop := am_C ah_r l yX0_pile (ws_ yX0_pile cX0_pile 3 (some .int)) (am_rm 3 0 0) 0 0 as S Q
set_option maxHeartbeats 4000000 in
set_option maxRecDepth 100000 in
theorem bX0_pile {l : Launch} {Q : Option am_W → ah_H → Prop} {S : ah_H} (v0 : Nat) (v1 : Int) (h1 : am_r v1) (v2 : Int) (h2 : am_r v2)
    (hh : kX0_isCell l [am_I v1] S (am_qz fun b2 G1 =>
        ((b2 = false) →
          Q (some (am_I (-1000001))) G1) ∧
        ((b2 = true) →
          (((-1) ≤ v2) →
            ((¬ v2 = (-1)) →
              (∃ fs12, (G1.1 v0 = some (.inl (1, fs12))) ∧
              (∃ x15, (fs12[4]? = some (am_R x15)) ∧
              (∃ fs16, (G1.1 x15 = some (.inl (2, fs16))) ∧
              (∃ x19, (fs16[1]? = some (am_R x19)) ∧
              (∃ n20 f21, (G1.1 x19 = some (.inr (0, n20, .inl f21))) ∧
              (0 ≤ v1 ∧ v1 < (n20 : Int)) ∧
              ((((f21 v1.toNat).toInt) ≤ v2) →
                Q (some (am_I (-1000000))) G1) ∧
              ((¬ ((f21 v1.toNat).toInt) ≤ v2) →
                kX1_at l [am_R x15, am_I v1, am_I v2] G1 (am_qi fun r28 G27 =>
                  Q (some (am_I r28)) G27)))))))) ∧
            ((v2 = (-1)) →
              (∃ fs30, (G1.1 v0 = some (.inl (1, fs30))) ∧
              (∃ x33, (fs30[4]? = some (am_R x33)) ∧
              (∃ fs34, (G1.1 x33 = some (.inl (2, fs34))) ∧
              (∃ x37, (fs34[1]? = some (am_R x37)) ∧
              (∃ n38 f39, (G1.1 x37 = some (.inr (0, n38, .inl f39))) ∧
              (0 ≤ v1 ∧ v1 < (n38 : Int)) ∧
              Q (some (am_I (f39 v1.toNat).toInt)) G1))))))) ∧
          ((¬ (-1) ≤ v2) →
            Q (some (am_I (-1000001))) G1)))) : kX0_pile l [am_R v0, am_I v1, am_I v2] S Q := by
  refine am_entry (lv := [(0, am_R v0), (1, am_I v1), (2, am_I v2)]) rfl rfl rfl (fun _ => rfl) (fun _ => Nat.le_of_ble_eq_true rfl) ?_
  refine am_iload_n dX0_pile_0 rfl 1 rfl ?_
  refine am_rSz (n := 1) hh dX0_pile_1 (lw_S q447 q448 q90 q449) ⟨⟨by decide, by decide, by decide +kernel⟩, ⟨Nat.le_of_ble_eq_true rfl, Nat.le_of_ble_eq_true rfl⟩⟩ ⟨rfl, rfl⟩ rfl rfl (Nat.le_of_ble_eq_true rfl) ⟨(Nat.le_of_ble_eq_true rfl), (Nat.le_of_ble_eq_true rfl)⟩ (fun b2 G1 hh => ?_)
  obtain ⟨ha3, hb4⟩ := hh
  refine am_ifB_eq (tgt := 12) dX0_pile_4 (by decide) (fun hc5 => ?_) (fun hc5 => ?_)
  · have hh := ha3 hc5
    refine am_ldc (z := -1000001) q289 (by decide) dX0_pile_12 ?_
    refine am_goto (tgt := 61) dX0_pile_14 (by decide) ?_
    exact am_iret rfl dX0_pile_61 (Nat.le_refl 0) (Nat.le_refl 0) hh
  · have hh := hb4 hc5
    refine am_iload_n dX0_pile_7 rfl 2 rfl ?_
    refine am_iconst dX0_pile_8 ?_
    obtain ⟨ha6, hb7⟩ := hh
    refine am_icmp_ge (tgt := 17) dX0_pile_9 (by decide) h2 (⟨by decide, by decide⟩) (fun hc8 => ?_) (fun hc8 => ?_)
    · have hh := ha6 hc8
      refine am_iload_n dX0_pile_17 rfl 2 rfl ?_
      refine am_iconst dX0_pile_18 ?_
      obtain ⟨ha9, hb10⟩ := hh
      refine am_icmp_ne (tgt := 34) dX0_pile_19 (by decide) h2 (⟨by decide, by decide⟩) (fun hc11 => ?_) (fun hc11 => ?_)
      · have hh := ha9 hc11
        refine am_iload_n dX0_pile_34 rfl 2 rfl ?_
        refine am_aload_n dX0_pile_35 rfl 0 rfl ?_
        obtain ⟨fs12, ho13, hh⟩ := hh
        obtain ⟨x15, hv14, hh⟩ := hh
        refine ah_get ho13 hv14 rfl in_X0 (by decide) q215 (Or.inl rfl) dX0_pile_36 ?_
        obtain ⟨fs16, ho17, hh⟩ := hh
        obtain ⟨x19, hv18, hh⟩ := hh
        refine ah_getN ho17 hv18 rfl in_X1 (by decide) (am_nwin q145 rfl) dX0_pile_39 ?_
        refine am_iload_n dX0_pile_42 rfl 1 rfl ?_
        obtain ⟨n20, f21, ha22, hh⟩ := hh
        obtain ⟨o23, hh⟩ := hh
        refine ah_iald ha22 o23.1 o23.2 (v := (f21 v1.toNat).toInt) rfl dX0_pile_43 ?_
        obtain ⟨ha24, hb25⟩ := hh
        refine am_icmp_ge (tgt := 59) dX0_pile_44 (by decide) h2 (am_rt _) (fun hc26 => ?_) (fun hc26 => ?_)
        · have hh := ha24 hc26
          refine am_ldc (z := -1000000) q472 (by decide) dX0_pile_59 ?_
          exact am_iret rfl dX0_pile_61 (Nat.le_refl 0) (Nat.le_refl 0) hh
        · have hh := hb25 hc26
          refine am_aload_n dX0_pile_47 rfl 0 rfl ?_
          refine ah_get ho13 hv14 rfl in_X0 (by decide) q215 (Or.inl rfl) dX0_pile_48 ?_
          refine am_iload_n dX0_pile_51 rfl 1 rfl ?_
          refine am_iload_n dX0_pile_52 rfl 2 rfl ?_
          refine am_rVi (n := 2) hh dX0_pile_53 (lw_V q489 q478 q479 q91 q480) rfl ⟨⟨by decide, by decide, by decide +kernel⟩, ⟨Nat.le_of_ble_eq_true rfl, Nat.le_of_ble_eq_true rfl⟩⟩ ⟨rfl, rfl⟩ rfl rfl (Nat.le_of_ble_eq_true rfl) ⟨(Nat.le_of_ble_eq_true rfl), (Nat.le_of_ble_eq_true rfl)⟩ (ah_recv ho17 rfl) (fun r28 G27 hr29 hh => ?_)
          refine am_goto (tgt := 61) dX0_pile_56 (by decide) ?_
          exact am_iret rfl dX0_pile_61 (Nat.le_refl 0) (Nat.le_refl 0) hh
      · have hh := hb10 hc11
        refine am_aload_n dX0_pile_22 rfl 0 rfl ?_
        obtain ⟨fs30, ho31, hh⟩ := hh
        obtain ⟨x33, hv32, hh⟩ := hh
        refine ah_get ho31 hv32 rfl in_X0 (by decide) q215 (Or.inl rfl) dX0_pile_23 ?_
        obtain ⟨fs34, ho35, hh⟩ := hh
        obtain ⟨x37, hv36, hh⟩ := hh
        refine ah_getN ho35 hv36 rfl in_X1 (by decide) (am_nwin q145 rfl) dX0_pile_26 ?_
        refine am_iload_n dX0_pile_29 rfl 1 rfl ?_
        obtain ⟨n38, f39, ha40, hh⟩ := hh
        obtain ⟨o41, hh⟩ := hh
        refine ah_iald ha40 o41.1 o41.2 (v := (f39 v1.toNat).toInt) rfl dX0_pile_30 ?_
        refine am_goto (tgt := 61) dX0_pile_31 (by decide) ?_
        exact am_iret rfl dX0_pile_61 (Nat.le_refl 0) (Nat.le_refl 0) hh
    · have hh := hb7 hc8
      refine am_ldc (z := -1000001) q289 (by decide) dX0_pile_12 ?_
      refine am_goto (tgt := 61) dX0_pile_14 (by decide) ?_
      exact am_iret rfl dX0_pile_61 (Nat.le_refl 0) (Nat.le_refl 0) hh
/-! TableArms.isArm(I)Z -/
abbrev VX0_isArm (l : Launch) (Q : Option am_W → ah_H → Prop) (pc : Nat) (lv : List (Nat × am_W)) (st : List am_W) (S : ah_H) : Prop := am_V ah_r l RX0 cX0_isArm 1 (some .boolean) "isArm" (am_rm 2 0 0) (am_E1 ah_r 0 0 Q) pc lv st S 0 0
abbrev kX0_isArm (l : Launch) (as : List am_W) (S : ah_H) (Q : Option am_W → ah_H → Prop) : Prop := am_C ah_r l yX0_isArm (ws_ yX0_isArm cX0_isArm 1 (some .boolean)) (am_rm 2 0 0) 0 0 as S Q
set_option maxHeartbeats 4000000 in
set_option maxRecDepth 100000 in
theorem bX0_isArm {l : Launch} {Q : Option am_W → ah_H → Prop} {S : ah_H} (v0 : Int) (h0 : am_r v0)
    (hh : kX0_isIn l [am_J v0, am_J 0, am_J 1] S (am_qz fun b2 G1 =>
        Q (some (am_I (am_b b2))) G1)) : kX0_isArm l [am_I v0] S Q := by
  refine am_entry (lv := [(0, am_I v0)]) rfl rfl rfl (fun _ => rfl) (fun _ => Nat.le_of_ble_eq_true rfl) ?_
  refine am_iload_n dX0_isArm_0 rfl 0 rfl ?_
  refine am_i2l_ h0 dX0_isArm_1 ?_
  refine am_lconst (z := 0) dX0_isArm_2 (by decide) ?_
  refine am_lconst (z := 1) dX0_isArm_3 (by decide) ?_
  refine am_rSz (n := 3) hh dX0_isArm_4 (lw_S q285 q286 q90 q287) ⟨⟨by decide, by decide, by decide +kernel⟩, ⟨Nat.le_of_ble_eq_true rfl, Nat.le_of_ble_eq_true rfl⟩⟩ ⟨rfl, rfl⟩ rfl rfl (Nat.le_of_ble_eq_true rfl) ⟨(Nat.le_of_ble_eq_true rfl), (Nat.le_of_ble_eq_true rfl)⟩ (fun b2 G1 hh => ?_)
  exact am_zret (b := b2) rfl dX0_isArm_7 (Nat.le_refl 0) (Nat.le_refl 0) hh
/-! TableArms.reach(II)I -/
abbrev VX0_reach (l : Launch) (Q : Option am_W → ah_H → Prop) (pc : Nat) (lv : List (Nat × am_W)) (st : List am_W) (S : ah_H) : Prop := am_V ah_r l RX0 cX0_reach 4 (some .int) "reach" (am_rm 3 0 0) (am_E1 ah_r 0 0 Q) pc lv st S 0 0
abbrev kX0_reach (l : Launch) (as : List am_W) (S : ah_H) (Q : Option am_W → ah_H → Prop) : Prop := am_C ah_r l yX0_reach (ws_ yX0_reach cX0_reach 4 (some .int)) (am_rm 3 0 0) 0 0 as S Q
set_option maxHeartbeats 4000000 in
set_option maxRecDepth 100000 in
theorem bX0_reach {l : Launch} {Q : Option am_W → ah_H → Prop} {S : ah_H} (v0 : Nat) (v1 : Int) (h1 : am_r v1) (v2 : Int) (h2 : am_r v2)
    (hh : kX0_isArm l [am_I v1] S (am_qz fun b2 G1 =>
        ((b2 = false) →
          Q (some (am_I (-1000001))) G1) ∧
        ((b2 = true) →
          kX0_isIn l [am_J v2, am_J 0, am_J 255] G1 (am_qz fun b7 G6 =>
            ((b7 = true) →
              (∃ fs11, (G6.1 v0 = some (.inl (1, fs11))) ∧
              (∃ x14, (fs11[10]? = some (am_R x14)) ∧
              (∃ n15 f16, (G6.1 x14 = some (.inr (0, n15, .inl f16))) ∧
              (0 ≤ v1 ∧ v1 < (n15 : Int)) ∧
              (ah_X ≤ x14) ∧
              (∀ G20, G20 = ah_si G6 x14 0 n15 f16 v1 (Int32.ofInt v2) →
              Q (some (am_I (f16 v1.toNat).toInt)) G20))))) ∧
            ((b7 = false) →
              Q (some (am_I (-1000001))) G6))))) : kX0_reach l [am_R v0, am_I v1, am_I v2] S Q := by
  refine am_entry (lv := [(0, am_R v0), (1, am_I v1), (2, am_I v2)]) rfl rfl rfl (fun _ => rfl) (fun _ => Nat.le_of_ble_eq_true rfl) ?_
  refine am_iload_n dX0_reach_0 rfl 1 rfl ?_
  refine am_rSz (n := 1) hh dX0_reach_1 (lw_S q494 q495 q90 q496) ⟨⟨by decide, by decide, by decide +kernel⟩, ⟨Nat.le_of_ble_eq_true rfl, Nat.le_of_ble_eq_true rfl⟩⟩ ⟨rfl, rfl⟩ rfl rfl (Nat.le_of_ble_eq_true rfl) ⟨(Nat.le_of_ble_eq_true rfl), (Nat.le_of_ble_eq_true rfl)⟩ (fun b2 G1 hh => ?_)
  obtain ⟨ha3, hb4⟩ := hh
  refine am_ifB_eq (tgt := 19) dX0_reach_4 (by decide) (fun hc5 => ?_) (fun hc5 => ?_)
  · have hh := ha3 hc5
    refine am_ldc (z := -1000001) q289 (by decide) dX0_reach_19 ?_
    exact am_iret rfl dX0_reach_21 (Nat.le_refl 0) (Nat.le_refl 0) hh
  · have hh := hb4 hc5
    refine am_iload_n dX0_reach_7 rfl 2 rfl ?_
    refine am_i2l_ h2 dX0_reach_8 ?_
    refine am_lconst (z := 0) dX0_reach_9 (by decide) ?_
    refine am_ldc2 (z := 255) q497 (by decide) dX0_reach_10 ?_
    refine am_rSz (n := 3) hh dX0_reach_13 (lw_S q285 q286 q90 q287) ⟨⟨by decide, by decide, by decide +kernel⟩, ⟨Nat.le_of_ble_eq_true rfl, Nat.le_of_ble_eq_true rfl⟩⟩ ⟨rfl, rfl⟩ rfl rfl (Nat.le_of_ble_eq_true rfl) ⟨(Nat.le_of_ble_eq_true rfl), (Nat.le_of_ble_eq_true rfl)⟩ (fun b7 G6 hh => ?_)
    obtain ⟨ha8, hb9⟩ := hh
    refine am_ifB_ne (tgt := 22) dX0_reach_16 (by decide) (fun hc10 => ?_) (fun hc10 => ?_)
    · have hh := ha8 hc10
      refine am_aload_n dX0_reach_22 rfl 0 rfl ?_
      obtain ⟨fs11, ho12, hh⟩ := hh
      obtain ⟨x14, hv13, hh⟩ := hh
      refine ah_get ho12 hv13 rfl in_X0 (by decide) q224 (Or.inl rfl) dX0_reach_23 ?_
      refine am_iload_n dX0_reach_26 rfl 1 rfl ?_
      obtain ⟨n15, f16, ha17, hh⟩ := hh
      obtain ⟨o18, hh⟩ := hh
      refine ah_iald ha17 o18.1 o18.2 (v := (f16 v1.toNat).toInt) rfl dX0_reach_27 ?_
      refine am_istore_n dX0_reach_28 rfl (by decide) rfl ?_
      refine am_aload_n dX0_reach_29 rfl 1 rfl ?_
      refine ah_get ho12 hv13 rfl in_X0 (by decide) q224 (Or.inl rfl) dX0_reach_30 ?_
      refine am_iload_n dX0_reach_33 rfl 2 rfl ?_
      refine am_iload_n dX0_reach_34 rfl 3 rfl ?_
      obtain ⟨o19, hh⟩ := hh
      refine ah_iast ha17 o19 o18.1 o18.2 dX0_reach_35 ?_
      have hh := hh _ rfl
      refine am_iload_n dX0_reach_36 rfl 0 rfl ?_
      exact am_iret rfl dX0_reach_37 (Nat.le_refl 0) (Nat.le_refl 0) hh
    · have hh := hb9 hc10
      refine am_ldc (z := -1000001) q289 (by decide) dX0_reach_19 ?_
      exact am_iret rfl dX0_reach_21 (Nat.le_refl 0) (Nat.le_refl 0) hh
/-! TableArms.isTo(I)Z -/
abbrev VX0_isTo (l : Launch) (Q : Option am_W → ah_H → Prop) (pc : Nat) (lv : List (Nat × am_W)) (st : List am_W) (S : ah_H) : Prop := am_V ah_r l RX0 cX0_isTo 2 (some .boolean) "isTo" (am_rm 3 0 0) (am_E1 ah_r 0 0 Q) pc lv st S 0 0
abbrev kX0_isTo (l : Launch) (as : List am_W) (S : ah_H) (Q : Option am_W → ah_H → Prop) : Prop := am_C ah_r l yX0_isTo (ws_ yX0_isTo cX0_isTo 2 (some .boolean)) (am_rm 3 0 0) 0 0 as S Q
set_option maxHeartbeats 4000000 in
set_option maxRecDepth 100000 in
theorem bX0_isTo {l : Launch} {Q : Option am_W → ah_H → Prop} {S : ah_H} (v0 : Nat) (v1 : Int) (h1 : am_r v1)
    (hh : kX0_isCell l [am_I v1] S (am_qz fun b2 G1 =>
        ((b2 = true) →
          Q (some (am_I (am_b true))) G1) ∧
        ((b2 = false) →
          (∃ fs6, (G1.1 v0 = some (.inl (1, fs6))) ∧
          kX0_isThing l [am_R v0, am_I (v1 - 8)] G1 (am_qz fun b9 G8 =>
            ((b9 = false) →
              Q (some (am_I (am_b false))) G8) ∧
            ((b9 = true) →
              (∃ fs13, (G8.1 v0 = some (.inl (1, fs13))) ∧
              (∃ x16, (fs13[2]? = some (am_R x16)) ∧
              (∃ n17 f18, (G8.1 x16 = some (.inr (0, n17, .inl f18))) ∧
              (0 ≤ (v1 - 8) ∧ (v1 - 8) < (n17 : Int)) ∧
              ((¬ ((f18 (v1 - 8).toNat).toInt) = 2) →
                Q (some (am_I (am_b false))) G8) ∧
              ((((f18 (v1 - 8).toNat).toInt) = 2) →
                Q (some (am_I (am_b true))) G8)))))))))) : kX0_isTo l [am_R v0, am_I v1] S Q := by
  refine am_entry (lv := [(0, am_R v0), (1, am_I v1)]) rfl rfl rfl (fun _ => rfl) (fun _ => Nat.le_of_ble_eq_true rfl) ?_
  refine am_iload_n dX0_isTo_0 rfl 1 rfl ?_
  refine am_rSz (n := 1) hh dX0_isTo_1 (lw_S q447 q448 q90 q449) ⟨⟨by decide, by decide, by decide +kernel⟩, ⟨Nat.le_of_ble_eq_true rfl, Nat.le_of_ble_eq_true rfl⟩⟩ ⟨rfl, rfl⟩ rfl rfl (Nat.le_of_ble_eq_true rfl) ⟨(Nat.le_of_ble_eq_true rfl), (Nat.le_of_ble_eq_true rfl)⟩ (fun b2 G1 hh => ?_)
  obtain ⟨ha3, hb4⟩ := hh
  refine am_ifB_ne (tgt := 31) dX0_isTo_4 (by decide) (fun hc5 => ?_) (fun hc5 => ?_)
  · have hh := ha3 hc5
    refine am_iconst dX0_isTo_31 ?_
    refine am_goto (tgt := 36) dX0_isTo_32 (by decide) ?_
    exact am_zret (b := true) rfl dX0_isTo_36 (Nat.le_refl 0) (Nat.le_refl 0) hh
  · have hh := hb4 hc5
    refine am_aload_n dX0_isTo_7 rfl 0 rfl ?_
    refine am_iload_n dX0_isTo_8 rfl 1 rfl ?_
    refine am_bipush dX0_isTo_9 (by decide) ?_
    refine am_isub dX0_isTo_11 ?_
    obtain ⟨fs6, ho7, hh⟩ := hh
    refine am_rVz (n := 1) hh dX0_isTo_12 (lw_V q464 q466 qs4 q90 q467) rfl ⟨⟨by decide, by decide, by decide +kernel⟩, ⟨Nat.le_of_ble_eq_true rfl, Nat.le_of_ble_eq_true rfl⟩⟩ ⟨rfl, rfl⟩ rfl rfl (Nat.le_of_ble_eq_true rfl) ⟨(Nat.le_of_ble_eq_true rfl), (Nat.le_of_ble_eq_true rfl)⟩ (ah_recv ho7 rfl) (fun b9 G8 hh => ?_)
    obtain ⟨ha10, hb11⟩ := hh
    refine am_ifB_eq (tgt := 35) dX0_isTo_15 (by decide) (fun hc12 => ?_) (fun hc12 => ?_)
    · have hh := ha10 hc12
      refine am_iconst dX0_isTo_35 ?_
      exact am_zret (b := false) rfl dX0_isTo_36 (Nat.le_refl 0) (Nat.le_refl 0) hh
    · have hh := hb11 hc12
      refine am_aload_n dX0_isTo_18 rfl 0 rfl ?_
      obtain ⟨fs13, ho14, hh⟩ := hh
      obtain ⟨x16, hv15, hh⟩ := hh
      refine ah_get ho14 hv15 rfl in_X0 (by decide) q211 (Or.inl rfl) dX0_isTo_19 ?_
      refine am_iload_n dX0_isTo_22 rfl 1 rfl ?_
      refine am_bipush dX0_isTo_23 (by decide) ?_
      refine am_isub dX0_isTo_25 ?_
      obtain ⟨n17, f18, ha19, hh⟩ := hh
      obtain ⟨o20, hh⟩ := hh
      refine ah_iald ha19 o20.1 o20.2 (v := (f18 (v1 - 8).toNat).toInt) rfl dX0_isTo_26 ?_
      refine am_iconst dX0_isTo_27 ?_
      obtain ⟨ha21, hb22⟩ := hh
      refine am_icmp_ne (tgt := 35) dX0_isTo_28 (by decide) (am_rt _) (⟨by decide, by decide⟩) (fun hc23 => ?_) (fun hc23 => ?_)
      · have hh := ha21 hc23
        refine am_iconst dX0_isTo_35 ?_
        exact am_zret (b := false) rfl dX0_isTo_36 (Nat.le_refl 0) (Nat.le_refl 0) hh
      · have hh := hb22 hc23
        refine am_iconst dX0_isTo_31 ?_
        refine am_goto (tgt := 36) dX0_isTo_32 (by decide) ?_
        exact am_zret (b := true) rfl dX0_isTo_36 (Nat.le_refl 0) (Nat.le_refl 0) hh
/-! TableArms.isMove(III)Z -/
abbrev VX0_isMove (l : Launch) (Q : Option am_W → ah_H → Prop) (pc : Nat) (lv : List (Nat × am_W)) (st : List am_W) (S : ah_H) : Prop := am_V ah_r l RX0 cX0_isMove 4 (some .boolean) "isMove" (am_rm 4 0 0) (am_E1 ah_r 0 0 Q) pc lv st S 0 0
abbrev kX0_isMove (l : Launch) (as : List am_W) (S : ah_H) (Q : Option am_W → ah_H → Prop) : Prop := am_C ah_r l yX0_isMove (ws_ yX0_isMove cX0_isMove 4 (some .boolean)) (am_rm 4 0 0) 0 0 as S Q
set_option maxHeartbeats 4000000 in
set_option maxRecDepth 100000 in
theorem bX0_isMove {l : Launch} {Q : Option am_W → ah_H → Prop} {S : ah_H} (v0 : Nat) (v1 : Int) (h1 : am_r v1) (v2 : Int) (h2 : am_r v2) (v3 : Int) (h3 : am_r v3)
    (hh : kX0_isArm l [am_I v1] S (am_qz fun b2 G1 =>
        ((b2 = false) →
          Q (some (am_I (am_b false))) G1) ∧
        ((b2 = true) →
          (∃ fs6, (G1.1 v0 = some (.inl (1, fs6))) ∧
          kX0_isThing l [am_R v0, am_I v2] G1 (am_qz fun b9 G8 =>
            ((b9 = false) →
              Q (some (am_I (am_b false))) G8) ∧
            ((b9 = true) →
              (∃ fs13, (G8.1 v0 = some (.inl (1, fs13))) ∧
              kX0_isTo l [am_R v0, am_I v3] G8 (am_qz fun b16 G15 =>
                ((b16 = false) →
                  Q (some (am_I (am_b false))) G15) ∧
                ((b16 = true) →
                  Q (some (am_I (am_b true))) G15))))))))) : kX0_isMove l [am_R v0, am_I v1, am_I v2, am_I v3] S Q := by
  refine am_entry (lv := [(0, am_R v0), (1, am_I v1), (2, am_I v2), (3, am_I v3)]) rfl rfl rfl (fun _ => rfl) (fun _ => Nat.le_of_ble_eq_true rfl) ?_
  refine am_iload_n dX0_isMove_0 rfl 1 rfl ?_
  refine am_rSz (n := 1) hh dX0_isMove_1 (lw_S q494 q495 q90 q496) ⟨⟨by decide, by decide, by decide +kernel⟩, ⟨Nat.le_of_ble_eq_true rfl, Nat.le_of_ble_eq_true rfl⟩⟩ ⟨rfl, rfl⟩ rfl rfl (Nat.le_of_ble_eq_true rfl) ⟨(Nat.le_of_ble_eq_true rfl), (Nat.le_of_ble_eq_true rfl)⟩ (fun b2 G1 hh => ?_)
  obtain ⟨ha3, hb4⟩ := hh
  refine am_ifB_eq (tgt := 27) dX0_isMove_4 (by decide) (fun hc5 => ?_) (fun hc5 => ?_)
  · have hh := ha3 hc5
    refine am_iconst dX0_isMove_27 ?_
    exact am_zret (b := false) rfl dX0_isMove_28 (Nat.le_refl 0) (Nat.le_refl 0) hh
  · have hh := hb4 hc5
    refine am_aload_n dX0_isMove_7 rfl 0 rfl ?_
    refine am_iload_n dX0_isMove_8 rfl 2 rfl ?_
    obtain ⟨fs6, ho7, hh⟩ := hh
    refine am_rVz (n := 1) hh dX0_isMove_9 (lw_V q464 q466 qs4 q90 q467) rfl ⟨⟨by decide, by decide, by decide +kernel⟩, ⟨Nat.le_of_ble_eq_true rfl, Nat.le_of_ble_eq_true rfl⟩⟩ ⟨rfl, rfl⟩ rfl rfl (Nat.le_of_ble_eq_true rfl) ⟨(Nat.le_of_ble_eq_true rfl), (Nat.le_of_ble_eq_true rfl)⟩ (ah_recv ho7 rfl) (fun b9 G8 hh => ?_)
    obtain ⟨ha10, hb11⟩ := hh
    refine am_ifB_eq (tgt := 27) dX0_isMove_12 (by decide) (fun hc12 => ?_) (fun hc12 => ?_)
    · have hh := ha10 hc12
      refine am_iconst dX0_isMove_27 ?_
      exact am_zret (b := false) rfl dX0_isMove_28 (Nat.le_refl 0) (Nat.le_refl 0) hh
    · have hh := hb11 hc12
      refine am_aload_n dX0_isMove_15 rfl 0 rfl ?_
      refine am_iload_n dX0_isMove_16 rfl 3 rfl ?_
      obtain ⟨fs13, ho14, hh⟩ := hh
      refine am_rVz (n := 1) hh dX0_isMove_17 (lw_V q506 q508 qs6 q90 q509) rfl ⟨⟨by decide, by decide, by decide +kernel⟩, ⟨Nat.le_of_ble_eq_true rfl, Nat.le_of_ble_eq_true rfl⟩⟩ ⟨rfl, rfl⟩ rfl rfl (Nat.le_of_ble_eq_true rfl) ⟨(Nat.le_of_ble_eq_true rfl), (Nat.le_of_ble_eq_true rfl)⟩ (ah_recv ho14 rfl) (fun b16 G15 hh => ?_)
      obtain ⟨ha17, hb18⟩ := hh
      refine am_ifB_eq (tgt := 27) dX0_isMove_20 (by decide) (fun hc19 => ?_) (fun hc19 => ?_)
      · have hh := ha17 hc19
        refine am_iconst dX0_isMove_27 ?_
        exact am_zret (b := false) rfl dX0_isMove_28 (Nat.le_refl 0) (Nat.le_refl 0) hh
      · have hh := hb18 hc19
        refine am_iconst dX0_isMove_23 ?_
        refine am_goto (tgt := 28) dX0_isMove_24 (by decide) ?_
        exact am_zret (b := true) rfl dX0_isMove_28 (Nat.le_refl 0) (Nat.le_refl 0) hh
/-! TableArms$Table.isLoose(I)Z -/
abbrev VX1_isLoose (l : Launch) (Q : Option am_W → ah_H → Prop) (pc : Nat) (lv : List (Nat × am_W)) (st : List am_W) (S : ah_H) : Prop := am_V ah_r l RX1 cX1_isLoose 2 (some .boolean) "isLoose" (am_rm 3 0 0) (am_E1 ah_r 0 0 Q) pc lv st S 0 0
abbrev kX1_isLoose (l : Launch) (as : List am_W) (S : ah_H) (Q : Option am_W → ah_H → Prop) : Prop := am_C ah_r l yX1_isLoose (ws_ yX1_isLoose cX1_isLoose 2 (some .boolean)) (am_rm 3 0 0) 0 0 as S Q
set_option maxHeartbeats 4000000 in
set_option maxRecDepth 100000 in
theorem bX1_isLoose {l : Launch} {Q : Option am_W → ah_H → Prop} {S : ah_H} (v0 : Nat) (v1 : Int) (h1 : am_r v1)
    (hh : (∃ fs1, (S.1 v0 = some (.inl (2, fs1))) ∧
      (∃ x4, (fs1[3]? = some (am_R x4)) ∧
      (∃ n5 f6, (S.1 x4 = some (.inr (0, n5, .inl f6))) ∧
      (0 ≤ v1 ∧ v1 < (n5 : Int)) ∧
      ((¬ ((f6 v1.toNat).toInt) = (-1000000)) →
        kX1_isClear l [am_R v0, am_I (f6 v1.toNat).toInt] S (am_qz fun b13 G12 =>
          Q (some (am_I (am_b b13))) G12)) ∧
      ((((f6 v1.toNat).toInt) = (-1000000)) →
        kX1_isClear l [am_R v0, am_I v1] S (am_qz fun b15 G14 =>
          Q (some (am_I (am_b b15))) G14)))))) : kX1_isLoose l [am_R v0, am_I v1] S Q := by
  refine am_entry (lv := [(0, am_R v0), (1, am_I v1)]) rfl rfl rfl (fun _ => rfl) (fun _ => Nat.le_of_ble_eq_true rfl) ?_
  refine am_aload_n dX1_isLoose_0 rfl 0 rfl ?_
  obtain ⟨fs1, ho2, hh⟩ := hh
  obtain ⟨x4, hv3, hh⟩ := hh
  refine ah_get ho2 hv3 rfl in_X1 (by decide) q148 (Or.inl rfl) dX1_isLoose_1 ?_
  refine am_iload_n dX1_isLoose_4 rfl 1 rfl ?_
  obtain ⟨n5, f6, ha7, hh⟩ := hh
  obtain ⟨o8, hh⟩ := hh
  refine ah_iald ha7 o8.1 o8.2 (v := (f6 v1.toNat).toInt) rfl dX1_isLoose_5 ?_
  refine am_ldc (z := -1000000) q455 (by decide) dX1_isLoose_6 ?_
  obtain ⟨ha9, hb10⟩ := hh
  refine am_icmp_ne (tgt := 19) dX1_isLoose_8 (by decide) (am_rt _) (⟨by decide, by decide⟩) (fun hc11 => ?_) (fun hc11 => ?_)
  · have hh := ha9 hc11
    refine am_aload_n dX1_isLoose_19 rfl 0 rfl ?_
    refine am_aload_n dX1_isLoose_20 rfl 0 rfl ?_
    refine ah_get ho2 hv3 rfl in_X1 (by decide) q148 (Or.inl rfl) dX1_isLoose_21 ?_
    refine am_iload_n dX1_isLoose_24 rfl 1 rfl ?_
    refine ah_iald ha7 o8.1 o8.2 (v := (f6 v1.toNat).toInt) rfl dX1_isLoose_25 ?_
    refine am_rVz (n := 1) hh dX1_isLoose_26 (lw_V q518 q482 q483 q91 q484) rfl ⟨⟨by decide, by decide, by decide +kernel⟩, ⟨Nat.le_of_ble_eq_true rfl, Nat.le_of_ble_eq_true rfl⟩⟩ ⟨rfl, rfl⟩ rfl rfl (Nat.le_of_ble_eq_true rfl) ⟨(Nat.le_of_ble_eq_true rfl), (Nat.le_of_ble_eq_true rfl)⟩ (ah_recv ho2 rfl) (fun b13 G12 hh => ?_)
    exact am_zret (b := b13) rfl dX1_isLoose_29 (Nat.le_refl 0) (Nat.le_refl 0) hh
  · have hh := hb10 hc11
    refine am_aload_n dX1_isLoose_11 rfl 0 rfl ?_
    refine am_iload_n dX1_isLoose_12 rfl 1 rfl ?_
    refine am_rVz (n := 1) hh dX1_isLoose_13 (lw_V q518 q482 q483 q91 q484) rfl ⟨⟨by decide, by decide, by decide +kernel⟩, ⟨Nat.le_of_ble_eq_true rfl, Nat.le_of_ble_eq_true rfl⟩⟩ ⟨rfl, rfl⟩ rfl rfl (Nat.le_of_ble_eq_true rfl) ⟨(Nat.le_of_ble_eq_true rfl), (Nat.le_of_ble_eq_true rfl)⟩ (ah_recv ho2 rfl) (fun b15 G14 hh => ?_)
    refine am_goto (tgt := 29) dX1_isLoose_16 (by decide) ?_
    exact am_zret (b := b15) rfl dX1_isLoose_29 (Nat.le_refl 0) (Nat.le_refl 0) hh
/-! TableArms$Table.isFor(II)Z -/
abbrev VX1_isFor (l : Launch) (Q : Option am_W → ah_H → Prop) (pc : Nat) (lv : List (Nat × am_W)) (st : List am_W) (S : ah_H) : Prop := am_V ah_r l RX1 cX1_isFor 3 (some .boolean) "isFor" (am_rm 3 0 0) (am_E1 ah_r 0 0 Q) pc lv st S 0 0
abbrev kX1_isFor (l : Launch) (as : List am_W) (S : ah_H) (Q : Option am_W → ah_H → Prop) : Prop := am_C ah_r l yX1_isFor (ws_ yX1_isFor cX1_isFor 3 (some .boolean)) (am_rm 3 0 0) 0 0 as S Q
set_option maxHeartbeats 4000000 in
set_option maxRecDepth 100000 in
theorem bX1_isFor {l : Launch} {Q : Option am_W → ah_H → Prop} {S : ah_H} (v0 : Nat) (v1 : Int) (h1 : am_r v1) (v2 : Int) (h2 : am_r v2)
    (hh : ((v2 = v1) →
        Q (some (am_I (am_b false))) S) ∧
      ((¬ v2 = v1) →
        (∃ fs4, (S.1 v0 = some (.inl (2, fs4))) ∧
        kX1_isClear l [am_R v0, am_I v2] S (am_qz fun b7 G6 =>
          ((b7 = false) →
            Q (some (am_I (am_b false))) G6) ∧
          ((b7 = true) →
            (∃ fs11, (G6.1 v0 = some (.inl (2, fs11))) ∧
            (∃ x14, (fs11[4]? = some (am_R x14)) ∧
            (∃ n15 f16, (G6.1 x14 = some (.inr (0, n15, .inl f16))) ∧
            (0 ≤ v2 ∧ v2 < (n15 : Int)) ∧
            ((¬ ((f16 v2.toNat).toInt) = (-1000000)) →
              Q (some (am_I (am_b false))) G6) ∧
            ((((f16 v2.toNat).toInt) = (-1000000)) →
              (0 ≤ v1 ∧ v1 < (n15 : Int)) ∧
              ((¬ ((f16 v1.toNat).toInt) = (-1000000)) →
                Q (some (am_I (am_b false))) G6) ∧
              ((((f16 v1.toNat).toInt) = (-1000000)) →
                Q (some (am_I (am_b true))) G6)))))))))) : kX1_isFor l [am_R v0, am_I v1, am_I v2] S Q := by
  refine am_entry (lv := [(0, am_R v0), (1, am_I v1), (2, am_I v2)]) rfl rfl rfl (fun _ => rfl) (fun _ => Nat.le_of_ble_eq_true rfl) ?_
  refine am_iload_n dX1_isFor_0 rfl 2 rfl ?_
  refine am_iload_n dX1_isFor_1 rfl 1 rfl ?_
  obtain ⟨ha1, hb2⟩ := hh
  refine am_icmp_eq (tgt := 39) dX1_isFor_2 (by decide) h2 h1 (fun hc3 => ?_) (fun hc3 => ?_)
  · have hh := ha1 hc3
    refine am_iconst dX1_isFor_39 ?_
    exact am_zret (b := false) rfl dX1_isFor_40 (Nat.le_refl 0) (Nat.le_refl 0) hh
  · have hh := hb2 hc3
    refine am_aload_n dX1_isFor_5 rfl 0 rfl ?_
    refine am_iload_n dX1_isFor_6 rfl 2 rfl ?_
    obtain ⟨fs4, ho5, hh⟩ := hh
    refine am_rVz (n := 1) hh dX1_isFor_7 (lw_V q518 q482 q483 q91 q484) rfl ⟨⟨by decide, by decide, by decide +kernel⟩, ⟨Nat.le_of_ble_eq_true rfl, Nat.le_of_ble_eq_true rfl⟩⟩ ⟨rfl, rfl⟩ rfl rfl (Nat.le_of_ble_eq_true rfl) ⟨(Nat.le_of_ble_eq_true rfl), (Nat.le_of_ble_eq_true rfl)⟩ (ah_recv ho5 rfl) (fun b7 G6 hh => ?_)
    obtain ⟨ha8, hb9⟩ := hh
    refine am_ifB_eq (tgt := 39) dX1_isFor_10 (by decide) (fun hc10 => ?_) (fun hc10 => ?_)
    · have hh := ha8 hc10
      refine am_iconst dX1_isFor_39 ?_
      exact am_zret (b := false) rfl dX1_isFor_40 (Nat.le_refl 0) (Nat.le_refl 0) hh
    · have hh := hb9 hc10
      refine am_aload_n dX1_isFor_13 rfl 0 rfl ?_
      obtain ⟨fs11, ho12, hh⟩ := hh
      obtain ⟨x14, hv13, hh⟩ := hh
      refine ah_get ho12 hv13 rfl in_X1 (by decide) q151 (Or.inl rfl) dX1_isFor_14 ?_
      refine am_iload_n dX1_isFor_17 rfl 2 rfl ?_
      obtain ⟨n15, f16, ha17, hh⟩ := hh
      obtain ⟨o18, hh⟩ := hh
      refine ah_iald ha17 o18.1 o18.2 (v := (f16 v2.toNat).toInt) rfl dX1_isFor_18 ?_
      refine am_ldc (z := -1000000) q455 (by decide) dX1_isFor_19 ?_
      obtain ⟨ha19, hb20⟩ := hh
      refine am_icmp_ne (tgt := 39) dX1_isFor_21 (by decide) (am_rt _) (⟨by decide, by decide⟩) (fun hc21 => ?_) (fun hc21 => ?_)
      · have hh := ha19 hc21
        refine am_iconst dX1_isFor_39 ?_
        exact am_zret (b := false) rfl dX1_isFor_40 (Nat.le_refl 0) (Nat.le_refl 0) hh
      · have hh := hb20 hc21
        refine am_aload_n dX1_isFor_24 rfl 0 rfl ?_
        refine ah_get ho12 hv13 rfl in_X1 (by decide) q151 (Or.inl rfl) dX1_isFor_25 ?_
        refine am_iload_n dX1_isFor_28 rfl 1 rfl ?_
        obtain ⟨o22, hh⟩ := hh
        refine ah_iald ha17 o22.1 o22.2 (v := (f16 v1.toNat).toInt) rfl dX1_isFor_29 ?_
        refine am_ldc (z := -1000000) q455 (by decide) dX1_isFor_30 ?_
        obtain ⟨ha23, hb24⟩ := hh
        refine am_icmp_ne (tgt := 39) dX1_isFor_32 (by decide) (am_rt _) (⟨by decide, by decide⟩) (fun hc25 => ?_) (fun hc25 => ?_)
        · have hh := ha23 hc25
          refine am_iconst dX1_isFor_39 ?_
          exact am_zret (b := false) rfl dX1_isFor_40 (Nat.le_refl 0) (Nat.le_refl 0) hh
        · have hh := hb24 hc25
          refine am_iconst dX1_isFor_35 ?_
          refine am_goto (tgt := 40) dX1_isFor_36 (by decide) ?_
          exact am_zret (b := true) rfl dX1_isFor_40 (Nat.le_refl 0) (Nat.le_refl 0) hh
