/-! jdk/internal/util/Preconditions.checkIndex(IILjava/util/function/BiFunction;)I -/
set_option maxHeartbeats 4000000 in
set_option maxRecDepth 100000 in
theorem bJ13_checkIndex_N {l : Launch} {Q : Option am_W → ah_H → Prop} {S : ah_H} (v0 : Int) (h0 : am_r v0) (v1 : Int) (h1 : am_r v1)
    (hh : ((v0 < 0) →
        False) ∧
      ((¬ v0 < 0) →
        ((v0 < v1) →
          Q (some (am_I v0)) S) ∧
        ((¬ v0 < v1) →
          False))) : kJ13_checkIndex l [am_I v0, am_I v1, am_O none] S Q := by
  refine am_entry (lv := [(0, am_I v0), (1, am_I v1), (2, am_O none)]) rfl rfl rfl (fun _ => rfl) (fun _ => Nat.le_of_ble_eq_true rfl) ?_
  refine am_iload_n dJ13_checkIndex_0 rfl 0 rfl ?_
  obtain ⟨ha1, hb2⟩ := hh
  refine am_if_lt (tgt := 9) dJ13_checkIndex_1 (by decide) h0 (fun hc3 => ?_) (fun hc3 => ?_)
  · have hh := ha1 hc3
    exact hh.elim
  · have hh := hb2 hc3
    refine am_iload_n dJ13_checkIndex_4 rfl 0 rfl ?_
    refine am_iload_n dJ13_checkIndex_5 rfl 1 rfl ?_
    obtain ⟨ha4, hb5⟩ := hh
    refine am_icmp_lt (tgt := 16) dJ13_checkIndex_6 (by decide) h0 h1 (fun hc6 => ?_) (fun hc6 => ?_)
    · have hh := ha4 hc6
      refine am_iload_n dJ13_checkIndex_16 rfl 0 rfl ?_
      exact am_iret rfl dJ13_checkIndex_17 (Nat.le_refl 0) (Nat.le_refl 0) hh
    · have hh := hb5 hc6
      exact hh.elim
/-! java/util/Arrays.copyOf([Ljava/lang/Object;ILjava/lang/Class;)[Ljava/lang/Object; -/
abbrev VJ11_copyOf_2 (l : Launch) (mc ms : Nat) (Q : Option am_W → ah_H → Prop) (pc : Nat) (lv : List (Nat × am_W)) (st : List am_W) (S : ah_H) (cells slots : Nat) : Prop := am_V ah_r l RJ11 cJ11_copyOf_2 4 (some (Jvm.ClassFile.FieldType.array (Jvm.ClassFile.FieldType.object "java/lang/Object"))) "copyOf" (am_rm 2 mc ms) (am_E1 ah_r mc ms Q) pc lv st S cells slots
abbrev kJ11_copyOf_2 (l : Launch) (mc ms : Nat) (as : List am_W) (S : ah_H) (Q : Option am_W → ah_H → Prop) : Prop := am_C ah_r l yJ11_copyOf_2 (ws_ yJ11_copyOf_2 cJ11_copyOf_2 4 (some (Jvm.ClassFile.FieldType.array (Jvm.ClassFile.FieldType.object "java/lang/Object")))) (am_rm 2 mc ms) mc ms as S Q
set_option maxHeartbeats 4000000 in
set_option maxRecDepth 100000 in
theorem bJ11_copyOf_2 {l : Launch} {mc ms : Nat} {Q : Option am_W → ah_H → Prop} {S : ah_H} (v0 : Nat) (v1 : Int) (h1 : am_r v1) (v2 : Nat)
    (hh : (ah_q (some v2 : Option Nat) (some 15 : Option Nat)) ∧
      ((¬ (some v2 : Option Nat) = (some 15 : Option Nat)) →
        False) ∧
      (((some v2 : Option Nat) = (some 15 : Option Nat)) →
        (0 ≤ v1 ∧ v1 < 100000) ∧
        (1 ≤ mc) ∧
        ((0 + v1.toNat) ≤ ms) ∧
        (∀ G8, G8 = ah_mk S (.inr (5, v1.toNat, .inr (fun _ => none))) →
        (∃ n10 f11, (G8.1 v0 = some (.inr (5, n10, .inr f11))) ∧
        (∃ n14 f15, (G8.1 S.2 = some (.inr (5, n14, .inr f15))) ∧
        (ah_X ≤ v0) ∧
        (ah_X ≤ S.2) ∧
        (0 ≤ (am_min (n10 : Int) v1)) ∧
        (0 + (am_min (n10 : Int) v1) ≤ (n10 : Int)) ∧
        (0 + (am_min (n10 : Int) v1) ≤ (n14 : Int)) ∧
        (∀ i : Nat, (i : Int) < (am_min (n10 : Int) v1) → ah_is G8 (f11 ((0 : Int).toNat + i)) "java/lang/Object") ∧
        (∀ G23, G23 = ah_cq G8 S.2 5 n14 f11 f15 0 0 (am_min (n10 : Int) v1) →
        Q (some (am_R S.2)) G23)))))) : kJ11_copyOf_2 l mc ms [am_R v0, am_I v1, am_R v2] S Q := by
  refine am_entry (lv := [(0, am_R v0), (1, am_I v1), (2, am_R v2)]) rfl rfl rfl (fun _ => rfl) (fun _ => Nat.le_of_ble_eq_true rfl) ?_
  refine am_aload_n dJ11_copyOf_2_0 rfl 2 rfl ?_
  refine ah_ldcM q708 dJ11_copyOf_2_1 ?_
  obtain ⟨o1, hh⟩ := hh
  obtain ⟨ha2, hb3⟩ := hh
  refine ah_acmp_ne (tgt := 13) dJ11_copyOf_2_3 (by decide) o1 (fun hc4 => ?_) (fun hc4 => ?_)
  · have hh := ha2 hc4
    exact hh.elim
  · have hh := hb3 hc4
    refine am_iload_n dJ11_copyOf_2_6 rfl 1 rfl ?_
    obtain ⟨o5, hh⟩ := hh
    obtain ⟨o6, hh⟩ := hh
    obtain ⟨o7, hh⟩ := hh
    refine ah_anew (k := 5) (C := "java/lang/Object") rfl (by decide) q710 q709 o5.1 o5.2 o6 o7 dJ11_copyOf_2_7 ?_
    have hh := hh _ rfl
    refine am_goto (tgt := 24) dJ11_copyOf_2_10 (by decide) ?_
    refine am_astore_n dJ11_copyOf_2_24 rfl (by decide) rfl ?_
    refine am_aload_n dJ11_copyOf_2_25 rfl 1 rfl ?_
    refine am_iconst dJ11_copyOf_2_26 ?_
    refine am_aload_n dJ11_copyOf_2_27 rfl 0 rfl ?_
    refine am_iconst dJ11_copyOf_2_28 ?_
    refine am_aload_n dJ11_copyOf_2_29 rfl 1 rfl ?_
    obtain ⟨n10, f11, ha12, hh⟩ := hh
    refine ah_alen ha12 dJ11_copyOf_2_30 (fun hn13 => ?_)
    refine am_iload_n dJ11_copyOf_2_31 rfl 2 rfl ?_
    refine am_mmin hn13 h1 q711 q712 q106 q713 (Nat.le_of_ble_eq_true rfl) (Nat.le_of_ble_eq_true rfl) o6 o7 dJ11_copyOf_2_32 ?_
    obtain ⟨n14, f15, ha16, hh⟩ := hh
    obtain ⟨o17, hh⟩ := hh
    obtain ⟨o18, hh⟩ := hh
    obtain ⟨o19, hh⟩ := hh
    obtain ⟨o20, hh⟩ := hh
    obtain ⟨o21, hh⟩ := hh
    obtain ⟨o22, hh⟩ := hh
    refine ah_copyq ha12 o17 ha16 o18 (by decide) (by decide) o19 o20 o21 o22 q714 q433 q432 q105 (Nat.le_of_ble_eq_true rfl) (Nat.le_of_ble_eq_true rfl) dJ11_copyOf_2_35 ?_
    have hh := hh _ rfl
    refine am_aload_n dJ11_copyOf_2_38 rfl 0 rfl ?_
    exact am_aret rfl (by first | exact Or.inl ⟨_, rfl⟩ | exact Or.inr ⟨_, rfl⟩) dJ11_copyOf_2_39 o6 o7 hh
/-! java/util/Arrays.copyOf([Ljava/lang/Object;I)[Ljava/lang/Object; -/
set_option maxHeartbeats 4000000 in
set_option maxRecDepth 100000 in
theorem bJ11_copyOf {l : Launch} {mc ms : Nat} {Q : Option am_W → ah_H → Prop} {S : ah_H} (v0 : Nat) (v1 : Int) (h1 : am_r v1)
    (hh : (∃ n1 f2, (S.1 v0 = some (.inr (5, n1, .inr f2))) ∧
      (ah_X ≤ v0) ∧
      (∃ mc5 ms6 : Nat, ((0 + mc5) ≤ mc ∧ (0 + ms6) ≤ ms) ∧
      kJ11_copyOf_2 l mc5 ms6 [am_R v0, am_I v1, am_R 15] S (am_qo fun a10 G9 => ∃ y11, a10 = some y11 ∧
        Q (some (am_R y11)) G9)))) : kJ11_copyOf l mc ms [am_R v0, am_I v1] S Q := by
  refine am_entry (lv := [(0, am_R v0), (1, am_I v1)]) rfl rfl rfl (fun _ => rfl) (fun _ => Nat.le_of_ble_eq_true rfl) ?_
  refine am_aload_n dJ11_copyOf_0 rfl 0 rfl ?_
  refine am_iload_n dJ11_copyOf_1 rfl 1 rfl ?_
  refine am_aload_n dJ11_copyOf_2 rfl 0 rfl ?_
  obtain ⟨n1, f2, ha3, hh⟩ := hh
  obtain ⟨o4, hh⟩ := hh
  refine ah_getC ha3 o4 q681 (am_nwin q1926 rfl) q1925 q682 q704 (Nat.le_of_ble_eq_true rfl) (Nat.le_of_ble_eq_true rfl) dJ11_copyOf_3 ?_
  obtain ⟨mc5, ms6, ⟨o7, o8⟩, hh⟩ := hh
  refine am_rSo (n := 3) hh dJ11_copyOf_6 (lw_S q705 q706 q109 q707) ⟨⟨by decide, by decide, by decide +kernel⟩, ⟨Nat.le_of_ble_eq_true rfl, Nat.le_of_ble_eq_true rfl⟩⟩ ⟨rfl, rfl⟩ rfl rfl (Nat.le_of_ble_eq_true rfl) ⟨o7, o8⟩ (fun a10 G9 hh => ?_)
  obtain ⟨y11, rfl, hh⟩ := hh
  exact am_aret rfl (by first | exact Or.inl ⟨_, rfl⟩ | exact Or.inr ⟨_, rfl⟩) dJ11_copyOf_9 o7 o8 hh
/-! java/lang/String.<init>(Ljava/lang/AbstractStringBuilder;Ljava/lang/Void;)V -/
set_option maxHeartbeats 4000000 in
set_option maxRecDepth 100000 in
theorem bJ8_init_2_N {l : Launch} {mc ms : Nat} {Q : Option am_W → ah_H → Prop} {S : ah_H} (v0 : Nat) (v1 : Nat)
    (hh : (∃ fs1, (S.1 v1 = some (.inl (16, fs1))) ∧
      kJ15_getValue l [am_R v1] S (am_qo fun a4 G3 => ∃ y5, a4 = some y5 ∧
        (∃ fs6, (G3.1 v1 = some (.inl (16, fs6))) ∧
        kJ16_length l [am_R v1] G3 (am_qi fun r9 G8 =>
          (∃ fs11, (G8.1 v1 = some (.inl (16, fs11))) ∧
          kJ15_isLatin1 l [am_R v1] G8 (am_qz fun b14 G13 =>
            ((b14 = false) →
              False) ∧
            ((b14 = true) →
              (∃ fs18, (G13.1 v0 = some (.inl (17, fs18))) ∧
              (ah_X ≤ v0) ∧
              (1 < fs18.length) ∧
              (∀ G22, G22 = ah_sf G13 v0 17 fs18 1 (am_I 0) →
              (∃ mc24 ms25 : Nat, ((0 + mc24) ≤ mc ∧ (0 + ms25) ≤ ms) ∧
              kJ11_copyOfRange l mc24 ms25 [am_R y5, am_I 0, am_I r9] G22 (am_qo fun a29 G28 => ∃ y30, a29 = some y30 ∧
                (∃ fs31, (G28.1 v0 = some (.inl (17, fs31))) ∧
                (0 < fs31.length) ∧
                (∀ G34, G34 = ah_sf G28 v0 17 fs31 0 (am_R y30) →
                Q none G34)))))))))))))) : kJ8_init_2 l mc ms [am_R v0, am_R v1, am_O none] S Q := by
  refine am_entry (lv := [(0, am_R v0), (1, am_R v1), (2, am_O none)]) rfl rfl rfl (fun _ => rfl) (fun _ => Nat.le_of_ble_eq_true rfl) ?_
  refine am_aload_n dJ8_init_2_0 rfl 0 rfl ?_
  refine am_objInit q990 q133 q134 dJ8_init_2_1 (Nat.le_of_ble_eq_true rfl) (Nat.le_of_ble_eq_true rfl) ?_
  refine am_aload_n dJ8_init_2_4 rfl 1 rfl ?_
  obtain ⟨fs1, ho2, hh⟩ := hh
  refine am_rUo (n := 0) (owner := "java/lang/AbstractStringBuilder") hh dJ8_init_2_5 (am_CU_O q991 q993 q992 q994 q992 q114 q995 q995 ⟨rfl, rfl⟩ ⟨by decide, by decide, by decide +kernel⟩ ⟨Nat.le_of_ble_eq_true rfl, Nat.le_of_ble_eq_true rfl⟩) rfl rfl (Nat.le_of_ble_eq_true rfl) ⟨(Nat.zero_le _), (Nat.zero_le _)⟩ (ah_recv ho2 rfl) (fun a4 G3 hh => ?_)
  obtain ⟨y5, rfl, hh⟩ := hh
  refine am_astore_n dJ8_init_2_8 rfl (by decide) rfl ?_
  refine am_aload_n dJ8_init_2_9 rfl 2 rfl ?_
  obtain ⟨fs6, ho7, hh⟩ := hh
  refine am_rUi (n := 0) (owner := "java/lang/AbstractStringBuilder") hh dJ8_init_2_10 (am_CU_O q996 q998 q997 q999 q1000 q115 q1001 q1003 ⟨rfl, rfl⟩ ⟨by decide, by decide, by decide +kernel⟩ ⟨Nat.le_of_ble_eq_true rfl, Nat.le_of_ble_eq_true rfl⟩) rfl rfl (Nat.le_of_ble_eq_true rfl) ⟨(Nat.zero_le _), (Nat.zero_le _)⟩ (ah_recv ho7 rfl) (fun r9 G8 hr10 hh => ?_)
  refine am_istore dJ8_init_2_13 (by decide) rfl ?_
  refine am_aload_n dJ8_init_2_15 rfl 3 rfl ?_
  obtain ⟨fs11, ho12, hh⟩ := hh
  refine am_rUz (n := 0) (owner := "java/lang/AbstractStringBuilder") hh dJ8_init_2_16 (am_CU_O q1004 q930 q929 q931 q929 q114 q932 q932 ⟨rfl, rfl⟩ ⟨by decide, by decide, by decide +kernel⟩ ⟨Nat.le_of_ble_eq_true rfl, Nat.le_of_ble_eq_true rfl⟩) rfl rfl (Nat.le_of_ble_eq_true rfl) ⟨(Nat.zero_le _), (Nat.zero_le _)⟩ (ah_recv ho12 rfl) (fun b14 G13 hh => ?_)
  obtain ⟨ha15, hb16⟩ := hh
  refine am_ifB_eq (tgt := 41) dJ8_init_2_19 (by decide) (fun hc17 => ?_) (fun hc17 => ?_)
  · have hh := ha15 hc17
    exact hh.elim
  · have hh := hb16 hc17
    refine am_aload_n dJ8_init_2_22 rfl 2 rfl ?_
    refine am_iconst dJ8_init_2_23 ?_
    obtain ⟨fs18, ho19, hh⟩ := hh
    obtain ⟨o20, hh⟩ := hh
    obtain ⟨o21, hh⟩ := hh
    refine ah_putF (ty := tyJ8 1) ho19 o20 o21 rfl in_J8 tyJ8 tyJ8_ok nmJ8 (by decide) q1029 rfl rfl rfl (tyJ8_ok 1 (by decide)) (fun _ => ⟨rfl, rfl⟩) dJ8_init_2_24 ?_
    have hh := hh _ rfl
    refine am_aload_n dJ8_init_2_27 rfl 2 rfl ?_
    refine am_aload_n dJ8_init_2_28 rfl 1 rfl ?_
    refine am_iconst dJ8_init_2_29 ?_
    refine am_iload dJ8_init_2_30 0 rfl ?_
    obtain ⟨mc24, ms25, ⟨o26, o27⟩, hh⟩ := hh
    refine am_rSo (n := 3) hh dJ8_init_2_32 (lw_S q1005 q1006 q109 q1007) ⟨⟨by decide, by decide, by decide +kernel⟩, ⟨Nat.le_of_ble_eq_true rfl, Nat.le_of_ble_eq_true rfl⟩⟩ ⟨rfl, rfl⟩ rfl rfl (Nat.le_of_ble_eq_true rfl) ⟨o26, o27⟩ (fun a29 G28 hh => ?_)
    obtain ⟨y30, rfl, hh⟩ := hh
    obtain ⟨fs31, ho32, hh⟩ := hh
    obtain ⟨o33, hh⟩ := hh
    refine ah_putF (ty := tyJ8 0) ho32 o20 o33 rfl in_J8 tyJ8 tyJ8_ok nmJ8 (by decide) q1028 rfl rfl rfl (tyJ8_ok 0 (by decide)) (ah_fit_ref (Or.inr ⟨_, rfl⟩)) dJ8_init_2_35 ?_
    have hh := hh _ rfl
    refine am_goto (tgt := 97) dJ8_init_2_38 (by decide) ?_
    exact am_vret rfl dJ8_init_2_97 o26 o27 hh
/-! TableArmsModel.<init>()V -/
abbrev VX3_init (l : Launch) (mc ms : Nat) (Q : Option am_W → ah_H → Prop) (pc : Nat) (lv : List (Nat × am_W)) (st : List am_W) (S : ah_H) (cells slots : Nat) : Prop := am_V ah_r l RX3 cX3_init 2 none "<init>" (am_rm 2 mc ms) (am_E1 ah_r mc ms Q) pc lv st S cells slots
abbrev kX3_init (l : Launch) (mc ms : Nat) (as : List am_W) (S : ah_H) (Q : Option am_W → ah_H → Prop) : Prop := am_C ah_r l yX3_init (ws_ yX3_init cX3_init 2 none) (am_rm 2 mc ms) mc ms as S Q
set_option maxHeartbeats 4000000 in
set_option maxRecDepth 100000 in
theorem bX3_init {l : Launch} {mc ms : Nat} {Q : Option am_W → ah_H → Prop} {S : ah_H} (v0 : Nat)
    (hh : (1 ≤ mc) ∧
      (6696 ≤ ms) ∧
      (∀ G3, G3 = ah_mk S (.inr (0, 6696, .inl (fun _ => 0))) →
      (∃ fs5, (G3.1 v0 = some (.inl (0, fs5))) ∧
      (ah_X ≤ v0) ∧
      (2 < fs5.length) ∧
      (∀ G9, G9 = ah_sf G3 v0 0 fs5 2 (am_R S.2) →
      (2 ≤ mc) ∧
      (6702 ≤ ms) ∧
      (∀ G13, G13 = ah_mk G9 (.inr (0, 6, .inl (fun _ => 0))) →
      (∃ fs15, (G13.1 v0 = some (.inl (0, fs15))) ∧
      (4 < fs15.length) ∧
      (∀ G18, G18 = ah_sf G13 v0 0 fs15 4 (am_R G9.2) →
      (3 ≤ mc) ∧
      (6708 ≤ ms) ∧
      (∀ G22, G22 = ah_mk G18 (.inr (0, 6, .inl (fun _ => 0))) →
      (∃ fs24, (G22.1 v0 = some (.inl (0, fs24))) ∧
      (5 < fs24.length) ∧
      (∀ G27, G27 = ah_sf G22 v0 0 fs24 5 (am_R G18.2) →
      (4 ≤ mc) ∧
      (6710 ≤ ms) ∧
      (∀ G31, G31 = ah_mk G27 (.inr (0, 2, .inl (fun _ => 0))) →
      (∃ n33 f34, (G31.1 G27.2 = some (.inr (0, n33, .inl f34))) ∧
      (ah_X ≤ G27.2) ∧
      (0 < (n33 : Int)) ∧
      (∀ G38, G38 = ah_si G31 G27.2 0 n33 f34 0 (Int32.ofInt 255) →
      (∃ n40 f41, (G38.1 G27.2 = some (.inr (0, n40, .inl f41))) ∧
      (1 < (n40 : Int)) ∧
      (∀ G44, G44 = ah_si G38 G27.2 0 n40 f41 1 (Int32.ofInt 255) →
      (∃ fs46, (G44.1 v0 = some (.inl (0, fs46))) ∧
      (7 < fs46.length) ∧
      (∀ G49, G49 = ah_sf G44 v0 0 fs46 7 (am_R G27.2) →
      (5 ≤ mc) ∧
      (6718 ≤ ms) ∧
      (∀ G53, G53 = ah_mk G49 (.inr (0, 8, .inl (fun _ => 0))) →
      (∃ fs55, (G53.1 v0 = some (.inl (0, fs55))) ∧
      (9 < fs55.length) ∧
      (∀ G58, G58 = ah_sf G53 v0 0 fs55 9 (am_R G49.2) →
      (6 ≤ mc) ∧
      (6726 ≤ ms) ∧
      (∀ G62, G62 = ah_mk G58 (.inr (0, 8, .inl (fun _ => 0))) →
      (∃ fs64, (G62.1 v0 = some (.inl (0, fs64))) ∧
      (10 < fs64.length) ∧
      (∀ G67, G67 = ah_sf G62 v0 0 fs64 10 (am_R G58.2) →
      (7 ≤ mc) ∧
      (6734 ≤ ms) ∧
      (∀ G71, G71 = ah_mk G67 (.inr (1, 8, .inl (fun _ => 0))) →
      (∃ fs73, (G71.1 v0 = some (.inl (0, fs73))) ∧
      (11 < fs73.length) ∧
      (∀ G76, G76 = ah_sf G71 v0 0 fs73 11 (am_R G67.2) →
      (8 ≤ mc) ∧
      (6742 ≤ ms) ∧
      (∀ G80, G80 = ah_mk G76 (.inr (0, 8, .inl (fun _ => 0))) →
      (∃ fs82, (G80.1 v0 = some (.inl (0, fs82))) ∧
      (12 < fs82.length) ∧
      (∀ G85, G85 = ah_sf G80 v0 0 fs82 12 (am_R G76.2) →
      (9 ≤ mc) ∧
      (6750 ≤ ms) ∧
      (∀ G89, G89 = ah_mk G85 (.inr (1, 8, .inl (fun _ => 0))) →
      (∃ fs91, (G89.1 v0 = some (.inl (0, fs91))) ∧
      (13 < fs91.length) ∧
      (∀ G94, G94 = ah_sf G89 v0 0 fs91 13 (am_R G85.2) →
      (10 ≤ mc) ∧
      (6758 ≤ ms) ∧
      (∀ G98, G98 = ah_mk G94 (.inr (0, 8, .inl (fun _ => 0))) →
      (∃ n100 f101, (G98.1 G94.2 = some (.inr (0, n100, .inl f101))) ∧
      (ah_X ≤ G94.2) ∧
      (0 < (n100 : Int)) ∧
      (∀ G105, G105 = ah_si G98 G94.2 0 n100 f101 0 (Int32.ofInt (-1)) →
      (∃ n107 f108, (G105.1 G94.2 = some (.inr (0, n107, .inl f108))) ∧
      (1 < (n107 : Int)) ∧
      (∀ G111, G111 = ah_si G105 G94.2 0 n107 f108 1 (Int32.ofInt (-1)) →
      (∃ n113 f114, (G111.1 G94.2 = some (.inr (0, n113, .inl f114))) ∧
      (2 < (n113 : Int)) ∧
      (∀ G117, G117 = ah_si G111 G94.2 0 n113 f114 2 (Int32.ofInt (-1)) →
      (∃ n119 f120, (G117.1 G94.2 = some (.inr (0, n119, .inl f120))) ∧
      (3 < (n119 : Int)) ∧
      (∀ G123, G123 = ah_si G117 G94.2 0 n119 f120 3 (Int32.ofInt (-1)) →
      (∃ n125 f126, (G123.1 G94.2 = some (.inr (0, n125, .inl f126))) ∧
      (4 < (n125 : Int)) ∧
      (∀ G129, G129 = ah_si G123 G94.2 0 n125 f126 4 (Int32.ofInt (-1)) →
      (∃ n131 f132, (G129.1 G94.2 = some (.inr (0, n131, .inl f132))) ∧
      (5 < (n131 : Int)) ∧
      (∀ G135, G135 = ah_si G129 G94.2 0 n131 f132 5 (Int32.ofInt (-1)) →
      (∃ n137 f138, (G135.1 G94.2 = some (.inr (0, n137, .inl f138))) ∧
      (6 < (n137 : Int)) ∧
      (∀ G141, G141 = ah_si G135 G94.2 0 n137 f138 6 (Int32.ofInt (-1)) →
      (∃ n143 f144, (G141.1 G94.2 = some (.inr (0, n143, .inl f144))) ∧
      (7 < (n143 : Int)) ∧
      (∀ G147, G147 = ah_si G141 G94.2 0 n143 f144 7 (Int32.ofInt (-1)) →
      (∃ fs149, (G147.1 v0 = some (.inl (0, fs149))) ∧
      (14 < fs149.length) ∧
      (∀ G152, G152 = ah_sf G147 v0 0 fs149 14 (am_R G94.2) →
      (11 ≤ mc) ∧
      (6766 ≤ ms) ∧
      (∀ G156, G156 = ah_mk G152 (.inr (0, 8, .inl (fun _ => 0))) →
      (∃ fs158, (G156.1 v0 = some (.inl (0, fs158))) ∧
      (15 < fs158.length) ∧
      (∀ G161, G161 = ah_sf G156 v0 0 fs158 15 (am_R G152.2) →
      (12 ≤ mc) ∧
      (7086 ≤ ms) ∧
      (∀ G165, G165 = ah_mk G161 (.inr (0, 320, .inl (fun _ => 0))) →
      (∃ fs167, (G165.1 v0 = some (.inl (0, fs167))) ∧
      (16 < fs167.length) ∧
      (∀ G170, G170 = ah_sf G165 v0 0 fs167 16 (am_R G161.2) →
      (13 ≤ mc) ∧
      (7134 ≤ ms) ∧
      (∀ G174, G174 = ah_mk G170 (.inr (0, 48, .inl (fun _ => 0))) →
      (∃ fs176, (G174.1 v0 = some (.inl (0, fs176))) ∧
      (18 < fs176.length) ∧
      (∀ G179, G179 = ah_sf G174 v0 0 fs176 18 (am_R G170.2) →
      (14 ≤ mc) ∧
      (7434 ≤ ms) ∧
      (∀ G183, G183 = ah_mk G179 (.inr (0, 300, .inl (fun _ => 0))) →
      (∃ fs185, (G183.1 v0 = some (.inl (0, fs185))) ∧
      (20 < fs185.length) ∧
      (∀ G188, G188 = ah_sf G183 v0 0 fs185 20 (am_R G179.2) →
      (15 ≤ mc) ∧
      (7578 ≤ ms) ∧
      (∀ G192, G192 = ah_mk G188 (.inr (1, 144, .inl (fun _ => 0))) →
      (∃ fs194, (G192.1 v0 = some (.inl (0, fs194))) ∧
      (30 < fs194.length) ∧
      (∀ G197, G197 = ah_sf G192 v0 0 fs194 30 (am_R G188.2) →
      (16 ≤ mc) ∧
      (7722 ≤ ms) ∧
      (∀ G201, G201 = ah_mk G197 (.inr (1, 144, .inl (fun _ => 0))) →
      (∃ fs203, (G201.1 v0 = some (.inl (0, fs203))) ∧
      (31 < fs203.length) ∧
      (∀ G206, G206 = ah_sf G201 v0 0 fs203 31 (am_R G197.2) →
      (17 ≤ mc) ∧
      (7738 ≤ ms) ∧
      (∀ G210, G210 = ah_mk G206 (.inr (0, 16, .inl (fun _ => 0))) →
      (∃ fs212, (G210.1 v0 = some (.inl (0, fs212))) ∧
      (32 < fs212.length) ∧
      (∀ G215, G215 = ah_sf G210 v0 0 fs212 32 (am_R G206.2) →
      VX3_init l mc ms Q 192 [(0, am_R v0), (1, am_I 0)] [] G215 17 7738)))))))))))))))))))))))))))))))))))))))))))))))))))))))))))))))))))))))) : kX3_init l mc ms [am_R v0] S Q := by
  refine am_entry (lv := [(0, am_R v0)]) rfl rfl rfl (fun _ => rfl) (fun _ => Nat.le_of_ble_eq_true rfl) ?_
  refine am_aload_n dX3_init_0 rfl 0 rfl ?_
  refine am_objInit q1400 q133 q134 dX3_init_1 (Nat.le_of_ble_eq_true rfl) (Nat.le_of_ble_eq_true rfl) ?_
  refine am_aload_n dX3_init_4 rfl 0 rfl ?_
  refine am_sipush dX3_init_5 (by decide) ?_
  obtain ⟨o1, hh⟩ := hh
  obtain ⟨o2, hh⟩ := hh
  refine ah_newa (k := 0) (ty := .int) rfl rfl (by decide) q165 (by decide) (by decide) o1 o2 dX3_init_8 ?_
  have hh := hh _ rfl
  obtain ⟨fs5, ho6, hh⟩ := hh
  obtain ⟨o7, hh⟩ := hh
  obtain ⟨o8, hh⟩ := hh
  refine ah_putF (ty := tyX3 2) ho6 o7 o8 rfl in_X3 tyX3 tyX3_ok nmX3 (by decide) q1403 rfl rfl rfl (tyX3_ok 2 (by decide)) (ah_fit_ref (Or.inr ⟨_, rfl⟩)) dX3_init_10 ?_
  have hh := hh _ rfl
  refine am_aload_n dX3_init_13 rfl 0 rfl ?_
  refine am_bipush dX3_init_14 (by decide) ?_
  obtain ⟨o11, hh⟩ := hh
  obtain ⟨o12, hh⟩ := hh
  refine ah_newa (k := 0) (ty := .int) rfl rfl (by decide) q165 (by decide) (by decide) o11 o12 dX3_init_16 ?_
  have hh := hh _ rfl
  obtain ⟨fs15, ho16, hh⟩ := hh
  obtain ⟨o17, hh⟩ := hh
  refine ah_putF (ty := tyX3 4) ho16 o7 o17 rfl in_X3 tyX3 tyX3_ok nmX3 (by decide) q1405 rfl rfl rfl (tyX3_ok 4 (by decide)) (ah_fit_ref (Or.inr ⟨_, rfl⟩)) dX3_init_18 ?_
  have hh := hh _ rfl
  refine am_aload_n dX3_init_21 rfl 0 rfl ?_
  refine am_bipush dX3_init_22 (by decide) ?_
  obtain ⟨o20, hh⟩ := hh
  obtain ⟨o21, hh⟩ := hh
  refine ah_newa (k := 0) (ty := .int) rfl rfl (by decide) q165 (by decide) (by decide) o20 o21 dX3_init_24 ?_
  have hh := hh _ rfl
  obtain ⟨fs24, ho25, hh⟩ := hh
  obtain ⟨o26, hh⟩ := hh
  refine ah_putF (ty := tyX3 5) ho25 o7 o26 rfl in_X3 tyX3 tyX3_ok nmX3 (by decide) q1406 rfl rfl rfl (tyX3_ok 5 (by decide)) (ah_fit_ref (Or.inr ⟨_, rfl⟩)) dX3_init_26 ?_
  have hh := hh _ rfl
  refine am_aload_n dX3_init_29 rfl 0 rfl ?_
  refine am_iconst dX3_init_30 ?_
  obtain ⟨o29, hh⟩ := hh
  obtain ⟨o30, hh⟩ := hh
  refine ah_newa (k := 0) (ty := .int) rfl rfl (by decide) q165 (by decide) (by decide) o29 o30 dX3_init_31 ?_
  have hh := hh _ rfl
  refine am_dup dX3_init_33 rfl ?_
  refine am_iconst dX3_init_34 ?_
  refine am_sipush dX3_init_35 (by decide) ?_
  obtain ⟨n33, f34, ha35, hh⟩ := hh
  obtain ⟨o36, hh⟩ := hh
  obtain ⟨o37, hh⟩ := hh
  refine ah_iast ha35 o36 (by decide) o37 dX3_init_38 ?_
  have hh := hh _ rfl
  refine am_dup dX3_init_39 rfl ?_
  refine am_iconst dX3_init_40 ?_
  refine am_sipush dX3_init_41 (by decide) ?_
  obtain ⟨n40, f41, ha42, hh⟩ := hh
  obtain ⟨o43, hh⟩ := hh
  refine ah_iast ha42 o36 (by decide) o43 dX3_init_44 ?_
  have hh := hh _ rfl
  obtain ⟨fs46, ho47, hh⟩ := hh
  obtain ⟨o48, hh⟩ := hh
  refine ah_putF (ty := tyX3 7) ho47 o7 o48 rfl in_X3 tyX3 tyX3_ok nmX3 (by decide) q1408 rfl rfl rfl (tyX3_ok 7 (by decide)) (ah_fit_ref (Or.inr ⟨_, rfl⟩)) dX3_init_45 ?_
  have hh := hh _ rfl
  refine am_aload_n dX3_init_48 rfl 0 rfl ?_
  refine am_bipush dX3_init_49 (by decide) ?_
  obtain ⟨o51, hh⟩ := hh
  obtain ⟨o52, hh⟩ := hh
  refine ah_newa (k := 0) (ty := .int) rfl rfl (by decide) q165 (by decide) (by decide) o51 o52 dX3_init_51 ?_
  have hh := hh _ rfl
  obtain ⟨fs55, ho56, hh⟩ := hh
  obtain ⟨o57, hh⟩ := hh
  refine ah_putF (ty := tyX3 9) ho56 o7 o57 rfl in_X3 tyX3 tyX3_ok nmX3 (by decide) q1410 rfl rfl rfl (tyX3_ok 9 (by decide)) (ah_fit_ref (Or.inr ⟨_, rfl⟩)) dX3_init_53 ?_
  have hh := hh _ rfl
  refine am_aload_n dX3_init_56 rfl 0 rfl ?_
  refine am_bipush dX3_init_57 (by decide) ?_
  obtain ⟨o60, hh⟩ := hh
  obtain ⟨o61, hh⟩ := hh
  refine ah_newa (k := 0) (ty := .int) rfl rfl (by decide) q165 (by decide) (by decide) o60 o61 dX3_init_59 ?_
  have hh := hh _ rfl
  obtain ⟨fs64, ho65, hh⟩ := hh
  obtain ⟨o66, hh⟩ := hh
  refine ah_putF (ty := tyX3 10) ho65 o7 o66 rfl in_X3 tyX3 tyX3_ok nmX3 (by decide) q1411 rfl rfl rfl (tyX3_ok 10 (by decide)) (ah_fit_ref (Or.inr ⟨_, rfl⟩)) dX3_init_61 ?_
  have hh := hh _ rfl
  refine am_aload_n dX3_init_64 rfl 0 rfl ?_
  refine am_bipush dX3_init_65 (by decide) ?_
  obtain ⟨o69, hh⟩ := hh
  obtain ⟨o70, hh⟩ := hh
  refine ah_newa (k := 1) (ty := .boolean) rfl rfl (by decide) q275 (by decide) (by decide) o69 o70 dX3_init_67 ?_
  have hh := hh _ rfl
  obtain ⟨fs73, ho74, hh⟩ := hh
  obtain ⟨o75, hh⟩ := hh
  refine ah_putF (ty := tyX3 11) ho74 o7 o75 rfl in_X3 tyX3 tyX3_ok nmX3 (by decide) q1412 rfl rfl rfl (tyX3_ok 11 (by decide)) (ah_fit_ref (Or.inr ⟨_, rfl⟩)) dX3_init_69 ?_
  have hh := hh _ rfl
  refine am_aload_n dX3_init_72 rfl 0 rfl ?_
  refine am_bipush dX3_init_73 (by decide) ?_
  obtain ⟨o78, hh⟩ := hh
  obtain ⟨o79, hh⟩ := hh
  refine ah_newa (k := 0) (ty := .int) rfl rfl (by decide) q165 (by decide) (by decide) o78 o79 dX3_init_75 ?_
  have hh := hh _ rfl
  obtain ⟨fs82, ho83, hh⟩ := hh
  obtain ⟨o84, hh⟩ := hh
  refine ah_putF (ty := tyX3 12) ho83 o7 o84 rfl in_X3 tyX3 tyX3_ok nmX3 (by decide) q1413 rfl rfl rfl (tyX3_ok 12 (by decide)) (ah_fit_ref (Or.inr ⟨_, rfl⟩)) dX3_init_77 ?_
  have hh := hh _ rfl
  refine am_aload_n dX3_init_80 rfl 0 rfl ?_
  refine am_bipush dX3_init_81 (by decide) ?_
  obtain ⟨o87, hh⟩ := hh
  obtain ⟨o88, hh⟩ := hh
  refine ah_newa (k := 1) (ty := .boolean) rfl rfl (by decide) q275 (by decide) (by decide) o87 o88 dX3_init_83 ?_
  have hh := hh _ rfl
  obtain ⟨fs91, ho92, hh⟩ := hh
  obtain ⟨o93, hh⟩ := hh
  refine ah_putF (ty := tyX3 13) ho92 o7 o93 rfl in_X3 tyX3 tyX3_ok nmX3 (by decide) q1414 rfl rfl rfl (tyX3_ok 13 (by decide)) (ah_fit_ref (Or.inr ⟨_, rfl⟩)) dX3_init_85 ?_
  have hh := hh _ rfl
  refine am_aload_n dX3_init_88 rfl 0 rfl ?_
  refine am_bipush dX3_init_89 (by decide) ?_
  obtain ⟨o96, hh⟩ := hh
  obtain ⟨o97, hh⟩ := hh
  refine ah_newa (k := 0) (ty := .int) rfl rfl (by decide) q165 (by decide) (by decide) o96 o97 dX3_init_91 ?_
  have hh := hh _ rfl
  refine am_dup dX3_init_93 rfl ?_
  refine am_iconst dX3_init_94 ?_
  refine am_iconst dX3_init_95 ?_
  obtain ⟨n100, f101, ha102, hh⟩ := hh
  obtain ⟨o103, hh⟩ := hh
  obtain ⟨o104, hh⟩ := hh
  refine ah_iast ha102 o103 (by decide) o104 dX3_init_96 ?_
  have hh := hh _ rfl
  refine am_dup dX3_init_97 rfl ?_
  refine am_iconst dX3_init_98 ?_
  refine am_iconst dX3_init_99 ?_
  obtain ⟨n107, f108, ha109, hh⟩ := hh
  obtain ⟨o110, hh⟩ := hh
  refine ah_iast ha109 o103 (by decide) o110 dX3_init_100 ?_
  have hh := hh _ rfl
  refine am_dup dX3_init_101 rfl ?_
  refine am_iconst dX3_init_102 ?_
  refine am_iconst dX3_init_103 ?_
  obtain ⟨n113, f114, ha115, hh⟩ := hh
  obtain ⟨o116, hh⟩ := hh
  refine ah_iast ha115 o103 (by decide) o116 dX3_init_104 ?_
  have hh := hh _ rfl
  refine am_dup dX3_init_105 rfl ?_
  refine am_iconst dX3_init_106 ?_
  refine am_iconst dX3_init_107 ?_
  obtain ⟨n119, f120, ha121, hh⟩ := hh
  obtain ⟨o122, hh⟩ := hh
  refine ah_iast ha121 o103 (by decide) o122 dX3_init_108 ?_
  have hh := hh _ rfl
  refine am_dup dX3_init_109 rfl ?_
  refine am_iconst dX3_init_110 ?_
  refine am_iconst dX3_init_111 ?_
  obtain ⟨n125, f126, ha127, hh⟩ := hh
  obtain ⟨o128, hh⟩ := hh
  refine ah_iast ha127 o103 (by decide) o128 dX3_init_112 ?_
  have hh := hh _ rfl
  refine am_dup dX3_init_113 rfl ?_
  refine am_iconst dX3_init_114 ?_
  refine am_iconst dX3_init_115 ?_
  obtain ⟨n131, f132, ha133, hh⟩ := hh
  obtain ⟨o134, hh⟩ := hh
  refine ah_iast ha133 o103 (by decide) o134 dX3_init_116 ?_
  have hh := hh _ rfl
  refine am_dup dX3_init_117 rfl ?_
  refine am_bipush dX3_init_118 (by decide) ?_
  refine am_iconst dX3_init_120 ?_
  obtain ⟨n137, f138, ha139, hh⟩ := hh
  obtain ⟨o140, hh⟩ := hh
  refine ah_iast ha139 o103 (by decide) o140 dX3_init_121 ?_
  have hh := hh _ rfl
  refine am_dup dX3_init_122 rfl ?_
  refine am_bipush dX3_init_123 (by decide) ?_
  refine am_iconst dX3_init_125 ?_
  obtain ⟨n143, f144, ha145, hh⟩ := hh
  obtain ⟨o146, hh⟩ := hh
  refine ah_iast ha145 o103 (by decide) o146 dX3_init_126 ?_
  have hh := hh _ rfl
  obtain ⟨fs149, ho150, hh⟩ := hh
  obtain ⟨o151, hh⟩ := hh
  refine ah_putF (ty := tyX3 14) ho150 o7 o151 rfl in_X3 tyX3 tyX3_ok nmX3 (by decide) q1415 rfl rfl rfl (tyX3_ok 14 (by decide)) (ah_fit_ref (Or.inr ⟨_, rfl⟩)) dX3_init_127 ?_
  have hh := hh _ rfl
  refine am_aload_n dX3_init_130 rfl 0 rfl ?_
  refine am_bipush dX3_init_131 (by decide) ?_
  obtain ⟨o154, hh⟩ := hh
  obtain ⟨o155, hh⟩ := hh
  refine ah_newa (k := 0) (ty := .int) rfl rfl (by decide) q165 (by decide) (by decide) o154 o155 dX3_init_133 ?_
  have hh := hh _ rfl
  obtain ⟨fs158, ho159, hh⟩ := hh
  obtain ⟨o160, hh⟩ := hh
  refine ah_putF (ty := tyX3 15) ho159 o7 o160 rfl in_X3 tyX3 tyX3_ok nmX3 (by decide) q1416 rfl rfl rfl (tyX3_ok 15 (by decide)) (ah_fit_ref (Or.inr ⟨_, rfl⟩)) dX3_init_135 ?_
  have hh := hh _ rfl
  refine am_aload_n dX3_init_138 rfl 0 rfl ?_
  refine am_sipush dX3_init_139 (by decide) ?_
  obtain ⟨o163, hh⟩ := hh
  obtain ⟨o164, hh⟩ := hh
  refine ah_newa (k := 0) (ty := .int) rfl rfl (by decide) q165 (by decide) (by decide) o163 o164 dX3_init_142 ?_
  have hh := hh _ rfl
  obtain ⟨fs167, ho168, hh⟩ := hh
  obtain ⟨o169, hh⟩ := hh
  refine ah_putF (ty := tyX3 16) ho168 o7 o169 rfl in_X3 tyX3 tyX3_ok nmX3 (by decide) q1417 rfl rfl rfl (tyX3_ok 16 (by decide)) (ah_fit_ref (Or.inr ⟨_, rfl⟩)) dX3_init_144 ?_
  have hh := hh _ rfl
  refine am_aload_n dX3_init_147 rfl 0 rfl ?_
  refine am_bipush dX3_init_148 (by decide) ?_
  obtain ⟨o172, hh⟩ := hh
  obtain ⟨o173, hh⟩ := hh
  refine ah_newa (k := 0) (ty := .int) rfl rfl (by decide) q165 (by decide) (by decide) o172 o173 dX3_init_150 ?_
  have hh := hh _ rfl
  obtain ⟨fs176, ho177, hh⟩ := hh
  obtain ⟨o178, hh⟩ := hh
  refine ah_putF (ty := tyX3 18) ho177 o7 o178 rfl in_X3 tyX3 tyX3_ok nmX3 (by decide) q1419 rfl rfl rfl (tyX3_ok 18 (by decide)) (ah_fit_ref (Or.inr ⟨_, rfl⟩)) dX3_init_152 ?_
  have hh := hh _ rfl
  refine am_aload_n dX3_init_155 rfl 0 rfl ?_
  refine am_sipush dX3_init_156 (by decide) ?_
  obtain ⟨o181, hh⟩ := hh
  obtain ⟨o182, hh⟩ := hh
  refine ah_newa (k := 0) (ty := .int) rfl rfl (by decide) q165 (by decide) (by decide) o181 o182 dX3_init_159 ?_
  have hh := hh _ rfl
  obtain ⟨fs185, ho186, hh⟩ := hh
  obtain ⟨o187, hh⟩ := hh
  refine ah_putF (ty := tyX3 20) ho186 o7 o187 rfl in_X3 tyX3 tyX3_ok nmX3 (by decide) q1421 rfl rfl rfl (tyX3_ok 20 (by decide)) (ah_fit_ref (Or.inr ⟨_, rfl⟩)) dX3_init_161 ?_
  have hh := hh _ rfl
  refine am_aload_n dX3_init_164 rfl 0 rfl ?_
  refine am_sipush dX3_init_165 (by decide) ?_
  obtain ⟨o190, hh⟩ := hh
  obtain ⟨o191, hh⟩ := hh
  refine ah_newa (k := 1) (ty := .boolean) rfl rfl (by decide) q275 (by decide) (by decide) o190 o191 dX3_init_168 ?_
  have hh := hh _ rfl
  obtain ⟨fs194, ho195, hh⟩ := hh
  obtain ⟨o196, hh⟩ := hh
  refine ah_putF (ty := tyX3 30) ho195 o7 o196 rfl in_X3 tyX3 tyX3_ok nmX3 (by decide) q1431 rfl rfl rfl (tyX3_ok 30 (by decide)) (ah_fit_ref (Or.inr ⟨_, rfl⟩)) dX3_init_170 ?_
  have hh := hh _ rfl
  refine am_aload_n dX3_init_173 rfl 0 rfl ?_
  refine am_sipush dX3_init_174 (by decide) ?_
  obtain ⟨o199, hh⟩ := hh
  obtain ⟨o200, hh⟩ := hh
  refine ah_newa (k := 1) (ty := .boolean) rfl rfl (by decide) q275 (by decide) (by decide) o199 o200 dX3_init_177 ?_
  have hh := hh _ rfl
  obtain ⟨fs203, ho204, hh⟩ := hh
  obtain ⟨o205, hh⟩ := hh
  refine ah_putF (ty := tyX3 31) ho204 o7 o205 rfl in_X3 tyX3 tyX3_ok nmX3 (by decide) q1432 rfl rfl rfl (tyX3_ok 31 (by decide)) (ah_fit_ref (Or.inr ⟨_, rfl⟩)) dX3_init_179 ?_
  have hh := hh _ rfl
  refine am_aload_n dX3_init_182 rfl 0 rfl ?_
  refine am_bipush dX3_init_183 (by decide) ?_
  obtain ⟨o208, hh⟩ := hh
  obtain ⟨o209, hh⟩ := hh
  refine ah_newa (k := 0) (ty := .int) rfl rfl (by decide) q165 (by decide) (by decide) o208 o209 dX3_init_185 ?_
  have hh := hh _ rfl
  obtain ⟨fs212, ho213, hh⟩ := hh
  obtain ⟨o214, hh⟩ := hh
  refine ah_putF (ty := tyX3 32) ho213 o7 o214 rfl in_X3 tyX3 tyX3_ok nmX3 (by decide) q1433 rfl rfl rfl (tyX3_ok 32 (by decide)) (ah_fit_ref (Or.inr ⟨_, rfl⟩)) dX3_init_187 ?_
  have hh := hh _ rfl
  refine am_iconst dX3_init_190 ?_
  refine am_istore_n dX3_init_191 rfl (by decide) rfl ?_
  refine am_keep [1, 0] rfl ?_
  exact hh
set_option maxHeartbeats 4000000 in
set_option maxRecDepth 100000 in
theorem bX3_init_192 {l : Launch} {mc ms : Nat} {Q : Option am_W → ah_H → Prop} {S : ah_H} (v0 : Nat) (v1 : Int) (h1 : am_r v1) (cs ss : Nat)
    (hh : ((6696 ≤ v1) →
        (cs ≤ mc) ∧
        (ss ≤ ms) ∧
        Q none S) ∧
      ((¬ 6696 ≤ v1) →
        (∃ fs6, (S.1 v0 = some (.inl (0, fs6))) ∧
        (∃ x9, (fs6[2]? = some (am_R x9)) ∧
        (0 ≤ v1) ∧
        ((56 ≤ (v1 % 62)) →
          (∃ n14 f15, (S.1 x9 = some (.inr (0, n14, .inl f15))) ∧
          (ah_X ≤ x9) ∧
          (0 ≤ v1 ∧ v1 < (n14 : Int)) ∧
          (∀ G19, G19 = ah_si S x9 0 n14 f15 v1 (Int32.ofInt (-1)) →
          VX3_init l mc ms Q 192 [(0, am_R v0), (1, am_I (v1 + 1))] [] G19 cs ss))) ∧
        ((¬ 56 ≤ (v1 % 62)) →
          (0 ≤ (v1 % 62)) ∧
          ((¬ ((v1 % 62) % 7) = 0) →
            (∃ n25 f26, (S.1 x9 = some (.inr (0, n25, .inl f26))) ∧
            (ah_X ≤ x9) ∧
            (0 ≤ v1 ∧ v1 < (n25 : Int)) ∧
            (∀ G30, G30 = ah_si S x9 0 n25 f26 v1 (Int32.ofInt (-1)) →
            VX3_init l mc ms Q 192 [(0, am_R v0), (1, am_I (v1 + 1))] [] G30 cs ss))) ∧
          ((((v1 % 62) % 7) = 0) →
            (∃ n32 f33, (S.1 x9 = some (.inr (0, n32, .inl f33))) ∧
            (ah_X ≤ x9) ∧
            (0 ≤ v1 ∧ v1 < (n32 : Int)) ∧
            (∀ G37, G37 = ah_si S x9 0 n32 f33 v1 (Int32.ofInt 0) →
            VX3_init l mc ms Q 192 [(0, am_R v0), (1, am_I (v1 + 1))] [] G37 cs ss)))))))) : VX3_init l mc ms Q 192 [(0, am_R v0), (1, am_I v1)] [] S cs ss := by
  refine am_iload_n dX3_init_192 rfl 1 rfl ?_
  refine am_sipush dX3_init_193 (by decide) ?_
  obtain ⟨ha1, hb2⟩ := hh
  refine am_icmp_ge (tgt := 235) dX3_init_196 (by decide) h1 (⟨by decide, by decide⟩) (fun hc3 => ?_) (fun hc3 => ?_)
  · have hh := ha1 hc3
    obtain ⟨o4, hh⟩ := hh
    obtain ⟨o5, hh⟩ := hh
    exact am_vret rfl dX3_init_235 o4 o5 hh
  · have hh := hb2 hc3
    refine am_aload_n dX3_init_199 rfl 0 rfl ?_
    obtain ⟨fs6, ho7, hh⟩ := hh
    obtain ⟨x9, hv8, hh⟩ := hh
    refine ah_get ho7 hv8 rfl in_X3 (by decide) q1403 (Or.inl rfl) dX3_init_200 ?_
    refine am_iload_n dX3_init_203 rfl 1 rfl ?_
    refine am_iload_n dX3_init_204 rfl 1 rfl ?_
    refine am_bipush dX3_init_205 (by decide) ?_
    obtain ⟨o10, hh⟩ := hh
    refine am_irem dX3_init_207 o10 (h1).2 (by decide) (by decide) ?_
    refine am_bipush dX3_init_208 (by decide) ?_
    obtain ⟨ha11, hb12⟩ := hh
    refine am_icmp_ge (tgt := 227) dX3_init_210 (by decide) (am_r_rem o10 (h1).2 (by decide) : am_r (v1 % 62)) (⟨by decide, by decide⟩) (fun hc13 => ?_) (fun hc13 => ?_)
    · have hh := ha11 hc13
      refine am_iconst dX3_init_227 ?_
      obtain ⟨n14, f15, ha16, hh⟩ := hh
      obtain ⟨o17, hh⟩ := hh
      obtain ⟨o18, hh⟩ := hh
      refine ah_iast ha16 o17 o18.1 o18.2 dX3_init_228 ?_
      have hh := hh _ rfl
      refine am_iinc (n := 1) dX3_init_229 rfl (by decide) rfl ?_
      refine am_goto (tgt := 192) dX3_init_232 (by decide) ?_
      refine am_keep [1, 0] rfl ?_
      exact hh
    · have hh := hb12 hc13
      refine am_iload_n dX3_init_213 rfl 1 rfl ?_
      refine am_bipush dX3_init_214 (by decide) ?_
      refine am_irem dX3_init_216 o10 (h1).2 (by decide) (by decide) ?_
      refine am_bipush dX3_init_217 (by decide) ?_
      obtain ⟨o21, hh⟩ := hh
      refine am_irem dX3_init_219 o21 ((am_r_rem o10 (h1).2 (by decide) : am_r (v1 % 62))).2 (by decide) (by decide) ?_
      obtain ⟨ha22, hb23⟩ := hh
      refine am_if_ne (tgt := 227) dX3_init_220 (by decide) (am_r_rem o21 ((am_r_rem o10 (h1).2 (by decide) : am_r (v1 % 62))).2 (by decide) : am_r ((v1 % 62) % 7)) (fun hc24 => ?_) (fun hc24 => ?_)
      · have hh := ha22 hc24
        refine am_iconst dX3_init_227 ?_
        obtain ⟨n25, f26, ha27, hh⟩ := hh
        obtain ⟨o28, hh⟩ := hh
        obtain ⟨o29, hh⟩ := hh
        refine ah_iast ha27 o28 o29.1 o29.2 dX3_init_228 ?_
        have hh := hh _ rfl
        refine am_iinc (n := 1) dX3_init_229 rfl (by decide) rfl ?_
        refine am_goto (tgt := 192) dX3_init_232 (by decide) ?_
        refine am_keep [1, 0] rfl ?_
        exact hh
      · have hh := hb23 hc24
        refine am_iconst dX3_init_223 ?_
        refine am_goto (tgt := 228) dX3_init_224 (by decide) ?_
        obtain ⟨n32, f33, ha34, hh⟩ := hh
        obtain ⟨o35, hh⟩ := hh
        obtain ⟨o36, hh⟩ := hh
        refine ah_iast ha34 o35 o36.1 o36.2 dX3_init_228 ?_
        have hh := hh _ rfl
        refine am_iinc (n := 1) dX3_init_229 rfl (by decide) rfl ?_
        refine am_goto (tgt := 192) dX3_init_232 (by decide) ?_
        refine am_keep [1, 0] rfl ?_
        exact hh
