/-! jdk/internal/util/Preconditions.checkIndex(IILjava/util/function/BiFunction;)I -/
set_option maxHeartbeats 4000000 in
set_option maxRecDepth 100000 in
theorem bJ13_checkIndex_N {l : Launch} {Q : Option am_W → ah_H → Prop} {S : ah_H} (v0 : Int) (h0 : am_r v0) (v1 : Int) (h1 : am_r v1)
    (hh : ((v0 < 0) →
        False) ∧
      ((¬ v0 < 0) →
        ((v0 < v1) →
          Q (some (am_I v0)) S) ∧
        ((¬ v0 < v1) →
          False))) : kJ13_checkIndex l [am_I v0, am_I v1, am_O none] S Q := by
  refine am_entry (lv := [(0, am_I v0), (1, am_I v1), (2, am_O none)]) rfl rfl rfl (fun _ => rfl) (fun _ => Nat.le_of_ble_eq_true rfl) ?_
  refine am_iload_n dJ13_checkIndex_0 rfl 0 rfl ?_
  obtain ⟨ha1, hb2⟩ := hh
  refine am_if_lt (tgt := 9) dJ13_checkIndex_1 (by decide) h0 (fun hc3 => ?_) (fun hc3 => ?_)
  · have hh := ha1 hc3
    exact hh.elim
  · have hh := hb2 hc3
    refine am_iload_n dJ13_checkIndex_4 rfl 0 rfl ?_
    refine am_iload_n dJ13_checkIndex_5 rfl 1 rfl ?_
    obtain ⟨ha4, hb5⟩ := hh
    refine am_icmp_lt (tgt := 16) dJ13_checkIndex_6 (by decide) h0 h1 (fun hc6 => ?_) (fun hc6 => ?_)
    · have hh := ha4 hc6
      refine am_iload_n dJ13_checkIndex_16 rfl 0 rfl ?_
      exact am_iret rfl dJ13_checkIndex_17 (Nat.le_refl 0) (Nat.le_refl 0) hh
    · have hh := hb5 hc6
      exact hh.elim
/-! java/util/Arrays.copyOf([Ljava/lang/Object;ILjava/lang/Class;)[Ljava/lang/Object; -/
abbrev VJ11_copyOf_2 (l : Launch) (mc ms : Nat) (Q : Option am_W → ah_H → Prop) (pc : Nat) (lv : List (Nat × am_W)) (st : List am_W) (S : ah_H) (cells slots : Nat) : Prop := am_V ah_r l RJ11 cJ11_copyOf_2 4 (some (Jvm.ClassFile.FieldType.array (Jvm.ClassFile.FieldType.object "java/lang/Object"))) "copyOf" (am_rm 2 mc ms) (am_E1 ah_r mc ms Q) pc lv st S cells slots
abbrev kJ11_copyOf_2 (l : Launch) (mc ms : Nat) (as : List am_W) (S : ah_H) (Q : Option am_W → ah_H → Prop) : Prop := am_C ah_r l yJ11_copyOf_2 (ws_ yJ11_copyOf_2 cJ11_copyOf_2 4 (some (Jvm.ClassFile.FieldType.array (Jvm.ClassFile.FieldType.object "java/lang/Object")))) (am_rm 2 mc ms) mc ms as S Q
set_option maxHeartbeats 4000000 in
set_option maxRecDepth 100000 in
theorem bJ11_copyOf_2 {l : Launch} {mc ms : Nat} {Q : Option am_W → ah_H → Prop} {S : ah_H} (v0 : Nat) (v1 : Int) (h1 : am_r v1) (v2 : Nat)
    (hh : (ah_q (some v2 : Option Nat) (some 15 : Option Nat)) ∧
      ((¬ (some v2 : Option Nat) = (some 15 : Option Nat)) →
        False) ∧
      (((some v2 : Option Nat) = (some 15 : Option Nat)) →
        (0 ≤ v1 ∧ v1 < 100000) ∧
        (1 ≤ mc) ∧
        ((0 + v1.toNat) ≤ ms) ∧
        (∀ G8, G8 = ah_mk S (.inr (5, v1.toNat, .inr (fun _ => none))) →
        (∃ n10 f11, (G8.1 v0 = some (.inr (5, n10, .inr f11))) ∧
        (∃ n14 f15, (G8.1 S.2 = some (.inr (5, n14, .inr f15))) ∧
        (ah_X ≤ v0) ∧
        (ah_X ≤ S.2) ∧
        (0 ≤ (am_min (n10 : Int) v1)) ∧
        (0 + (am_min (n10 : Int) v1) ≤ (n10 : Int)) ∧
        (0 + (am_min (n10 : Int) v1) ≤ (n14 : Int)) ∧
        (∀ i : Nat, (i : Int) < (am_min (n10 : Int) v1) → ah_is G8 (f11 ((0 : Int).toNat + i)) "java/lang/Object") ∧
        (∀ G23, G23 = ah_cq G8 S.2 5 n14 f11 f15 0 0 (am_min (n10 : Int) v1) →
        Q (some (am_R S.2)) G23)))))) : kJ11_copyOf_2 l mc ms [am_R v0, am_I v1, am_R v2] S Q := by
  refine am_entry (lv := [(0, am_R v0), (1, am_I v1), (2, am_R v2)]) rfl rfl rfl (fun _ => rfl) (fun _ => Nat.le_of_ble_eq_true rfl) ?_
  refine am_aload_n dJ11_copyOf_2_0 rfl 2 rfl ?_
  refine ah_ldcM q708 dJ11_copyOf_2_1 ?_
  obtain ⟨o1, hh⟩ := hh
  obtain ⟨ha2, hb3⟩ := hh
  refine ah_acmp_ne (tgt := 13) dJ11_copyOf_2_3 (by decide) o1 (fun hc4 => ?_) (fun hc4 => ?_)
  · have hh := ha2 hc4
    exact hh.elim
  · have hh := hb3 hc4
    refine am_iload_n dJ11_copyOf_2_6 rfl 1 rfl ?_
    obtain ⟨o5, hh⟩ := hh
    obtain ⟨o6, hh⟩ := hh
    obtain ⟨o7, hh⟩ := hh
    refine ah_anew (k := 5) (C := "java/lang/Object") rfl (by decide) q710 q709 o5.1 o5.2 o6 o7 dJ11_copyOf_2_7 ?_
    have hh := hh _ rfl
    refine am_goto (tgt := 24) dJ11_copyOf_2_10 (by decide) ?_
    refine am_astore_n dJ11_copyOf_2_24 rfl (by decide) rfl ?_
    refine am_aload_n dJ11_copyOf_2_25 rfl 1 rfl ?_
    refine am_iconst dJ11_copyOf_2_26 ?_
    refine am_aload_n dJ11_copyOf_2_27 rfl 0 rfl ?_
    refine am_iconst dJ11_copyOf_2_28 ?_
    refine am_aload_n dJ11_copyOf_2_29 rfl 1 rfl ?_
    obtain ⟨n10, f11, ha12, hh⟩ := hh
    refine ah_alen ha12 dJ11_copyOf_2_30 (fun hn13 => ?_)
    refine am_iload_n dJ11_copyOf_2_31 rfl 2 rfl ?_
    refine am_mmin hn13 h1 q711 q712 q106 q713 (Nat.le_of_ble_eq_true rfl) (Nat.le_of_ble_eq_true rfl) o6 o7 dJ11_copyOf_2_32 ?_
    obtain ⟨n14, f15, ha16, hh⟩ := hh
    obtain ⟨o17, hh⟩ := hh
    obtain ⟨o18, hh⟩ := hh
    obtain ⟨o19, hh⟩ := hh
    obtain ⟨o20, hh⟩ := hh
    obtain ⟨o21, hh⟩ := hh
    obtain ⟨o22, hh⟩ := hh
    refine ah_copyq ha12 o17 ha16 o18 (by decide) (by decide) o19 o20 o21 o22 q714 q433 q432 q105 (Nat.le_of_ble_eq_true rfl) (Nat.le_of_ble_eq_true rfl) dJ11_copyOf_2_35 ?_
    have hh := hh _ rfl
    refine am_aload_n dJ11_copyOf_2_38 rfl 0 rfl ?_
    exact am_aret rfl (by first | exact Or.inl ⟨_, rfl⟩ | exact Or.inr ⟨_, rfl⟩) dJ11_copyOf_2_39 o6 o7 hh
/-! java/util/Arrays.copyOf([Ljava/lang/Object;I)[Ljava/lang/Object; -/
set_option maxHeartbeats 4000000 in
set_option maxRecDepth 100000 in
theorem bJ11_copyOf {l : Launch} {mc ms : Nat} {Q : Option am_W → ah_H → Prop} {S : ah_H} (v0 : Nat) (v1 : Int) (h1 : am_r v1)
    (hh : (∃ n1 f2, (S.1 v0 = some (.inr (5, n1, .inr f2))) ∧
      (ah_X ≤ v0) ∧
      (∃ mc5 ms6 : Nat, ((0 + mc5) ≤ mc ∧ (0 + ms6) ≤ ms) ∧
      kJ11_copyOf_2 l mc5 ms6 [am_R v0, am_I v1, am_R 15] S (am_qo fun a10 G9 => ∃ y11, a10 = some y11 ∧
        Q (some (am_R y11)) G9)))) : kJ11_copyOf l mc ms [am_R v0, am_I v1] S Q := by
  refine am_entry (lv := [(0, am_R v0), (1, am_I v1)]) rfl rfl rfl (fun _ => rfl) (fun _ => Nat.le_of_ble_eq_true rfl) ?_
  refine am_aload_n dJ11_copyOf_0 rfl 0 rfl ?_
  refine am_iload_n dJ11_copyOf_1 rfl 1 rfl ?_
  refine am_aload_n dJ11_copyOf_2 rfl 0 rfl ?_
  obtain ⟨n1, f2, ha3, hh⟩ := hh
  obtain ⟨o4, hh⟩ := hh
  refine ah_getC ha3 o4 q681 (am_nwin q1926 rfl) q1925 q682 q704 (Nat.le_of_ble_eq_true rfl) (Nat.le_of_ble_eq_true rfl) dJ11_copyOf_3 ?_
  obtain ⟨mc5, ms6, ⟨o7, o8⟩, hh⟩ := hh
  refine am_rSo (n := 3) hh dJ11_copyOf_6 (lw_S q705 q706 q109 q707) ⟨⟨by decide, by decide, by decide +kernel⟩, ⟨Nat.le_of_ble_eq_true rfl, Nat.le_of_ble_eq_true rfl⟩⟩ ⟨rfl, rfl⟩ rfl rfl (Nat.le_of_ble_eq_true rfl) ⟨o7, o8⟩ (fun a10 G9 hh => ?_)
  obtain ⟨y11, rfl, hh⟩ := hh
  exact am_aret rfl (by first | exact Or.inl ⟨_, rfl⟩ | exact Or.inr ⟨_, rfl⟩) dJ11_copyOf_9 o7 o8 hh
/-! java/lang/String.<init>(Ljava/lang/AbstractStringBuilder;Ljava/lang/Void;)V -/
set_option maxHeartbeats 4000000 in
set_option maxRecDepth 100000 in
theorem bJ8_init_2_N {l : Launch} {mc ms : Nat} {Q : Option am_W → ah_H → Prop} {S : ah_H} (v0 : Nat) (v1 : Nat)
    (hh : (∃ fs1, (S.1 v1 = some (.inl (16, fs1))) ∧
      kJ15_getValue l [am_R v1] S (am_qo fun a4 G3 => ∃ y5, a4 = some y5 ∧
        (∃ fs6, (G3.1 v1 = some (.inl (16, fs6))) ∧
        kJ16_length l [am_R v1] G3 (am_qi fun r9 G8 =>
          (∃ fs11, (G8.1 v1 = some (.inl (16, fs11))) ∧
          kJ15_isLatin1 l [am_R v1] G8 (am_qz fun b14 G13 =>
            ((b14 = false) →
              False) ∧
            ((b14 = true) →
              (∃ fs18, (G13.1 v0 = some (.inl (17, fs18))) ∧
              (ah_X ≤ v0) ∧
              (1 < fs18.length) ∧
              (∀ G22, G22 = ah_sf G13 v0 17 fs18 1 (am_I 0) →
              (∃ mc24 ms25 : Nat, ((0 + mc24) ≤ mc ∧ (0 + ms25) ≤ ms) ∧
              kJ11_copyOfRange l mc24 ms25 [am_R y5, am_I 0, am_I r9] G22 (am_qo fun a29 G28 => ∃ y30, a29 = some y30 ∧
                (∃ fs31, (G28.1 v0 = some (.inl (17, fs31))) ∧
                (0 < fs31.length) ∧
                (∀ G34, G34 = ah_sf G28 v0 17 fs31 0 (am_R y30) →
                Q none G34)))))))))))))) : kJ8_init_2 l mc ms [am_R v0, am_R v1, am_O none] S Q := by
  refine am_entry (lv := [(0, am_R v0), (1, am_R v1), (2, am_O none)]) rfl rfl rfl (fun _ => rfl) (fun _ => Nat.le_of_ble_eq_true rfl) ?_
  refine am_aload_n dJ8_init_2_0 rfl 0 rfl ?_
  refine am_objInit q990 q133 q134 dJ8_init_2_1 (Nat.le_of_ble_eq_true rfl) (Nat.le_of_ble_eq_true rfl) ?_
  refine am_aload_n dJ8_init_2_4 rfl 1 rfl ?_
  obtain ⟨fs1, ho2, hh⟩ := hh
  refine am_rUo (n := 0) (owner := "java/lang/AbstractStringBuilder") hh dJ8_init_2_5 (am_CU_O q991 q993 q992 q994 q992 q114 q995 q995 ⟨rfl, rfl⟩ ⟨by decide, by decide, by decide +kernel⟩ ⟨Nat.le_of_ble_eq_true rfl, Nat.le_of_ble_eq_true rfl⟩) rfl rfl (Nat.le_of_ble_eq_true rfl) ⟨(Nat.zero_le _), (Nat.zero_le _)⟩ (ah_recv ho2 rfl) (fun a4 G3 hh => ?_)
  obtain ⟨y5, rfl, hh⟩ := hh
  refine am_astore_n dJ8_init_2_8 rfl (by decide) rfl ?_
  refine am_aload_n dJ8_init_2_9 rfl 2 rfl ?_
  obtain ⟨fs6, ho7, hh⟩ := hh
  refine am_rUi (n := 0) (owner := "java/lang/AbstractStringBuilder") hh dJ8_init_2_10 (am_CU_O q996 q998 q997 q999 q1000 q115 q1001 q1003 ⟨rfl, rfl⟩ ⟨by decide, by decide, by decide +kernel⟩ ⟨Nat.le_of_ble_eq_true rfl, Nat.le_of_ble_eq_true rfl⟩) rfl rfl (Nat.le_of_ble_eq_true rfl) ⟨(Nat.zero_le _), (Nat.zero_le _)⟩ (ah_recv ho7 rfl) (fun r9 G8 hr10 hh => ?_)
  refine am_istore dJ8_init_2_13 (by decide) rfl ?_
  refine am_aload_n dJ8_init_2_15 rfl 3 rfl ?_
  obtain ⟨fs11, ho12, hh⟩ := hh
  refine am_rUz (n := 0) (owner := "java/lang/AbstractStringBuilder") hh dJ8_init_2_16 (am_CU_O q1004 q930 q929 q931 q929 q114 q932 q932 ⟨rfl, rfl⟩ ⟨by decide, by decide, by decide +kernel⟩ ⟨Nat.le_of_ble_eq_true rfl, Nat.le_of_ble_eq_true rfl⟩) rfl rfl (Nat.le_of_ble_eq_true rfl) ⟨(Nat.zero_le _), (Nat.zero_le _)⟩ (ah_recv ho12 rfl) (fun b14 G13 hh => ?_)
  obtain ⟨ha15, hb16⟩ := hh
  refine am_ifB_eq (tgt := 41) dJ8_init_2_19 (by decide) (fun hc17 => ?_) (fun hc17 => ?_)
  · have hh := ha15 hc17
    exact hh.elim
  · have hh := hb16 hc17
    refine am_aload_n dJ8_init_2_22 rfl 2 rfl ?_
    refine am_iconst dJ8_init_2_23 ?_
    obtain ⟨fs18, ho19, hh⟩ := hh
    obtain ⟨o20, hh⟩ := hh
    obtain ⟨o21, hh⟩ := hh
    refine ah_putF (ty := tyJ8 1) ho19 o20 o21 rfl in_J8 tyJ8 tyJ8_ok nmJ8 (by decide) q1029 rfl rfl rfl (tyJ8_ok 1 (by decide)) (fun _ => ⟨rfl, rfl⟩) dJ8_init_2_24 ?_
    have hh := hh _ rfl
    refine am_aload_n dJ8_init_2_27 rfl 2 rfl ?_
    refine am_aload_n dJ8_init_2_28 rfl 1 rfl ?_
    refine am_iconst dJ8_init_2_29 ?_
    refine am_iload dJ8_init_2_30 0 rfl ?_
    obtain ⟨mc24, ms25, ⟨o26, o27⟩, hh⟩ := hh
    refine am_rSo (n := 3) hh dJ8_init_2_32 (lw_S q1005 q1006 q109 q1007) ⟨⟨by decide, by decide, by decide +kernel⟩, ⟨Nat.le_of_ble_eq_true rfl, Nat.le_of_ble_eq_true rfl⟩⟩ ⟨rfl, rfl⟩ rfl rfl (Nat.le_of_ble_eq_true rfl) ⟨o26, o27⟩ (fun a29 G28 hh => ?_)
    obtain ⟨y30, rfl, hh⟩ := hh
    obtain ⟨fs31, ho32, hh⟩ := hh
    obtain ⟨o33, hh⟩ := hh
    refine ah_putF (ty := tyJ8 0) ho32 o20 o33 rfl in_J8 tyJ8 tyJ8_ok nmJ8 (by decide) q1028 rfl rfl rfl (tyJ8_ok 0 (by decide)) (ah_fit_ref (Or.inr ⟨_, rfl⟩)) dJ8_init_2_35 ?_
    have hh := hh _ rfl
    refine am_goto (tgt := 97) dJ8_init_2_38 (by decide) ?_
    exact am_vret rfl dJ8_init_2_97 o26 o27 hh
