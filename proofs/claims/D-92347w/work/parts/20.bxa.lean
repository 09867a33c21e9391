/-! java/util/AbstractCollection.<init>()V -/
abbrev VJ0_init (l : Launch) (Q : Option am_W → ah_H → Prop) (pc : Nat) (lv : List (Nat × am_W)) (st : List am_W) (S : ah_H) : Prop := am_V ah_r l RJ0 cJ0_init 1 none "<init>" (am_rm 2 0 0) (am_E1 ah_r 0 0 Q) pc lv st S 0 0
abbrev kJ0_init (l : Launch) (as : List am_W) (S : ah_H) (Q : Option am_W → ah_H → Prop) : Prop := am_C ah_r l yJ0_init (ws_ yJ0_init cJ0_init 1 none) (am_rm 2 0 0) 0 0 as S Q
set_option maxHeartbeats 4000000 in
set_option maxRecDepth 100000 in
theorem bJ0_init {l : Launch} {Q : Option am_W → ah_H → Prop} {S : ah_H} (v0 : Nat)
    (hh : Q none S) : kJ0_init l [am_R v0] S Q := by
  refine am_entry (lv := [(0, am_R v0)]) rfl rfl rfl (fun _ => rfl) (fun _ => Nat.le_of_ble_eq_true rfl) ?_
  refine am_aload_n dJ0_init_0 rfl 0 rfl ?_
  refine am_objInit q178 q133 q134 dJ0_init_1 (Nat.le_of_ble_eq_true rfl) (Nat.le_of_ble_eq_true rfl) ?_
  exact am_vret rfl dJ0_init_4 (Nat.le_refl 0) (Nat.le_refl 0) hh
/-! java/util/AbstractList.<init>()V -/
abbrev VJ1_init (l : Launch) (Q : Option am_W → ah_H → Prop) (pc : Nat) (lv : List (Nat × am_W)) (st : List am_W) (S : ah_H) : Prop := am_V ah_r l RJ1 cJ1_init 1 none "<init>" (am_rm 3 0 0) (am_E1 ah_r 0 0 Q) pc lv st S 0 0
abbrev kJ1_init (l : Launch) (as : List am_W) (S : ah_H) (Q : Option am_W → ah_H → Prop) : Prop := am_C ah_r l yJ1_init (ws_ yJ1_init cJ1_init 1 none) (am_rm 3 0 0) 0 0 as S Q
set_option maxHeartbeats 4000000 in
set_option maxRecDepth 100000 in
theorem bJ1_init {l : Launch} {Q : Option am_W → ah_H → Prop} {S : ah_H} (v0 : Nat)
    (hh : kJ0_init l [am_R v0] S (am_qv fun G1 =>
        (∃ fs2, (G1.1 v0 = some (.inl (15, fs2))) ∧
        (ah_X ≤ v0) ∧
        (0 < fs2.length) ∧
        (∀ G6, G6 = ah_sf G1 v0 15 fs2 0 (am_I 0) →
        Q none G6)))) : kJ1_init l [am_R v0] S Q := by
  refine am_entry (lv := [(0, am_R v0)]) rfl rfl rfl (fun _ => rfl) (fun _ => Nat.le_of_ble_eq_true rfl) ?_
  refine am_aload_n dJ1_init_0 rfl 0 rfl ?_
  refine am_rIv (n := 0) hh dJ1_init_1 q175 q176 q92 q177 rfl ⟨⟨by decide, by decide, by decide +kernel⟩, ⟨Nat.le_of_ble_eq_true rfl, Nat.le_of_ble_eq_true rfl⟩⟩ ⟨rfl, rfl⟩ rfl rfl (Nat.le_of_ble_eq_true rfl) ⟨(Nat.le_of_ble_eq_true rfl), (Nat.le_of_ble_eq_true rfl)⟩ (fun G1 hh => ?_)
  refine am_aload_n dJ1_init_4 rfl 0 rfl ?_
  refine am_iconst dJ1_init_5 ?_
  obtain ⟨fs2, ho3, hh⟩ := hh
  obtain ⟨o4, hh⟩ := hh
  obtain ⟨o5, hh⟩ := hh
  refine ah_put (ty := tyJ2 0) ho3 o4 o5 rfl in_J2 tyJ2 tyJ2_ok nmJ2 (by decide) q183 (Or.inl rfl) rfl (tyJ2_ok 0 (by decide)) ah_fit_int dJ1_init_6 ?_
  have hh := hh _ rfl
  exact am_vret rfl dJ1_init_9 (Nat.le_refl 0) (Nat.le_refl 0) hh
/-! jdk/internal/util/ArraysSupport.newLength(III)I -/
abbrev VJ10_newLength (l : Launch) (Q : Option am_W → ah_H → Prop) (pc : Nat) (lv : List (Nat × am_W)) (st : List am_W) (S : ah_H) : Prop := am_V ah_r l RJ10 cJ10_newLength 4 (some .int) "newLength" (am_rm 2 0 0) (am_E1 ah_r 0 0 Q) pc lv st S 0 0
abbrev kJ10_newLength (l : Launch) (as : List am_W) (S : ah_H) (Q : Option am_W → ah_H → Prop) : Prop := am_C ah_r l yJ10_newLength (ws_ yJ10_newLength cJ10_newLength 4 (some .int)) (am_rm 2 0 0) 0 0 as S Q
set_option maxHeartbeats 4000000 in
set_option maxRecDepth 100000 in
theorem bJ10_newLength {l : Launch} {Q : Option am_W → ah_H → Prop} {S : ah_H} (v0 : Int) (h0 : am_r v0) (v1 : Int) (h1 : am_r v1) (v2 : Int) (h2 : am_r v2)
    (hh : (am_r (v0 + (am_max v1 v2))) ∧
      (((v0 + (am_max v1 v2)) ≤ 0) →
        False) ∧
      ((¬ (v0 + (am_max v1 v2)) ≤ 0) →
        ((2147483639 < (v0 + (am_max v1 v2))) →
          False) ∧
        ((¬ 2147483639 < (v0 + (am_max v1 v2))) →
          Q (some (am_I (v0 + (am_max v1 v2)))) S))) : kJ10_newLength l [am_I v0, am_I v1, am_I v2] S Q := by
  refine am_entry (lv := [(0, am_I v0), (1, am_I v1), (2, am_I v2)]) rfl rfl rfl (fun _ => rfl) (fun _ => Nat.le_of_ble_eq_true rfl) ?_
  refine am_iload_n dJ10_newLength_0 rfl 0 rfl ?_
  refine am_iload_n dJ10_newLength_1 rfl 1 rfl ?_
  refine am_iload_n dJ10_newLength_2 rfl 2 rfl ?_
  refine am_mmax h1 h2 q671 q672 q106 q673 (Nat.le_of_ble_eq_true rfl) (Nat.le_of_ble_eq_true rfl) (Nat.le_of_ble_eq_true rfl) (Nat.le_of_ble_eq_true rfl) dJ10_newLength_3 ?_
  refine am_iadd dJ10_newLength_6 ?_
  refine am_istore_n dJ10_newLength_7 rfl (by decide) rfl ?_
  refine am_iconst dJ10_newLength_8 ?_
  refine am_iload_n dJ10_newLength_9 rfl 0 rfl ?_
  obtain ⟨o1, hh⟩ := hh
  obtain ⟨ha2, hb3⟩ := hh
  refine am_icmp_ge (tgt := 21) dJ10_newLength_10 (by decide) (⟨by decide, by decide⟩) o1 (fun hc4 => ?_) (fun hc4 => ?_)
  · have hh := ha2 hc4
    exact hh.elim
  · have hh := hb3 hc4
    refine am_iload_n dJ10_newLength_13 rfl 0 rfl ?_
    refine am_ldc (z := 2147483639) q674 (by decide) dJ10_newLength_14 ?_
    obtain ⟨ha5, hb6⟩ := hh
    refine am_icmp_gt (tgt := 21) dJ10_newLength_16 (by decide) o1 (⟨by decide, by decide⟩) (fun hc7 => ?_) (fun hc7 => ?_)
    · have hh := ha5 hc7
      exact hh.elim
    · have hh := hb6 hc7
      refine am_iload_n dJ10_newLength_19 rfl 0 rfl ?_
      exact am_iret rfl dJ10_newLength_20 (Nat.le_refl 0) (Nat.le_refl 0) hh
abbrev VJ11_copyOf (l : Launch) (mc ms : Nat) (Q : Option am_W → ah_H → Prop) (pc : Nat) (lv : List (Nat × am_W)) (st : List am_W) (S : ah_H) (cells slots : Nat) : Prop := am_V ah_r l RJ11 cJ11_copyOf 2 (some (Jvm.ClassFile.FieldType.array (Jvm.ClassFile.FieldType.object "java/lang/Object"))) "copyOf" (am_rm 3 mc ms) (am_E1 ah_r mc ms Q) pc lv st S cells slots
abbrev kJ11_copyOf (l : Launch) (mc ms : Nat) (as : List am_W) (S : ah_H) (Q : Option am_W → ah_H → Prop) : Prop := am_C ah_r l yJ11_copyOf (ws_ yJ11_copyOf cJ11_copyOf 2 (some (Jvm.ClassFile.FieldType.array (Jvm.ClassFile.FieldType.object "java/lang/Object")))) (am_rm 3 mc ms) mc ms as S Q
/-! java/util/Arrays.copyOf([BI)[B -/
abbrev VJ11_copyOf_3 (l : Launch) (mc ms : Nat) (Q : Option am_W → ah_H → Prop) (pc : Nat) (lv : List (Nat × am_W)) (st : List am_W) (S : ah_H) (cells slots : Nat) : Prop := am_V ah_r l RJ11 cJ11_copyOf_3 3 (some (Jvm.ClassFile.FieldType.array Jvm.ClassFile.FieldType.byte)) "copyOf" (am_rm 2 mc ms) (am_E1 ah_r mc ms Q) pc lv st S cells slots
abbrev kJ11_copyOf_3 (l : Launch) (mc ms : Nat) (as : List am_W) (S : ah_H) (Q : Option am_W → ah_H → Prop) : Prop := am_C ah_r l yJ11_copyOf_3 (ws_ yJ11_copyOf_3 cJ11_copyOf_3 3 (some (Jvm.ClassFile.FieldType.array Jvm.ClassFile.FieldType.byte))) (am_rm 2 mc ms) mc ms as S Q
set_option maxHeartbeats 4000000 in
set_option maxRecDepth 100000 in
theorem bJ11_copyOf_3 {l : Launch} {mc ms : Nat} {Q : Option am_W → ah_H → Prop} {S : ah_H} (v0 : Nat) (v1 : Int) (h1 : am_r v1)
    (hh : (∃ n1 f2, (S.1 v0 = some (.inr (2, n1, .inl f2))) ∧
      ((¬ v1 = (n1 : Int)) →
        (0 ≤ v1 ∧ v1 < 100000) ∧
        (1 ≤ mc) ∧
        ((0 + v1.toNat) ≤ ms) ∧
        (∀ G11, G11 = ah_mk S (.inr (2, v1.toNat, .inl (fun _ => 0))) →
        (∃ n13 f14, (G11.1 v0 = some (.inr (2, n13, .inl f14))) ∧
        (∃ n17 f18, (G11.1 S.2 = some (.inr (2, n17, .inl f18))) ∧
        (ah_X ≤ v0) ∧
        (ah_X ≤ S.2) ∧
        (0 ≤ (am_min (n13 : Int) v1)) ∧
        (0 + (am_min (n13 : Int) v1) ≤ (n13 : Int)) ∧
        (0 + (am_min (n13 : Int) v1) ≤ (n17 : Int)) ∧
        (∀ i : Nat, (i : Int) < (am_min (n13 : Int) v1) → fits (am_ty 2) (.int (f14 ((0 : Int).toNat + i))) = true) ∧
        (∀ G26, G26 = ah_cp G11 S.2 2 n17 f14 f18 0 0 (am_min (n13 : Int) v1) →
        Q (some (am_R S.2)) G26))))) ∧
      ((v1 = (n1 : Int)) →
        False))) : kJ11_copyOf_3 l mc ms [am_R v0, am_I v1] S Q := by
  refine am_entry (lv := [(0, am_R v0), (1, am_I v1)]) rfl rfl rfl (fun _ => rfl) (fun _ => Nat.le_of_ble_eq_true rfl) ?_
  refine am_iload_n dJ11_copyOf_3_0 rfl 1 rfl ?_
  refine am_aload_n dJ11_copyOf_3_1 rfl 0 rfl ?_
  obtain ⟨n1, f2, ha3, hh⟩ := hh
  refine ah_alen ha3 dJ11_copyOf_3_2 (fun hn4 => ?_)
  obtain ⟨ha5, hb6⟩ := hh
  refine am_icmp_ne (tgt := 14) dJ11_copyOf_3_3 (by decide) h1 hn4 (fun hc7 => ?_) (fun hc7 => ?_)
  · have hh := ha5 hc7
    refine am_iload_n dJ11_copyOf_3_14 rfl 1 rfl ?_
    obtain ⟨o8, hh⟩ := hh
    obtain ⟨o9, hh⟩ := hh
    obtain ⟨o10, hh⟩ := hh
    refine ah_newa (k := 2) (ty := .byte) rfl rfl (by decide) q208 o8.1 o8.2 o9 o10 dJ11_copyOf_3_15 ?_
    have hh := hh _ rfl
    refine am_astore_n dJ11_copyOf_3_17 rfl (by decide) rfl ?_
    refine am_aload_n dJ11_copyOf_3_18 rfl 1 rfl ?_
    refine am_iconst dJ11_copyOf_3_19 ?_
    refine am_aload_n dJ11_copyOf_3_20 rfl 0 rfl ?_
    refine am_iconst dJ11_copyOf_3_21 ?_
    refine am_aload_n dJ11_copyOf_3_22 rfl 1 rfl ?_
    obtain ⟨n13, f14, ha15, hh⟩ := hh
    refine ah_alen ha15 dJ11_copyOf_3_23 (fun hn16 => ?_)
    refine am_iload_n dJ11_copyOf_3_24 rfl 2 rfl ?_
    refine am_mmin hn16 h1 q711 q712 q106 q713 (Nat.le_of_ble_eq_true rfl) (Nat.le_of_ble_eq_true rfl) o9 o10 dJ11_copyOf_3_25 ?_
    obtain ⟨n17, f18, ha19, hh⟩ := hh
    obtain ⟨o20, hh⟩ := hh
    obtain ⟨o21, hh⟩ := hh
    obtain ⟨o22, hh⟩ := hh
    obtain ⟨o23, hh⟩ := hh
    obtain ⟨o24, hh⟩ := hh
    obtain ⟨o25, hh⟩ := hh
    refine ah_copy ha15 o20 ha19 o21 (by decide) (by decide) (by decide) o22 o23 o24 o25 q714 q433 q432 q105 (Nat.le_of_ble_eq_true rfl) (Nat.le_of_ble_eq_true rfl) dJ11_copyOf_3_28 ?_
    have hh := hh _ rfl
    refine am_aload_n dJ11_copyOf_3_31 rfl 0 rfl ?_
    exact am_aret rfl (by first | exact Or.inl ⟨_, rfl⟩ | exact Or.inr ⟨_, rfl⟩) dJ11_copyOf_3_32 o9 o10 hh
  · have hh := hb6 hc7
    exact hh.elim
/-! java/util/Arrays.checkLength(II)V -/
abbrev VJ11_checkLength (l : Launch) (Q : Option am_W → ah_H → Prop) (pc : Nat) (lv : List (Nat × am_W)) (st : List am_W) (S : ah_H) : Prop := am_V ah_r l RJ11 cJ11_checkLength 2 none "checkLength" (am_rm 2 0 0) (am_E1 ah_r 0 0 Q) pc lv st S 0 0
abbrev kJ11_checkLength (l : Launch) (as : List am_W) (S : ah_H) (Q : Option am_W → ah_H → Prop) : Prop := am_C ah_r l yJ11_checkLength (ws_ yJ11_checkLength cJ11_checkLength 2 none) (am_rm 2 0 0) 0 0 as S Q
set_option maxHeartbeats 4000000 in
set_option maxRecDepth 100000 in
theorem bJ11_checkLength {l : Launch} {Q : Option am_W → ah_H → Prop} {S : ah_H} (v0 : Int) (h0 : am_r v0) (v1 : Int) (h1 : am_r v1)
    (hh : ((v0 ≤ v1) →
        Q none S) ∧
      ((¬ v0 ≤ v1) →
        False)) : kJ11_checkLength l [am_I v0, am_I v1] S Q := by
  refine am_entry (lv := [(0, am_I v0), (1, am_I v1)]) rfl rfl rfl (fun _ => rfl) (fun _ => Nat.le_of_ble_eq_true rfl) ?_
  refine am_iload_n dJ11_checkLength_0 rfl 1 rfl ?_
  refine am_iload_n dJ11_checkLength_1 rfl 0 rfl ?_
  obtain ⟨ha1, hb2⟩ := hh
  refine am_icmp_ge (tgt := 37) dJ11_checkLength_2 (by decide) h1 h0 (fun hc3 => ?_) (fun hc3 => ?_)
  · have hh := ha1 hc3
    exact am_vret rfl dJ11_checkLength_37 (Nat.le_refl 0) (Nat.le_refl 0) hh
  · have hh := hb2 hc3
    exact hh.elim
/-! java/util/Arrays.copyOfRangeByte([BII)[B -/
abbrev VJ11_copyOfRangeByte (l : Launch) (mc ms : Nat) (Q : Option am_W → ah_H → Prop) (pc : Nat) (lv : List (Nat × am_W)) (st : List am_W) (S : ah_H) (cells slots : Nat) : Prop := am_V ah_r l RJ11 cJ11_copyOfRangeByte 5 (some (Jvm.ClassFile.FieldType.array Jvm.ClassFile.FieldType.byte)) "copyOfRangeByte" (am_rm 3 mc ms) (am_E1 ah_r mc ms Q) pc lv st S cells slots
abbrev kJ11_copyOfRangeByte (l : Launch) (mc ms : Nat) (as : List am_W) (S : ah_H) (Q : Option am_W → ah_H → Prop) : Prop := am_C ah_r l yJ11_copyOfRangeByte (ws_ yJ11_copyOfRangeByte cJ11_copyOfRangeByte 5 (some (Jvm.ClassFile.FieldType.array Jvm.ClassFile.FieldType.byte))) (am_rm 3 mc ms) mc ms as S Q
set_option maxHeartbeats 4000000 in
set_option maxRecDepth 100000 in
theorem bJ11_copyOfRangeByte {l : Launch} {mc ms : Nat} {Q : Option am_W → ah_H → Prop} {S : ah_H} (v0 : Nat) (v1 : Int) (h1 : am_r v1) (v2 : Int) (h2 : am_r v2)
    (hh : kJ11_checkLength l [am_I v1, am_I v2] S (am_qv fun G1 =>
        (0 ≤ (v2 - v1) ∧ (v2 - v1) < 100000) ∧
        (1 ≤ mc) ∧
        ((0 + (v2 - v1).toNat) ≤ ms) ∧
        (∀ G5, G5 = ah_mk G1 (.inr (2, (v2 - v1).toNat, .inl (fun _ => 0))) →
        (∃ n7 f8, (G5.1 v0 = some (.inr (2, n7, .inl f8))) ∧
        (am_r ((n7 : Int) - v1)) ∧
        (am_r (v2 - v1)) ∧
        (∃ n13 f14, (G5.1 G1.2 = some (.inr (2, n13, .inl f14))) ∧
        (ah_X ≤ v0) ∧
        (ah_X ≤ G1.2) ∧
        (0 ≤ v1) ∧
        (0 ≤ (am_min ((n7 : Int) - v1) (v2 - v1))) ∧
        (v1 + (am_min ((n7 : Int) - v1) (v2 - v1)) ≤ (n7 : Int)) ∧
        (0 + (am_min ((n7 : Int) - v1) (v2 - v1)) ≤ (n13 : Int)) ∧
        (∀ i : Nat, (i : Int) < (am_min ((n7 : Int) - v1) (v2 - v1)) → fits (am_ty 2) (.int (f8 ((v1 : Int).toNat + i))) = true) ∧
        (∀ G23, G23 = ah_cp G5 G1.2 2 n13 f8 f14 v1 0 (am_min ((n7 : Int) - v1) (v2 - v1)) →
        Q (some (am_R G1.2)) G23)))))) : kJ11_copyOfRangeByte l mc ms [am_R v0, am_I v1, am_I v2] S Q := by
  refine am_entry (lv := [(0, am_R v0), (1, am_I v1), (2, am_I v2)]) rfl rfl rfl (fun _ => rfl) (fun _ => Nat.le_of_ble_eq_true rfl) ?_
  refine am_iload_n dJ11_copyOfRangeByte_0 rfl 1 rfl ?_
  refine am_iload_n dJ11_copyOfRangeByte_1 rfl 2 rfl ?_
  refine am_rSv (n := 2) hh dJ11_copyOfRangeByte_2 (lw_S q1011 q1012 q109 q1013) ⟨⟨by decide, by decide, by decide +kernel⟩, ⟨Nat.le_of_ble_eq_true rfl, Nat.le_of_ble_eq_true rfl⟩⟩ ⟨rfl, rfl⟩ rfl rfl (Nat.le_of_ble_eq_true rfl) ⟨(Nat.zero_le _), (Nat.zero_le _)⟩ (fun G1 hh => ?_)
  refine am_iload_n dJ11_copyOfRangeByte_5 rfl 2 rfl ?_
  refine am_iload_n dJ11_copyOfRangeByte_6 rfl 1 rfl ?_
  refine am_isub dJ11_copyOfRangeByte_7 ?_
  refine am_istore_n dJ11_copyOfRangeByte_8 rfl (by decide) rfl ?_
  refine am_iload_n dJ11_copyOfRangeByte_9 rfl 0 rfl ?_
  obtain ⟨o2, hh⟩ := hh
  obtain ⟨o3, hh⟩ := hh
  obtain ⟨o4, hh⟩ := hh
  refine ah_newa (k := 2) (ty := .byte) rfl rfl (by decide) q208 o2.1 o2.2 o3 o4 dJ11_copyOfRangeByte_10 ?_
  have hh := hh _ rfl
  refine am_astore dJ11_copyOfRangeByte_12 (by decide) rfl ?_
  refine am_aload_n dJ11_copyOfRangeByte_14 rfl 2 rfl ?_
  refine am_iload_n dJ11_copyOfRangeByte_15 rfl 3 rfl ?_
  refine am_aload dJ11_copyOfRangeByte_16 0 rfl ?_
  refine am_iconst dJ11_copyOfRangeByte_18 ?_
  refine am_aload_n dJ11_copyOfRangeByte_19 rfl 2 rfl ?_
  obtain ⟨n7, f8, ha9, hh⟩ := hh
  refine ah_alen ha9 dJ11_copyOfRangeByte_20 (fun hn10 => ?_)
  refine am_iload_n dJ11_copyOfRangeByte_21 rfl 3 rfl ?_
  refine am_isub dJ11_copyOfRangeByte_22 ?_
  refine am_iload_n dJ11_copyOfRangeByte_23 rfl 1 rfl ?_
  obtain ⟨o11, hh⟩ := hh
  obtain ⟨o12, hh⟩ := hh
  refine am_mmin o11 o12 q711 q712 q106 q713 (Nat.le_of_ble_eq_true rfl) (Nat.le_of_ble_eq_true rfl) o3 o4 dJ11_copyOfRangeByte_24 ?_
  obtain ⟨n13, f14, ha15, hh⟩ := hh
  obtain ⟨o16, hh⟩ := hh
  obtain ⟨o17, hh⟩ := hh
  obtain ⟨o18, hh⟩ := hh
  obtain ⟨o19, hh⟩ := hh
  obtain ⟨o20, hh⟩ := hh
  obtain ⟨o21, hh⟩ := hh
  obtain ⟨o22, hh⟩ := hh
  refine ah_copy ha9 o16 ha15 o17 (by decide) o18 (by decide) o19 o20 o21 o22 q714 q433 q432 q105 (Nat.le_of_ble_eq_true rfl) (Nat.le_of_ble_eq_true rfl) dJ11_copyOfRangeByte_27 ?_
  have hh := hh _ rfl
  refine am_aload dJ11_copyOfRangeByte_30 0 rfl ?_
  exact am_aret rfl (by first | exact Or.inl ⟨_, rfl⟩ | exact Or.inr ⟨_, rfl⟩) dJ11_copyOfRangeByte_32 o3 o4 hh
/-! java/util/Arrays.copyOfRange([BII)[B -/
abbrev VJ11_copyOfRange (l : Launch) (mc ms : Nat) (Q : Option am_W → ah_H → Prop) (pc : Nat) (lv : List (Nat × am_W)) (st : List am_W) (S : ah_H) (cells slots : Nat) : Prop := am_V ah_r l RJ11 cJ11_copyOfRange 3 (some (Jvm.ClassFile.FieldType.array Jvm.ClassFile.FieldType.byte)) "copyOfRange" (am_rm 4 mc ms) (am_E1 ah_r mc ms Q) pc lv st S cells slots
abbrev kJ11_copyOfRange (l : Launch) (mc ms : Nat) (as : List am_W) (S : ah_H) (Q : Option am_W → ah_H → Prop) : Prop := am_C ah_r l yJ11_copyOfRange (ws_ yJ11_copyOfRange cJ11_copyOfRange 3 (some (Jvm.ClassFile.FieldType.array Jvm.ClassFile.FieldType.byte))) (am_rm 4 mc ms) mc ms as S Q
set_option maxHeartbeats 4000000 in
set_option maxRecDepth 100000 in
theorem bJ11_copyOfRange {l : Launch} {mc ms : Nat} {Q : Option am_W → ah_H → Prop} {S : ah_H} (v0 : Nat) (v1 : Int) (h1 : am_r v1) (v2 : Int) (h2 : am_r v2)
    (hh : ((¬ v1 = 0) →
        (∃ mc4 ms5 : Nat, ((0 + mc4) ≤ mc ∧ (0 + ms5) ≤ ms) ∧
        kJ11_copyOfRangeByte l mc4 ms5 [am_R v0, am_I v1, am_I v2] S (am_qo fun a9 G8 => ∃ y10, a9 = some y10 ∧
          Q (some (am_R y10)) G8))) ∧
      ((v1 = 0) →
        (∃ n11 f12, (S.1 v0 = some (.inr (2, n11, .inl f12))) ∧
        ((v2 = (n11 : Int)) →
          False) ∧
        ((¬ v2 = (n11 : Int)) →
          (∃ mc18 ms19 : Nat, ((0 + mc18) ≤ mc ∧ (0 + ms19) ≤ ms) ∧
          kJ11_copyOfRangeByte l mc18 ms19 [am_R v0, am_I v1, am_I v2] S (am_qo fun a23 G22 => ∃ y24, a23 = some y24 ∧
            Q (some (am_R y24)) G22)))))) : kJ11_copyOfRange l mc ms [am_R v0, am_I v1, am_I v2] S Q := by
  refine am_entry (lv := [(0, am_R v0), (1, am_I v1), (2, am_I v2)]) rfl rfl rfl (fun _ => rfl) (fun _ => Nat.le_of_ble_eq_true rfl) ?_
  refine am_iload_n dJ11_copyOfRange_0 rfl 1 rfl ?_
  obtain ⟨ha1, hb2⟩ := hh
  refine am_if_ne (tgt := 10) dJ11_copyOfRange_1 (by decide) h1 (fun hc3 => ?_) (fun hc3 => ?_)
  · have hh := ha1 hc3
    refine am_aload_n dJ11_copyOfRange_10 rfl 0 rfl ?_
    refine am_iload_n dJ11_copyOfRange_11 rfl 1 rfl ?_
    refine am_iload_n dJ11_copyOfRange_12 rfl 2 rfl ?_
    obtain ⟨mc4, ms5, ⟨o6, o7⟩, hh⟩ := hh
    refine am_rSo (n := 3) hh dJ11_copyOfRange_13 (lw_S q1008 q1009 q109 q1010) ⟨⟨by decide, by decide, by decide +kernel⟩, ⟨Nat.le_of_ble_eq_true rfl, Nat.le_of_ble_eq_true rfl⟩⟩ ⟨rfl, rfl⟩ rfl rfl (Nat.le_of_ble_eq_true rfl) ⟨o6, o7⟩ (fun a9 G8 hh => ?_)
    obtain ⟨y10, rfl, hh⟩ := hh
    exact am_aret rfl (by first | exact Or.inl ⟨_, rfl⟩ | exact Or.inr ⟨_, rfl⟩) dJ11_copyOfRange_16 o6 o7 hh
  · have hh := hb2 hc3
    refine am_iload_n dJ11_copyOfRange_4 rfl 2 rfl ?_
    refine am_aload_n dJ11_copyOfRange_5 rfl 0 rfl ?_
    obtain ⟨n11, f12, ha13, hh⟩ := hh
    refine ah_alen ha13 dJ11_copyOfRange_6 (fun hn14 => ?_)
    obtain ⟨ha15, hb16⟩ := hh
    refine am_icmp_eq (tgt := 17) dJ11_copyOfRange_7 (by decide) h2 hn14 (fun hc17 => ?_) (fun hc17 => ?_)
    · have hh := ha15 hc17
      exact hh.elim
    · have hh := hb16 hc17
      refine am_aload_n dJ11_copyOfRange_10 rfl 0 rfl ?_
      refine am_iload_n dJ11_copyOfRange_11 rfl 1 rfl ?_
      refine am_iload_n dJ11_copyOfRange_12 rfl 2 rfl ?_
      obtain ⟨mc18, ms19, ⟨o20, o21⟩, hh⟩ := hh
      refine am_rSo (n := 3) hh dJ11_copyOfRange_13 (lw_S q1008 q1009 q109 q1010) ⟨⟨by decide, by decide, by decide +kernel⟩, ⟨Nat.le_of_ble_eq_true rfl, Nat.le_of_ble_eq_true rfl⟩⟩ ⟨rfl, rfl⟩ rfl rfl (Nat.le_of_ble_eq_true rfl) ⟨o20, o21⟩ (fun a23 G22 hh => ?_)
      obtain ⟨y24, rfl, hh⟩ := hh
      exact am_aret rfl (by first | exact Or.inl ⟨_, rfl⟩ | exact Or.inr ⟨_, rfl⟩) dJ11_copyOfRange_16 o20 o21 hh
/-! jdk/internal/util/Preconditions.checkIndex(IILjava/util/function/BiFunction;)I -/
abbrev VJ13_checkIndex (l : Launch) (Q : Option am_W → ah_H → Prop) (pc : Nat) (lv : List (Nat × am_W)) (st : List am_W) (S : ah_H) : Prop := am_V ah_r l RJ13 cJ13_checkIndex 3 (some .int) "checkIndex" (am_rm 2 0 0) (am_E1 ah_r 0 0 Q) pc lv st S 0 0
abbrev kJ13_checkIndex (l : Launch) (as : List am_W) (S : ah_H) (Q : Option am_W → ah_H → Prop) : Prop := am_C ah_r l yJ13_checkIndex (ws_ yJ13_checkIndex cJ13_checkIndex 3 (some .int)) (am_rm 2 0 0) 0 0 as S Q
set_option maxHeartbeats 4000000 in
set_option maxRecDepth 100000 in
theorem bJ13_checkIndex {l : Launch} {Q : Option am_W → ah_H → Prop} {S : ah_H} (v0 : Int) (h0 : am_r v0) (v1 : Int) (h1 : am_r v1) (v2 : Nat)
    (hh : ((v0 < 0) →
        False) ∧
      ((¬ v0 < 0) →
        ((v0 < v1) →
          Q (some (am_I v0)) S) ∧
        ((¬ v0 < v1) →
          False))) : kJ13_checkIndex l [am_I v0, am_I v1, am_R v2] S Q := by
  refine am_entry (lv := [(0, am_I v0), (1, am_I v1), (2, am_R v2)]) rfl rfl rfl (fun _ => rfl) (fun _ => Nat.le_of_ble_eq_true rfl) ?_
  refine am_iload_n dJ13_checkIndex_0 rfl 0 rfl ?_
  obtain ⟨ha1, hb2⟩ := hh
  refine am_if_lt (tgt := 9) dJ13_checkIndex_1 (by decide) h0 (fun hc3 => ?_) (fun hc3 => ?_)
  · have hh := ha1 hc3
    exact hh.elim
  · have hh := hb2 hc3
    refine am_iload_n dJ13_checkIndex_4 rfl 0 rfl ?_
    refine am_iload_n dJ13_checkIndex_5 rfl 1 rfl ?_
    obtain ⟨ha4, hb5⟩ := hh
    refine am_icmp_lt (tgt := 16) dJ13_checkIndex_6 (by decide) h0 h1 (fun hc6 => ?_) (fun hc6 => ?_)
    · have hh := ha4 hc6
      refine am_iload_n dJ13_checkIndex_16 rfl 0 rfl ?_
      exact am_iret rfl dJ13_checkIndex_17 (Nat.le_refl 0) (Nat.le_refl 0) hh
    · have hh := hb5 hc6
      exact hh.elim
/-! java/util/Objects.checkIndex(II)I -/
abbrev VJ12_checkIndex (l : Launch) (Q : Option am_W → ah_H → Prop) (pc : Nat) (lv : List (Nat × am_W)) (st : List am_W) (S : ah_H) : Prop := am_V ah_r l RJ12 cJ12_checkIndex 2 (some .int) "checkIndex" (am_rm 3 0 0) (am_E1 ah_r 0 0 Q) pc lv st S 0 0
abbrev kJ12_checkIndex (l : Launch) (as : List am_W) (S : ah_H) (Q : Option am_W → ah_H → Prop) : Prop := am_C ah_r l yJ12_checkIndex (ws_ yJ12_checkIndex cJ12_checkIndex 2 (some .int)) (am_rm 3 0 0) 0 0 as S Q
set_option maxHeartbeats 4000000 in
set_option maxRecDepth 100000 in
theorem bJ12_checkIndex {l : Launch} {Q : Option am_W → ah_H → Prop} {S : ah_H} (v0 : Int) (h0 : am_r v0) (v1 : Int) (h1 : am_r v1)
    (hh : kJ13_checkIndex l [am_I v0, am_I v1, am_O none] S (am_qi fun r2 G1 =>
        Q (some (am_I r2)) G1)) : kJ12_checkIndex l [am_I v0, am_I v1] S Q := by
  refine am_entry (lv := [(0, am_I v0), (1, am_I v1)]) rfl rfl rfl (fun _ => rfl) (fun _ => Nat.le_of_ble_eq_true rfl) ?_
  refine am_iload_n dJ12_checkIndex_0 rfl 0 rfl ?_
  refine am_iload_n dJ12_checkIndex_1 rfl 1 rfl ?_
  refine am_aconst_null dJ12_checkIndex_2 ?_
  refine am_rSi (n := 3) hh dJ12_checkIndex_3 (lw_S q745 q746 q111 q747) ⟨⟨by decide, by decide, by decide +kernel⟩, ⟨Nat.le_of_ble_eq_true rfl, Nat.le_of_ble_eq_true rfl⟩⟩ ⟨rfl, rfl⟩ rfl rfl (Nat.le_of_ble_eq_true rfl) ⟨(Nat.le_of_ble_eq_true rfl), (Nat.le_of_ble_eq_true rfl)⟩ (fun r2 G1 hr3 hh => ?_)
  exact am_iret rfl dJ12_checkIndex_6 (Nat.le_refl 0) (Nat.le_refl 0) hh
/-! java/lang/Integer.numberOfTrailingZeros(I)I -/
abbrev VJ14_numberOfTrailingZeros (l : Launch) (Q : Option am_W → ah_H → Prop) (pc : Nat) (lv : List (Nat × am_W)) (st : List am_W) (S : ah_H) : Prop := am_V ah_r l RJ14 cJ14_numberOfTrailingZeros 2 (some .int) "numberOfTrailingZeros" (am_rm 1 0 0) (am_E1 ah_r 0 0 Q) pc lv st S 0 0
abbrev kJ14_numberOfTrailingZeros (l : Launch) (as : List am_W) (S : ah_H) (Q : Option am_W → ah_H → Prop) : Prop := am_C ah_r l yJ14_numberOfTrailingZeros (ws_ yJ14_numberOfTrailingZeros cJ14_numberOfTrailingZeros 2 (some .int)) (am_rm 1 0 0) 0 0 as S Q
set_option maxHeartbeats 4000000 in
set_option maxRecDepth 100000 in
theorem bJ14_numberOfTrailingZeros {l : Launch} {Q : Option am_W → ah_H → Prop} {S : ah_H} (v0 : Int) (h0 : am_r v0)
    (hh : ((0 < (am_and (am_xor v0 (-1)) (v0 - 1))) →
        (((am_and (am_xor v0 (-1)) (v0 - 1)) ≤ 65536) →
          (((am_and (am_xor v0 (-1)) (v0 - 1)) ≤ 256) →
            (((am_and (am_xor v0 (-1)) (v0 - 1)) ≤ 16) →
              (((am_and (am_xor v0 (-1)) (v0 - 1)) ≤ 4) →
                Q (some (am_I (1 + (am_ushr (am_and (am_xor v0 (-1)) (v0 - 1)) 1)))) S) ∧
              ((¬ (am_and (am_xor v0 (-1)) (v0 - 1)) ≤ 4) →
                Q (some (am_I ((1 + 2) + (am_ushr (am_ushr (am_and (am_xor v0 (-1)) (v0 - 1)) 2) 1)))) S)) ∧
            ((¬ (am_and (am_xor v0 (-1)) (v0 - 1)) ≤ 16) →
              (((am_ushr (am_and (am_xor v0 (-1)) (v0 - 1)) 4) ≤ 4) →
                Q (some (am_I ((1 + 4) + (am_ushr (am_ushr (am_and (am_xor v0 (-1)) (v0 - 1)) 4) 1)))) S) ∧
              ((¬ (am_ushr (am_and (am_xor v0 (-1)) (v0 - 1)) 4) ≤ 4) →
                Q (some (am_I (((1 + 4) + 2) + (am_ushr (am_ushr (am_ushr (am_and (am_xor v0 (-1)) (v0 - 1)) 4) 2) 1)))) S))) ∧
          ((¬ (am_and (am_xor v0 (-1)) (v0 - 1)) ≤ 256) →
            (((am_ushr (am_and (am_xor v0 (-1)) (v0 - 1)) 8) ≤ 16) →
              (((am_ushr (am_and (am_xor v0 (-1)) (v0 - 1)) 8) ≤ 4) →
                Q (some (am_I ((1 + 8) + (am_ushr (am_ushr (am_and (am_xor v0 (-1)) (v0 - 1)) 8) 1)))) S) ∧
              ((¬ (am_ushr (am_and (am_xor v0 (-1)) (v0 - 1)) 8) ≤ 4) →
                Q (some (am_I (((1 + 8) + 2) + (am_ushr (am_ushr (am_ushr (am_and (am_xor v0 (-1)) (v0 - 1)) 8) 2) 1)))) S)) ∧
            ((¬ (am_ushr (am_and (am_xor v0 (-1)) (v0 - 1)) 8) ≤ 16) →
              (((am_ushr (am_ushr (am_and (am_xor v0 (-1)) (v0 - 1)) 8) 4) ≤ 4) →
                Q (some (am_I (((1 + 8) + 4) + (am_ushr (am_ushr (am_ushr (am_and (am_xor v0 (-1)) (v0 - 1)) 8) 4) 1)))) S) ∧
              ((¬ (am_ushr (am_ushr (am_and (am_xor v0 (-1)) (v0 - 1)) 8) 4) ≤ 4) →
                Q (some (am_I ((((1 + 8) + 4) + 2) + (am_ushr (am_ushr (am_ushr (am_ushr (am_and (am_xor v0 (-1)) (v0 - 1)) 8) 4) 2) 1)))) S)))) ∧
        ((¬ (am_and (am_xor v0 (-1)) (v0 - 1)) ≤ 65536) →
          (((am_ushr (am_and (am_xor v0 (-1)) (v0 - 1)) 16) ≤ 256) →
            (((am_ushr (am_and (am_xor v0 (-1)) (v0 - 1)) 16) ≤ 16) →
              (((am_ushr (am_and (am_xor v0 (-1)) (v0 - 1)) 16) ≤ 4) →
                Q (some (am_I ((1 + 16) + (am_ushr (am_ushr (am_and (am_xor v0 (-1)) (v0 - 1)) 16) 1)))) S) ∧
              ((¬ (am_ushr (am_and (am_xor v0 (-1)) (v0 - 1)) 16) ≤ 4) →
                Q (some (am_I (((1 + 16) + 2) + (am_ushr (am_ushr (am_ushr (am_and (am_xor v0 (-1)) (v0 - 1)) 16) 2) 1)))) S)) ∧
            ((¬ (am_ushr (am_and (am_xor v0 (-1)) (v0 - 1)) 16) ≤ 16) →
              (((am_ushr (am_ushr (am_and (am_xor v0 (-1)) (v0 - 1)) 16) 4) ≤ 4) →
                Q (some (am_I (((1 + 16) + 4) + (am_ushr (am_ushr (am_ushr (am_and (am_xor v0 (-1)) (v0 - 1)) 16) 4) 1)))) S) ∧
              ((¬ (am_ushr (am_ushr (am_and (am_xor v0 (-1)) (v0 - 1)) 16) 4) ≤ 4) →
                Q (some (am_I ((((1 + 16) + 4) + 2) + (am_ushr (am_ushr (am_ushr (am_ushr (am_and (am_xor v0 (-1)) (v0 - 1)) 16) 4) 2) 1)))) S))) ∧
          ((¬ (am_ushr (am_and (am_xor v0 (-1)) (v0 - 1)) 16) ≤ 256) →
            (((am_ushr (am_ushr (am_and (am_xor v0 (-1)) (v0 - 1)) 16) 8) ≤ 16) →
              (((am_ushr (am_ushr (am_and (am_xor v0 (-1)) (v0 - 1)) 16) 8) ≤ 4) →
                Q (some (am_I (((1 + 16) + 8) + (am_ushr (am_ushr (am_ushr (am_and (am_xor v0 (-1)) (v0 - 1)) 16) 8) 1)))) S) ∧
              ((¬ (am_ushr (am_ushr (am_and (am_xor v0 (-1)) (v0 - 1)) 16) 8) ≤ 4) →
                Q (some (am_I ((((1 + 16) + 8) + 2) + (am_ushr (am_ushr (am_ushr (am_ushr (am_and (am_xor v0 (-1)) (v0 - 1)) 16) 8) 2) 1)))) S)) ∧
            ((¬ (am_ushr (am_ushr (am_and (am_xor v0 (-1)) (v0 - 1)) 16) 8) ≤ 16) →
              (((am_ushr (am_ushr (am_ushr (am_and (am_xor v0 (-1)) (v0 - 1)) 16) 8) 4) ≤ 4) →
                Q (some (am_I ((((1 + 16) + 8) + 4) + (am_ushr (am_ushr (am_ushr (am_ushr (am_and (am_xor v0 (-1)) (v0 - 1)) 16) 8) 4) 1)))) S) ∧
              ((¬ (am_ushr (am_ushr (am_ushr (am_and (am_xor v0 (-1)) (v0 - 1)) 16) 8) 4) ≤ 4) →
                Q (some (am_I (((((1 + 16) + 8) + 4) + 2) + (am_ushr (am_ushr (am_ushr (am_ushr (am_ushr (am_and (am_xor v0 (-1)) (v0 - 1)) 16) 8) 4) 2) 1)))) S))))) ∧
      ((¬ 0 < (am_and (am_xor v0 (-1)) (v0 - 1))) →
        Q (some (am_I (am_and (am_and (am_xor v0 (-1)) (v0 - 1)) 32))) S)) : kJ14_numberOfTrailingZeros l [am_I v0] S Q := by
  refine am_entry (lv := [(0, am_I v0)]) rfl rfl rfl (fun _ => rfl) (fun _ => Nat.le_of_ble_eq_true rfl) ?_
  refine am_iload_n dJ14_numberOfTrailingZeros_0 rfl 0 rfl ?_
  refine am_iconst dJ14_numberOfTrailingZeros_1 ?_
  refine am_ixor dJ14_numberOfTrailingZeros_2 ?_
  refine am_iload_n dJ14_numberOfTrailingZeros_3 rfl 0 rfl ?_
  refine am_iconst dJ14_numberOfTrailingZeros_4 ?_
  refine am_isub dJ14_numberOfTrailingZeros_5 ?_
  refine am_iand dJ14_numberOfTrailingZeros_6 ?_
  refine am_istore_n dJ14_numberOfTrailingZeros_7 rfl (by decide) rfl ?_
  refine am_iload_n dJ14_numberOfTrailingZeros_8 rfl 0 rfl ?_
  obtain ⟨ha1, hb2⟩ := hh
  refine am_if_gt (tgt := 17) dJ14_numberOfTrailingZeros_9 (by decide) (am_rt _) (fun hc3 => ?_) (fun hc3 => ?_)
  · have hh := ha1 hc3
    refine am_iconst dJ14_numberOfTrailingZeros_17 ?_
    refine am_istore_n dJ14_numberOfTrailingZeros_18 rfl (by decide) rfl ?_
    refine am_iload_n dJ14_numberOfTrailingZeros_19 rfl 1 rfl ?_
    refine am_ldcw (z := 65536) q771 (by decide) dJ14_numberOfTrailingZeros_20 ?_
    obtain ⟨ha4, hb5⟩ := hh
    refine am_icmp_le (tgt := 34) dJ14_numberOfTrailingZeros_23 (by decide) (am_rt _) (⟨by decide, by decide⟩) (fun hc6 => ?_) (fun hc6 => ?_)
    · have hh := ha4 hc6
      refine am_iload_n dJ14_numberOfTrailingZeros_34 rfl 1 rfl ?_
      refine am_sipush dJ14_numberOfTrailingZeros_35 (by decide) ?_
      obtain ⟨ha7, hb8⟩ := hh
      refine am_icmp_le (tgt := 49) dJ14_numberOfTrailingZeros_38 (by decide) (am_rt _) (⟨by decide, by decide⟩) (fun hc9 => ?_) (fun hc9 => ?_)
      · have hh := ha7 hc9
        refine am_iload_n dJ14_numberOfTrailingZeros_49 rfl 1 rfl ?_
        refine am_bipush dJ14_numberOfTrailingZeros_50 (by decide) ?_
        obtain ⟨ha10, hb11⟩ := hh
        refine am_icmp_le (tgt := 62) dJ14_numberOfTrailingZeros_52 (by decide) (am_rt _) (⟨by decide, by decide⟩) (fun hc12 => ?_) (fun hc12 => ?_)
        · have hh := ha10 hc12
          refine am_iload_n dJ14_numberOfTrailingZeros_62 rfl 1 rfl ?_
          refine am_iconst dJ14_numberOfTrailingZeros_63 ?_
          obtain ⟨ha13, hb14⟩ := hh
          refine am_icmp_le (tgt := 74) dJ14_numberOfTrailingZeros_64 (by decide) (am_rt _) (⟨by decide, by decide⟩) (fun hc15 => ?_) (fun hc15 => ?_)
          · have hh := ha13 hc15
            refine am_iload_n dJ14_numberOfTrailingZeros_74 rfl 0 rfl ?_
            refine am_iload_n dJ14_numberOfTrailingZeros_75 rfl 1 rfl ?_
            refine am_iconst dJ14_numberOfTrailingZeros_76 ?_
            refine am_iushr dJ14_numberOfTrailingZeros_77 ?_
            refine am_iadd dJ14_numberOfTrailingZeros_78 ?_
            exact am_iret rfl dJ14_numberOfTrailingZeros_79 (Nat.le_refl 0) (Nat.le_refl 0) hh
          · have hh := hb14 hc15
            refine am_iinc (n := 0) dJ14_numberOfTrailingZeros_67 rfl (by decide) rfl ?_
            refine am_iload_n dJ14_numberOfTrailingZeros_70 rfl 1 rfl ?_
            refine am_iconst dJ14_numberOfTrailingZeros_71 ?_
            refine am_iushr dJ14_numberOfTrailingZeros_72 ?_
            refine am_istore_n dJ14_numberOfTrailingZeros_73 rfl (by decide) rfl ?_
            refine am_iload_n dJ14_numberOfTrailingZeros_74 rfl 1 rfl ?_
            refine am_iload_n dJ14_numberOfTrailingZeros_75 rfl 0 rfl ?_
            refine am_iconst dJ14_numberOfTrailingZeros_76 ?_
            refine am_iushr dJ14_numberOfTrailingZeros_77 ?_
            refine am_iadd dJ14_numberOfTrailingZeros_78 ?_
            exact am_iret rfl dJ14_numberOfTrailingZeros_79 (Nat.le_refl 0) (Nat.le_refl 0) hh
        · have hh := hb11 hc12
          refine am_iinc (n := 0) dJ14_numberOfTrailingZeros_55 rfl (by decide) rfl ?_
          refine am_iload_n dJ14_numberOfTrailingZeros_58 rfl 1 rfl ?_
          refine am_iconst dJ14_numberOfTrailingZeros_59 ?_
          refine am_iushr dJ14_numberOfTrailingZeros_60 ?_
          refine am_istore_n dJ14_numberOfTrailingZeros_61 rfl (by decide) rfl ?_
          refine am_iload_n dJ14_numberOfTrailingZeros_62 rfl 0 rfl ?_
          refine am_iconst dJ14_numberOfTrailingZeros_63 ?_
          obtain ⟨ha16, hb17⟩ := hh
          refine am_icmp_le (tgt := 74) dJ14_numberOfTrailingZeros_64 (by decide) (am_rt _) (⟨by decide, by decide⟩) (fun hc18 => ?_) (fun hc18 => ?_)
          · have hh := ha16 hc18
            refine am_iload_n dJ14_numberOfTrailingZeros_74 rfl 1 rfl ?_
            refine am_iload_n dJ14_numberOfTrailingZeros_75 rfl 0 rfl ?_
            refine am_iconst dJ14_numberOfTrailingZeros_76 ?_
            refine am_iushr dJ14_numberOfTrailingZeros_77 ?_
            refine am_iadd dJ14_numberOfTrailingZeros_78 ?_
            exact am_iret rfl dJ14_numberOfTrailingZeros_79 (Nat.le_refl 0) (Nat.le_refl 0) hh
          · have hh := hb17 hc18
            refine am_iinc (n := 1) dJ14_numberOfTrailingZeros_67 rfl (by decide) rfl ?_
            refine am_iload_n dJ14_numberOfTrailingZeros_70 rfl 1 rfl ?_
            refine am_iconst dJ14_numberOfTrailingZeros_71 ?_
            refine am_iushr dJ14_numberOfTrailingZeros_72 ?_
            refine am_istore_n dJ14_numberOfTrailingZeros_73 rfl (by decide) rfl ?_
            refine am_iload_n dJ14_numberOfTrailingZeros_74 rfl 1 rfl ?_
            refine am_iload_n dJ14_numberOfTrailingZeros_75 rfl 0 rfl ?_
            refine am_iconst dJ14_numberOfTrailingZeros_76 ?_
            refine am_iushr dJ14_numberOfTrailingZeros_77 ?_
            refine am_iadd dJ14_numberOfTrailingZeros_78 ?_
            exact am_iret rfl dJ14_numberOfTrailingZeros_79 (Nat.le_refl 0) (Nat.le_refl 0) hh
      · have hh := hb8 hc9
        refine am_iinc (n := 0) dJ14_numberOfTrailingZeros_41 rfl (by decide) rfl ?_
        refine am_iload_n dJ14_numberOfTrailingZeros_44 rfl 1 rfl ?_
        refine am_bipush dJ14_numberOfTrailingZeros_45 (by decide) ?_
        refine am_iushr dJ14_numberOfTrailingZeros_47 ?_
        refine am_istore_n dJ14_numberOfTrailingZeros_48 rfl (by decide) rfl ?_
        refine am_iload_n dJ14_numberOfTrailingZeros_49 rfl 0 rfl ?_
        refine am_bipush dJ14_numberOfTrailingZeros_50 (by decide) ?_
        obtain ⟨ha19, hb20⟩ := hh
        refine am_icmp_le (tgt := 62) dJ14_numberOfTrailingZeros_52 (by decide) (am_rt _) (⟨by decide, by decide⟩) (fun hc21 => ?_) (fun hc21 => ?_)
        · have hh := ha19 hc21
          refine am_iload_n dJ14_numberOfTrailingZeros_62 rfl 0 rfl ?_
          refine am_iconst dJ14_numberOfTrailingZeros_63 ?_
          obtain ⟨ha22, hb23⟩ := hh
          refine am_icmp_le (tgt := 74) dJ14_numberOfTrailingZeros_64 (by decide) (am_rt _) (⟨by decide, by decide⟩) (fun hc24 => ?_) (fun hc24 => ?_)
          · have hh := ha22 hc24
            refine am_iload_n dJ14_numberOfTrailingZeros_74 rfl 1 rfl ?_
            refine am_iload_n dJ14_numberOfTrailingZeros_75 rfl 0 rfl ?_
            refine am_iconst dJ14_numberOfTrailingZeros_76 ?_
            refine am_iushr dJ14_numberOfTrailingZeros_77 ?_
            refine am_iadd dJ14_numberOfTrailingZeros_78 ?_
            exact am_iret rfl dJ14_numberOfTrailingZeros_79 (Nat.le_refl 0) (Nat.le_refl 0) hh
          · have hh := hb23 hc24
            refine am_iinc (n := 1) dJ14_numberOfTrailingZeros_67 rfl (by decide) rfl ?_
            refine am_iload_n dJ14_numberOfTrailingZeros_70 rfl 1 rfl ?_
            refine am_iconst dJ14_numberOfTrailingZeros_71 ?_
            refine am_iushr dJ14_numberOfTrailingZeros_72 ?_
            refine am_istore_n dJ14_numberOfTrailingZeros_73 rfl (by decide) rfl ?_
            refine am_iload_n dJ14_numberOfTrailingZeros_74 rfl 1 rfl ?_
            refine am_iload_n dJ14_numberOfTrailingZeros_75 rfl 0 rfl ?_
            refine am_iconst dJ14_numberOfTrailingZeros_76 ?_
            refine am_iushr dJ14_numberOfTrailingZeros_77 ?_
            refine am_iadd dJ14_numberOfTrailingZeros_78 ?_
            exact am_iret rfl dJ14_numberOfTrailingZeros_79 (Nat.le_refl 0) (Nat.le_refl 0) hh
        · have hh := hb20 hc21
          refine am_iinc (n := 1) dJ14_numberOfTrailingZeros_55 rfl (by decide) rfl ?_
          refine am_iload_n dJ14_numberOfTrailingZeros_58 rfl 1 rfl ?_
          refine am_iconst dJ14_numberOfTrailingZeros_59 ?_
          refine am_iushr dJ14_numberOfTrailingZeros_60 ?_
          refine am_istore_n dJ14_numberOfTrailingZeros_61 rfl (by decide) rfl ?_
          refine am_iload_n dJ14_numberOfTrailingZeros_62 rfl 0 rfl ?_
          refine am_iconst dJ14_numberOfTrailingZeros_63 ?_
          obtain ⟨ha25, hb26⟩ := hh
          refine am_icmp_le (tgt := 74) dJ14_numberOfTrailingZeros_64 (by decide) (am_rt _) (⟨by decide, by decide⟩) (fun hc27 => ?_) (fun hc27 => ?_)
          · have hh := ha25 hc27
            refine am_iload_n dJ14_numberOfTrailingZeros_74 rfl 1 rfl ?_
            refine am_iload_n dJ14_numberOfTrailingZeros_75 rfl 0 rfl ?_
            refine am_iconst dJ14_numberOfTrailingZeros_76 ?_
            refine am_iushr dJ14_numberOfTrailingZeros_77 ?_
            refine am_iadd dJ14_numberOfTrailingZeros_78 ?_
            exact am_iret rfl dJ14_numberOfTrailingZeros_79 (Nat.le_refl 0) (Nat.le_refl 0) hh
          · have hh := hb26 hc27
            refine am_iinc (n := 1) dJ14_numberOfTrailingZeros_67 rfl (by decide) rfl ?_
            refine am_iload_n dJ14_numberOfTrailingZeros_70 rfl 1 rfl ?_
            refine am_iconst dJ14_numberOfTrailingZeros_71 ?_
            refine am_iushr dJ14_numberOfTrailingZeros_72 ?_
            refine am_istore_n dJ14_numberOfTrailingZeros_73 rfl (by decide) rfl ?_
            refine am_iload_n dJ14_numberOfTrailingZeros_74 rfl 1 rfl ?_
            refine am_iload_n dJ14_numberOfTrailingZeros_75 rfl 0 rfl ?_
            refine am_iconst dJ14_numberOfTrailingZeros_76 ?_
            refine am_iushr dJ14_numberOfTrailingZeros_77 ?_
            refine am_iadd dJ14_numberOfTrailingZeros_78 ?_
            exact am_iret rfl dJ14_numberOfTrailingZeros_79 (Nat.le_refl 0) (Nat.le_refl 0) hh
    · have hh := hb5 hc6
      refine am_iinc (n := 0) dJ14_numberOfTrailingZeros_26 rfl (by decide) rfl ?_
      refine am_iload_n dJ14_numberOfTrailingZeros_29 rfl 1 rfl ?_
      refine am_bipush dJ14_numberOfTrailingZeros_30 (by decide) ?_
      refine am_iushr dJ14_numberOfTrailingZeros_32 ?_
      refine am_istore_n dJ14_numberOfTrailingZeros_33 rfl (by decide) rfl ?_
      refine am_iload_n dJ14_numberOfTrailingZeros_34 rfl 0 rfl ?_
      refine am_sipush dJ14_numberOfTrailingZeros_35 (by decide) ?_
      obtain ⟨ha28, hb29⟩ := hh
      refine am_icmp_le (tgt := 49) dJ14_numberOfTrailingZeros_38 (by decide) (am_rt _) (⟨by decide, by decide⟩) (fun hc30 => ?_) (fun hc30 => ?_)
      · have hh := ha28 hc30
        refine am_iload_n dJ14_numberOfTrailingZeros_49 rfl 0 rfl ?_
        refine am_bipush dJ14_numberOfTrailingZeros_50 (by decide) ?_
        obtain ⟨ha31, hb32⟩ := hh
        refine am_icmp_le (tgt := 62) dJ14_numberOfTrailingZeros_52 (by decide) (am_rt _) (⟨by decide, by decide⟩) (fun hc33 => ?_) (fun hc33 => ?_)
        · have hh := ha31 hc33
          refine am_iload_n dJ14_numberOfTrailingZeros_62 rfl 0 rfl ?_
          refine am_iconst dJ14_numberOfTrailingZeros_63 ?_
          obtain ⟨ha34, hb35⟩ := hh
          refine am_icmp_le (tgt := 74) dJ14_numberOfTrailingZeros_64 (by decide) (am_rt _) (⟨by decide, by decide⟩) (fun hc36 => ?_) (fun hc36 => ?_)
          · have hh := ha34 hc36
            refine am_iload_n dJ14_numberOfTrailingZeros_74 rfl 1 rfl ?_
            refine am_iload_n dJ14_numberOfTrailingZeros_75 rfl 0 rfl ?_
            refine am_iconst dJ14_numberOfTrailingZeros_76 ?_
            refine am_iushr dJ14_numberOfTrailingZeros_77 ?_
            refine am_iadd dJ14_numberOfTrailingZeros_78 ?_
            exact am_iret rfl dJ14_numberOfTrailingZeros_79 (Nat.le_refl 0) (Nat.le_refl 0) hh
          · have hh := hb35 hc36
            refine am_iinc (n := 1) dJ14_numberOfTrailingZeros_67 rfl (by decide) rfl ?_
            refine am_iload_n dJ14_numberOfTrailingZeros_70 rfl 1 rfl ?_
            refine am_iconst dJ14_numberOfTrailingZeros_71 ?_
            refine am_iushr dJ14_numberOfTrailingZeros_72 ?_
            refine am_istore_n dJ14_numberOfTrailingZeros_73 rfl (by decide) rfl ?_
            refine am_iload_n dJ14_numberOfTrailingZeros_74 rfl 1 rfl ?_
            refine am_iload_n dJ14_numberOfTrailingZeros_75 rfl 0 rfl ?_
            refine am_iconst dJ14_numberOfTrailingZeros_76 ?_
            refine am_iushr dJ14_numberOfTrailingZeros_77 ?_
            refine am_iadd dJ14_numberOfTrailingZeros_78 ?_
            exact am_iret rfl dJ14_numberOfTrailingZeros_79 (Nat.le_refl 0) (Nat.le_refl 0) hh
        · have hh := hb32 hc33
          refine am_iinc (n := 1) dJ14_numberOfTrailingZeros_55 rfl (by decide) rfl ?_
          refine am_iload_n dJ14_numberOfTrailingZeros_58 rfl 1 rfl ?_
          refine am_iconst dJ14_numberOfTrailingZeros_59 ?_
          refine am_iushr dJ14_numberOfTrailingZeros_60 ?_
          refine am_istore_n dJ14_numberOfTrailingZeros_61 rfl (by decide) rfl ?_
          refine am_iload_n dJ14_numberOfTrailingZeros_62 rfl 0 rfl ?_
          refine am_iconst dJ14_numberOfTrailingZeros_63 ?_
          obtain ⟨ha37, hb38⟩ := hh
          refine am_icmp_le (tgt := 74) dJ14_numberOfTrailingZeros_64 (by decide) (am_rt _) (⟨by decide, by decide⟩) (fun hc39 => ?_) (fun hc39 => ?_)
          · have hh := ha37 hc39
            refine am_iload_n dJ14_numberOfTrailingZeros_74 rfl 1 rfl ?_
            refine am_iload_n dJ14_numberOfTrailingZeros_75 rfl 0 rfl ?_
            refine am_iconst dJ14_numberOfTrailingZeros_76 ?_
            refine am_iushr dJ14_numberOfTrailingZeros_77 ?_
            refine am_iadd dJ14_numberOfTrailingZeros_78 ?_
            exact am_iret rfl dJ14_numberOfTrailingZeros_79 (Nat.le_refl 0) (Nat.le_refl 0) hh
          · have hh := hb38 hc39
            refine am_iinc (n := 1) dJ14_numberOfTrailingZeros_67 rfl (by decide) rfl ?_
            refine am_iload_n dJ14_numberOfTrailingZeros_70 rfl 1 rfl ?_
            refine am_iconst dJ14_numberOfTrailingZeros_71 ?_
            refine am_iushr dJ14_numberOfTrailingZeros_72 ?_
            refine am_istore_n dJ14_numberOfTrailingZeros_73 rfl (by decide) rfl ?_
            refine am_iload_n dJ14_numberOfTrailingZeros_74 rfl 1 rfl ?_
            refine am_iload_n dJ14_numberOfTrailingZeros_75 rfl 0 rfl ?_
            refine am_iconst dJ14_numberOfTrailingZeros_76 ?_
            refine am_iushr dJ14_numberOfTrailingZeros_77 ?_
            refine am_iadd dJ14_numberOfTrailingZeros_78 ?_
            exact am_iret rfl dJ14_numberOfTrailingZeros_79 (Nat.le_refl 0) (Nat.le_refl 0) hh
      · have hh := hb29 hc30
        refine am_iinc (n := 1) dJ14_numberOfTrailingZeros_41 rfl (by decide) rfl ?_
        refine am_iload_n dJ14_numberOfTrailingZeros_44 rfl 1 rfl ?_
        refine am_bipush dJ14_numberOfTrailingZeros_45 (by decide) ?_
        refine am_iushr dJ14_numberOfTrailingZeros_47 ?_
        refine am_istore_n dJ14_numberOfTrailingZeros_48 rfl (by decide) rfl ?_
        refine am_iload_n dJ14_numberOfTrailingZeros_49 rfl 0 rfl ?_
        refine am_bipush dJ14_numberOfTrailingZeros_50 (by decide) ?_
        obtain ⟨ha40, hb41⟩ := hh
        refine am_icmp_le (tgt := 62) dJ14_numberOfTrailingZeros_52 (by decide) (am_rt _) (⟨by decide, by decide⟩) (fun hc42 => ?_) (fun hc42 => ?_)
        · have hh := ha40 hc42
          refine am_iload_n dJ14_numberOfTrailingZeros_62 rfl 0 rfl ?_
          refine am_iconst dJ14_numberOfTrailingZeros_63 ?_
          obtain ⟨ha43, hb44⟩ := hh
          refine am_icmp_le (tgt := 74) dJ14_numberOfTrailingZeros_64 (by decide) (am_rt _) (⟨by decide, by decide⟩) (fun hc45 => ?_) (fun hc45 => ?_)
          · have hh := ha43 hc45
            refine am_iload_n dJ14_numberOfTrailingZeros_74 rfl 1 rfl ?_
            refine am_iload_n dJ14_numberOfTrailingZeros_75 rfl 0 rfl ?_
            refine am_iconst dJ14_numberOfTrailingZeros_76 ?_
            refine am_iushr dJ14_numberOfTrailingZeros_77 ?_
            refine am_iadd dJ14_numberOfTrailingZeros_78 ?_
            exact am_iret rfl dJ14_numberOfTrailingZeros_79 (Nat.le_refl 0) (Nat.le_refl 0) hh
          · have hh := hb44 hc45
            refine am_iinc (n := 1) dJ14_numberOfTrailingZeros_67 rfl (by decide) rfl ?_
            refine am_iload_n dJ14_numberOfTrailingZeros_70 rfl 1 rfl ?_
            refine am_iconst dJ14_numberOfTrailingZeros_71 ?_
            refine am_iushr dJ14_numberOfTrailingZeros_72 ?_
            refine am_istore_n dJ14_numberOfTrailingZeros_73 rfl (by decide) rfl ?_
            refine am_iload_n dJ14_numberOfTrailingZeros_74 rfl 1 rfl ?_
            refine am_iload_n dJ14_numberOfTrailingZeros_75 rfl 0 rfl ?_
            refine am_iconst dJ14_numberOfTrailingZeros_76 ?_
            refine am_iushr dJ14_numberOfTrailingZeros_77 ?_
            refine am_iadd dJ14_numberOfTrailingZeros_78 ?_
            exact am_iret rfl dJ14_numberOfTrailingZeros_79 (Nat.le_refl 0) (Nat.le_refl 0) hh
        · have hh := hb41 hc42
          refine am_iinc (n := 1) dJ14_numberOfTrailingZeros_55 rfl (by decide) rfl ?_
          refine am_iload_n dJ14_numberOfTrailingZeros_58 rfl 1 rfl ?_
          refine am_iconst dJ14_numberOfTrailingZeros_59 ?_
          refine am_iushr dJ14_numberOfTrailingZeros_60 ?_
          refine am_istore_n dJ14_numberOfTrailingZeros_61 rfl (by decide) rfl ?_
          refine am_iload_n dJ14_numberOfTrailingZeros_62 rfl 0 rfl ?_
          refine am_iconst dJ14_numberOfTrailingZeros_63 ?_
          obtain ⟨ha46, hb47⟩ := hh
          refine am_icmp_le (tgt := 74) dJ14_numberOfTrailingZeros_64 (by decide) (am_rt _) (⟨by decide, by decide⟩) (fun hc48 => ?_) (fun hc48 => ?_)
          · have hh := ha46 hc48
            refine am_iload_n dJ14_numberOfTrailingZeros_74 rfl 1 rfl ?_
            refine am_iload_n dJ14_numberOfTrailingZeros_75 rfl 0 rfl ?_
            refine am_iconst dJ14_numberOfTrailingZeros_76 ?_
            refine am_iushr dJ14_numberOfTrailingZeros_77 ?_
            refine am_iadd dJ14_numberOfTrailingZeros_78 ?_
            exact am_iret rfl dJ14_numberOfTrailingZeros_79 (Nat.le_refl 0) (Nat.le_refl 0) hh
          · have hh := hb47 hc48
            refine am_iinc (n := 1) dJ14_numberOfTrailingZeros_67 rfl (by decide) rfl ?_
            refine am_iload_n dJ14_numberOfTrailingZeros_70 rfl 1 rfl ?_
            refine am_iconst dJ14_numberOfTrailingZeros_71 ?_
            refine am_iushr dJ14_numberOfTrailingZeros_72 ?_
            refine am_istore_n dJ14_numberOfTrailingZeros_73 rfl (by decide) rfl ?_
            refine am_iload_n dJ14_numberOfTrailingZeros_74 rfl 1 rfl ?_
            refine am_iload_n dJ14_numberOfTrailingZeros_75 rfl 0 rfl ?_
            refine am_iconst dJ14_numberOfTrailingZeros_76 ?_
            refine am_iushr dJ14_numberOfTrailingZeros_77 ?_
            refine am_iadd dJ14_numberOfTrailingZeros_78 ?_
            exact am_iret rfl dJ14_numberOfTrailingZeros_79 (Nat.le_refl 0) (Nat.le_refl 0) hh
  · have hh := hb2 hc3
    refine am_iload_n dJ14_numberOfTrailingZeros_12 rfl 0 rfl ?_
    refine am_bipush dJ14_numberOfTrailingZeros_13 (by decide) ?_
    refine am_iand dJ14_numberOfTrailingZeros_15 ?_
    exact am_iret rfl dJ14_numberOfTrailingZeros_16 (Nat.le_refl 0) (Nat.le_refl 0) hh
/-! java/lang/Integer.bitCount(I)I -/
abbrev VJ14_bitCount (l : Launch) (Q : Option am_W → ah_H → Prop) (pc : Nat) (lv : List (Nat × am_W)) (st : List am_W) (S : ah_H) : Prop := am_V ah_r l RJ14 cJ14_bitCount 1 (some .int) "bitCount" (am_rm 1 0 0) (am_E1 ah_r 0 0 Q) pc lv st S 0 0
abbrev kJ14_bitCount (l : Launch) (as : List am_W) (S : ah_H) (Q : Option am_W → ah_H → Prop) : Prop := am_C ah_r l yJ14_bitCount (ws_ yJ14_bitCount cJ14_bitCount 1 (some .int)) (am_rm 1 0 0) 0 0 as S Q
set_option maxHeartbeats 4000000 in
set_option maxRecDepth 100000 in
theorem bJ14_bitCount {l : Launch} {Q : Option am_W → ah_H → Prop} {S : ah_H} (v0 : Int) (h0 : am_r v0)
    (hh : Q (some (am_I (am_and (((am_and (((am_and (v0 - (am_and (am_ushr v0 1) 1431655765)) 858993459) + (am_and (am_ushr (v0 - (am_and (am_ushr v0 1) 1431655765)) 2) 858993459)) + (am_ushr ((am_and (v0 - (am_and (am_ushr v0 1) 1431655765)) 858993459) + (am_and (am_ushr (v0 - (am_and (am_ushr v0 1) 1431655765)) 2) 858993459)) 4)) 252645135) + (am_ushr (am_and (((am_and (v0 - (am_and (am_ushr v0 1) 1431655765)) 858993459) + (am_and (am_ushr (v0 - (am_and (am_ushr v0 1) 1431655765)) 2) 858993459)) + (am_ushr ((am_and (v0 - (am_and (am_ushr v0 1) 1431655765)) 858993459) + (am_and (am_ushr (v0 - (am_and (am_ushr v0 1) 1431655765)) 2) 858993459)) 4)) 252645135) 8)) + (am_ushr ((am_and (((am_and (v0 - (am_and (am_ushr v0 1) 1431655765)) 858993459) + (am_and (am_ushr (v0 - (am_and (am_ushr v0 1) 1431655765)) 2) 858993459)) + (am_ushr ((am_and (v0 - (am_and (am_ushr v0 1) 1431655765)) 858993459) + (am_and (am_ushr (v0 - (am_and (am_ushr v0 1) 1431655765)) 2) 858993459)) 4)) 252645135) + (am_ushr (am_and (((am_and (v0 - (am_and (am_ushr v0 1) 1431655765)) 858993459) + (am_and (am_ushr (v0 - (am_and (am_ushr v0 1) 1431655765)) 2) 858993459)) + (am_ushr ((am_and (v0 - (am_and (am_ushr v0 1) 1431655765)) 858993459) + (am_and (am_ushr (v0 - (am_and (am_ushr v0 1) 1431655765)) 2) 858993459)) 4)) 252645135) 8)) 16)) 63))) S) : kJ14_bitCount l [am_I v0] S Q := by
  refine am_entry (lv := [(0, am_I v0)]) rfl rfl rfl (fun _ => rfl) (fun _ => Nat.le_of_ble_eq_true rfl) ?_
  refine am_iload_n dJ14_bitCount_0 rfl 0 rfl ?_
  refine am_iload_n dJ14_bitCount_1 rfl 0 rfl ?_
  refine am_iconst dJ14_bitCount_2 ?_
  refine am_iushr dJ14_bitCount_3 ?_
  refine am_ldcw (z := 1431655765) q787 (by decide) dJ14_bitCount_4 ?_
  refine am_iand dJ14_bitCount_7 ?_
  refine am_isub dJ14_bitCount_8 ?_
  refine am_istore_n dJ14_bitCount_9 rfl (by decide) rfl ?_
  refine am_iload_n dJ14_bitCount_10 rfl 0 rfl ?_
  refine am_ldcw (z := 858993459) q788 (by decide) dJ14_bitCount_11 ?_
  refine am_iand dJ14_bitCount_14 ?_
  refine am_iload_n dJ14_bitCount_15 rfl 0 rfl ?_
  refine am_iconst dJ14_bitCount_16 ?_
  refine am_iushr dJ14_bitCount_17 ?_
  refine am_ldcw (z := 858993459) q788 (by decide) dJ14_bitCount_18 ?_
  refine am_iand dJ14_bitCount_21 ?_
  refine am_iadd dJ14_bitCount_22 ?_
  refine am_istore_n dJ14_bitCount_23 rfl (by decide) rfl ?_
  refine am_iload_n dJ14_bitCount_24 rfl 0 rfl ?_
  refine am_iload_n dJ14_bitCount_25 rfl 0 rfl ?_
  refine am_iconst dJ14_bitCount_26 ?_
  refine am_iushr dJ14_bitCount_27 ?_
  refine am_iadd dJ14_bitCount_28 ?_
  refine am_ldcw (z := 252645135) q789 (by decide) dJ14_bitCount_29 ?_
  refine am_iand dJ14_bitCount_32 ?_
  refine am_istore_n dJ14_bitCount_33 rfl (by decide) rfl ?_
  refine am_iload_n dJ14_bitCount_34 rfl 0 rfl ?_
  refine am_iload_n dJ14_bitCount_35 rfl 0 rfl ?_
  refine am_bipush dJ14_bitCount_36 (by decide) ?_
  refine am_iushr dJ14_bitCount_38 ?_
  refine am_iadd dJ14_bitCount_39 ?_
  refine am_istore_n dJ14_bitCount_40 rfl (by decide) rfl ?_
  refine am_iload_n dJ14_bitCount_41 rfl 0 rfl ?_
  refine am_iload_n dJ14_bitCount_42 rfl 0 rfl ?_
  refine am_bipush dJ14_bitCount_43 (by decide) ?_
  refine am_iushr dJ14_bitCount_45 ?_
  refine am_iadd dJ14_bitCount_46 ?_
  refine am_istore_n dJ14_bitCount_47 rfl (by decide) rfl ?_
  refine am_iload_n dJ14_bitCount_48 rfl 0 rfl ?_
  refine am_bipush dJ14_bitCount_49 (by decide) ?_
  refine am_iand dJ14_bitCount_51 ?_
  exact am_iret rfl dJ14_bitCount_52 (Nat.le_refl 0) (Nat.le_refl 0) hh
/-! java/lang/AbstractStringBuilder.<init>(I)V -/
abbrev VJ15_init (l : Launch) (mc ms : Nat) (Q : Option am_W → ah_H → Prop) (pc : Nat) (lv : List (Nat × am_W)) (st : List am_W) (S : ah_H) (cells slots : Nat) : Prop := am_V ah_r l RJ15 cJ15_init 2 none "<init>" (am_rm 2 mc ms) (am_E1 ah_r mc ms Q) pc lv st S cells slots
abbrev kJ15_init (l : Launch) (mc ms : Nat) (as : List am_W) (S : ah_H) (Q : Option am_W → ah_H → Prop) : Prop := am_C ah_r l yJ15_init (ws_ yJ15_init cJ15_init 2 none) (am_rm 2 mc ms) mc ms as S Q
set_option maxHeartbeats 4000000 in
set_option maxRecDepth 100000 in
theorem bJ15_init {l : Launch} {mc ms : Nat} {Q : Option am_W → ah_H → Prop} {S : ah_H} (v0 : Nat) (v1 : Int) (h1 : am_r v1)
    (hh : (0 ≤ v1 ∧ v1 < 100000) ∧
      (1 ≤ mc) ∧
      ((0 + v1.toNat) ≤ ms) ∧
      (∀ G7, G7 = ah_mk S (.inr (2, v1.toNat, .inl (fun _ => 0))) →
      (∃ fs9, (G7.1 v0 = some (.inl (16, fs9))) ∧
      (ah_X ≤ v0) ∧
      (0 < fs9.length) ∧
      (∀ G13, G13 = ah_sf G7 v0 16 fs9 0 (am_R S.2) →
      (∃ fs15, (G13.1 v0 = some (.inl (16, fs15))) ∧
      (1 < fs15.length) ∧
      (∀ G18, G18 = ah_sf G13 v0 16 fs15 1 (am_I 0) →
      Q none G18)))))) : kJ15_init l mc ms [am_R v0, am_I v1] S Q := by
  refine am_entry (lv := [(0, am_R v0), (1, am_I v1)]) rfl rfl rfl (fun _ => rfl) (fun _ => Nat.le_of_ble_eq_true rfl) ?_
  refine am_aload_n dJ15_init_0 rfl 0 rfl ?_
  refine am_objInit q878 q133 q134 dJ15_init_1 (Nat.le_of_ble_eq_true rfl) (Nat.le_of_ble_eq_true rfl) ?_
  refine ah_gets (v := am_I 1) (List.mem_of_getElem? (i := 0) rfl) q879 dJ15_init_4 ?_
  refine am_if_eq (tgt := 25) dJ15_init_7 (by decide) (⟨by decide, by decide⟩) (fun hc3 => ?_) (fun hc3 => ?_)
  · exact absurd hc3 (by decide)
  refine am_aload_n dJ15_init_10 rfl 0 rfl ?_
  refine am_iload_n dJ15_init_11 rfl 1 rfl ?_
  obtain ⟨o4, hh⟩ := hh
  obtain ⟨o5, hh⟩ := hh
  obtain ⟨o6, hh⟩ := hh
  refine ah_newa (k := 2) (ty := .byte) rfl rfl (by decide) q208 o4.1 o4.2 o5 o6 dJ15_init_12 ?_
  have hh := hh _ rfl
  obtain ⟨fs9, ho10, hh⟩ := hh
  obtain ⟨o11, hh⟩ := hh
  obtain ⟨o12, hh⟩ := hh
  refine ah_put (ty := tyJ16 0) ho10 o11 o12 rfl in_J16 tyJ16 tyJ16_ok nmJ16 (by decide) q888 (Or.inl rfl) rfl (tyJ16_ok 0 (by decide)) (ah_fit_ref (Or.inr ⟨_, rfl⟩)) dJ15_init_14 ?_
  have hh := hh _ rfl
  refine am_aload_n dJ15_init_17 rfl 0 rfl ?_
  refine am_iconst dJ15_init_18 ?_
  obtain ⟨fs15, ho16, hh⟩ := hh
  obtain ⟨o17, hh⟩ := hh
  refine ah_put (ty := tyJ16 1) ho16 o11 o17 rfl in_J16 tyJ16 tyJ16_ok nmJ16 (by decide) q889 (Or.inl rfl) rfl (tyJ16_ok 1 (by decide)) (fun _ => ⟨rfl, rfl⟩) dJ15_init_19 ?_
  have hh := hh _ rfl
  refine am_goto (tgt := 38) dJ15_init_22 (by decide) ?_
  exact am_vret rfl dJ15_init_38 o5 o6 hh
/-! java/lang/AbstractStringBuilder.newCapacity(I)I -/
abbrev VJ15_newCapacity (l : Launch) (Q : Option am_W → ah_H → Prop) (pc : Nat) (lv : List (Nat × am_W)) (st : List am_W) (S : ah_H) : Prop := am_V ah_r l RJ15 cJ15_newCapacity 6 (some .int) "newCapacity" (am_rm 3 0 0) (am_E1 ah_r 0 0 Q) pc lv st S 0 0
abbrev kJ15_newCapacity (l : Launch) (as : List am_W) (S : ah_H) (Q : Option am_W → ah_H → Prop) : Prop := am_C ah_r l yJ15_newCapacity (ws_ yJ15_newCapacity cJ15_newCapacity 6 (some .int)) (am_rm 3 0 0) 0 0 as S Q
set_option maxHeartbeats 4000000 in
set_option maxRecDepth 100000 in
theorem bJ15_newCapacity {l : Launch} {Q : Option am_W → ah_H → Prop} {S : ah_H} (v0 : Nat) (v1 : Int) (h1 : am_r v1)
    (hh : (∃ fs1, (S.1 v0 = some (.inl (16, fs1))) ∧
      (∃ x4, (fs1[0]? = some (am_R x4)) ∧
      (∃ n5 f6, (S.1 x4 = some (.inr (2, n5, .inl f6))) ∧
      (∃ z10, (fs1[1]? = some (am_I z10) ∧ am_r z10) ∧
      kJ10_newLength l [am_I (n5 : Int), am_I ((am_shl v1 z10) - (n5 : Int)), am_I ((n5 : Int) + (am_shl 2 z10))] S (am_qi fun r13 G12 =>
        ((¬ r13 = 2147483647) →
          (∃ fs18, (G12.1 v0 = some (.inl (16, fs18))) ∧
          (∃ z21, (fs18[1]? = some (am_I z21) ∧ am_r z21) ∧
          Q (some (am_I (am_shr r13 z21))) G12))) ∧
        ((r13 = 2147483647) →
          False))))))) : kJ15_newCapacity l [am_R v0, am_I v1] S Q := by
  refine am_entry (lv := [(0, am_R v0), (1, am_I v1)]) rfl rfl rfl (fun _ => rfl) (fun _ => Nat.le_of_ble_eq_true rfl) ?_
  refine am_aload_n dJ15_newCapacity_0 rfl 0 rfl ?_
  obtain ⟨fs1, ho2, hh⟩ := hh
  obtain ⟨x4, hv3, hh⟩ := hh
  refine ah_get ho2 hv3 rfl in_J16 (by decide) q888 (Or.inl rfl) dJ15_newCapacity_1 ?_
  obtain ⟨n5, f6, ha7, hh⟩ := hh
  refine ah_alen ha7 dJ15_newCapacity_4 (fun hn8 => ?_)
  refine am_istore_n dJ15_newCapacity_5 rfl (by decide) rfl ?_
  refine am_iload_n dJ15_newCapacity_6 rfl 2 rfl ?_
  refine am_aload_n dJ15_newCapacity_7 rfl 1 rfl ?_
  obtain ⟨z10, ⟨hv9, hr11⟩, hh⟩ := hh
  refine ah_get ho2 hv9 rfl in_J16 (by decide) q889 (Or.inl rfl) dJ15_newCapacity_8 ?_
  refine am_ishl dJ15_newCapacity_11 ?_
  refine am_istore_n dJ15_newCapacity_12 rfl (by decide) rfl ?_
  refine am_iload_n dJ15_newCapacity_13 rfl 0 rfl ?_
  refine am_iload_n dJ15_newCapacity_14 rfl 1 rfl ?_
  refine am_isub dJ15_newCapacity_15 ?_
  refine am_istore dJ15_newCapacity_16 (by decide) rfl ?_
  refine am_iload_n dJ15_newCapacity_18 rfl 2 rfl ?_
  refine am_iload dJ15_newCapacity_19 0 rfl ?_
  refine am_iload_n dJ15_newCapacity_21 rfl 2 rfl ?_
  refine am_iconst dJ15_newCapacity_22 ?_
  refine am_aload_n dJ15_newCapacity_23 rfl 3 rfl ?_
  refine ah_get ho2 hv9 rfl in_J16 (by decide) q889 (Or.inl rfl) dJ15_newCapacity_24 ?_
  refine am_ishl dJ15_newCapacity_27 ?_
  refine am_iadd dJ15_newCapacity_28 ?_
  refine am_rSi (n := 3) hh dJ15_newCapacity_29 (lw_S q916 q669 q108 q670) ⟨⟨by decide, by decide, by decide +kernel⟩, ⟨Nat.le_of_ble_eq_true rfl, Nat.le_of_ble_eq_true rfl⟩⟩ ⟨rfl, rfl⟩ rfl rfl (Nat.le_of_ble_eq_true rfl) ⟨(Nat.le_of_ble_eq_true rfl), (Nat.le_of_ble_eq_true rfl)⟩ (fun r13 G12 hr14 hh => ?_)
  refine am_istore dJ15_newCapacity_32 (by decide) rfl ?_
  refine am_iload dJ15_newCapacity_34 0 rfl ?_
  refine am_ldc (z := 2147483647) q917 (by decide) dJ15_newCapacity_36 ?_
  obtain ⟨ha15, hb16⟩ := hh
  refine am_icmp_ne (tgt := 51) dJ15_newCapacity_38 (by decide) hr14 (⟨by decide, by decide⟩) (fun hc17 => ?_) (fun hc17 => ?_)
  · have hh := ha15 hc17
    refine am_iload dJ15_newCapacity_51 0 rfl ?_
    refine am_aload_n dJ15_newCapacity_53 rfl 4 rfl ?_
    obtain ⟨fs18, ho19, hh⟩ := hh
    obtain ⟨z21, ⟨hv20, hr22⟩, hh⟩ := hh
    refine ah_get ho19 hv20 rfl in_J16 (by decide) q889 (Or.inl rfl) dJ15_newCapacity_54 ?_
    refine am_ishr dJ15_newCapacity_57 ?_
    exact am_iret rfl dJ15_newCapacity_58 (Nat.le_refl 0) (Nat.le_refl 0) hh
  · have hh := hb16 hc17
    exact hh.elim
/-! java/lang/AbstractStringBuilder.ensureCapacityInternal(I)V -/
abbrev VJ15_ensureCapacityInternal (l : Launch) (mc ms : Nat) (Q : Option am_W → ah_H → Prop) (pc : Nat) (lv : List (Nat × am_W)) (st : List am_W) (S : ah_H) (cells slots : Nat) : Prop := am_V ah_r l RJ15 cJ15_ensureCapacityInternal 3 none "ensureCapacityInternal" (am_rm 4 mc ms) (am_E1 ah_r mc ms Q) pc lv st S cells slots
abbrev kJ15_ensureCapacityInternal (l : Launch) (mc ms : Nat) (as : List am_W) (S : ah_H) (Q : Option am_W → ah_H → Prop) : Prop := am_C ah_r l yJ15_ensureCapacityInternal (ws_ yJ15_ensureCapacityInternal cJ15_ensureCapacityInternal 3 none) (am_rm 4 mc ms) mc ms as S Q
set_option maxHeartbeats 4000000 in
set_option maxRecDepth 100000 in
theorem bJ15_ensureCapacityInternal {l : Launch} {mc ms : Nat} {Q : Option am_W → ah_H → Prop} {S : ah_H} (v0 : Nat) (v1 : Int) (h1 : am_r v1)
    (hh : (∃ fs1, (S.1 v0 = some (.inl (16, fs1))) ∧
      (∃ x4, (fs1[0]? = some (am_R x4)) ∧
      (∃ n5 f6, (S.1 x4 = some (.inr (2, n5, .inl f6))) ∧
      (∃ z10, (fs1[1]? = some (am_I z10) ∧ am_r z10) ∧
      (am_r (v1 - (am_shr (n5 : Int) z10))) ∧
      (((v1 - (am_shr (n5 : Int) z10)) ≤ 0) →
        Q none S) ∧
      ((¬ (v1 - (am_shr (n5 : Int) z10)) ≤ 0) →
        kJ15_newCapacity l [am_R v0, am_I v1] S (am_qi fun r17 G16 =>
          (∃ fs19, (G16.1 v0 = some (.inl (16, fs19))) ∧
          (∃ z22, (fs19[1]? = some (am_I z22) ∧ am_r z22) ∧
          (∃ mc24 ms25 : Nat, ((0 + mc24) ≤ mc ∧ (0 + ms25) ≤ ms) ∧
          kJ11_copyOf_3 l mc24 ms25 [am_R x4, am_I (am_shl r17 z22)] G16 (am_qo fun a29 G28 => ∃ y30, a29 = some y30 ∧
            (∃ fs31, (G28.1 v0 = some (.inl (16, fs31))) ∧
            (ah_X ≤ v0) ∧
            (0 < fs31.length) ∧
            (∀ G35, G35 = ah_sf G28 v0 16 fs31 0 (am_R y30) →
            Q none G35))))))))))))) : kJ15_ensureCapacityInternal l mc ms [am_R v0, am_I v1] S Q := by
  refine am_entry (lv := [(0, am_R v0), (1, am_I v1)]) rfl rfl rfl (fun _ => rfl) (fun _ => Nat.le_of_ble_eq_true rfl) ?_
  refine am_aload_n dJ15_ensureCapacityInternal_0 rfl 0 rfl ?_
  obtain ⟨fs1, ho2, hh⟩ := hh
  obtain ⟨x4, hv3, hh⟩ := hh
  refine ah_get ho2 hv3 rfl in_J16 (by decide) q888 (Or.inl rfl) dJ15_ensureCapacityInternal_1 ?_
  obtain ⟨n5, f6, ha7, hh⟩ := hh
  refine ah_alen ha7 dJ15_ensureCapacityInternal_4 (fun hn8 => ?_)
  refine am_aload_n dJ15_ensureCapacityInternal_5 rfl 0 rfl ?_
  obtain ⟨z10, ⟨hv9, hr11⟩, hh⟩ := hh
  refine ah_get ho2 hv9 rfl in_J16 (by decide) q889 (Or.inl rfl) dJ15_ensureCapacityInternal_6 ?_
  refine am_ishr dJ15_ensureCapacityInternal_9 ?_
  refine am_istore_n dJ15_ensureCapacityInternal_10 rfl (by decide) rfl ?_
  refine am_iload_n dJ15_ensureCapacityInternal_11 rfl 2 rfl ?_
  refine am_iload_n dJ15_ensureCapacityInternal_12 rfl 0 rfl ?_
  refine am_isub dJ15_ensureCapacityInternal_13 ?_
  obtain ⟨o12, hh⟩ := hh
  obtain ⟨ha13, hb14⟩ := hh
  refine am_if_le (tgt := 38) dJ15_ensureCapacityInternal_14 (by decide) o12 (fun hc15 => ?_) (fun hc15 => ?_)
  · have hh := ha13 hc15
    exact am_vret rfl dJ15_ensureCapacityInternal_38 (Nat.zero_le _) (Nat.zero_le _) hh
  · have hh := hb14 hc15
    refine am_aload_n dJ15_ensureCapacityInternal_17 rfl 1 rfl ?_
    refine am_aload_n dJ15_ensureCapacityInternal_18 rfl 1 rfl ?_
    refine ah_get ho2 hv3 rfl in_J16 (by decide) q888 (Or.inl rfl) dJ15_ensureCapacityInternal_19 ?_
    refine am_aload_n dJ15_ensureCapacityInternal_22 rfl 1 rfl ?_
    refine am_iload_n dJ15_ensureCapacityInternal_23 rfl 2 rfl ?_
    refine am_rUi (n := 1) (owner := "java/lang/AbstractStringBuilder") hh dJ15_ensureCapacityInternal_24 (am_CU_P q912 q1895 q871 (am_nwin q913 rfl) q931 rfl q914 q114 q915 ⟨rfl, rfl⟩ ⟨by decide, by decide, by decide +kernel⟩ ⟨Nat.le_of_ble_eq_true rfl, Nat.le_of_ble_eq_true rfl⟩) rfl rfl (Nat.le_of_ble_eq_true rfl) ⟨(Nat.zero_le _), (Nat.zero_le _)⟩ (ah_recv ho2 rfl) (fun r17 G16 hr18 hh => ?_)
    refine am_aload_n dJ15_ensureCapacityInternal_27 rfl 1 rfl ?_
    obtain ⟨fs19, ho20, hh⟩ := hh
    obtain ⟨z22, ⟨hv21, hr23⟩, hh⟩ := hh
    refine ah_get ho20 hv21 rfl in_J16 (by decide) q889 (Or.inl rfl) dJ15_ensureCapacityInternal_28 ?_
    refine am_ishl dJ15_ensureCapacityInternal_31 ?_
    obtain ⟨mc24, ms25, ⟨o26, o27⟩, hh⟩ := hh
    refine am_rSo (n := 2) hh dJ15_ensureCapacityInternal_32 (lw_S q918 q919 q109 q920) ⟨⟨by decide, by decide, by decide +kernel⟩, ⟨Nat.le_of_ble_eq_true rfl, Nat.le_of_ble_eq_true rfl⟩⟩ ⟨rfl, rfl⟩ rfl rfl (Nat.le_of_ble_eq_true rfl) ⟨o26, o27⟩ (fun a29 G28 hh => ?_)
    obtain ⟨y30, rfl, hh⟩ := hh
    obtain ⟨fs31, ho32, hh⟩ := hh
    obtain ⟨o33, hh⟩ := hh
    obtain ⟨o34, hh⟩ := hh
    refine ah_put (ty := tyJ16 0) ho32 o33 o34 rfl in_J16 tyJ16 tyJ16_ok nmJ16 (by decide) q888 (Or.inl rfl) rfl (tyJ16_ok 0 (by decide)) (ah_fit_ref (Or.inr ⟨_, rfl⟩)) dJ15_ensureCapacityInternal_35 ?_
    have hh := hh _ rfl
    exact am_vret rfl dJ15_ensureCapacityInternal_38 o26 o27 hh
/-! java/lang/AbstractStringBuilder.isLatin1()Z -/
abbrev VJ15_isLatin1 (l : Launch) (Q : Option am_W → ah_H → Prop) (pc : Nat) (lv : List (Nat × am_W)) (st : List am_W) (S : ah_H) : Prop := am_V ah_r l RJ15 cJ15_isLatin1 1 (some .boolean) "isLatin1" (am_rm 1 0 0) (am_E1 ah_r 0 0 Q) pc lv st S 0 0
abbrev kJ15_isLatin1 (l : Launch) (as : List am_W) (S : ah_H) (Q : Option am_W → ah_H → Prop) : Prop := am_C ah_r l yJ15_isLatin1 (ws_ yJ15_isLatin1 cJ15_isLatin1 1 (some .boolean)) (am_rm 1 0 0) 0 0 as S Q
set_option maxHeartbeats 4000000 in
set_option maxRecDepth 100000 in
theorem bJ15_isLatin1 {l : Launch} {Q : Option am_W → ah_H → Prop} {S : ah_H} (v0 : Nat)
    (hh : (∃ fs4, (S.1 v0 = some (.inl (16, fs4))) ∧
      (∃ z7, (fs4[1]? = some (am_I z7) ∧ am_r z7) ∧
      ((¬ z7 = 0) →
        Q (some (am_I (am_b false))) S) ∧
      ((z7 = 0) →
        Q (some (am_I (am_b true))) S)))) : kJ15_isLatin1 l [am_R v0] S Q := by
  refine am_entry (lv := [(0, am_R v0)]) rfl rfl rfl (fun _ => rfl) (fun _ => Nat.le_of_ble_eq_true rfl) ?_
  refine ah_gets (v := am_I 1) (List.mem_of_getElem? (i := 0) rfl) q879 dJ15_isLatin1_0 ?_
  refine am_if_eq (tgt := 17) dJ15_isLatin1_3 (by decide) (⟨by decide, by decide⟩) (fun hc3 => ?_) (fun hc3 => ?_)
  · exact absurd hc3 (by decide)
  refine am_aload_n dJ15_isLatin1_6 rfl 0 rfl ?_
  obtain ⟨fs4, ho5, hh⟩ := hh
  obtain ⟨z7, ⟨hv6, hr8⟩, hh⟩ := hh
  refine ah_get ho5 hv6 rfl in_J16 (by decide) q889 (Or.inl rfl) dJ15_isLatin1_7 ?_
  obtain ⟨ha9, hb10⟩ := hh
  refine am_if_ne (tgt := 17) dJ15_isLatin1_10 (by decide) hr8 (fun hc11 => ?_) (fun hc11 => ?_)
  · have hh := ha9 hc11
    refine am_iconst dJ15_isLatin1_17 ?_
    exact am_zret (b := false) rfl dJ15_isLatin1_18 (Nat.le_refl 0) (Nat.le_refl 0) hh
  · have hh := hb10 hc11
    refine am_iconst dJ15_isLatin1_13 ?_
    refine am_goto (tgt := 18) dJ15_isLatin1_14 (by decide) ?_
    exact am_zret (b := true) rfl dJ15_isLatin1_18 (Nat.le_refl 0) (Nat.le_refl 0) hh
/-! java/lang/StringLatin1.canEncode(C)Z -/
abbrev VJ18_canEncode (l : Launch) (Q : Option am_W → ah_H → Prop) (pc : Nat) (lv : List (Nat × am_W)) (st : List am_W) (S : ah_H) : Prop := am_V ah_r l RJ18 cJ18_canEncode 1 (some .boolean) "canEncode" (am_rm 1 0 0) (am_E1 ah_r 0 0 Q) pc lv st S 0 0
abbrev kJ18_canEncode (l : Launch) (as : List am_W) (S : ah_H) (Q : Option am_W → ah_H → Prop) : Prop := am_C ah_r l yJ18_canEncode (ws_ yJ18_canEncode cJ18_canEncode 1 (some .boolean)) (am_rm 1 0 0) 0 0 as S Q
set_option maxHeartbeats 4000000 in
set_option maxRecDepth 100000 in
theorem bJ18_canEncode {l : Launch} {Q : Option am_W → ah_H → Prop} {S : ah_H} (v0 : Int) (h0 : am_r v0)
    (hh : ((255 < v0) →
        Q (some (am_I (am_b false))) S) ∧
      ((¬ 255 < v0) →
        Q (some (am_I (am_b true))) S)) : kJ18_canEncode l [am_I v0] S Q := by
  refine am_entry (lv := [(0, am_I v0)]) rfl rfl rfl (fun _ => rfl) (fun _ => Nat.le_of_ble_eq_true rfl) ?_
  refine am_iload_n dJ18_canEncode_0 rfl 0 rfl ?_
  refine am_sipush dJ18_canEncode_1 (by decide) ?_
  obtain ⟨ha1, hb2⟩ := hh
  refine am_icmp_gt (tgt := 11) dJ18_canEncode_4 (by decide) h0 (⟨by decide, by decide⟩) (fun hc3 => ?_) (fun hc3 => ?_)
  · have hh := ha1 hc3
    refine am_iconst dJ18_canEncode_11 ?_
    exact am_zret (b := false) rfl dJ18_canEncode_12 (Nat.le_refl 0) (Nat.le_refl 0) hh
  · have hh := hb2 hc3
    refine am_iconst dJ18_canEncode_7 ?_
    refine am_goto (tgt := 12) dJ18_canEncode_8 (by decide) ?_
    exact am_zret (b := true) rfl dJ18_canEncode_12 (Nat.le_refl 0) (Nat.le_refl 0) hh
/-! java/lang/AbstractStringBuilder.append(C)Ljava/lang/AbstractStringBuilder; -/
abbrev VJ15_append (l : Launch) (mc ms : Nat) (Q : Option am_W → ah_H → Prop) (pc : Nat) (lv : List (Nat × am_W)) (st : List am_W) (S : ah_H) (cells slots : Nat) : Prop := am_V ah_r l RJ15 cJ15_append 2 (some (Jvm.ClassFile.FieldType.object "java/lang/AbstractStringBuilder")) "append" (am_rm 5 mc ms) (am_E1 ah_r mc ms Q) pc lv st S cells slots
abbrev kJ15_append (l : Launch) (mc ms : Nat) (as : List am_W) (S : ah_H) (Q : Option am_W → ah_H → Prop) : Prop := am_C ah_r l yJ15_append (ws_ yJ15_append cJ15_append 2 (some (Jvm.ClassFile.FieldType.object "java/lang/AbstractStringBuilder"))) (am_rm 5 mc ms) mc ms as S Q
set_option maxHeartbeats 4000000 in
set_option maxRecDepth 100000 in
theorem bJ15_append {l : Launch} {mc ms : Nat} {Q : Option am_W → ah_H → Prop} {S : ah_H} (v0 : Nat) (v1 : Int) (h1 : am_r v1)
    (hh : (∃ fs1, (S.1 v0 = some (.inl (16, fs1))) ∧
      (∃ z4, (fs1[3]? = some (am_I z4) ∧ am_r z4) ∧
      (∃ mc6 ms7 : Nat, ((0 + mc6) ≤ mc ∧ (0 + ms7) ≤ ms) ∧
      kJ15_ensureCapacityInternal l mc6 ms7 [am_R v0, am_I (z4 + 1)] S (am_qv fun G10 =>
        (∃ fs11, (G10.1 v0 = some (.inl (16, fs11))) ∧
        kJ15_isLatin1 l [am_R v0] G10 (am_qz fun b14 G13 =>
          ((b14 = false) →
            False) ∧
          ((b14 = true) →
            kJ18_canEncode l [am_I v1] G13 (am_qz fun b19 G18 =>
              ((b19 = false) →
                False) ∧
              ((b19 = true) →
                (∃ fs23, (G18.1 v0 = some (.inl (16, fs23))) ∧
                (∃ x26, (fs23[0]? = some (am_R x26)) ∧
                (∃ z28, (fs23[3]? = some (am_I z28) ∧ am_r z28) ∧
                (ah_X ≤ v0) ∧
                (3 < fs23.length) ∧
                (∀ G32, G32 = ah_sf G18 v0 16 fs23 3 (am_I (z28 + 1)) →
                (∃ n34 f35, (G32.1 x26 = some (.inr (2, n34, .inl f35))) ∧
                (ah_X ≤ x26) ∧
                (0 ≤ z28 ∧ z28 < (n34 : Int)) ∧
                (∀ G39, G39 = ah_si G32 x26 2 n34 f35 z28 (vp_nar .byte (Int32.ofInt (am_i2b v1))) →
                Q (some (am_R v0)) G39)))))))))))))))) : kJ15_append l mc ms [am_R v0, am_I v1] S Q := by
  refine am_entry (lv := [(0, am_R v0), (1, am_I v1)]) rfl rfl rfl (fun _ => rfl) (fun _ => Nat.le_of_ble_eq_true rfl) ?_
  refine am_aload_n dJ15_append_0 rfl 0 rfl ?_
  refine am_aload_n dJ15_append_1 rfl 0 rfl ?_
  obtain ⟨fs1, ho2, hh⟩ := hh
  obtain ⟨z4, ⟨hv3, hr5⟩, hh⟩ := hh
  refine ah_get ho2 hv3 rfl in_J16 (by decide) q891 (Or.inl rfl) dJ15_append_2 ?_
  refine am_iconst dJ15_append_5 ?_
  refine am_iadd dJ15_append_6 ?_
  obtain ⟨mc6, ms7, ⟨o8, o9⟩, hh⟩ := hh
  refine am_rUv (n := 1) (owner := "java/lang/AbstractStringBuilder") hh dJ15_append_7 (am_CU_P q908 q1894 q871 (am_nwin q909 rfl) q931 rfl q910 q114 q911 ⟨rfl, rfl⟩ ⟨by decide, by decide, by decide +kernel⟩ ⟨Nat.le_of_ble_eq_true rfl, Nat.le_of_ble_eq_true rfl⟩) rfl rfl (Nat.le_of_ble_eq_true rfl) ⟨o8, o9⟩ (ah_recv ho2 rfl) (fun G10 hh => ?_)
  refine am_aload_n dJ15_append_10 rfl 0 rfl ?_
  obtain ⟨fs11, ho12, hh⟩ := hh
  refine am_rUz (n := 0) (owner := "java/lang/AbstractStringBuilder") hh dJ15_append_11 (am_CU_O q928 q930 q929 q931 q929 q114 q932 q932 ⟨rfl, rfl⟩ ⟨by decide, by decide, by decide +kernel⟩ ⟨Nat.le_of_ble_eq_true rfl, Nat.le_of_ble_eq_true rfl⟩) rfl rfl (Nat.le_of_ble_eq_true rfl) ⟨o8, o9⟩ (ah_recv ho12 rfl) (fun b14 G13 hh => ?_)
  obtain ⟨ha15, hb16⟩ := hh
  refine am_ifB_eq (tgt := 45) dJ15_append_14 (by decide) (fun hc17 => ?_) (fun hc17 => ?_)
  · have hh := ha15 hc17
    exact hh.elim
  · have hh := hb16 hc17
    refine am_iload_n dJ15_append_17 rfl 1 rfl ?_
    refine am_rSz (n := 1) hh dJ15_append_18 (lw_S q933 q934 q117 q935) ⟨⟨by decide, by decide, by decide +kernel⟩, ⟨Nat.le_of_ble_eq_true rfl, Nat.le_of_ble_eq_true rfl⟩⟩ ⟨rfl, rfl⟩ rfl rfl (Nat.le_of_ble_eq_true rfl) ⟨o8, o9⟩ (fun b19 G18 hh => ?_)
    obtain ⟨ha20, hb21⟩ := hh
    refine am_ifB_eq (tgt := 45) dJ15_append_21 (by decide) (fun hc22 => ?_) (fun hc22 => ?_)
    · have hh := ha20 hc22
      exact hh.elim
    · have hh := hb21 hc22
      refine am_aload_n dJ15_append_24 rfl 0 rfl ?_
      obtain ⟨fs23, ho24, hh⟩ := hh
      obtain ⟨x26, hv25, hh⟩ := hh
      refine ah_get ho24 hv25 rfl in_J16 (by decide) q888 (Or.inl rfl) dJ15_append_25 ?_
      refine am_aload_n dJ15_append_28 rfl 0 rfl ?_
      refine am_dup dJ15_append_29 rfl ?_
      obtain ⟨z28, ⟨hv27, hr29⟩, hh⟩ := hh
      refine ah_get ho24 hv27 rfl in_J16 (by decide) q891 (Or.inl rfl) dJ15_append_30 ?_
      refine am_dup_x1 dJ15_append_33 rfl rfl ?_
      refine am_iconst dJ15_append_34 ?_
      refine am_iadd dJ15_append_35 ?_
      obtain ⟨o30, hh⟩ := hh
      obtain ⟨o31, hh⟩ := hh
      refine ah_put (ty := tyJ16 3) ho24 o30 o31 rfl in_J16 tyJ16 tyJ16_ok nmJ16 (by decide) q891 (Or.inl rfl) rfl (tyJ16_ok 3 (by decide)) ah_fit_int dJ15_append_36 ?_
      have hh := hh _ rfl
      refine am_iload_n dJ15_append_39 rfl 1 rfl ?_
      refine am_i2b_ dJ15_append_40 ?_
      obtain ⟨n34, f35, ha36, hh⟩ := hh
      obtain ⟨o37, hh⟩ := hh
      obtain ⟨o38, hh⟩ := hh
      refine ah_bast ha36 o37 o38.1 o38.2 dJ15_append_41 ?_
      have hh := hh _ rfl
      refine am_goto (tgt := 75) dJ15_append_42 (by decide) ?_
      refine am_aload_n dJ15_append_75 rfl 0 rfl ?_
      exact am_aret rfl (by first | exact Or.inl ⟨_, rfl⟩ | exact Or.inr ⟨_, rfl⟩) dJ15_append_76 o8 o9 hh
/-! java/lang/AbstractStringBuilder.getValue()[B -/
abbrev VJ15_getValue (l : Launch) (Q : Option am_W → ah_H → Prop) (pc : Nat) (lv : List (Nat × am_W)) (st : List am_W) (S : ah_H) : Prop := am_V ah_r l RJ15 cJ15_getValue 1 (some (Jvm.ClassFile.FieldType.array Jvm.ClassFile.FieldType.byte)) "getValue" (am_rm 1 0 0) (am_E1 ah_r 0 0 Q) pc lv st S 0 0
abbrev kJ15_getValue (l : Launch) (as : List am_W) (S : ah_H) (Q : Option am_W → ah_H → Prop) : Prop := am_C ah_r l yJ15_getValue (ws_ yJ15_getValue cJ15_getValue 1 (some (Jvm.ClassFile.FieldType.array Jvm.ClassFile.FieldType.byte))) (am_rm 1 0 0) 0 0 as S Q
set_option maxHeartbeats 4000000 in
set_option maxRecDepth 100000 in
theorem bJ15_getValue {l : Launch} {Q : Option am_W → ah_H → Prop} {S : ah_H} (v0 : Nat)
    (hh : (∃ fs1, (S.1 v0 = some (.inl (16, fs1))) ∧
      (∃ x4, (fs1[0]? = some (am_R x4)) ∧
      Q (some (am_R x4)) S))) : kJ15_getValue l [am_R v0] S Q := by
  refine am_entry (lv := [(0, am_R v0)]) rfl rfl rfl (fun _ => rfl) (fun _ => Nat.le_of_ble_eq_true rfl) ?_
  refine am_aload_n dJ15_getValue_0 rfl 0 rfl ?_
  obtain ⟨fs1, ho2, hh⟩ := hh
  obtain ⟨x4, hv3, hh⟩ := hh
  refine ah_get ho2 hv3 rfl in_J16 (by decide) q888 (Or.inl rfl) dJ15_getValue_1 ?_
  exact am_aret rfl (by first | exact Or.inl ⟨_, rfl⟩ | exact Or.inr ⟨_, rfl⟩) dJ15_getValue_4 (Nat.le_refl 0) (Nat.le_refl 0) hh
/-! java/lang/AbstractStringBuilder.length()I -/
abbrev VJ15_length (l : Launch) (Q : Option am_W → ah_H → Prop) (pc : Nat) (lv : List (Nat × am_W)) (st : List am_W) (S : ah_H) : Prop := am_V ah_r l RJ15 cJ15_length 1 (some .int) "length" (am_rm 1 0 0) (am_E1 ah_r 0 0 Q) pc lv st S 0 0
abbrev kJ15_length (l : Launch) (as : List am_W) (S : ah_H) (Q : Option am_W → ah_H → Prop) : Prop := am_C ah_r l yJ15_length (ws_ yJ15_length cJ15_length 1 (some .int)) (am_rm 1 0 0) 0 0 as S Q
set_option maxHeartbeats 4000000 in
set_option maxRecDepth 100000 in
theorem bJ15_length {l : Launch} {Q : Option am_W → ah_H → Prop} {S : ah_H} (v0 : Nat)
    (hh : (∃ fs1, (S.1 v0 = some (.inl (16, fs1))) ∧
      (∃ z4, (fs1[3]? = some (am_I z4) ∧ am_r z4) ∧
      Q (some (am_I z4)) S))) : kJ15_length l [am_R v0] S Q := by
  refine am_entry (lv := [(0, am_R v0)]) rfl rfl rfl (fun _ => rfl) (fun _ => Nat.le_of_ble_eq_true rfl) ?_
  refine am_aload_n dJ15_length_0 rfl 0 rfl ?_
  obtain ⟨fs1, ho2, hh⟩ := hh
  obtain ⟨z4, ⟨hv3, hr5⟩, hh⟩ := hh
  refine ah_get ho2 hv3 rfl in_J16 (by decide) q891 (Or.inl rfl) dJ15_length_1 ?_
  exact am_iret rfl dJ15_length_4 (Nat.le_refl 0) (Nat.le_refl 0) hh
/-! java/lang/StringBuilder.<init>()V -/
abbrev VJ16_init (l : Launch) (mc ms : Nat) (Q : Option am_W → ah_H → Prop) (pc : Nat) (lv : List (Nat × am_W)) (st : List am_W) (S : ah_H) (cells slots : Nat) : Prop := am_V ah_r l RJ16 cJ16_init 1 none "<init>" (am_rm 3 mc ms) (am_E1 ah_r mc ms Q) pc lv st S cells slots
abbrev kJ16_init (l : Launch) (mc ms : Nat) (as : List am_W) (S : ah_H) (Q : Option am_W → ah_H → Prop) : Prop := am_C ah_r l yJ16_init (ws_ yJ16_init cJ16_init 1 none) (am_rm 3 mc ms) mc ms as S Q
set_option maxHeartbeats 4000000 in
set_option maxRecDepth 100000 in
theorem bJ16_init {l : Launch} {mc ms : Nat} {Q : Option am_W → ah_H → Prop} {S : ah_H} (v0 : Nat)
    (hh : (∃ mc1 ms2 : Nat, ((0 + mc1) ≤ mc ∧ (0 + ms2) ≤ ms) ∧
      kJ15_init l mc1 ms2 [am_R v0, am_I 16] S (am_qv fun G5 =>
        Q none G5))) : kJ16_init l mc ms [am_R v0] S Q := by
  refine am_entry (lv := [(0, am_R v0)]) rfl rfl rfl (fun _ => rfl) (fun _ => Nat.le_of_ble_eq_true rfl) ?_
  refine am_aload_n dJ16_init_0 rfl 0 rfl ?_
  refine am_bipush dJ16_init_1 (by decide) ?_
  obtain ⟨mc1, ms2, ⟨o3, o4⟩, hh⟩ := hh
  refine am_rIv (n := 1) hh dJ16_init_3 q875 q876 q114 q877 rfl ⟨⟨by decide, by decide, by decide +kernel⟩, ⟨Nat.le_of_ble_eq_true rfl, Nat.le_of_ble_eq_true rfl⟩⟩ ⟨rfl, rfl⟩ rfl rfl (Nat.le_of_ble_eq_true rfl) ⟨o3, o4⟩ (fun G5 hh => ?_)
  exact am_vret rfl dJ16_init_6 o3 o4 hh
/-! java/lang/StringBuilder.append(C)Ljava/lang/StringBuilder; -/
abbrev VJ16_append (l : Launch) (mc ms : Nat) (Q : Option am_W → ah_H → Prop) (pc : Nat) (lv : List (Nat × am_W)) (st : List am_W) (S : ah_H) (cells slots : Nat) : Prop := am_V ah_r l RJ16 cJ16_append 2 (some (Jvm.ClassFile.FieldType.object "java/lang/StringBuilder")) "append" (am_rm 6 mc ms) (am_E1 ah_r mc ms Q) pc lv st S cells slots
abbrev kJ16_append (l : Launch) (mc ms : Nat) (as : List am_W) (S : ah_H) (Q : Option am_W → ah_H → Prop) : Prop := am_C ah_r l yJ16_append (ws_ yJ16_append cJ16_append 2 (some (Jvm.ClassFile.FieldType.object "java/lang/StringBuilder"))) (am_rm 6 mc ms) mc ms as S Q
set_option maxHeartbeats 4000000 in
set_option maxRecDepth 100000 in
theorem bJ16_append {l : Launch} {mc ms : Nat} {Q : Option am_W → ah_H → Prop} {S : ah_H} (v0 : Nat) (v1 : Int) (h1 : am_r v1)
    (hh : (∃ mc1 ms2 : Nat, ((0 + mc1) ≤ mc ∧ (0 + ms2) ≤ ms) ∧
      (∃ fs5, (S.1 v0 = some (.inl (16, fs5))) ∧
      kJ15_append l mc1 ms2 [am_R v0, am_I v1] S (am_qo fun a8 G7 => ∃ y9, a8 = some y9 ∧
        Q (some (am_R v0)) G7)))) : kJ16_append l mc ms [am_R v0, am_I v1] S Q := by
  refine am_entry (lv := [(0, am_R v0), (1, am_I v1)]) rfl rfl rfl (fun _ => rfl) (fun _ => Nat.le_of_ble_eq_true rfl) ?_
  refine am_aload_n dJ16_append_0 rfl 0 rfl ?_
  refine am_iload_n dJ16_append_1 rfl 1 rfl ?_
  obtain ⟨mc1, ms2, ⟨o3, o4⟩, hh⟩ := hh
  obtain ⟨fs5, ho6, hh⟩ := hh
  refine am_rSUo (n := 1) hh dJ16_append_2 (ci := 16) rfl q905 q1893 q900 q906 q114 q907 (by decide) ⟨⟨by decide, by decide, by decide +kernel⟩, ⟨Nat.le_of_ble_eq_true rfl, Nat.le_of_ble_eq_true rfl⟩⟩ ⟨rfl, rfl⟩ rfl rfl (Nat.le_of_ble_eq_true rfl) ⟨o3, o4⟩ (ah_recv ho6 rfl) (fun a8 G7 hh => ?_)
  obtain ⟨y9, rfl, hh⟩ := hh
  refine am_pop dJ16_append_5 rfl ?_
  refine am_aload_n dJ16_append_6 rfl 0 rfl ?_
  exact am_aret rfl (by first | exact Or.inl ⟨_, rfl⟩ | exact Or.inr ⟨_, rfl⟩) dJ16_append_7 o3 o4 hh
/-! java/lang/StringBuilder.length()I -/
abbrev VJ16_length (l : Launch) (Q : Option am_W → ah_H → Prop) (pc : Nat) (lv : List (Nat × am_W)) (st : List am_W) (S : ah_H) : Prop := am_V ah_r l RJ16 cJ16_length 1 (some .int) "length" (am_rm 2 0 0) (am_E1 ah_r 0 0 Q) pc lv st S 0 0
abbrev kJ16_length (l : Launch) (as : List am_W) (S : ah_H) (Q : Option am_W → ah_H → Prop) : Prop := am_C ah_r l yJ16_length (ws_ yJ16_length cJ16_length 1 (some .int)) (am_rm 2 0 0) 0 0 as S Q
set_option maxHeartbeats 4000000 in
set_option maxRecDepth 100000 in
theorem bJ16_length {l : Launch} {Q : Option am_W → ah_H → Prop} {S : ah_H} (v0 : Nat)
    (hh : (∃ fs1, (S.1 v0 = some (.inl (16, fs1))) ∧
      kJ15_length l [am_R v0] S (am_qi fun r4 G3 =>
        Q (some (am_I r4)) G3))) : kJ16_length l [am_R v0] S Q := by
  refine am_entry (lv := [(0, am_R v0)]) rfl rfl rfl (fun _ => rfl) (fun _ => Nat.le_of_ble_eq_true rfl) ?_
  refine am_aload_n dJ16_length_0 rfl 0 rfl ?_
  obtain ⟨fs1, ho2, hh⟩ := hh
  refine am_rSUi (n := 0) hh dJ16_length_1 (ci := 16) rfl q1002 q998 q900 q997 q114 q1003 (by decide) ⟨⟨by decide, by decide, by decide +kernel⟩, ⟨Nat.le_of_ble_eq_true rfl, Nat.le_of_ble_eq_true rfl⟩⟩ ⟨rfl, rfl⟩ rfl rfl (Nat.le_of_ble_eq_true rfl) ⟨(Nat.le_of_ble_eq_true rfl), (Nat.le_of_ble_eq_true rfl)⟩ (ah_recv ho2 rfl) (fun r4 G3 hr5 hh => ?_)
  exact am_iret rfl dJ16_length_4 (Nat.le_refl 0) (Nat.le_refl 0) hh
/-! java/lang/String.<init>(Ljava/lang/AbstractStringBuilder;Ljava/lang/Void;)V -/
abbrev VJ8_init_2 (l : Launch) (mc ms : Nat) (Q : Option am_W → ah_H → Prop) (pc : Nat) (lv : List (Nat × am_W)) (st : List am_W) (S : ah_H) (cells slots : Nat) : Prop := am_V ah_r l RJ8 cJ8_init_2 5 none "<init>" (am_rm 5 mc ms) (am_E1 ah_r mc ms Q) pc lv st S cells slots
abbrev kJ8_init_2 (l : Launch) (mc ms : Nat) (as : List am_W) (S : ah_H) (Q : Option am_W → ah_H → Prop) : Prop := am_C ah_r l yJ8_init_2 (ws_ yJ8_init_2 cJ8_init_2 5 none) (am_rm 5 mc ms) mc ms as S Q
set_option maxHeartbeats 4000000 in
set_option maxRecDepth 100000 in
theorem bJ8_init_2 {l : Launch} {mc ms : Nat} {Q : Option am_W → ah_H → Prop} {S : ah_H} (v0 : Nat) (v1 : Nat) (v2 : Nat)
    (hh : (∃ fs1, (S.1 v1 = some (.inl (16, fs1))) ∧
      kJ15_getValue l [am_R v1] S (am_qo fun a4 G3 => ∃ y5, a4 = some y5 ∧
        (∃ fs6, (G3.1 v1 = some (.inl (16, fs6))) ∧
        kJ16_length l [am_R v1] G3 (am_qi fun r9 G8 =>
          (∃ fs11, (G8.1 v1 = some (.inl (16, fs11))) ∧
          kJ15_isLatin1 l [am_R v1] G8 (am_qz fun b14 G13 =>
            ((b14 = false) →
              False) ∧
            ((b14 = true) →
              (∃ fs18, (G13.1 v0 = some (.inl (17, fs18))) ∧
              (ah_X ≤ v0) ∧
              (1 < fs18.length) ∧
              (∀ G22, G22 = ah_sf G13 v0 17 fs18 1 (am_I 0) →
              (∃ mc24 ms25 : Nat, ((0 + mc24) ≤ mc ∧ (0 + ms25) ≤ ms) ∧
              kJ11_copyOfRange l mc24 ms25 [am_R y5, am_I 0, am_I r9] G22 (am_qo fun a29 G28 => ∃ y30, a29 = some y30 ∧
                (∃ fs31, (G28.1 v0 = some (.inl (17, fs31))) ∧
                (0 < fs31.length) ∧
                (∀ G34, G34 = ah_sf G28 v0 17 fs31 0 (am_R y30) →
                Q none G34)))))))))))))) : kJ8_init_2 l mc ms [am_R v0, am_R v1, am_R v2] S Q := by
  refine am_entry (lv := [(0, am_R v0), (1, am_R v1), (2, am_R v2)]) rfl rfl rfl (fun _ => rfl) (fun _ => Nat.le_of_ble_eq_true rfl) ?_
  refine am_aload_n dJ8_init_2_0 rfl 0 rfl ?_
  refine am_objInit q990 q133 q134 dJ8_init_2_1 (Nat.le_of_ble_eq_true rfl) (Nat.le_of_ble_eq_true rfl) ?_
  refine am_aload_n dJ8_init_2_4 rfl 1 rfl ?_
  obtain ⟨fs1, ho2, hh⟩ := hh
  refine am_rUo (n := 0) (owner := "java/lang/AbstractStringBuilder") hh dJ8_init_2_5 (am_CU_O q991 q993 q992 q994 q992 q114 q995 q995 ⟨rfl, rfl⟩ ⟨by decide, by decide, by decide +kernel⟩ ⟨Nat.le_of_ble_eq_true rfl, Nat.le_of_ble_eq_true rfl⟩) rfl rfl (Nat.le_of_ble_eq_true rfl) ⟨(Nat.zero_le _), (Nat.zero_le _)⟩ (ah_recv ho2 rfl) (fun a4 G3 hh => ?_)
  obtain ⟨y5, rfl, hh⟩ := hh
  refine am_astore_n dJ8_init_2_8 rfl (by decide) rfl ?_
  refine am_aload_n dJ8_init_2_9 rfl 2 rfl ?_
  obtain ⟨fs6, ho7, hh⟩ := hh
  refine am_rUi (n := 0) (owner := "java/lang/AbstractStringBuilder") hh dJ8_init_2_10 (am_CU_O q996 q998 q997 q999 q1000 q115 q1001 q1003 ⟨rfl, rfl⟩ ⟨by decide, by decide, by decide +kernel⟩ ⟨Nat.le_of_ble_eq_true rfl, Nat.le_of_ble_eq_true rfl⟩) rfl rfl (Nat.le_of_ble_eq_true rfl) ⟨(Nat.zero_le _), (Nat.zero_le _)⟩ (ah_recv ho7 rfl) (fun r9 G8 hr10 hh => ?_)
  refine am_istore dJ8_init_2_13 (by decide) rfl ?_
  refine am_aload_n dJ8_init_2_15 rfl 3 rfl ?_
  obtain ⟨fs11, ho12, hh⟩ := hh
  refine am_rUz (n := 0) (owner := "java/lang/AbstractStringBuilder") hh dJ8_init_2_16 (am_CU_O q1004 q930 q929 q931 q929 q114 q932 q932 ⟨rfl, rfl⟩ ⟨by decide, by decide, by decide +kernel⟩ ⟨Nat.le_of_ble_eq_true rfl, Nat.le_of_ble_eq_true rfl⟩) rfl rfl (Nat.le_of_ble_eq_true rfl) ⟨(Nat.zero_le _), (Nat.zero_le _)⟩ (ah_recv ho12 rfl) (fun b14 G13 hh => ?_)
  obtain ⟨ha15, hb16⟩ := hh
  refine am_ifB_eq (tgt := 41) dJ8_init_2_19 (by decide) (fun hc17 => ?_) (fun hc17 => ?_)
  · have hh := ha15 hc17
    exact hh.elim
  · have hh := hb16 hc17
    refine am_aload_n dJ8_init_2_22 rfl 2 rfl ?_
    refine am_iconst dJ8_init_2_23 ?_
    obtain ⟨fs18, ho19, hh⟩ := hh
    obtain ⟨o20, hh⟩ := hh
    obtain ⟨o21, hh⟩ := hh
    refine ah_putF (ty := tyJ8 1) ho19 o20 o21 rfl in_J8 tyJ8 tyJ8_ok nmJ8 (by decide) q1029 rfl rfl rfl (tyJ8_ok 1 (by decide)) (fun _ => ⟨rfl, rfl⟩) dJ8_init_2_24 ?_
    have hh := hh _ rfl
    refine am_aload_n dJ8_init_2_27 rfl 2 rfl ?_
    refine am_aload_n dJ8_init_2_28 rfl 1 rfl ?_
    refine am_iconst dJ8_init_2_29 ?_
    refine am_iload dJ8_init_2_30 0 rfl ?_
    obtain ⟨mc24, ms25, ⟨o26, o27⟩, hh⟩ := hh
    refine am_rSo (n := 3) hh dJ8_init_2_32 (lw_S q1005 q1006 q109 q1007) ⟨⟨by decide, by decide, by decide +kernel⟩, ⟨Nat.le_of_ble_eq_true rfl, Nat.le_of_ble_eq_true rfl⟩⟩ ⟨rfl, rfl⟩ rfl rfl (Nat.le_of_ble_eq_true rfl) ⟨o26, o27⟩ (fun a29 G28 hh => ?_)
    obtain ⟨y30, rfl, hh⟩ := hh
    obtain ⟨fs31, ho32, hh⟩ := hh
    obtain ⟨o33, hh⟩ := hh
    refine ah_putF (ty := tyJ8 0) ho32 o20 o33 rfl in_J8 tyJ8 tyJ8_ok nmJ8 (by decide) q1028 rfl rfl rfl (tyJ8_ok 0 (by decide)) (ah_fit_ref (Or.inr ⟨_, rfl⟩)) dJ8_init_2_35 ?_
    have hh := hh _ rfl
    refine am_goto (tgt := 97) dJ8_init_2_38 (by decide) ?_
    exact am_vret rfl dJ8_init_2_97 o26 o27 hh
/-! java/lang/String.<init>(Ljava/lang/StringBuilder;)V -/
abbrev VJ8_init (l : Launch) (mc ms : Nat) (Q : Option am_W → ah_H → Prop) (pc : Nat) (lv : List (Nat × am_W)) (st : List am_W) (S : ah_H) (cells slots : Nat) : Prop := am_V ah_r l RJ8 cJ8_init 2 none "<init>" (am_rm 6 mc ms) (am_E1 ah_r mc ms Q) pc lv st S cells slots
abbrev kJ8_init (l : Launch) (mc ms : Nat) (as : List am_W) (S : ah_H) (Q : Option am_W → ah_H → Prop) : Prop := am_C ah_r l yJ8_init (ws_ yJ8_init cJ8_init 2 none) (am_rm 6 mc ms) mc ms as S Q
set_option maxHeartbeats 4000000 in
set_option maxRecDepth 100000 in
theorem bJ8_init {l : Launch} {mc ms : Nat} {Q : Option am_W → ah_H → Prop} {S : ah_H} (v0 : Nat) (v1 : Nat)
    (hh : (∃ mc1 ms2 : Nat, ((0 + mc1) ≤ mc ∧ (0 + ms2) ≤ ms) ∧
      kJ8_init_2 l mc1 ms2 [am_R v0, am_R v1, am_O none] S (am_qv fun G5 =>
        Q none G5))) : kJ8_init l mc ms [am_R v0, am_R v1] S Q := by
  refine am_entry (lv := [(0, am_R v0), (1, am_R v1)]) rfl rfl rfl (fun _ => rfl) (fun _ => Nat.le_of_ble_eq_true rfl) ?_
  refine am_aload_n dJ8_init_0 rfl 0 rfl ?_
  refine am_aload_n dJ8_init_1 rfl 1 rfl ?_
  refine am_aconst_null dJ8_init_2 ?_
  obtain ⟨mc1, ms2, ⟨o3, o4⟩, hh⟩ := hh
  refine am_rIv (n := 2) hh dJ8_init_3 q987 q988 q104 q989 rfl ⟨⟨by decide, by decide, by decide +kernel⟩, ⟨Nat.le_of_ble_eq_true rfl, Nat.le_of_ble_eq_true rfl⟩⟩ ⟨rfl, rfl⟩ rfl rfl (Nat.le_of_ble_eq_true rfl) ⟨o3, o4⟩ (fun G5 hh => ?_)
  exact am_vret rfl dJ8_init_6 o3 o4 hh
/-! java/lang/StringBuilder.toString()Ljava/lang/String; -/
abbrev VJ16_toString (l : Launch) (mc ms : Nat) (Q : Option am_W → ah_H → Prop) (pc : Nat) (lv : List (Nat × am_W)) (st : List am_W) (S : ah_H) (cells slots : Nat) : Prop := am_V ah_r l RJ16 cJ16_toString 1 (some (Jvm.ClassFile.FieldType.object "java/lang/String")) "toString" (am_rm 7 mc ms) (am_E1 ah_r mc ms Q) pc lv st S cells slots
abbrev kJ16_toString (l : Launch) (mc ms : Nat) (as : List am_W) (S : ah_H) (Q : Option am_W → ah_H → Prop) : Prop := am_C ah_r l yJ16_toString (ws_ yJ16_toString cJ16_toString 1 (some (Jvm.ClassFile.FieldType.object "java/lang/String"))) (am_rm 7 mc ms) mc ms as S Q
set_option maxHeartbeats 4000000 in
set_option maxRecDepth 100000 in
theorem bJ16_toString {l : Launch} {mc ms : Nat} {Q : Option am_W → ah_H → Prop} {S : ah_H} (v0 : Nat)
    (hh : (1 ≤ mc) ∧
      (4 ≤ ms) ∧
      (∀ G3, G3 = ah_mk S (.inl (17, ah_dJ8)) →
      (∃ mc5 ms6 : Nat, ((1 + mc5) ≤ mc ∧ (4 + ms6) ≤ ms) ∧
      kJ8_init l mc5 ms6 [am_R S.2, am_R v0] G3 (am_qv fun G9 =>
        Q (some (am_R S.2)) G9)))) : kJ16_toString l mc ms [am_R v0] S Q := by
  refine am_entry (lv := [(0, am_R v0)]) rfl rfl rfl (fun _ => rfl) (fun _ => Nat.le_of_ble_eq_true rfl) ?_
  obtain ⟨o1, hh⟩ := hh
  obtain ⟨o2, hh⟩ := hh
  refine ah_new (ci := 17) (fs := ah_dJ8) tyJ8 rfl in_J8 tyJ8_ok q983 q426 q104 ah_dJ8_ok o1 o2 dJ16_toString_0 ?_
  have hh := hh _ rfl
  refine am_dup dJ16_toString_3 rfl ?_
  refine am_aload_n dJ16_toString_4 rfl 0 rfl ?_
  obtain ⟨mc5, ms6, ⟨o7, o8⟩, hh⟩ := hh
  refine am_rIv (n := 1) hh dJ16_toString_5 q984 q985 q104 q986 rfl ⟨⟨by decide, by decide, by decide +kernel⟩, ⟨Nat.le_of_ble_eq_true rfl, Nat.le_of_ble_eq_true rfl⟩⟩ ⟨rfl, rfl⟩ rfl rfl (Nat.le_of_ble_eq_true rfl) ⟨o7, o8⟩ (fun G9 hh => ?_)
  exact am_aret rfl (by first | exact Or.inl ⟨_, rfl⟩ | exact Or.inr ⟨_, rfl⟩) dJ16_toString_8 o7 o8 hh
/-! java/lang/StringLatin1.equals([B[B)Z -/
abbrev VJ18_equals (l : Launch) (Q : Option am_W → ah_H → Prop) (pc : Nat) (lv : List (Nat × am_W)) (st : List am_W) (S : ah_H) : Prop := am_V ah_r l RJ18 cJ18_equals 3 (some .boolean) "equals" (am_rm 1 0 0) (am_E1 ah_r 0 0 Q) pc lv st S 0 0
abbrev kJ18_equals (l : Launch) (as : List am_W) (S : ah_H) (Q : Option am_W → ah_H → Prop) : Prop := am_C ah_r l yJ18_equals (ws_ yJ18_equals cJ18_equals 3 (some .boolean)) (am_rm 1 0 0) 0 0 as S Q
set_option maxHeartbeats 4000000 in
set_option maxRecDepth 100000 in
theorem bJ18_equals {l : Launch} {Q : Option am_W → ah_H → Prop} {S : ah_H} (v0 : Nat) (v1 : Nat)
    (hh : (∃ n1 f2, (S.1 v0 = some (.inr (2, n1, .inl f2))) ∧
      (∃ n5 f6, (S.1 v1 = some (.inr (2, n5, .inl f6))) ∧
      ((¬ (n1 : Int) = (n5 : Int)) →
        Q (some (am_I (am_b false))) S) ∧
      (((n1 : Int) = (n5 : Int)) →
        VJ18_equals l Q 9 [(0, am_R v0), (1, am_R v1), (2, am_I 0)] [] S)))) : kJ18_equals l [am_R v0, am_R v1] S Q := by
  refine am_entry (lv := [(0, am_R v0), (1, am_R v1)]) rfl rfl rfl (fun _ => rfl) (fun _ => Nat.le_of_ble_eq_true rfl) ?_
  refine am_aload_n dJ18_equals_0 rfl 0 rfl ?_
  obtain ⟨n1, f2, ha3, hh⟩ := hh
  refine ah_alen ha3 dJ18_equals_1 (fun hn4 => ?_)
  refine am_aload_n dJ18_equals_2 rfl 1 rfl ?_
  obtain ⟨n5, f6, ha7, hh⟩ := hh
  refine ah_alen ha7 dJ18_equals_3 (fun hn8 => ?_)
  obtain ⟨ha9, hb10⟩ := hh
  refine am_icmp_ne (tgt := 34) dJ18_equals_4 (by decide) hn4 hn8 (fun hc11 => ?_) (fun hc11 => ?_)
  · have hh := ha9 hc11
    refine am_iconst dJ18_equals_34 ?_
    exact am_zret (b := false) rfl dJ18_equals_35 (Nat.le_refl 0) (Nat.le_refl 0) hh
  · have hh := hb10 hc11
    refine am_iconst dJ18_equals_7 ?_
    refine am_istore_n dJ18_equals_8 rfl (by decide) rfl ?_
    refine am_keep [1, 2, 0] rfl ?_
    exact hh
set_option maxHeartbeats 4000000 in
set_option maxRecDepth 100000 in
theorem bJ18_equals_9 {l : Launch} {Q : Option am_W → ah_H → Prop} {S : ah_H} (v0 : Nat) (v1 : Nat) (v2 : Int) (h2 : am_r v2)
    (hh : (∃ n1 f2, (S.1 v0 = some (.inr (2, n1, .inl f2))) ∧
      (((n1 : Int) ≤ v2) →
        Q (some (am_I (am_b true))) S) ∧
      ((¬ (n1 : Int) ≤ v2) →
        (0 ≤ v2 ∧ v2 < (n1 : Int)) ∧
        (∃ n9 f10, (S.1 v1 = some (.inr (2, n9, .inl f10))) ∧
        (0 ≤ v2 ∧ v2 < (n9 : Int)) ∧
        ((((f2 v2.toNat).toInt) = ((f10 v2.toNat).toInt)) →
          VJ18_equals l Q 9 [(0, am_R v0), (1, am_R v1), (2, am_I (v2 + 1))] [] S) ∧
        ((¬ ((f2 v2.toNat).toInt) = ((f10 v2.toNat).toInt)) →
          Q (some (am_I (am_b false))) S))))) : VJ18_equals l Q 9 [(0, am_R v0), (1, am_R v1), (2, am_I v2)] [] S := by
  refine am_iload_n dJ18_equals_9 rfl 2 rfl ?_
  refine am_aload_n dJ18_equals_10 rfl 0 rfl ?_
  obtain ⟨n1, f2, ha3, hh⟩ := hh
  refine ah_alen ha3 dJ18_equals_11 (fun hn4 => ?_)
  obtain ⟨ha5, hb6⟩ := hh
  refine am_icmp_ge (tgt := 32) dJ18_equals_12 (by decide) h2 hn4 (fun hc7 => ?_) (fun hc7 => ?_)
  · have hh := ha5 hc7
    refine am_iconst dJ18_equals_32 ?_
    exact am_zret (b := true) rfl dJ18_equals_33 (Nat.le_refl 0) (Nat.le_refl 0) hh
  · have hh := hb6 hc7
    refine am_aload_n dJ18_equals_15 rfl 0 rfl ?_
    refine am_iload_n dJ18_equals_16 rfl 2 rfl ?_
    obtain ⟨o8, hh⟩ := hh
    refine ah_bald ha3 o8.1 o8.2 (v := (f2 v2.toNat).toInt) rfl dJ18_equals_17 ?_
    refine am_aload_n dJ18_equals_18 rfl 1 rfl ?_
    refine am_iload_n dJ18_equals_19 rfl 2 rfl ?_
    obtain ⟨n9, f10, ha11, hh⟩ := hh
    obtain ⟨o12, hh⟩ := hh
    refine ah_bald ha11 o12.1 o12.2 (v := (f10 v2.toNat).toInt) rfl dJ18_equals_20 ?_
    obtain ⟨ha13, hb14⟩ := hh
    refine am_icmp_eq (tgt := 26) dJ18_equals_21 (by decide) (am_rt _) (am_rt _) (fun hc15 => ?_) (fun hc15 => ?_)
    · have hh := ha13 hc15
      refine am_iinc (n := 2) dJ18_equals_26 rfl (by decide) rfl ?_
      refine am_goto (tgt := 9) dJ18_equals_29 (by decide) ?_
      refine am_keep [1, 2, 0] rfl ?_
      exact hh
    · have hh := hb14 hc15
      refine am_iconst dJ18_equals_24 ?_
      exact am_zret (b := false) rfl dJ18_equals_25 (Nat.le_refl 0) (Nat.le_refl 0) hh
/-! java/util/ArrayList.<init>()V -/
abbrev VJ2_init (l : Launch) (Q : Option am_W → ah_H → Prop) (pc : Nat) (lv : List (Nat × am_W)) (st : List am_W) (S : ah_H) : Prop := am_V ah_r l RJ2 cJ2_init 1 none "<init>" (am_rm 4 0 0) (am_E1 ah_r 0 0 Q) pc lv st S 0 0
abbrev kJ2_init (l : Launch) (as : List am_W) (S : ah_H) (Q : Option am_W → ah_H → Prop) : Prop := am_C ah_r l yJ2_init (ws_ yJ2_init cJ2_init 1 none) (am_rm 4 0 0) 0 0 as S Q
set_option maxHeartbeats 4000000 in
set_option maxRecDepth 100000 in
theorem bJ2_init {l : Launch} {Q : Option am_W → ah_H → Prop} {S : ah_H} (v0 : Nat)
    (hh : kJ1_init l [am_R v0] S (am_qv fun G1 =>
        (∃ fs2, (G1.1 v0 = some (.inl (15, fs2))) ∧
        (ah_X ≤ v0) ∧
        (1 < fs2.length) ∧
        (∀ G6, G6 = ah_sf G1 v0 15 fs2 1 (am_R 1) →
        Q none G6)))) : kJ2_init l [am_R v0] S Q := by
  refine am_entry (lv := [(0, am_R v0)]) rfl rfl rfl (fun _ => rfl) (fun _ => Nat.le_of_ble_eq_true rfl) ?_
  refine am_aload_n dJ2_init_0 rfl 0 rfl ?_
  refine am_rIv (n := 0) hh dJ2_init_1 q172 q173 q93 q174 rfl ⟨⟨by decide, by decide, by decide +kernel⟩, ⟨Nat.le_of_ble_eq_true rfl, Nat.le_of_ble_eq_true rfl⟩⟩ ⟨rfl, rfl⟩ rfl rfl (Nat.le_of_ble_eq_true rfl) ⟨(Nat.le_of_ble_eq_true rfl), (Nat.le_of_ble_eq_true rfl)⟩ (fun G1 hh => ?_)
  refine am_aload_n dJ2_init_4 rfl 0 rfl ?_
  refine ah_gets (v := am_R 1) (List.mem_of_getElem? (i := 1) rfl) q179 dJ2_init_5 ?_
  obtain ⟨fs2, ho3, hh⟩ := hh
  obtain ⟨o4, hh⟩ := hh
  obtain ⟨o5, hh⟩ := hh
  refine ah_put (ty := tyJ2 1) ho3 o4 o5 rfl in_J2 tyJ2 tyJ2_ok nmJ2 (by decide) q181 (Or.inl rfl) rfl (tyJ2_ok 1 (by decide)) (ah_fit_ref (Or.inr ⟨_, rfl⟩)) dJ2_init_8 ?_
  have hh := hh _ rfl
  exact am_vret rfl dJ2_init_11 (Nat.le_refl 0) (Nat.le_refl 0) hh
/-! java/util/ArrayList.size()I -/
abbrev VJ2_size (l : Launch) (Q : Option am_W → ah_H → Prop) (pc : Nat) (lv : List (Nat × am_W)) (st : List am_W) (S : ah_H) : Prop := am_V ah_r l RJ2 cJ2_size 1 (some .int) "size" (am_rm 1 0 0) (am_E1 ah_r 0 0 Q) pc lv st S 0 0
abbrev kJ2_size (l : Launch) (as : List am_W) (S : ah_H) (Q : Option am_W → ah_H → Prop) : Prop := am_C ah_r l yJ2_size (ws_ yJ2_size cJ2_size 1 (some .int)) (am_rm 1 0 0) 0 0 as S Q
set_option maxHeartbeats 4000000 in
set_option maxRecDepth 100000 in
theorem bJ2_size {l : Launch} {Q : Option am_W → ah_H → Prop} {S : ah_H} (v0 : Nat)
    (hh : (∃ fs1, (S.1 v0 = some (.inl (15, fs1))) ∧
      (∃ z4, (fs1[2]? = some (am_I z4) ∧ am_r z4) ∧
      Q (some (am_I z4)) S))) : kJ2_size l [am_R v0] S Q := by
  refine am_entry (lv := [(0, am_R v0)]) rfl rfl rfl (fun _ => rfl) (fun _ => Nat.le_of_ble_eq_true rfl) ?_
  refine am_aload_n dJ2_size_0 rfl 0 rfl ?_
  obtain ⟨fs1, ho2, hh⟩ := hh
  obtain ⟨z4, ⟨hv3, hr5⟩, hh⟩ := hh
  refine ah_get ho2 hv3 rfl in_J2 (by decide) q182 (Or.inl rfl) dJ2_size_1 ?_
  exact am_iret rfl dJ2_size_4 (Nat.le_refl 0) (Nat.le_refl 0) hh
/-! java/util/ArrayList.grow(I)[Ljava/lang/Object; -/
abbrev VJ2_grow_2 (l : Launch) (mc ms : Nat) (Q : Option am_W → ah_H → Prop) (pc : Nat) (lv : List (Nat × am_W)) (st : List am_W) (S : ah_H) (cells slots : Nat) : Prop := am_V ah_r l RJ2 cJ2_grow_2 4 (some (Jvm.ClassFile.FieldType.array (Jvm.ClassFile.FieldType.object "java/lang/Object"))) "grow" (am_rm 4 mc ms) (am_E1 ah_r mc ms Q) pc lv st S cells slots
abbrev kJ2_grow_2 (l : Launch) (mc ms : Nat) (as : List am_W) (S : ah_H) (Q : Option am_W → ah_H → Prop) : Prop := am_C ah_r l yJ2_grow_2 (ws_ yJ2_grow_2 cJ2_grow_2 4 (some (Jvm.ClassFile.FieldType.array (Jvm.ClassFile.FieldType.object "java/lang/Object")))) (am_rm 4 mc ms) mc ms as S Q
set_option maxHeartbeats 4000000 in
set_option maxRecDepth 100000 in
theorem bJ2_grow_2 {l : Launch} {mc ms : Nat} {Q : Option am_W → ah_H → Prop} {S : ah_H} (v0 : Nat) (v1 : Int) (h1 : am_r v1)
    (hh : (∃ fs1, (S.1 v0 = some (.inl (15, fs1))) ∧
      (∃ x4, (fs1[1]? = some (am_R x4)) ∧
      (∃ n5 f6, (S.1 x4 = some (.inr (5, n5, .inr f6))) ∧
      ((0 < (n5 : Int)) →
        kJ10_newLength l [am_I (n5 : Int), am_I (v1 - (n5 : Int)), am_I (am_shr (n5 : Int) 1)] S (am_qi fun r13 G12 =>
          (∃ fs15, (G12.1 v0 = some (.inl (15, fs15))) ∧
          (∃ x18, (fs15[1]? = some (am_R x18)) ∧
          (∃ mc19 ms20 : Nat, ((0 + mc19) ≤ mc ∧ (0 + ms20) ≤ ms) ∧
          kJ11_copyOf l mc19 ms20 [am_R x18, am_I r13] G12 (am_qo fun a24 G23 => ∃ y25, a24 = some y25 ∧
            (∃ fs26, (G23.1 v0 = some (.inl (15, fs26))) ∧
            (ah_X ≤ v0) ∧
            (1 < fs26.length) ∧
            (∀ G30, G30 = ah_sf G23 v0 15 fs26 1 (am_R y25) →
            Q (some (am_R y25)) G30)))))))) ∧
      ((¬ 0 < (n5 : Int)) →
        (ah_q (some x4 : Option Nat) (some 1 : Option Nat)) ∧
        (((some x4 : Option Nat) = (some 1 : Option Nat)) →
          (0 ≤ (am_max 10 v1) ∧ (am_max 10 v1) < 100000) ∧
          (1 ≤ mc) ∧
          ((0 + (am_max 10 v1).toNat) ≤ ms) ∧
          (∀ G39, G39 = ah_mk S (.inr (5, (am_max 10 v1).toNat, .inr (fun _ => none))) →
          (∃ fs41, (G39.1 v0 = some (.inl (15, fs41))) ∧
          (ah_X ≤ v0) ∧
          (1 < fs41.length) ∧
          (∀ G45, G45 = ah_sf G39 v0 15 fs41 1 (am_R S.2) →
          Q (some (am_R S.2)) G45)))) ∧
        ((¬ (some x4 : Option Nat) = (some 1 : Option Nat)) →
          kJ10_newLength l [am_I (n5 : Int), am_I (v1 - (n5 : Int)), am_I (am_shr (n5 : Int) 1)] S (am_qi fun r48 G47 =>
            (∃ fs50, (G47.1 v0 = some (.inl (15, fs50))) ∧
            (∃ x53, (fs50[1]? = some (am_R x53)) ∧
            (∃ mc54 ms55 : Nat, ((0 + mc54) ≤ mc ∧ (0 + ms55) ≤ ms) ∧
            kJ11_copyOf l mc54 ms55 [am_R x53, am_I r48] G47 (am_qo fun a59 G58 => ∃ y60, a59 = some y60 ∧
              (∃ fs61, (G58.1 v0 = some (.inl (15, fs61))) ∧
              (ah_X ≤ v0) ∧
              (1 < fs61.length) ∧
              (∀ G65, G65 = ah_sf G58 v0 15 fs61 1 (am_R y60) →
              Q (some (am_R y60)) G65))))))))))))) : kJ2_grow_2 l mc ms [am_R v0, am_I v1] S Q := by
  refine am_entry (lv := [(0, am_R v0), (1, am_I v1)]) rfl rfl rfl (fun _ => rfl) (fun _ => Nat.le_of_ble_eq_true rfl) ?_
  refine am_aload_n dJ2_grow_2_0 rfl 0 rfl ?_
  obtain ⟨fs1, ho2, hh⟩ := hh
  obtain ⟨x4, hv3, hh⟩ := hh
  refine ah_get ho2 hv3 rfl in_J2 (by decide) q181 (Or.inl rfl) dJ2_grow_2_1 ?_
  obtain ⟨n5, f6, ha7, hh⟩ := hh
  refine ah_alen ha7 dJ2_grow_2_4 (fun hn8 => ?_)
  refine am_istore_n dJ2_grow_2_5 rfl (by decide) rfl ?_
  refine am_iload_n dJ2_grow_2_6 rfl 0 rfl ?_
  obtain ⟨ha9, hb10⟩ := hh
  refine am_if_gt (tgt := 20) dJ2_grow_2_7 (by decide) hn8 (fun hc11 => ?_) (fun hc11 => ?_)
  · have hh := ha9 hc11
    refine am_iload_n dJ2_grow_2_20 rfl 0 rfl ?_
    refine am_iload_n dJ2_grow_2_21 rfl 2 rfl ?_
    refine am_iload_n dJ2_grow_2_22 rfl 0 rfl ?_
    refine am_isub dJ2_grow_2_23 ?_
    refine am_iload_n dJ2_grow_2_24 rfl 0 rfl ?_
    refine am_iconst dJ2_grow_2_25 ?_
    refine am_ishr dJ2_grow_2_26 ?_
    refine am_rSi (n := 3) hh dJ2_grow_2_27 (lw_S q668 q669 q108 q670) ⟨⟨by decide, by decide, by decide +kernel⟩, ⟨Nat.le_of_ble_eq_true rfl, Nat.le_of_ble_eq_true rfl⟩⟩ ⟨rfl, rfl⟩ rfl rfl (Nat.le_of_ble_eq_true rfl) ⟨(Nat.zero_le _), (Nat.zero_le _)⟩ (fun r13 G12 hr14 hh => ?_)
    refine am_istore_n dJ2_grow_2_30 rfl (by decide) rfl ?_
    refine am_aload_n dJ2_grow_2_31 rfl 2 rfl ?_
    refine am_aload_n dJ2_grow_2_32 rfl 2 rfl ?_
    obtain ⟨fs15, ho16, hh⟩ := hh
    obtain ⟨x18, hv17, hh⟩ := hh
    refine ah_get ho16 hv17 rfl in_J2 (by decide) q181 (Or.inl rfl) dJ2_grow_2_33 ?_
    refine am_iload_n dJ2_grow_2_36 rfl 0 rfl ?_
    obtain ⟨mc19, ms20, ⟨o21, o22⟩, hh⟩ := hh
    refine am_rSo (n := 2) hh dJ2_grow_2_37 (lw_S q678 q679 q109 q680) ⟨⟨by decide, by decide, by decide +kernel⟩, ⟨Nat.le_of_ble_eq_true rfl, Nat.le_of_ble_eq_true rfl⟩⟩ ⟨rfl, rfl⟩ rfl rfl (Nat.le_of_ble_eq_true rfl) ⟨o21, o22⟩ (fun a24 G23 hh => ?_)
    obtain ⟨y25, rfl, hh⟩ := hh
    refine am_dup_x1 dJ2_grow_2_40 rfl rfl ?_
    obtain ⟨fs26, ho27, hh⟩ := hh
    obtain ⟨o28, hh⟩ := hh
    obtain ⟨o29, hh⟩ := hh
    refine ah_put (ty := tyJ2 1) ho27 o28 o29 rfl in_J2 tyJ2 tyJ2_ok nmJ2 (by decide) q181 (Or.inl rfl) rfl (tyJ2_ok 1 (by decide)) (ah_fit_ref (Or.inr ⟨_, rfl⟩)) dJ2_grow_2_41 ?_
    have hh := hh _ rfl
    exact am_aret rfl (by first | exact Or.inl ⟨_, rfl⟩ | exact Or.inr ⟨_, rfl⟩) dJ2_grow_2_44 o21 o22 hh
  · have hh := hb10 hc11
    refine am_aload_n dJ2_grow_2_10 rfl 1 rfl ?_
    refine ah_get ho2 hv3 rfl in_J2 (by decide) q181 (Or.inl rfl) dJ2_grow_2_11 ?_
    refine ah_gets (v := am_R 1) (List.mem_of_getElem? (i := 1) rfl) q179 dJ2_grow_2_14 ?_
    obtain ⟨o32, hh⟩ := hh
    obtain ⟨ha33, hb34⟩ := hh
    refine ah_acmp_eq (tgt := 45) dJ2_grow_2_17 (by decide) o32 (fun hc35 => ?_) (fun hc35 => ?_)
    · have hh := ha33 hc35
      refine am_aload_n dJ2_grow_2_45 rfl 1 rfl ?_
      refine am_bipush dJ2_grow_2_46 (by decide) ?_
      refine am_iload_n dJ2_grow_2_48 rfl 2 rfl ?_
      refine am_mmax (⟨by decide, by decide⟩) h1 q715 q672 q106 q673 (Nat.le_of_ble_eq_true rfl) (Nat.le_of_ble_eq_true rfl) (Nat.zero_le _) (Nat.zero_le _) dJ2_grow_2_49 ?_
      obtain ⟨o36, hh⟩ := hh
      obtain ⟨o37, hh⟩ := hh
      obtain ⟨o38, hh⟩ := hh
      refine ah_anew (k := 5) (C := "java/lang/Object") rfl (by decide) q716 q709 o36.1 o36.2 o37 o38 dJ2_grow_2_52 ?_
      have hh := hh _ rfl
      refine am_dup_x1 dJ2_grow_2_55 rfl rfl ?_
      obtain ⟨fs41, ho42, hh⟩ := hh
      obtain ⟨o43, hh⟩ := hh
      obtain ⟨o44, hh⟩ := hh
      refine ah_put (ty := tyJ2 1) ho42 o43 o44 rfl in_J2 tyJ2 tyJ2_ok nmJ2 (by decide) q181 (Or.inl rfl) rfl (tyJ2_ok 1 (by decide)) (ah_fit_ref (Or.inr ⟨_, rfl⟩)) dJ2_grow_2_56 ?_
      have hh := hh _ rfl
      exact am_aret rfl (by first | exact Or.inl ⟨_, rfl⟩ | exact Or.inr ⟨_, rfl⟩) dJ2_grow_2_59 o37 o38 hh
    · have hh := hb34 hc35
      refine am_iload_n dJ2_grow_2_20 rfl 0 rfl ?_
      refine am_iload_n dJ2_grow_2_21 rfl 2 rfl ?_
      refine am_iload_n dJ2_grow_2_22 rfl 0 rfl ?_
      refine am_isub dJ2_grow_2_23 ?_
      refine am_iload_n dJ2_grow_2_24 rfl 0 rfl ?_
      refine am_iconst dJ2_grow_2_25 ?_
      refine am_ishr dJ2_grow_2_26 ?_
      refine am_rSi (n := 3) hh dJ2_grow_2_27 (lw_S q668 q669 q108 q670) ⟨⟨by decide, by decide, by decide +kernel⟩, ⟨Nat.le_of_ble_eq_true rfl, Nat.le_of_ble_eq_true rfl⟩⟩ ⟨rfl, rfl⟩ rfl rfl (Nat.le_of_ble_eq_true rfl) ⟨(Nat.zero_le _), (Nat.zero_le _)⟩ (fun r48 G47 hr49 hh => ?_)
      refine am_istore_n dJ2_grow_2_30 rfl (by decide) rfl ?_
      refine am_aload_n dJ2_grow_2_31 rfl 2 rfl ?_
      refine am_aload_n dJ2_grow_2_32 rfl 2 rfl ?_
      obtain ⟨fs50, ho51, hh⟩ := hh
      obtain ⟨x53, hv52, hh⟩ := hh
      refine ah_get ho51 hv52 rfl in_J2 (by decide) q181 (Or.inl rfl) dJ2_grow_2_33 ?_
      refine am_iload_n dJ2_grow_2_36 rfl 0 rfl ?_
      obtain ⟨mc54, ms55, ⟨o56, o57⟩, hh⟩ := hh
      refine am_rSo (n := 2) hh dJ2_grow_2_37 (lw_S q678 q679 q109 q680) ⟨⟨by decide, by decide, by decide +kernel⟩, ⟨Nat.le_of_ble_eq_true rfl, Nat.le_of_ble_eq_true rfl⟩⟩ ⟨rfl, rfl⟩ rfl rfl (Nat.le_of_ble_eq_true rfl) ⟨o56, o57⟩ (fun a59 G58 hh => ?_)
      obtain ⟨y60, rfl, hh⟩ := hh
      refine am_dup_x1 dJ2_grow_2_40 rfl rfl ?_
      obtain ⟨fs61, ho62, hh⟩ := hh
      obtain ⟨o63, hh⟩ := hh
      obtain ⟨o64, hh⟩ := hh
      refine ah_put (ty := tyJ2 1) ho62 o63 o64 rfl in_J2 tyJ2 tyJ2_ok nmJ2 (by decide) q181 (Or.inl rfl) rfl (tyJ2_ok 1 (by decide)) (ah_fit_ref (Or.inr ⟨_, rfl⟩)) dJ2_grow_2_41 ?_
      have hh := hh _ rfl
      exact am_aret rfl (by first | exact Or.inl ⟨_, rfl⟩ | exact Or.inr ⟨_, rfl⟩) dJ2_grow_2_44 o56 o57 hh
/-! java/util/ArrayList.grow()[Ljava/lang/Object; -/
abbrev VJ2_grow (l : Launch) (mc ms : Nat) (Q : Option am_W → ah_H → Prop) (pc : Nat) (lv : List (Nat × am_W)) (st : List am_W) (S : ah_H) (cells slots : Nat) : Prop := am_V ah_r l RJ2 cJ2_grow 1 (some (Jvm.ClassFile.FieldType.array (Jvm.ClassFile.FieldType.object "java/lang/Object"))) "grow" (am_rm 5 mc ms) (am_E1 ah_r mc ms Q) pc lv st S cells slots
abbrev kJ2_grow (l : Launch) (mc ms : Nat) (as : List am_W) (S : ah_H) (Q : Option am_W → ah_H → Prop) : Prop := am_C ah_r l yJ2_grow (ws_ yJ2_grow cJ2_grow 1 (some (Jvm.ClassFile.FieldType.array (Jvm.ClassFile.FieldType.object "java/lang/Object")))) (am_rm 5 mc ms) mc ms as S Q
set_option maxHeartbeats 4000000 in
set_option maxRecDepth 100000 in
theorem bJ2_grow {l : Launch} {mc ms : Nat} {Q : Option am_W → ah_H → Prop} {S : ah_H} (v0 : Nat)
    (hh : (∃ fs1, (S.1 v0 = some (.inl (15, fs1))) ∧
      (∃ z4, (fs1[2]? = some (am_I z4) ∧ am_r z4) ∧
      (∃ mc6 ms7 : Nat, ((0 + mc6) ≤ mc ∧ (0 + ms7) ≤ ms) ∧
      kJ2_grow_2 l mc6 ms7 [am_R v0, am_I (z4 + 1)] S (am_qo fun a11 G10 => ∃ y12, a11 = some y12 ∧
        Q (some (am_R y12)) G10))))) : kJ2_grow l mc ms [am_R v0] S Q := by
  refine am_entry (lv := [(0, am_R v0)]) rfl rfl rfl (fun _ => rfl) (fun _ => Nat.le_of_ble_eq_true rfl) ?_
  refine am_aload_n dJ2_grow_0 rfl 0 rfl ?_
  refine am_aload_n dJ2_grow_1 rfl 0 rfl ?_
  obtain ⟨fs1, ho2, hh⟩ := hh
  obtain ⟨z4, ⟨hv3, hr5⟩, hh⟩ := hh
  refine ah_get ho2 hv3 rfl in_J2 (by decide) q182 (Or.inl rfl) dJ2_grow_2 ?_
  refine am_iconst dJ2_grow_5 ?_
  refine am_iadd dJ2_grow_6 ?_
  obtain ⟨mc6, ms7, ⟨o8, o9⟩, hh⟩ := hh
  refine am_rVo (n := 1) hh dJ2_grow_7 (lw_V q664 q666 qs18 q94 q667) rfl ⟨⟨by decide, by decide, by decide +kernel⟩, ⟨Nat.le_of_ble_eq_true rfl, Nat.le_of_ble_eq_true rfl⟩⟩ ⟨rfl, rfl⟩ rfl rfl (Nat.le_of_ble_eq_true rfl) ⟨o8, o9⟩ (ah_recv ho2 rfl) (fun a11 G10 hh => ?_)
  obtain ⟨y12, rfl, hh⟩ := hh
  exact am_aret rfl (by first | exact Or.inl ⟨_, rfl⟩ | exact Or.inr ⟨_, rfl⟩) dJ2_grow_10 o8 o9 hh
/-! java/util/ArrayList.add(Ljava/lang/Object;[Ljava/lang/Object;I)V -/
abbrev VJ2_add_2 (l : Launch) (mc ms : Nat) (Q : Option am_W → ah_H → Prop) (pc : Nat) (lv : List (Nat × am_W)) (st : List am_W) (S : ah_H) (cells slots : Nat) : Prop := am_V ah_r l RJ2 cJ2_add_2 4 none "add" (am_rm 6 mc ms) (am_E1 ah_r mc ms Q) pc lv st S cells slots
abbrev kJ2_add_2 (l : Launch) (mc ms : Nat) (as : List am_W) (S : ah_H) (Q : Option am_W → ah_H → Prop) : Prop := am_C ah_r l yJ2_add_2 (ws_ yJ2_add_2 cJ2_add_2 4 none) (am_rm 6 mc ms) mc ms as S Q
set_option maxHeartbeats 4000000 in
set_option maxRecDepth 100000 in
theorem bJ2_add_2 {l : Launch} {mc ms : Nat} {Q : Option am_W → ah_H → Prop} {S : ah_H} (v0 : Nat) (v1 : Nat) (v2 : Nat) (v3 : Int) (h3 : am_r v3)
    (hh : (∃ n1 f2, (S.1 v2 = some (.inr (5, n1, .inr f2))) ∧
      ((¬ v3 = (n1 : Int)) →
        (ah_X ≤ v2) ∧
        (0 ≤ v3 ∧ v3 < (n1 : Int)) ∧
        (ah_is S (some v1) "java/lang/Object") ∧
        (∀ G11, G11 = ah_sr S v2 5 n1 f2 v3 (some v1) →
        (∃ fs13, (G11.1 v0 = some (.inl (15, fs13))) ∧
        (ah_X ≤ v0) ∧
        (2 < fs13.length) ∧
        (∀ G17, G17 = ah_sf G11 v0 15 fs13 2 (am_I (v3 + 1)) →
        Q none G17)))) ∧
      ((v3 = (n1 : Int)) →
        (∃ mc19 ms20 : Nat, ((0 + mc19) ≤ mc ∧ (0 + ms20) ≤ ms) ∧
        (∃ fs23, (S.1 v0 = some (.inl (15, fs23))) ∧
        kJ2_grow l mc19 ms20 [am_R v0] S (am_qo fun a26 G25 => ∃ y27, a26 = some y27 ∧
          (∃ n28 f29, (G25.1 y27 = some (.inr (5, n28, .inr f29))) ∧
          (ah_X ≤ y27) ∧
          (0 ≤ v3 ∧ v3 < (n28 : Int)) ∧
          (ah_is G25 (some v1) "java/lang/Object") ∧
          (∀ G34, G34 = ah_sr G25 y27 5 n28 f29 v3 (some v1) →
          (∃ fs36, (G34.1 v0 = some (.inl (15, fs36))) ∧
          (ah_X ≤ v0) ∧
          (2 < fs36.length) ∧
          (∀ G40, G40 = ah_sf G34 v0 15 fs36 2 (am_I (v3 + 1)) →
          Q none G40)))))))))) : kJ2_add_2 l mc ms [am_R v0, am_R v1, am_R v2, am_I v3] S Q := by
  refine am_entry (lv := [(0, am_R v0), (1, am_R v1), (2, am_R v2), (3, am_I v3)]) rfl rfl rfl (fun _ => rfl) (fun _ => Nat.le_of_ble_eq_true rfl) ?_
  refine am_iload_n dJ2_add_2_0 rfl 3 rfl ?_
  refine am_aload_n dJ2_add_2_1 rfl 2 rfl ?_
  obtain ⟨n1, f2, ha3, hh⟩ := hh
  refine ah_alen ha3 dJ2_add_2_2 (fun hn4 => ?_)
  obtain ⟨ha5, hb6⟩ := hh
  refine am_icmp_ne (tgt := 11) dJ2_add_2_3 (by decide) h3 hn4 (fun hc7 => ?_) (fun hc7 => ?_)
  · have hh := ha5 hc7
    refine am_aload_n dJ2_add_2_11 rfl 2 rfl ?_
    refine am_iload_n dJ2_add_2_12 rfl 3 rfl ?_
    refine am_aload_n dJ2_add_2_13 rfl 1 rfl ?_
    obtain ⟨o8, hh⟩ := hh
    obtain ⟨o9, hh⟩ := hh
    obtain ⟨o10, hh⟩ := hh
    refine ah_aast ha3 o8 rfl o9.1 o9.2 o10 dJ2_add_2_14 ?_
    have hh := hh _ rfl
    refine am_aload_n dJ2_add_2_15 rfl 0 rfl ?_
    refine am_iload_n dJ2_add_2_16 rfl 3 rfl ?_
    refine am_iconst dJ2_add_2_17 ?_
    refine am_iadd dJ2_add_2_18 ?_
    obtain ⟨fs13, ho14, hh⟩ := hh
    obtain ⟨o15, hh⟩ := hh
    obtain ⟨o16, hh⟩ := hh
    refine ah_put (ty := tyJ2 2) ho14 o15 o16 rfl in_J2 tyJ2 tyJ2_ok nmJ2 (by decide) q182 (Or.inl rfl) rfl (tyJ2_ok 2 (by decide)) ah_fit_int dJ2_add_2_19 ?_
    have hh := hh _ rfl
    exact am_vret rfl dJ2_add_2_22 (Nat.zero_le _) (Nat.zero_le _) hh
  · have hh := hb6 hc7
    refine am_aload_n dJ2_add_2_6 rfl 0 rfl ?_
    obtain ⟨mc19, ms20, ⟨o21, o22⟩, hh⟩ := hh
    obtain ⟨fs23, ho24, hh⟩ := hh
    refine am_rVo (n := 0) hh dJ2_add_2_7 (lw_V q660 q662 qs17 q94 q663) rfl ⟨⟨by decide, by decide, by decide +kernel⟩, ⟨Nat.le_of_ble_eq_true rfl, Nat.le_of_ble_eq_true rfl⟩⟩ ⟨rfl, rfl⟩ rfl rfl (Nat.le_of_ble_eq_true rfl) ⟨o21, o22⟩ (ah_recv ho24 rfl) (fun a26 G25 hh => ?_)
    obtain ⟨y27, rfl, hh⟩ := hh
    refine am_astore_n dJ2_add_2_10 rfl (by decide) rfl ?_
    refine am_aload_n dJ2_add_2_11 rfl 0 rfl ?_
    refine am_iload_n dJ2_add_2_12 rfl 3 rfl ?_
    refine am_aload_n dJ2_add_2_13 rfl 2 rfl ?_
    obtain ⟨n28, f29, ha30, hh⟩ := hh
    obtain ⟨o31, hh⟩ := hh
    obtain ⟨o32, hh⟩ := hh
    obtain ⟨o33, hh⟩ := hh
    refine ah_aast ha30 o31 rfl o32.1 o32.2 o33 dJ2_add_2_14 ?_
    have hh := hh _ rfl
    refine am_aload_n dJ2_add_2_15 rfl 1 rfl ?_
    refine am_iload_n dJ2_add_2_16 rfl 3 rfl ?_
    refine am_iconst dJ2_add_2_17 ?_
    refine am_iadd dJ2_add_2_18 ?_
    obtain ⟨fs36, ho37, hh⟩ := hh
    obtain ⟨o38, hh⟩ := hh
    obtain ⟨o39, hh⟩ := hh
    refine ah_put (ty := tyJ2 2) ho37 o38 o39 rfl in_J2 tyJ2 tyJ2_ok nmJ2 (by decide) q182 (Or.inl rfl) rfl (tyJ2_ok 2 (by decide)) ah_fit_int dJ2_add_2_19 ?_
    have hh := hh _ rfl
    exact am_vret rfl dJ2_add_2_22 o21 o22 hh
/-! java/util/ArrayList.add(Ljava/lang/Object;)Z -/
abbrev VJ2_add (l : Launch) (mc ms : Nat) (Q : Option am_W → ah_H → Prop) (pc : Nat) (lv : List (Nat × am_W)) (st : List am_W) (S : ah_H) (cells slots : Nat) : Prop := am_V ah_r l RJ2 cJ2_add 2 (some .boolean) "add" (am_rm 7 mc ms) (am_E1 ah_r mc ms Q) pc lv st S cells slots
abbrev kJ2_add (l : Launch) (mc ms : Nat) (as : List am_W) (S : ah_H) (Q : Option am_W → ah_H → Prop) : Prop := am_C ah_r l yJ2_add (ws_ yJ2_add cJ2_add 2 (some .boolean)) (am_rm 7 mc ms) mc ms as S Q
set_option maxHeartbeats 4000000 in
set_option maxRecDepth 100000 in
theorem bJ2_add {l : Launch} {mc ms : Nat} {Q : Option am_W → ah_H → Prop} {S : ah_H} (v0 : Nat) (v1 : Nat)
    (hh : (∃ fs1, (S.1 v0 = some (.inl (15, fs1))) ∧
      (∃ z4, (fs1[0]? = some (am_I z4) ∧ am_r z4) ∧
      (ah_X ≤ v0) ∧
      (0 < fs1.length) ∧
      (∀ G8, G8 = ah_sf S v0 15 fs1 0 (am_I (z4 + 1)) →
      (∃ fs10, (G8.1 v0 = some (.inl (15, fs10))) ∧
      (∃ x13, (fs10[1]? = some (am_R x13)) ∧
      (∃ z15, (fs10[2]? = some (am_I z15) ∧ am_r z15) ∧
      (∃ mc17 ms18 : Nat, ((0 + mc17) ≤ mc ∧ (0 + ms18) ≤ ms) ∧
      kJ2_add_2 l mc17 ms18 [am_R v0, am_R v1, am_R x13, am_I z15] G8 (am_qv fun G21 =>
        Q (some (am_I (am_b true))) G21))))))))) : kJ2_add l mc ms [am_R v0, am_R v1] S Q := by
  refine am_entry (lv := [(0, am_R v0), (1, am_R v1)]) rfl rfl rfl (fun _ => rfl) (fun _ => Nat.le_of_ble_eq_true rfl) ?_
  refine am_aload_n dJ2_add_0 rfl 0 rfl ?_
  refine am_dup dJ2_add_1 rfl ?_
  obtain ⟨fs1, ho2, hh⟩ := hh
  obtain ⟨z4, ⟨hv3, hr5⟩, hh⟩ := hh
  refine ah_get ho2 hv3 rfl in_J2 (by decide) q184 (Or.inr q185) dJ2_add_2 ?_
  refine am_iconst dJ2_add_5 ?_
  refine am_iadd dJ2_add_6 ?_
  obtain ⟨o6, hh⟩ := hh
  obtain ⟨o7, hh⟩ := hh
  refine ah_put (ty := tyJ2 0) ho2 o6 o7 rfl in_J2 tyJ2 tyJ2_ok nmJ2 (by decide) q184 (Or.inr q185) rfl (tyJ2_ok 0 (by decide)) ah_fit_int dJ2_add_7 ?_
  have hh := hh _ rfl
  refine am_aload_n dJ2_add_10 rfl 0 rfl ?_
  refine am_aload_n dJ2_add_11 rfl 1 rfl ?_
  refine am_aload_n dJ2_add_12 rfl 0 rfl ?_
  obtain ⟨fs10, ho11, hh⟩ := hh
  obtain ⟨x13, hv12, hh⟩ := hh
  refine ah_get ho11 hv12 rfl in_J2 (by decide) q181 (Or.inl rfl) dJ2_add_13 ?_
  refine am_aload_n dJ2_add_16 rfl 0 rfl ?_
  obtain ⟨z15, ⟨hv14, hr16⟩, hh⟩ := hh
  refine ah_get ho11 hv14 rfl in_J2 (by decide) q182 (Or.inl rfl) dJ2_add_17 ?_
  obtain ⟨mc17, ms18, ⟨o19, o20⟩, hh⟩ := hh
  refine am_rVv (n := 3) hh dJ2_add_20 (lw_V q656 q658 qs16 q94 q659) rfl ⟨⟨by decide, by decide, by decide +kernel⟩, ⟨Nat.le_of_ble_eq_true rfl, Nat.le_of_ble_eq_true rfl⟩⟩ ⟨rfl, rfl⟩ rfl rfl (Nat.le_of_ble_eq_true rfl) ⟨o19, o20⟩ (ah_recv ho11 rfl) (fun G21 hh => ?_)
  refine am_iconst dJ2_add_23 ?_
  exact am_zret (b := true) rfl dJ2_add_24 o19 o20 hh
/-! java/util/ArrayList.elementData(I)Ljava/lang/Object; -/
abbrev VJ2_elementData (l : Launch) (Q : Option am_W → ah_H → Prop) (pc : Nat) (lv : List (Nat × am_W)) (st : List am_W) (S : ah_H) : Prop := am_V ah_r l RJ2 cJ2_elementData 2 (some (Jvm.ClassFile.FieldType.object "java/lang/Object")) "elementData" (am_rm 1 0 0) (am_E1 ah_r 0 0 Q) pc lv st S 0 0
abbrev kJ2_elementData (l : Launch) (as : List am_W) (S : ah_H) (Q : Option am_W → ah_H → Prop) : Prop := am_C ah_r l yJ2_elementData (ws_ yJ2_elementData cJ2_elementData 2 (some (Jvm.ClassFile.FieldType.object "java/lang/Object"))) (am_rm 1 0 0) 0 0 as S Q
set_option maxHeartbeats 4000000 in
set_option maxRecDepth 100000 in
theorem bJ2_elementData {l : Launch} {Q : Option am_W → ah_H → Prop} {S : ah_H} (v0 : Nat) (v1 : Int) (h1 : am_r v1)
    (hh : (∃ fs1, (S.1 v0 = some (.inl (15, fs1))) ∧
      (∃ x4, (fs1[1]? = some (am_R x4)) ∧
      (∃ n5 f6, (S.1 x4 = some (.inr (5, n5, .inr f6))) ∧
      (0 ≤ v1 ∧ v1 < (n5 : Int)) ∧
      (∃ y9, (f6 v1.toNat = some y9) ∧
      Q (some (am_R y9)) S))))) : kJ2_elementData l [am_R v0, am_I v1] S Q := by
  refine am_entry (lv := [(0, am_R v0), (1, am_I v1)]) rfl rfl rfl (fun _ => rfl) (fun _ => Nat.le_of_ble_eq_true rfl) ?_
  refine am_aload_n dJ2_elementData_0 rfl 0 rfl ?_
  obtain ⟨fs1, ho2, hh⟩ := hh
  obtain ⟨x4, hv3, hh⟩ := hh
  refine ah_get ho2 hv3 rfl in_J2 (by decide) q181 (Or.inl rfl) dJ2_elementData_1 ?_
  refine am_iload_n dJ2_elementData_4 rfl 1 rfl ?_
  obtain ⟨n5, f6, ha7, hh⟩ := hh
  obtain ⟨o8, hh⟩ := hh
  obtain ⟨y9, hy10, hh⟩ := hh
  refine ah_aald ha7 (by decide) o8.1 o8.2 hy10 dJ2_elementData_5 ?_
  exact am_aret rfl (by first | exact Or.inl ⟨_, rfl⟩ | exact Or.inr ⟨_, rfl⟩) dJ2_elementData_6 (Nat.le_refl 0) (Nat.le_refl 0) hh
/-! java/util/ArrayList.get(I)Ljava/lang/Object; -/
abbrev VJ2_get (l : Launch) (Q : Option am_W → ah_H → Prop) (pc : Nat) (lv : List (Nat × am_W)) (st : List am_W) (S : ah_H) : Prop := am_V ah_r l RJ2 cJ2_get 2 (some (Jvm.ClassFile.FieldType.object "java/lang/Object")) "get" (am_rm 4 0 0) (am_E1 ah_r 0 0 Q) pc lv st S 0 0
abbrev kJ2_get (l : Launch) (as : List am_W) (S : ah_H) (Q : Option am_W → ah_H → Prop) : Prop := am_C ah_r l yJ2_get (ws_ yJ2_get cJ2_get 2 (some (Jvm.ClassFile.FieldType.object "java/lang/Object"))) (am_rm 4 0 0) 0 0 as S Q
set_option maxHeartbeats 4000000 in
set_option maxRecDepth 100000 in
theorem bJ2_get {l : Launch} {Q : Option am_W → ah_H → Prop} {S : ah_H} (v0 : Nat) (v1 : Int) (h1 : am_r v1)
    (hh : (∃ fs1, (S.1 v0 = some (.inl (15, fs1))) ∧
      (∃ z4, (fs1[2]? = some (am_I z4) ∧ am_r z4) ∧
      kJ12_checkIndex l [am_I v1, am_I z4] S (am_qi fun r7 G6 =>
        (∃ fs9, (G6.1 v0 = some (.inl (15, fs9))) ∧
        kJ2_elementData l [am_R v0, am_I v1] G6 (am_qo fun a12 G11 => ∃ y13, a12 = some y13 ∧
          Q (some (am_R y13)) G11)))))) : kJ2_get l [am_R v0, am_I v1] S Q := by
  refine am_entry (lv := [(0, am_R v0), (1, am_I v1)]) rfl rfl rfl (fun _ => rfl) (fun _ => Nat.le_of_ble_eq_true rfl) ?_
  refine am_iload_n dJ2_get_0 rfl 1 rfl ?_
  refine am_aload_n dJ2_get_1 rfl 0 rfl ?_
  obtain ⟨fs1, ho2, hh⟩ := hh
  obtain ⟨z4, ⟨hv3, hr5⟩, hh⟩ := hh
  refine ah_get ho2 hv3 rfl in_J2 (by decide) q182 (Or.inl rfl) dJ2_get_2 ?_
  refine am_rSi (n := 2) hh dJ2_get_5 (lw_S q742 q743 q110 q744) ⟨⟨by decide, by decide, by decide +kernel⟩, ⟨Nat.le_of_ble_eq_true rfl, Nat.le_of_ble_eq_true rfl⟩⟩ ⟨rfl, rfl⟩ rfl rfl (Nat.le_of_ble_eq_true rfl) ⟨(Nat.le_of_ble_eq_true rfl), (Nat.le_of_ble_eq_true rfl)⟩ (fun r7 G6 hr8 hh => ?_)
  refine am_pop dJ2_get_8 rfl ?_
  refine am_aload_n dJ2_get_9 rfl 0 rfl ?_
  refine am_iload_n dJ2_get_10 rfl 1 rfl ?_
  obtain ⟨fs9, ho10, hh⟩ := hh
  refine am_rVo (n := 1) hh dJ2_get_11 (lw_V q748 q749 q750 q94 q751) rfl ⟨⟨by decide, by decide, by decide +kernel⟩, ⟨Nat.le_of_ble_eq_true rfl, Nat.le_of_ble_eq_true rfl⟩⟩ ⟨rfl, rfl⟩ rfl rfl (Nat.le_of_ble_eq_true rfl) ⟨(Nat.le_of_ble_eq_true rfl), (Nat.le_of_ble_eq_true rfl)⟩ (ah_recv ho10 rfl) (fun a12 G11 hh => ?_)
  obtain ⟨y13, rfl, hh⟩ := hh
  exact am_aret rfl (by first | exact Or.inl ⟨_, rfl⟩ | exact Or.inr ⟨_, rfl⟩) dJ2_get_14 (Nat.le_refl 0) (Nat.le_refl 0) hh
/-! java/lang/Throwable.<init>(Ljava/lang/String;Ljava/lang/Throwable;ZZ)V -/
abbrev VJ3_init_2 (l : Launch) (Q : Option am_W → ah_H → Prop) (pc : Nat) (lv : List (Nat × am_W)) (st : List am_W) (S : ah_H) : Prop := am_V ah_r l RJ3 cJ3_init_2 5 none "<init>" (am_rm 2 0 0) (am_E1 ah_r 0 0 Q) pc lv st S 0 0
abbrev kJ3_init_2 (l : Launch) (as : List am_W) (S : ah_H) (Q : Option am_W → ah_H → Prop) : Prop := am_C ah_r l yJ3_init_2 (ws_ yJ3_init_2 cJ3_init_2 5 none) (am_rm 2 0 0) 0 0 as S Q
set_option maxHeartbeats 4000000 in
set_option maxRecDepth 100000 in
theorem bJ3_init_2_X4 {l : Launch} {Q : Option am_W → ah_H → Prop} {S : ah_H} (v0 : Nat) (v3 : Bool) (v4 : Bool)
    (hh : (∃ fs1, (S.1 v0 = some (.inl (4, fs1))) ∧
      (ah_X ≤ v0) ∧
      (0 < fs1.length) ∧
      (∀ G5, G5 = ah_sf S v0 4 fs1 0 (am_R v0) →
      (∀ x7,
      (∃ fs8, (G5.1 v0 = some (.inl (4, fs8))) ∧
      (1 < fs8.length) ∧
      (∀ G11, G11 = ah_sf G5 v0 4 fs8 1 (am_O x7) →
      (∀ x13,
      (∃ fs14, (G11.1 v0 = some (.inl (4, fs14))) ∧
      (2 < fs14.length) ∧
      (∀ G17, G17 = ah_sf G11 v0 4 fs14 2 (am_O x13) →
      ((v4 = false) →
        (∃ fs22, (G17.1 v0 = some (.inl (4, fs22))) ∧
        (1 < fs22.length) ∧
        (∀ G25, G25 = ah_sf G17 v0 4 fs22 1 (am_O none) →
        (∃ fs27, (G25.1 v0 = some (.inl (4, fs27))) ∧
        (3 < fs27.length) ∧
        (∀ G30, G30 = ah_sf G25 v0 4 fs27 3 (am_O none) →
        (∃ fs32, (G30.1 v0 = some (.inl (4, fs32))) ∧
        (0 < fs32.length) ∧
        (∀ G35, G35 = ah_sf G30 v0 4 fs32 0 (am_O none) →
        ((v3 = true) →
          Q none G35) ∧
        ((v3 = false) →
          (∃ fs40, (G35.1 v0 = some (.inl (4, fs40))) ∧
          (2 < fs40.length) ∧
          (∀ G43, G43 = ah_sf G35 v0 4 fs40 2 (am_O none) →
          Q none G43)))))))))) ∧
      ((v4 = true) →
        False)))))))))) : kJ3_init_2 l [am_R v0, am_O none, am_O none, am_I (am_b v3), am_I (am_b v4)] S Q := by
  refine am_entry (lv := [(0, am_R v0), (1, am_O none), (2, am_O none), (3, am_I (am_b v3)), (4, am_I (am_b v4))]) rfl rfl rfl (fun _ => rfl) (fun _ => Nat.le_of_ble_eq_true rfl) ?_
  refine am_aload_n dJ3_init_2_0 rfl 0 rfl ?_
  refine am_objInit q315 q133 q134 dJ3_init_2_1 (Nat.le_of_ble_eq_true rfl) (Nat.le_of_ble_eq_true rfl) ?_
  refine am_aload_n dJ3_init_2_4 rfl 0 rfl ?_
  refine am_aload_n dJ3_init_2_5 rfl 0 rfl ?_
  obtain ⟨fs1, ho2, hh⟩ := hh
  obtain ⟨o3, hh⟩ := hh
  obtain ⟨o4, hh⟩ := hh
  refine ah_put (ty := tyX4 0) ho2 o3 o4 rfl in_X4 tyX4 tyX4_ok nmX4 (by decide) q345 (Or.inl rfl) rfl (tyX4_ok 0 (by decide)) (ah_fit_ref (Or.inl ⟨_, rfl⟩)) dJ3_init_2_6 ?_
  have hh := hh _ rfl
  refine am_aload_n dJ3_init_2_9 rfl 0 rfl ?_
  refine ah_getsq (List.mem_of_getElem? (i := 0) rfl) q316 dJ3_init_2_10 (fun x7 => ?_)
  have hh := hh x7
  obtain ⟨fs8, ho9, hh⟩ := hh
  obtain ⟨o10, hh⟩ := hh
  refine ah_put (ty := tyX4 1) ho9 o3 o10 rfl in_X4 tyX4 tyX4_ok nmX4 (by decide) q346 (Or.inl rfl) rfl (tyX4_ok 1 (by decide)) (ah_fit_ref (Or.inr ⟨_, rfl⟩)) dJ3_init_2_13 ?_
  have hh := hh _ rfl
  refine am_aload_n dJ3_init_2_16 rfl 0 rfl ?_
  refine ah_getsq (List.mem_of_getElem? (i := 1) rfl) q318 dJ3_init_2_17 (fun x13 => ?_)
  have hh := hh x13
  obtain ⟨fs14, ho15, hh⟩ := hh
  obtain ⟨o16, hh⟩ := hh
  refine ah_put (ty := tyX4 2) ho15 o3 o16 rfl in_X4 tyX4 tyX4_ok nmX4 (by decide) q347 (Or.inl rfl) rfl (tyX4_ok 2 (by decide)) (ah_fit_ref (Or.inl ⟨_, rfl⟩)) dJ3_init_2_20 ?_
  have hh := hh _ rfl
  refine am_iload dJ3_init_2_23 4 rfl ?_
  obtain ⟨ha19, hb20⟩ := hh
  refine am_ifB_eq (tgt := 36) dJ3_init_2_25 (by decide) (fun hc21 => ?_) (fun hc21 => ?_)
  · have hh := ha19 hc21
    refine am_aload_n dJ3_init_2_36 rfl 0 rfl ?_
    refine am_aconst_null dJ3_init_2_37 ?_
    obtain ⟨fs22, ho23, hh⟩ := hh
    obtain ⟨o24, hh⟩ := hh
    refine ah_put (ty := tyX4 1) ho23 o3 o24 rfl in_X4 tyX4 tyX4_ok nmX4 (by decide) q346 (Or.inl rfl) rfl (tyX4_ok 1 (by decide)) (ah_fit_ref (Or.inr ⟨_, rfl⟩)) dJ3_init_2_38 ?_
    have hh := hh _ rfl
    refine am_aload_n dJ3_init_2_41 rfl 0 rfl ?_
    refine am_aload_n dJ3_init_2_42 rfl 1 rfl ?_
    obtain ⟨fs27, ho28, hh⟩ := hh
    obtain ⟨o29, hh⟩ := hh
    refine ah_put (ty := tyX4 3) ho28 o3 o29 rfl in_X4 tyX4 tyX4_ok nmX4 (by decide) q344 (Or.inl rfl) rfl (tyX4_ok 3 (by decide)) (ah_fit_ref (Or.inl ⟨_, rfl⟩)) dJ3_init_2_43 ?_
    have hh := hh _ rfl
    refine am_aload_n dJ3_init_2_46 rfl 0 rfl ?_
    refine am_aload_n dJ3_init_2_47 rfl 2 rfl ?_
    obtain ⟨fs32, ho33, hh⟩ := hh
    obtain ⟨o34, hh⟩ := hh
    refine ah_put (ty := tyX4 0) ho33 o3 o34 rfl in_X4 tyX4 tyX4_ok nmX4 (by decide) q345 (Or.inl rfl) rfl (tyX4_ok 0 (by decide)) (ah_fit_ref (Or.inl ⟨_, rfl⟩)) dJ3_init_2_48 ?_
    have hh := hh _ rfl
    refine am_iload_n dJ3_init_2_51 rfl 3 rfl ?_
    obtain ⟨ha37, hb38⟩ := hh
    refine am_ifB_ne (tgt := 60) dJ3_init_2_52 (by decide) (fun hc39 => ?_) (fun hc39 => ?_)
    · have hh := ha37 hc39
      exact am_vret rfl dJ3_init_2_60 (Nat.le_refl 0) (Nat.le_refl 0) hh
    · have hh := hb38 hc39
      refine am_aload_n dJ3_init_2_55 rfl 0 rfl ?_
      refine am_aconst_null dJ3_init_2_56 ?_
      obtain ⟨fs40, ho41, hh⟩ := hh
      obtain ⟨o42, hh⟩ := hh
      refine ah_put (ty := tyX4 2) ho41 o3 o42 rfl in_X4 tyX4 tyX4_ok nmX4 (by decide) q347 (Or.inl rfl) rfl (tyX4_ok 2 (by decide)) (ah_fit_ref (Or.inl ⟨_, rfl⟩)) dJ3_init_2_57 ?_
      have hh := hh _ rfl
      exact am_vret rfl dJ3_init_2_60 (Nat.le_refl 0) (Nat.le_refl 0) hh
  · have hh := hb20 hc21
    exact hh.elim
/-! java/lang/Throwable.<init>(Ljava/lang/String;Ljava/lang/Throwable;ZZ)V -/
set_option maxHeartbeats 4000000 in
set_option maxRecDepth 100000 in
theorem bJ3_init_2_X8 {l : Launch} {Q : Option am_W → ah_H → Prop} {S : ah_H} (v0 : Nat) (v3 : Bool) (v4 : Bool)
    (hh : (∃ fs1, (S.1 v0 = some (.inl (8, fs1))) ∧
      (ah_X ≤ v0) ∧
      (0 < fs1.length) ∧
      (∀ G5, G5 = ah_sf S v0 8 fs1 0 (am_R v0) →
      (∀ x7,
      (∃ fs8, (G5.1 v0 = some (.inl (8, fs8))) ∧
      (1 < fs8.length) ∧
      (∀ G11, G11 = ah_sf G5 v0 8 fs8 1 (am_O x7) →
      (∀ x13,
      (∃ fs14, (G11.1 v0 = some (.inl (8, fs14))) ∧
      (2 < fs14.length) ∧
      (∀ G17, G17 = ah_sf G11 v0 8 fs14 2 (am_O x13) →
      ((v4 = false) →
        (∃ fs22, (G17.1 v0 = some (.inl (8, fs22))) ∧
        (1 < fs22.length) ∧
        (∀ G25, G25 = ah_sf G17 v0 8 fs22 1 (am_O none) →
        (∃ fs27, (G25.1 v0 = some (.inl (8, fs27))) ∧
        (3 < fs27.length) ∧
        (∀ G30, G30 = ah_sf G25 v0 8 fs27 3 (am_O none) →
        (∃ fs32, (G30.1 v0 = some (.inl (8, fs32))) ∧
        (0 < fs32.length) ∧
        (∀ G35, G35 = ah_sf G30 v0 8 fs32 0 (am_O none) →
        ((v3 = true) →
          Q none G35) ∧
        ((v3 = false) →
          (∃ fs40, (G35.1 v0 = some (.inl (8, fs40))) ∧
          (2 < fs40.length) ∧
          (∀ G43, G43 = ah_sf G35 v0 8 fs40 2 (am_O none) →
          Q none G43)))))))))) ∧
      ((v4 = true) →
        False)))))))))) : kJ3_init_2 l [am_R v0, am_O none, am_O none, am_I (am_b v3), am_I (am_b v4)] S Q := by
  refine am_entry (lv := [(0, am_R v0), (1, am_O none), (2, am_O none), (3, am_I (am_b v3)), (4, am_I (am_b v4))]) rfl rfl rfl (fun _ => rfl) (fun _ => Nat.le_of_ble_eq_true rfl) ?_
  refine am_aload_n dJ3_init_2_0 rfl 0 rfl ?_
  refine am_objInit q315 q133 q134 dJ3_init_2_1 (Nat.le_of_ble_eq_true rfl) (Nat.le_of_ble_eq_true rfl) ?_
  refine am_aload_n dJ3_init_2_4 rfl 0 rfl ?_
  refine am_aload_n dJ3_init_2_5 rfl 0 rfl ?_
  obtain ⟨fs1, ho2, hh⟩ := hh
  obtain ⟨o3, hh⟩ := hh
  obtain ⟨o4, hh⟩ := hh
  refine ah_put (ty := tyX8 0) ho2 o3 o4 rfl in_X8 tyX8 tyX8_ok nmX8 (by decide) q345 (Or.inl rfl) rfl (tyX8_ok 0 (by decide)) (ah_fit_ref (Or.inl ⟨_, rfl⟩)) dJ3_init_2_6 ?_
  have hh := hh _ rfl
  refine am_aload_n dJ3_init_2_9 rfl 0 rfl ?_
  refine ah_getsq (List.mem_of_getElem? (i := 0) rfl) q316 dJ3_init_2_10 (fun x7 => ?_)
  have hh := hh x7
  obtain ⟨fs8, ho9, hh⟩ := hh
  obtain ⟨o10, hh⟩ := hh
  refine ah_put (ty := tyX8 1) ho9 o3 o10 rfl in_X8 tyX8 tyX8_ok nmX8 (by decide) q346 (Or.inl rfl) rfl (tyX8_ok 1 (by decide)) (ah_fit_ref (Or.inr ⟨_, rfl⟩)) dJ3_init_2_13 ?_
  have hh := hh _ rfl
  refine am_aload_n dJ3_init_2_16 rfl 0 rfl ?_
  refine ah_getsq (List.mem_of_getElem? (i := 1) rfl) q318 dJ3_init_2_17 (fun x13 => ?_)
  have hh := hh x13
  obtain ⟨fs14, ho15, hh⟩ := hh
  obtain ⟨o16, hh⟩ := hh
  refine ah_put (ty := tyX8 2) ho15 o3 o16 rfl in_X8 tyX8 tyX8_ok nmX8 (by decide) q347 (Or.inl rfl) rfl (tyX8_ok 2 (by decide)) (ah_fit_ref (Or.inl ⟨_, rfl⟩)) dJ3_init_2_20 ?_
  have hh := hh _ rfl
  refine am_iload dJ3_init_2_23 4 rfl ?_
  obtain ⟨ha19, hb20⟩ := hh
  refine am_ifB_eq (tgt := 36) dJ3_init_2_25 (by decide) (fun hc21 => ?_) (fun hc21 => ?_)
  · have hh := ha19 hc21
    refine am_aload_n dJ3_init_2_36 rfl 0 rfl ?_
    refine am_aconst_null dJ3_init_2_37 ?_
    obtain ⟨fs22, ho23, hh⟩ := hh
    obtain ⟨o24, hh⟩ := hh
    refine ah_put (ty := tyX8 1) ho23 o3 o24 rfl in_X8 tyX8 tyX8_ok nmX8 (by decide) q346 (Or.inl rfl) rfl (tyX8_ok 1 (by decide)) (ah_fit_ref (Or.inr ⟨_, rfl⟩)) dJ3_init_2_38 ?_
    have hh := hh _ rfl
    refine am_aload_n dJ3_init_2_41 rfl 0 rfl ?_
    refine am_aload_n dJ3_init_2_42 rfl 1 rfl ?_
    obtain ⟨fs27, ho28, hh⟩ := hh
    obtain ⟨o29, hh⟩ := hh
    refine ah_put (ty := tyX8 3) ho28 o3 o29 rfl in_X8 tyX8 tyX8_ok nmX8 (by decide) q344 (Or.inl rfl) rfl (tyX8_ok 3 (by decide)) (ah_fit_ref (Or.inl ⟨_, rfl⟩)) dJ3_init_2_43 ?_
    have hh := hh _ rfl
    refine am_aload_n dJ3_init_2_46 rfl 0 rfl ?_
    refine am_aload_n dJ3_init_2_47 rfl 2 rfl ?_
    obtain ⟨fs32, ho33, hh⟩ := hh
    obtain ⟨o34, hh⟩ := hh
    refine ah_put (ty := tyX8 0) ho33 o3 o34 rfl in_X8 tyX8 tyX8_ok nmX8 (by decide) q345 (Or.inl rfl) rfl (tyX8_ok 0 (by decide)) (ah_fit_ref (Or.inl ⟨_, rfl⟩)) dJ3_init_2_48 ?_
    have hh := hh _ rfl
    refine am_iload_n dJ3_init_2_51 rfl 3 rfl ?_
    obtain ⟨ha37, hb38⟩ := hh
    refine am_ifB_ne (tgt := 60) dJ3_init_2_52 (by decide) (fun hc39 => ?_) (fun hc39 => ?_)
    · have hh := ha37 hc39
      exact am_vret rfl dJ3_init_2_60 (Nat.le_refl 0) (Nat.le_refl 0) hh
    · have hh := hb38 hc39
      refine am_aload_n dJ3_init_2_55 rfl 0 rfl ?_
      refine am_aconst_null dJ3_init_2_56 ?_
      obtain ⟨fs40, ho41, hh⟩ := hh
      obtain ⟨o42, hh⟩ := hh
      refine ah_put (ty := tyX8 2) ho41 o3 o42 rfl in_X8 tyX8 tyX8_ok nmX8 (by decide) q347 (Or.inl rfl) rfl (tyX8_ok 2 (by decide)) (ah_fit_ref (Or.inl ⟨_, rfl⟩)) dJ3_init_2_57 ?_
      have hh := hh _ rfl
      exact am_vret rfl dJ3_init_2_60 (Nat.le_refl 0) (Nat.le_refl 0) hh
  · have hh := hb20 hc21
    exact hh.elim
/-! java/lang/Exception.<init>(Ljava/lang/String;Ljava/lang/Throwable;ZZ)V -/
abbrev VJ4_init (l : Launch) (Q : Option am_W → ah_H → Prop) (pc : Nat) (lv : List (Nat × am_W)) (st : List am_W) (S : ah_H) : Prop := am_V ah_r l RJ4 cJ4_init 5 none "<init>" (am_rm 3 0 0) (am_E1 ah_r 0 0 Q) pc lv st S 0 0
abbrev kJ4_init (l : Launch) (as : List am_W) (S : ah_H) (Q : Option am_W → ah_H → Prop) : Prop := am_C ah_r l yJ4_init (ws_ yJ4_init cJ4_init 5 none) (am_rm 3 0 0) 0 0 as S Q
set_option maxHeartbeats 4000000 in
set_option maxRecDepth 100000 in
theorem bJ4_init_X4 {l : Launch} {Q : Option am_W → ah_H → Prop} {S : ah_H} (v0 : Nat) (v3 : Bool) (v4 : Bool)
    (hh : kJ3_init_2 l [am_R v0, am_O none, am_O none, am_I (am_b v3), am_I (am_b v4)] S (am_qv fun G1 =>
        Q none G1)) : kJ4_init l [am_R v0, am_O none, am_O none, am_I (am_b v3), am_I (am_b v4)] S Q := by
  refine am_entry (lv := [(0, am_R v0), (1, am_O none), (2, am_O none), (3, am_I (am_b v3)), (4, am_I (am_b v4))]) rfl rfl rfl (fun _ => rfl) (fun _ => Nat.le_of_ble_eq_true rfl) ?_
  refine am_aload_n dJ4_init_0 rfl 0 rfl ?_
  refine am_aload_n dJ4_init_1 rfl 1 rfl ?_
  refine am_aload_n dJ4_init_2 rfl 2 rfl ?_
  refine am_iload_n dJ4_init_3 rfl 3 rfl ?_
  refine am_iload dJ4_init_4 4 rfl ?_
  refine am_rIv (n := 4) hh dJ4_init_6 q338 q339 q97 q340 rfl ⟨⟨by decide, by decide, by decide +kernel⟩, ⟨Nat.le_of_ble_eq_true rfl, Nat.le_of_ble_eq_true rfl⟩⟩ ⟨rfl, rfl⟩ rfl rfl (Nat.le_of_ble_eq_true rfl) ⟨(Nat.le_of_ble_eq_true rfl), (Nat.le_of_ble_eq_true rfl)⟩ (fun G1 hh => ?_)
  exact am_vret rfl dJ4_init_9 (Nat.le_refl 0) (Nat.le_refl 0) hh
/-! java/lang/Exception.<init>(Ljava/lang/String;Ljava/lang/Throwable;ZZ)V -/
set_option maxHeartbeats 4000000 in
set_option maxRecDepth 100000 in
theorem bJ4_init_X8 {l : Launch} {Q : Option am_W → ah_H → Prop} {S : ah_H} (v0 : Nat) (v3 : Bool) (v4 : Bool)
    (hh : kJ3_init_2 l [am_R v0, am_O none, am_O none, am_I (am_b v3), am_I (am_b v4)] S (am_qv fun G1 =>
        Q none G1)) : kJ4_init l [am_R v0, am_O none, am_O none, am_I (am_b v3), am_I (am_b v4)] S Q := by
  refine am_entry (lv := [(0, am_R v0), (1, am_O none), (2, am_O none), (3, am_I (am_b v3)), (4, am_I (am_b v4))]) rfl rfl rfl (fun _ => rfl) (fun _ => Nat.le_of_ble_eq_true rfl) ?_
  refine am_aload_n dJ4_init_0 rfl 0 rfl ?_
  refine am_aload_n dJ4_init_1 rfl 1 rfl ?_
  refine am_aload_n dJ4_init_2 rfl 2 rfl ?_
  refine am_iload_n dJ4_init_3 rfl 3 rfl ?_
  refine am_iload dJ4_init_4 4 rfl ?_
  refine am_rIv (n := 4) hh dJ4_init_6 q338 q339 q97 q340 rfl ⟨⟨by decide, by decide, by decide +kernel⟩, ⟨Nat.le_of_ble_eq_true rfl, Nat.le_of_ble_eq_true rfl⟩⟩ ⟨rfl, rfl⟩ rfl rfl (Nat.le_of_ble_eq_true rfl) ⟨(Nat.le_of_ble_eq_true rfl), (Nat.le_of_ble_eq_true rfl)⟩ (fun G1 hh => ?_)
  exact am_vret rfl dJ4_init_9 (Nat.le_refl 0) (Nat.le_refl 0) hh
/-! java/lang/String.equals(Ljava/lang/Object;)Z -/
abbrev VJ8_equals (l : Launch) (Q : Option am_W → ah_H → Prop) (pc : Nat) (lv : List (Nat × am_W)) (st : List am_W) (S : ah_H) : Prop := am_V ah_r l RJ8 cJ8_equals 3 (some .boolean) "equals" (am_rm 2 0 0) (am_E1 ah_r 0 0 Q) pc lv st S 0 0
abbrev kJ8_equals (l : Launch) (as : List am_W) (S : ah_H) (Q : Option am_W → ah_H → Prop) : Prop := am_C ah_r l yJ8_equals (ws_ yJ8_equals cJ8_equals 3 (some .boolean)) (am_rm 2 0 0) 0 0 as S Q
set_option maxHeartbeats 4000000 in
set_option maxRecDepth 100000 in
theorem bJ8_equals {l : Launch} {Q : Option am_W → ah_H → Prop} {S : ah_H} (v0 : Nat) (v1 : Nat)
    (hh : (ah_q (some v0 : Option Nat) (some v1 : Option Nat)) ∧
      ((¬ (some v0 : Option Nat) = (some v1 : Option Nat)) →
        (∃ fs5, (S.1 v1 = some (.inl (17, fs5))) ∧
        (ah_is S (some v1) "java/lang/String") ∧
        (∃ fs14, (S.1 v0 = some (.inl (17, fs14))) ∧
        (∃ z17, (fs14[1]? = some (am_I z17) ∧ am_r z17) ∧
        (∃ z20, (fs5[1]? = some (am_I z20) ∧ am_r z20) ∧
        ((¬ z17 = z20) →
          Q (some (am_I (am_b false))) S) ∧
        ((z17 = z20) →
          (∃ x26, (fs14[0]? = some (am_R x26)) ∧
          (∃ x28, (fs5[0]? = some (am_R x28)) ∧
          kJ18_equals l [am_R x26, am_R x28] S (am_qz fun b30 G29 =>
            ((b30 = false) →
              Q (some (am_I (am_b false))) G29) ∧
            ((b30 = true) →
              Q (some (am_I (am_b true))) G29)))))))))) ∧
      (((some v0 : Option Nat) = (some v1 : Option Nat)) →
        Q (some (am_I (am_b true))) S)) : kJ8_equals l [am_R v0, am_R v1] S Q := by
  refine am_entry (lv := [(0, am_R v0), (1, am_R v1)]) rfl rfl rfl (fun _ => rfl) (fun _ => Nat.le_of_ble_eq_true rfl) ?_
  refine am_aload_n dJ8_equals_0 rfl 0 rfl ?_
  refine am_aload_n dJ8_equals_1 rfl 1 rfl ?_
  obtain ⟨o1, hh⟩ := hh
  obtain ⟨ha2, hb3⟩ := hh
  refine ah_acmp_ne (tgt := 7) dJ8_equals_2 (by decide) o1 (fun hc4 => ?_) (fun hc4 => ?_)
  · have hh := ha2 hc4
    refine am_aload_n dJ8_equals_7 rfl 1 rfl ?_
    obtain ⟨fs5, ho6, hh⟩ := hh
    refine ah_inst q1046 ho6 rfl rfl dJ8_equals_8 ?_
    refine am_if_eq (tgt := 54) dJ8_equals_11 (by decide) (⟨by decide, by decide⟩) (fun hc9 => ?_) (fun hc9 => ?_)
    · exact absurd hc9 (by decide)
    refine am_aload_n dJ8_equals_14 rfl 1 rfl ?_
    obtain ⟨o10, hh⟩ := hh
    refine ah_cast q1046 o10 dJ8_equals_15 ?_
    refine am_astore_n dJ8_equals_18 rfl (by decide) rfl ?_
    refine ah_gets (v := am_I 1) (List.mem_of_getElem? (i := 0) rfl) q1014 dJ8_equals_19 ?_
    refine am_if_eq (tgt := 36) dJ8_equals_22 (by decide) (⟨by decide, by decide⟩) (fun hc13 => ?_) (fun hc13 => ?_)
    · exact absurd hc13 (by decide)
    refine am_aload_n dJ8_equals_25 rfl 1 rfl ?_
    obtain ⟨fs14, ho15, hh⟩ := hh
    obtain ⟨z17, ⟨hv16, hr18⟩, hh⟩ := hh
    refine ah_get ho15 hv16 rfl in_J8 (by decide) q1029 (Or.inl rfl) dJ8_equals_26 ?_
    refine am_aload_n dJ8_equals_29 rfl 0 rfl ?_
    obtain ⟨z20, ⟨hv19, hr21⟩, hh⟩ := hh
    refine ah_get ho6 hv19 rfl in_J8 (by decide) q1029 (Or.inl rfl) dJ8_equals_30 ?_
    obtain ⟨ha22, hb23⟩ := hh
    refine am_icmp_ne (tgt := 54) dJ8_equals_33 (by decide) hr18 hr21 (fun hc24 => ?_) (fun hc24 => ?_)
    · have hh := ha22 hc24
      refine am_iconst dJ8_equals_54 ?_
      exact am_zret (b := false) rfl dJ8_equals_55 (Nat.le_refl 0) (Nat.le_refl 0) hh
    · have hh := hb23 hc24
      refine am_aload_n dJ8_equals_36 rfl 1 rfl ?_
      obtain ⟨x26, hv25, hh⟩ := hh
      refine ah_get ho15 hv25 rfl in_J8 (by decide) q1028 (Or.inl rfl) dJ8_equals_37 ?_
      refine am_aload_n dJ8_equals_40 rfl 0 rfl ?_
      obtain ⟨x28, hv27, hh⟩ := hh
      refine ah_get ho6 hv27 rfl in_J8 (by decide) q1028 (Or.inl rfl) dJ8_equals_41 ?_
      refine am_rSz (n := 2) hh dJ8_equals_44 (lw_S q1047 q1048 q117 q1049) ⟨⟨by decide, by decide, by decide +kernel⟩, ⟨Nat.le_of_ble_eq_true rfl, Nat.le_of_ble_eq_true rfl⟩⟩ ⟨rfl, rfl⟩ rfl rfl (Nat.le_of_ble_eq_true rfl) ⟨(Nat.le_of_ble_eq_true rfl), (Nat.le_of_ble_eq_true rfl)⟩ (fun b30 G29 hh => ?_)
      obtain ⟨ha31, hb32⟩ := hh
      refine am_ifB_eq (tgt := 54) dJ8_equals_47 (by decide) (fun hc33 => ?_) (fun hc33 => ?_)
      · have hh := ha31 hc33
        refine am_iconst dJ8_equals_54 ?_
        exact am_zret (b := false) rfl dJ8_equals_55 (Nat.le_refl 0) (Nat.le_refl 0) hh
      · have hh := hb32 hc33
        refine am_iconst dJ8_equals_50 ?_
        refine am_goto (tgt := 55) dJ8_equals_51 (by decide) ?_
        exact am_zret (b := true) rfl dJ8_equals_55 (Nat.le_refl 0) (Nat.le_refl 0) hh
  · have hh := hb3 hc4
    refine am_iconst dJ8_equals_5 ?_
    exact am_zret (b := true) rfl dJ8_equals_6 (Nat.le_refl 0) (Nat.le_refl 0) hh
