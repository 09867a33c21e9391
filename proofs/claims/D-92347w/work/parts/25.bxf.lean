/-! TableArms.isPassing([IIIIII)Z -/
abbrev VX0_isPassing (l : Launch) (Q : Option am_W → ah_H → Prop) (pc : Nat) (lv : List (Nat × am_W)) (st : List am_W) (S : ah_H) : Prop := am_V ah_r l RX0 cX0_isPassing 10 (some .boolean) "isPassing" (am_rm 1 0 0) (am_E1 ah_r 0 0 Q) pc lv st S 0 0
abbrev kX0_isPassing (l : Launch) (as : List am_W) (S : ah_H) (Q : Option am_W → ah_H → Prop) : Prop := am_C ah_r l yX0_isPassing (ws_ yX0_isPassing cX0_isPassing 10 (some .boolean)) (am_rm 1 0 0) 0 0 as S Q
set_option maxHeartbeats 4000000 in
set_option maxRecDepth 100000 in
theorem bX0_isPassing {l : Launch} {Q : Option am_W → ah_H → Prop} {S : ah_H} (v0 : Nat) (v1 : Int) (h1 : am_r v1) (v2 : Int) (h2 : am_r v2) (v3 : Int) (h3 : am_r v3) (v4 : Int) (h4 : am_r v4) (v5 : Int) (h5 : am_r v5)
    (hh : (∃ n1 f2, (S.1 v0 = some (.inr (0, n1, .inl f2))) ∧
      (0 ≤ v2 ∧ v2 < (n1 : Int)) ∧
      (0 ≤ (v1 + v3) ∧ (v1 + v3) < (n1 : Int)) ∧
      (0 ≤ v4 ∧ v4 < (n1 : Int)) ∧
      (0 ≤ (v1 + v5) ∧ (v1 + v5) < (n1 : Int)) ∧
      ((((f2 v4.toNat).toInt) = ((f2 (v1 + v5).toNat).toInt)) →
        Q (some (am_I (am_b false))) S) ∧
      ((¬ ((f2 v4.toNat).toInt) = ((f2 (v1 + v5).toNat).toInt)) →
        ((¬ ((f2 v4.toNat).toInt) = ((f2 (v1 + v3).toNat).toInt)) →
          Q (some (am_I (am_b true))) S) ∧
        ((((f2 v4.toNat).toInt) = ((f2 (v1 + v3).toNat).toInt)) →
          ((((f2 (v1 + v5).toNat).toInt) = ((f2 v2.toNat).toInt)) →
            Q (some (am_I (am_b false))) S) ∧
          ((¬ ((f2 (v1 + v5).toNat).toInt) = ((f2 v2.toNat).toInt)) →
            Q (some (am_I (am_b true))) S))))) : kX0_isPassing l [am_R v0, am_I v1, am_I v2, am_I v3, am_I v4, am_I v5] S Q := by
  refine am_entry (lv := [(0, am_R v0), (1, am_I v1), (2, am_I v2), (3, am_I v3), (4, am_I v4), (5, am_I v5)]) rfl rfl rfl (fun _ => rfl) (fun _ => Nat.le_of_ble_eq_true rfl) ?_
  refine am_aload_n dX0_isPassing_0 rfl 0 rfl ?_
  refine am_iload_n dX0_isPassing_1 rfl 2 rfl ?_
  obtain ⟨n1, f2, ha3, hh⟩ := hh
  obtain ⟨o4, hh⟩ := hh
  refine ah_iald ha3 o4.1 o4.2 (v := (f2 v2.toNat).toInt) rfl dX0_isPassing_2 ?_
  refine am_istore dX0_isPassing_3 (by decide) rfl ?_
  refine am_aload_n dX0_isPassing_5 rfl 1 rfl ?_
  refine am_iload_n dX0_isPassing_6 rfl 2 rfl ?_
  refine am_iload_n dX0_isPassing_7 rfl 4 rfl ?_
  refine am_iadd dX0_isPassing_8 ?_
  obtain ⟨o5, hh⟩ := hh
  refine ah_iald ha3 o5.1 o5.2 (v := (f2 (v1 + v3).toNat).toInt) rfl dX0_isPassing_9 ?_
  refine am_istore dX0_isPassing_10 (by decide) rfl ?_
  refine am_aload_n dX0_isPassing_12 rfl 2 rfl ?_
  refine am_iload dX0_isPassing_13 6 rfl ?_
  obtain ⟨o6, hh⟩ := hh
  refine ah_iald ha3 o6.1 o6.2 (v := (f2 v4.toNat).toInt) rfl dX0_isPassing_15 ?_
  refine am_istore dX0_isPassing_16 (by decide) rfl ?_
  refine am_aload_n dX0_isPassing_18 rfl 3 rfl ?_
  refine am_iload_n dX0_isPassing_19 rfl 4 rfl ?_
  refine am_iload dX0_isPassing_20 8 rfl ?_
  refine am_iadd dX0_isPassing_22 ?_
  obtain ⟨o7, hh⟩ := hh
  refine ah_iald ha3 o7.1 o7.2 (v := (f2 (v1 + v5).toNat).toInt) rfl dX0_isPassing_23 ?_
  refine am_istore dX0_isPassing_24 (by decide) rfl ?_
  refine am_iload dX0_isPassing_26 1 rfl ?_
  refine am_iload dX0_isPassing_28 0 rfl ?_
  obtain ⟨ha8, hb9⟩ := hh
  refine am_icmp_eq (tgt := 51) dX0_isPassing_30 (by decide) (am_rt _) (am_rt _) (fun hc10 => ?_) (fun hc10 => ?_)
  · have hh := ha8 hc10
    refine am_iconst dX0_isPassing_51 ?_
    exact am_zret (b := false) rfl dX0_isPassing_52 (Nat.le_refl 0) (Nat.le_refl 0) hh
  · have hh := hb9 hc10
    refine am_iload dX0_isPassing_33 1 rfl ?_
    refine am_iload dX0_isPassing_35 2 rfl ?_
    obtain ⟨ha11, hb12⟩ := hh
    refine am_icmp_ne (tgt := 47) dX0_isPassing_37 (by decide) (am_rt _) (am_rt _) (fun hc13 => ?_) (fun hc13 => ?_)
    · have hh := ha11 hc13
      refine am_iconst dX0_isPassing_47 ?_
      refine am_goto (tgt := 52) dX0_isPassing_48 (by decide) ?_
      exact am_zret (b := true) rfl dX0_isPassing_52 (Nat.le_refl 0) (Nat.le_refl 0) hh
    · have hh := hb12 hc13
      refine am_iload dX0_isPassing_40 0 rfl ?_
      refine am_iload dX0_isPassing_42 3 rfl ?_
      obtain ⟨ha14, hb15⟩ := hh
      refine am_icmp_eq (tgt := 51) dX0_isPassing_44 (by decide) (am_rt _) (am_rt _) (fun hc16 => ?_) (fun hc16 => ?_)
      · have hh := ha14 hc16
        refine am_iconst dX0_isPassing_51 ?_
        exact am_zret (b := false) rfl dX0_isPassing_52 (Nat.le_refl 0) (Nat.le_refl 0) hh
      · have hh := hb15 hc16
        refine am_iconst dX0_isPassing_47 ?_
        refine am_goto (tgt := 52) dX0_isPassing_48 (by decide) ?_
        exact am_zret (b := true) rfl dX0_isPassing_52 (Nat.le_refl 0) (Nat.le_refl 0) hh
/-! TableArms.fewest([III)I -/
abbrev VX0_fewest (l : Launch) (Q : Option am_W → ah_H → Prop) (pc : Nat) (lv : List (Nat × am_W)) (st : List am_W) (S : ah_H) : Prop := am_V ah_r l RX0 cX0_fewest 11 (some .int) "fewest" (am_rm 2 0 0) (am_E1 ah_r 0 0 Q) pc lv st S 0 0
abbrev kX0_fewest (l : Launch) (as : List am_W) (S : ah_H) (Q : Option am_W → ah_H → Prop) : Prop := am_C ah_r l yX0_fewest (ws_ yX0_fewest cX0_fewest 11 (some .int)) (am_rm 2 0 0) 0 0 as S Q
set_option maxHeartbeats 4000000 in
set_option maxRecDepth 100000 in
theorem bX0_fewest {l : Launch} {Q : Option am_W → ah_H → Prop} {S : ah_H} (v0 : Nat) (v1 : Nat) (v2 : Int) (h2 : am_r v2) (v3 : Int) (h3 : am_r v3)
    (hh : VX0_fewest l Q 3 [(0, am_R v0), (1, am_R v1), (2, am_I v2), (3, am_I v3), (4, am_I 0)] [] S) : kX0_fewest l [am_R v0, am_R v1, am_I v2, am_I v3] S Q := by
  refine am_entry (lv := [(0, am_R v0), (1, am_R v1), (2, am_I v2), (3, am_I v3)]) rfl rfl rfl (fun _ => rfl) (fun _ => Nat.le_of_ble_eq_true rfl) ?_
  refine am_iconst dX0_fewest_0 ?_
  refine am_istore dX0_fewest_1 (by decide) rfl ?_
  refine am_keep [1, 2, 3, 4, 0] rfl ?_
  exact hh
set_option maxHeartbeats 4000000 in
set_option maxRecDepth 100000 in
theorem bX0_fewest_3 {l : Launch} {Q : Option am_W → ah_H → Prop} {S : ah_H} (v0 : Nat) (v1 : Nat) (v2 : Int) (h2 : am_r v2) (v3 : Int) (h3 : am_r v3) (v4 : Int) (h4 : am_r v4)
    (hh : (am_r (v2 * v3)) ∧
      (((v2 * v3) ≤ v4) →
        (∃ n5 f6, (S.1 v1 = some (.inr (0, n5, .inl f6))) ∧
        (0 < (n5 : Int)) ∧
        (0 ≤ v2 ∧ v2 < (n5 : Int)) ∧
        ((¬ ((f6 (0 : Int).toNat).toInt) = ((f6 v2.toNat).toInt)) →
          (∃ fs13, (S.1 v0 = some (.inl (1, fs13))) ∧
          (∃ x16, (fs13[19]? = some (am_R x16)) ∧
          (∃ n17 f18, (S.1 x16 = some (.inr (0, n17, .inl f18))) ∧
          (ah_X ≤ x16) ∧
          (0 < (n17 : Int)) ∧
          (∀ G22, G22 = ah_si S x16 0 n17 f18 0 (Int32.ofInt 0) →
          VX0_fewest l Q 48 [(0, am_R v0), (1, am_R v1), (2, am_I v2), (3, am_I v3), (4, am_I 0)] [] G22))))) ∧
        ((((f6 (0 : Int).toNat).toInt) = ((f6 v2.toNat).toInt)) →
          Q (some (am_I (-1000000))) S))) ∧
      ((¬ (v2 * v3) ≤ v4) →
        (∃ fs24, (S.1 v0 = some (.inl (1, fs24))) ∧
        (∃ x27, (fs24[19]? = some (am_R x27)) ∧
        (∃ n28 f29, (S.1 x27 = some (.inr (0, n28, .inl f29))) ∧
        (ah_X ≤ x27) ∧
        (0 ≤ v4 ∧ v4 < (n28 : Int)) ∧
        (∀ G33, G33 = ah_si S x27 0 n28 f29 v4 (Int32.ofInt (-1000000)) →
        VX0_fewest l Q 3 [(0, am_R v0), (1, am_R v1), (2, am_I v2), (3, am_I v3), (4, am_I (v4 + 1))] [] G33)))))) : VX0_fewest l Q 3 [(0, am_R v0), (1, am_R v1), (2, am_I v2), (3, am_I v3), (4, am_I v4)] [] S := by
  refine am_iload dX0_fewest_3 4 rfl ?_
  refine am_iload_n dX0_fewest_5 rfl 2 rfl ?_
  refine am_iload_n dX0_fewest_6 rfl 3 rfl ?_
  refine am_imul dX0_fewest_7 ?_
  obtain ⟨o1, hh⟩ := hh
  obtain ⟨ha2, hb3⟩ := hh
  refine am_icmp_ge (tgt := 26) dX0_fewest_8 (by decide) h4 o1 (fun hc4 => ?_) (fun hc4 => ?_)
  · have hh := ha2 hc4
    refine am_aload_n dX0_fewest_26 rfl 1 rfl ?_
    refine am_iconst dX0_fewest_27 ?_
    obtain ⟨n5, f6, ha7, hh⟩ := hh
    obtain ⟨o8, hh⟩ := hh
    refine ah_iald ha7 (by decide) o8 (v := (f6 (0 : Int).toNat).toInt) rfl dX0_fewest_28 ?_
    refine am_aload_n dX0_fewest_29 rfl 1 rfl ?_
    refine am_iload_n dX0_fewest_30 rfl 2 rfl ?_
    obtain ⟨o9, hh⟩ := hh
    refine ah_iald ha7 o9.1 o9.2 (v := (f6 v2.toNat).toInt) rfl dX0_fewest_31 ?_
    obtain ⟨ha10, hb11⟩ := hh
    refine am_icmp_ne (tgt := 38) dX0_fewest_32 (by decide) (am_rt _) (am_rt _) (fun hc12 => ?_) (fun hc12 => ?_)
    · have hh := ha10 hc12
      refine am_aload_n dX0_fewest_38 rfl 0 rfl ?_
      obtain ⟨fs13, ho14, hh⟩ := hh
      obtain ⟨x16, hv15, hh⟩ := hh
      refine ah_get ho14 hv15 rfl in_X0 (by decide) q233 (Or.inl rfl) dX0_fewest_39 ?_
      refine am_iconst dX0_fewest_42 ?_
      refine am_iconst dX0_fewest_43 ?_
      obtain ⟨n17, f18, ha19, hh⟩ := hh
      obtain ⟨o20, hh⟩ := hh
      obtain ⟨o21, hh⟩ := hh
      refine ah_iast ha19 o20 (by decide) o21 dX0_fewest_44 ?_
      have hh := hh _ rfl
      refine am_iconst dX0_fewest_45 ?_
      refine am_istore dX0_fewest_46 (by decide) rfl ?_
      refine am_keep [1, 2, 3, 4, 0] rfl ?_
      exact hh
    · have hh := hb11 hc12
      refine am_ldc (z := -1000000) q472 (by decide) dX0_fewest_35 ?_
      exact am_iret rfl dX0_fewest_37 (Nat.le_refl 0) (Nat.le_refl 0) hh
  · have hh := hb3 hc4
    refine am_aload_n dX0_fewest_11 rfl 0 rfl ?_
    obtain ⟨fs24, ho25, hh⟩ := hh
    obtain ⟨x27, hv26, hh⟩ := hh
    refine ah_get ho25 hv26 rfl in_X0 (by decide) q233 (Or.inl rfl) dX0_fewest_12 ?_
    refine am_iload dX0_fewest_15 4 rfl ?_
    refine am_ldc (z := -1000000) q472 (by decide) dX0_fewest_17 ?_
    obtain ⟨n28, f29, ha30, hh⟩ := hh
    obtain ⟨o31, hh⟩ := hh
    obtain ⟨o32, hh⟩ := hh
    refine ah_iast ha30 o31 o32.1 o32.2 dX0_fewest_19 ?_
    have hh := hh _ rfl
    refine am_iinc (n := 4) dX0_fewest_20 rfl (by decide) rfl ?_
    refine am_goto (tgt := 3) dX0_fewest_23 (by decide) ?_
    refine am_keep [1, 2, 3, 4, 0] rfl ?_
    exact hh
set_option maxHeartbeats 4000000 in
set_option maxRecDepth 100000 in
theorem bX0_fewest_48 {l : Launch} {Q : Option am_W → ah_H → Prop} {S : ah_H} (v0 : Nat) (v1 : Nat) (v2 : Int) (h2 : am_r v2) (v3 : Int) (h3 : am_r v3) (v4 : Int) (h4 : am_r v4)
    (hh : (am_r (v2 * v3)) ∧
      (((v2 * v3) ≤ v4) →
        (∃ fs5, (S.1 v0 = some (.inl (1, fs5))) ∧
        (∃ x8, (fs5[19]? = some (am_R x8)) ∧
        (∃ n9 f10, (S.1 x8 = some (.inr (0, n9, .inl f10))) ∧
        (0 ≤ ((v2 * v3) - 1) ∧ ((v2 * v3) - 1) < (n9 : Int)) ∧
        Q (some (am_I (f10 ((v2 * v3) - 1).toNat).toInt)) S)))) ∧
      ((¬ (v2 * v3) ≤ v4) →
        (0 ≤ v4) ∧
        (0 < v3) ∧
        (∃ fs15, (S.1 v0 = some (.inl (1, fs15))) ∧
        (∃ x18, (fs15[19]? = some (am_R x18)) ∧
        (∃ n19 f20, (S.1 x18 = some (.inr (0, n19, .inl f20))) ∧
        (0 ≤ v4 ∧ v4 < (n19 : Int)) ∧
        ((¬ ((f20 v4.toNat).toInt) = (-1000000)) →
          VX0_fewest l Q 86 [(0, am_R v0), (1, am_R v1), (2, am_I v2), (3, am_I v3), (4, am_I v4), (5, am_I (v4 / v3)), (6, am_I (v4 % v3)), (7, am_I 1)] [] S) ∧
        ((((f20 v4.toNat).toInt) = (-1000000)) →
          VX0_fewest l Q 48 [(0, am_R v0), (1, am_R v1), (2, am_I v2), (3, am_I v3), (4, am_I (v4 + 1))] [] S)))))) : VX0_fewest l Q 48 [(0, am_R v0), (1, am_R v1), (2, am_I v2), (3, am_I v3), (4, am_I v4)] [] S := by
  refine am_iload dX0_fewest_48 4 rfl ?_
  refine am_iload_n dX0_fewest_50 rfl 2 rfl ?_
  refine am_iload_n dX0_fewest_51 rfl 3 rfl ?_
  refine am_imul dX0_fewest_52 ?_
  obtain ⟨o1, hh⟩ := hh
  obtain ⟨ha2, hb3⟩ := hh
  refine am_icmp_ge (tgt := 212) dX0_fewest_53 (by decide) h4 o1 (fun hc4 => ?_) (fun hc4 => ?_)
  · have hh := ha2 hc4
    refine am_aload_n dX0_fewest_212 rfl 0 rfl ?_
    obtain ⟨fs5, ho6, hh⟩ := hh
    obtain ⟨x8, hv7, hh⟩ := hh
    refine ah_get ho6 hv7 rfl in_X0 (by decide) q233 (Or.inl rfl) dX0_fewest_213 ?_
    refine am_iload_n dX0_fewest_216 rfl 2 rfl ?_
    refine am_iload_n dX0_fewest_217 rfl 3 rfl ?_
    refine am_imul dX0_fewest_218 ?_
    refine am_iconst dX0_fewest_219 ?_
    refine am_isub dX0_fewest_220 ?_
    obtain ⟨n9, f10, ha11, hh⟩ := hh
    obtain ⟨o12, hh⟩ := hh
    refine ah_iald ha11 o12.1 o12.2 (v := (f10 ((v2 * v3) - 1).toNat).toInt) rfl dX0_fewest_221 ?_
    exact am_iret rfl dX0_fewest_222 (Nat.le_refl 0) (Nat.le_refl 0) hh
  · have hh := hb3 hc4
    refine am_iload dX0_fewest_56 4 rfl ?_
    refine am_iload_n dX0_fewest_58 rfl 3 rfl ?_
    obtain ⟨o13, hh⟩ := hh
    obtain ⟨o14, hh⟩ := hh
    refine am_idiv dX0_fewest_59 o13 (h4).2 o14 (h3).2 ?_
    refine am_istore dX0_fewest_60 (by decide) rfl ?_
    refine am_iload dX0_fewest_62 5 rfl ?_
    refine am_iload_n dX0_fewest_64 rfl 4 rfl ?_
    refine am_irem dX0_fewest_65 o13 (h4).2 o14 (h3).2 ?_
    refine am_istore dX0_fewest_66 (by decide) rfl ?_
    refine am_aload_n dX0_fewest_68 rfl 2 rfl ?_
    obtain ⟨fs15, ho16, hh⟩ := hh
    obtain ⟨x18, hv17, hh⟩ := hh
    refine ah_get ho16 hv17 rfl in_X0 (by decide) q233 (Or.inl rfl) dX0_fewest_69 ?_
    refine am_iload dX0_fewest_72 6 rfl ?_
    obtain ⟨n19, f20, ha21, hh⟩ := hh
    obtain ⟨o22, hh⟩ := hh
    refine ah_iald ha21 o22.1 o22.2 (v := (f20 v4.toNat).toInt) rfl dX0_fewest_74 ?_
    refine am_ldc (z := -1000000) q472 (by decide) dX0_fewest_75 ?_
    obtain ⟨ha23, hb24⟩ := hh
    refine am_icmp_ne (tgt := 83) dX0_fewest_77 (by decide) (am_rt _) (⟨by decide, by decide⟩) (fun hc25 => ?_) (fun hc25 => ?_)
    · have hh := ha23 hc25
      refine am_iconst dX0_fewest_83 ?_
      refine am_istore dX0_fewest_84 (by decide) rfl ?_
      refine am_keep [3, 4, 5, 6, 7, 2, 1, 0] rfl ?_
      exact hh
    · have hh := hb24 hc25
      refine am_goto (tgt := 206) dX0_fewest_80 (by decide) ?_
      refine am_iinc (n := 6) dX0_fewest_206 rfl (by decide) rfl ?_
      refine am_goto (tgt := 48) dX0_fewest_209 (by decide) ?_
      refine am_keep [3, 4, 5, 6, 0] rfl ?_
      exact hh
set_option maxHeartbeats 4000000 in
set_option maxRecDepth 100000 in
theorem bX0_fewest_86 {l : Launch} {Q : Option am_W → ah_H → Prop} {S : ah_H} (v0 : Nat) (v1 : Nat) (v2 : Int) (h2 : am_r v2) (v3 : Int) (h3 : am_r v3) (v4 : Int) (h4 : am_r v4) (v5 : Int) (h5 : am_r v5) (v6 : Int) (h6 : am_r v6) (v7 : Int) (h7 : am_r v7)
    (hh : ((4 ≤ v7) →
        VX0_fewest l Q 48 [(0, am_R v0), (1, am_R v1), (2, am_I v2), (3, am_I v3), (4, am_I (v4 + 1))] [] S) ∧
      ((¬ 4 ≤ v7) →
        (am_r (v5 + (am_and v7 1))) ∧
        ((v2 ≤ (v5 + (am_and v7 1))) →
          VX0_fewest l Q 86 [(0, am_R v0), (1, am_R v1), (2, am_I v2), (3, am_I v3), (4, am_I v4), (5, am_I v5), (6, am_I v6), (7, am_I (v7 + 1))] [] S) ∧
        ((¬ v2 ≤ (v5 + (am_and v7 1))) →
          (am_r (v6 + (am_shr v7 1))) ∧
          ((v3 ≤ (v6 + (am_shr v7 1))) →
            VX0_fewest l Q 86 [(0, am_R v0), (1, am_R v1), (2, am_I v2), (3, am_I v3), (4, am_I v4), (5, am_I v5), (6, am_I v6), (7, am_I (v7 + 1))] [] S) ∧
          ((¬ v3 ≤ (v6 + (am_shr v7 1))) →
            kX0_isPassing l [am_R v1, am_I v2, am_I v5, am_I v6, am_I (v5 + (am_and v7 1)), am_I (v6 + (am_shr v7 1))] S (am_qz fun b13 G12 =>
              ((b13 = true) →
                (∃ fs17, (G12.1 v0 = some (.inl (1, fs17))) ∧
                (∃ x20, (fs17[19]? = some (am_R x20)) ∧
                (∃ n21 f22, (G12.1 x20 = some (.inr (0, n21, .inl f22))) ∧
                (0 ≤ ((v3 * (v5 + (am_and v7 1))) + (v6 + (am_shr v7 1))) ∧ ((v3 * (v5 + (am_and v7 1))) + (v6 + (am_shr v7 1))) < (n21 : Int)) ∧
                ((¬ ((f22 ((v3 * (v5 + (am_and v7 1))) + (v6 + (am_shr v7 1))).toNat).toInt) = (-1000000)) →
                  (0 ≤ v4 ∧ v4 < (n21 : Int)) ∧
                  (am_r ((f22 v4.toNat).toInt + 1)) ∧
                  (ah_X ≤ x20) ∧
                  (∀ G31, G31 = ah_si G12 x20 0 n21 f22 ((v3 * (v5 + (am_and v7 1))) + (v6 + (am_shr v7 1))) (Int32.ofInt (am_min ((f22 ((v3 * (v5 + (am_and v7 1))) + (v6 + (am_shr v7 1))).toNat).toInt) ((f22 v4.toNat).toInt + 1))) →
                  VX0_fewest l Q 86 [(0, am_R v0), (1, am_R v1), (2, am_I v2), (3, am_I v3), (4, am_I v4), (5, am_I v5), (6, am_I v6), (7, am_I (v7 + 1))] [] G31)) ∧
                ((((f22 ((v3 * (v5 + (am_and v7 1))) + (v6 + (am_shr v7 1))).toNat).toInt) = (-1000000)) →
                  (0 ≤ v4 ∧ v4 < (n21 : Int)) ∧
                  (ah_X ≤ x20) ∧
                  (∀ G35, G35 = ah_si G12 x20 0 n21 f22 ((v3 * (v5 + (am_and v7 1))) + (v6 + (am_shr v7 1))) (Int32.ofInt ((f22 v4.toNat).toInt + 1)) →
                  VX0_fewest l Q 86 [(0, am_R v0), (1, am_R v1), (2, am_I v2), (3, am_I v3), (4, am_I v4), (5, am_I v5), (6, am_I v6), (7, am_I (v7 + 1))] [] G35)))))) ∧
              ((b13 = false) →
                VX0_fewest l Q 86 [(0, am_R v0), (1, am_R v1), (2, am_I v2), (3, am_I v3), (4, am_I v4), (5, am_I v5), (6, am_I v6), (7, am_I (v7 + 1))] [] G12)))))) : VX0_fewest l Q 86 [(0, am_R v0), (1, am_R v1), (2, am_I v2), (3, am_I v3), (4, am_I v4), (5, am_I v5), (6, am_I v6), (7, am_I v7)] [] S := by
  refine am_iload dX0_fewest_86 7 rfl ?_
  refine am_iconst dX0_fewest_88 ?_
  obtain ⟨ha1, hb2⟩ := hh
  refine am_icmp_ge (tgt := 206) dX0_fewest_89 (by decide) h7 (⟨by decide, by decide⟩) (fun hc3 => ?_) (fun hc3 => ?_)
  · have hh := ha1 hc3
    refine am_iinc (n := 4) dX0_fewest_206 rfl (by decide) rfl ?_
    refine am_goto (tgt := 48) dX0_fewest_209 (by decide) ?_
    refine am_keep [1, 2, 3, 4, 0] rfl ?_
    exact hh
  · have hh := hb2 hc3
    refine am_iload dX0_fewest_92 5 rfl ?_
    refine am_iload dX0_fewest_94 7 rfl ?_
    refine am_iconst dX0_fewest_96 ?_
    refine am_iand dX0_fewest_97 ?_
    refine am_iadd dX0_fewest_98 ?_
    refine am_istore dX0_fewest_99 (by decide) rfl ?_
    refine am_iload dX0_fewest_101 7 rfl ?_
    refine am_iload dX0_fewest_103 8 rfl ?_
    refine am_iconst dX0_fewest_105 ?_
    refine am_ishr dX0_fewest_106 ?_
    refine am_iadd dX0_fewest_107 ?_
    refine am_istore dX0_fewest_108 (by decide) rfl ?_
    refine am_iload dX0_fewest_110 1 rfl ?_
    refine am_iload_n dX0_fewest_112 rfl 4 rfl ?_
    obtain ⟨o4, hh⟩ := hh
    obtain ⟨ha5, hb6⟩ := hh
    refine am_icmp_ge (tgt := 200) dX0_fewest_113 (by decide) o4 h2 (fun hc7 => ?_) (fun hc7 => ?_)
    · have hh := ha5 hc7
      refine am_iinc (n := 9) dX0_fewest_200 rfl (by decide) rfl ?_
      refine am_goto (tgt := 86) dX0_fewest_203 (by decide) ?_
      refine am_keep [3, 4, 5, 6, 7, 8, 9, 0] rfl ?_
      exact hh
    · have hh := hb6 hc7
      refine am_iload dX0_fewest_116 0 rfl ?_
      refine am_iload_n dX0_fewest_118 rfl 5 rfl ?_
      obtain ⟨o8, hh⟩ := hh
      obtain ⟨ha9, hb10⟩ := hh
      refine am_icmp_ge (tgt := 200) dX0_fewest_119 (by decide) o8 h3 (fun hc11 => ?_) (fun hc11 => ?_)
      · have hh := ha9 hc11
        refine am_iinc (n := 9) dX0_fewest_200 rfl (by decide) rfl ?_
        refine am_goto (tgt := 86) dX0_fewest_203 (by decide) ?_
        refine am_keep [3, 4, 5, 6, 7, 8, 9, 0] rfl ?_
        exact hh
      · have hh := hb10 hc11
        refine am_aload_n dX0_fewest_122 rfl 3 rfl ?_
        refine am_iload_n dX0_fewest_123 rfl 4 rfl ?_
        refine am_iload dX0_fewest_124 7 rfl ?_
        refine am_iload dX0_fewest_126 8 rfl ?_
        refine am_iload dX0_fewest_128 1 rfl ?_
        refine am_iload dX0_fewest_130 0 rfl ?_
        refine am_rSz (n := 6) hh dX0_fewest_132 (lw_S q1163 q1164 q90 q1165) ⟨⟨by decide, by decide, by decide +kernel⟩, ⟨Nat.le_of_ble_eq_true rfl, Nat.le_of_ble_eq_true rfl⟩⟩ ⟨rfl, rfl⟩ rfl rfl (Nat.le_of_ble_eq_true rfl) ⟨(Nat.le_of_ble_eq_true rfl), (Nat.le_of_ble_eq_true rfl)⟩ (fun b13 G12 hh => ?_)
        obtain ⟨ha14, hb15⟩ := hh
        refine am_ifB_ne (tgt := 141) dX0_fewest_135 (by decide) (fun hc16 => ?_) (fun hc16 => ?_)
        · have hh := ha14 hc16
          refine am_iload_n dX0_fewest_141 rfl 5 rfl ?_
          refine am_iload dX0_fewest_142 1 rfl ?_
          refine am_imul dX0_fewest_144 ?_
          refine am_iload dX0_fewest_145 0 rfl ?_
          refine am_iadd dX0_fewest_147 ?_
          refine am_istore dX0_fewest_148 (by decide) rfl ?_
          refine am_aload_n dX0_fewest_150 rfl 3 rfl ?_
          obtain ⟨fs17, ho18, hh⟩ := hh
          obtain ⟨x20, hv19, hh⟩ := hh
          refine ah_get ho18 hv19 rfl in_X0 (by decide) q233 (Or.inl rfl) dX0_fewest_151 ?_
          refine am_iload dX0_fewest_154 0 rfl ?_
          refine am_aload_n dX0_fewest_156 rfl 3 rfl ?_
          refine ah_get ho18 hv19 rfl in_X0 (by decide) q233 (Or.inl rfl) dX0_fewest_157 ?_
          refine am_iload dX0_fewest_160 0 rfl ?_
          obtain ⟨n21, f22, ha23, hh⟩ := hh
          obtain ⟨o24, hh⟩ := hh
          refine ah_iald ha23 o24.1 o24.2 (v := (f22 ((v3 * (v5 + (am_and v7 1))) + (v6 + (am_shr v7 1))).toNat).toInt) rfl dX0_fewest_162 ?_
          refine am_ldc (z := -1000000) q472 (by decide) dX0_fewest_163 ?_
          obtain ⟨ha25, hb26⟩ := hh
          refine am_icmp_ne (tgt := 180) dX0_fewest_165 (by decide) (am_rt _) (⟨by decide, by decide⟩) (fun hc27 => ?_) (fun hc27 => ?_)
          · have hh := ha25 hc27
            refine am_aload_n dX0_fewest_180 rfl 3 rfl ?_
            refine ah_get ho18 hv19 rfl in_X0 (by decide) q233 (Or.inl rfl) dX0_fewest_181 ?_
            refine am_iload dX0_fewest_184 0 rfl ?_
            refine ah_iald ha23 o24.1 o24.2 (v := (f22 ((v3 * (v5 + (am_and v7 1))) + (v6 + (am_shr v7 1))).toNat).toInt) rfl dX0_fewest_186 ?_
            refine am_aload_n dX0_fewest_187 rfl 3 rfl ?_
            refine ah_get ho18 hv19 rfl in_X0 (by decide) q233 (Or.inl rfl) dX0_fewest_188 ?_
            refine am_iload dX0_fewest_191 7 rfl ?_
            obtain ⟨o28, hh⟩ := hh
            refine ah_iald ha23 o28.1 o28.2 (v := (f22 v4.toNat).toInt) rfl dX0_fewest_193 ?_
            refine am_iconst dX0_fewest_194 ?_
            refine am_iadd dX0_fewest_195 ?_
            obtain ⟨o29, hh⟩ := hh
            refine am_mmin (am_rt _) o29 q1166 q712 q106 q713 (Nat.le_of_ble_eq_true rfl) (Nat.le_of_ble_eq_true rfl) (Nat.le_of_ble_eq_true rfl) (Nat.le_of_ble_eq_true rfl) dX0_fewest_196 ?_
            obtain ⟨o30, hh⟩ := hh
            refine ah_iast ha23 o30 o24.1 o24.2 dX0_fewest_199 ?_
            have hh := hh _ rfl
            refine am_iinc (n := 10) dX0_fewest_200 rfl (by decide) rfl ?_
            refine am_goto (tgt := 86) dX0_fewest_203 (by decide) ?_
            refine am_keep [4, 5, 6, 7, 8, 9, 10, 0] rfl ?_
            exact hh
          · have hh := hb26 hc27
            refine am_aload_n dX0_fewest_168 rfl 3 rfl ?_
            refine ah_get ho18 hv19 rfl in_X0 (by decide) q233 (Or.inl rfl) dX0_fewest_169 ?_
            refine am_iload dX0_fewest_172 7 rfl ?_
            obtain ⟨o33, hh⟩ := hh
            refine ah_iald ha23 o33.1 o33.2 (v := (f22 v4.toNat).toInt) rfl dX0_fewest_174 ?_
            refine am_iconst dX0_fewest_175 ?_
            refine am_iadd dX0_fewest_176 ?_
            refine am_goto (tgt := 199) dX0_fewest_177 (by decide) ?_
            obtain ⟨o34, hh⟩ := hh
            refine ah_iast ha23 o34 o24.1 o24.2 dX0_fewest_199 ?_
            have hh := hh _ rfl
            refine am_iinc (n := 10) dX0_fewest_200 rfl (by decide) rfl ?_
            refine am_goto (tgt := 86) dX0_fewest_203 (by decide) ?_
            refine am_keep [4, 5, 6, 7, 8, 9, 10, 0] rfl ?_
            exact hh
        · have hh := hb15 hc16
          refine am_goto (tgt := 200) dX0_fewest_138 (by decide) ?_
          refine am_iinc (n := 9) dX0_fewest_200 rfl (by decide) rfl ?_
          refine am_goto (tgt := 86) dX0_fewest_203 (by decide) ?_
          refine am_keep [3, 4, 5, 6, 7, 8, 9, 0] rfl ?_
          exact hh
/-! TableArms$AsThing.<init>(LTableArms;I)V -/
abbrev VX10_init (l : Launch) (Q : Option am_W → ah_H → Prop) (pc : Nat) (lv : List (Nat × am_W)) (st : List am_W) (S : ah_H) : Prop := am_V ah_r l RX10 cX10_init 3 none "<init>" (am_rm 2 0 0) (am_E1 ah_r 0 0 Q) pc lv st S 0 0
abbrev kX10_init (l : Launch) (as : List am_W) (S : ah_H) (Q : Option am_W → ah_H → Prop) : Prop := am_C ah_r l yX10_init (ws_ yX10_init cX10_init 3 none) (am_rm 2 0 0) 0 0 as S Q
set_option maxHeartbeats 4000000 in
set_option maxRecDepth 100000 in
theorem bX10_init_X11 {l : Launch} {Q : Option am_W → ah_H → Prop} {S : ah_H} (v0 : Nat) (v1 : Nat) (v2 : Int) (h2 : am_r v2)
    (hh : (∃ fs1, (S.1 v0 = some (.inl (10, fs1))) ∧
      (ah_X ≤ v0) ∧
      (1 < fs1.length) ∧
      (∀ G5, G5 = ah_sf S v0 10 fs1 1 (am_R v1) →
      (∃ fs7, (G5.1 v0 = some (.inl (10, fs7))) ∧
      (0 < fs7.length) ∧
      (∀ G10, G10 = ah_sf G5 v0 10 fs7 0 (am_I v2) →
      Q none G10))))) : kX10_init l [am_R v0, am_R v1, am_I v2] S Q := by
  refine am_entry (lv := [(0, am_R v0), (1, am_R v1), (2, am_I v2)]) rfl rfl rfl (fun _ => rfl) (fun _ => Nat.le_of_ble_eq_true rfl) ?_
  refine am_aload_n dX10_init_0 rfl 0 rfl ?_
  refine am_aload_n dX10_init_1 rfl 1 rfl ?_
  obtain ⟨fs1, ho2, hh⟩ := hh
  obtain ⟨o3, hh⟩ := hh
  obtain ⟨o4, hh⟩ := hh
  refine ah_putG (ty := tyX11 1) ho2 o3 o4 rfl in_X11 tyX11 tyX11_ok nmg_X11 hall_X11 (by decide) q1186 rfl rfl rfl (tyX11_ok 1 (by decide)) (ah_fit_ref (Or.inl ⟨_, rfl⟩)) dX10_init_2 ?_
  have hh := hh _ rfl
  refine am_aload_n dX10_init_5 rfl 0 rfl ?_
  refine am_objInit q1183 q133 q134 dX10_init_6 (Nat.le_of_ble_eq_true rfl) (Nat.le_of_ble_eq_true rfl) ?_
  refine am_aload_n dX10_init_9 rfl 0 rfl ?_
  refine am_iload_n dX10_init_10 rfl 2 rfl ?_
  obtain ⟨fs7, ho8, hh⟩ := hh
  obtain ⟨o9, hh⟩ := hh
  refine ah_putG (ty := tyX11 0) ho8 o3 o9 rfl in_X11 tyX11 tyX11_ok nmg_X11 hall_X11 (by decide) q1185 rfl rfl rfl (tyX11_ok 0 (by decide)) ah_fit_int dX10_init_11 ?_
  have hh := hh _ rfl
  exact am_vret rfl dX10_init_14 (Nat.le_refl 0) (Nat.le_refl 0) hh
/-! TableArms$AsThing.<init>(LTableArms;I)V -/
set_option maxHeartbeats 4000000 in
set_option maxRecDepth 100000 in
theorem bX10_init_X12 {l : Launch} {Q : Option am_W → ah_H → Prop} {S : ah_H} (v0 : Nat) (v1 : Nat) (v2 : Int) (h2 : am_r v2)
    (hh : (∃ fs1, (S.1 v0 = some (.inl (11, fs1))) ∧
      (ah_X ≤ v0) ∧
      (1 < fs1.length) ∧
      (∀ G5, G5 = ah_sf S v0 11 fs1 1 (am_R v1) →
      (∃ fs7, (G5.1 v0 = some (.inl (11, fs7))) ∧
      (0 < fs7.length) ∧
      (∀ G10, G10 = ah_sf G5 v0 11 fs7 0 (am_I v2) →
      Q none G10))))) : kX10_init l [am_R v0, am_R v1, am_I v2] S Q := by
  refine am_entry (lv := [(0, am_R v0), (1, am_R v1), (2, am_I v2)]) rfl rfl rfl (fun _ => rfl) (fun _ => Nat.le_of_ble_eq_true rfl) ?_
  refine am_aload_n dX10_init_0 rfl 0 rfl ?_
  refine am_aload_n dX10_init_1 rfl 1 rfl ?_
  obtain ⟨fs1, ho2, hh⟩ := hh
  obtain ⟨o3, hh⟩ := hh
  obtain ⟨o4, hh⟩ := hh
  refine ah_putG (ty := tyX12 1) ho2 o3 o4 rfl in_X12 tyX12 tyX12_ok nmg_X12 hall_X12 (by decide) q1186 rfl rfl rfl (tyX12_ok 1 (by decide)) (ah_fit_ref (Or.inl ⟨_, rfl⟩)) dX10_init_2 ?_
  have hh := hh _ rfl
  refine am_aload_n dX10_init_5 rfl 0 rfl ?_
  refine am_objInit q1183 q133 q134 dX10_init_6 (Nat.le_of_ble_eq_true rfl) (Nat.le_of_ble_eq_true rfl) ?_
  refine am_aload_n dX10_init_9 rfl 0 rfl ?_
  refine am_iload_n dX10_init_10 rfl 2 rfl ?_
  obtain ⟨fs7, ho8, hh⟩ := hh
  obtain ⟨o9, hh⟩ := hh
  refine ah_putG (ty := tyX12 0) ho8 o3 o9 rfl in_X12 tyX12 tyX12_ok nmg_X12 hall_X12 (by decide) q1185 rfl rfl rfl (tyX12_ok 0 (by decide)) ah_fit_int dX10_init_11 ?_
  have hh := hh _ rfl
  exact am_vret rfl dX10_init_14 (Nat.le_refl 0) (Nat.le_refl 0) hh
/-! TableArms$AsThing.<init>(LTableArms;I)V -/
set_option maxHeartbeats 4000000 in
set_option maxRecDepth 100000 in
theorem bX10_init_X13 {l : Launch} {Q : Option am_W → ah_H → Prop} {S : ah_H} (v0 : Nat) (v1 : Nat) (v2 : Int) (h2 : am_r v2)
    (hh : (∃ fs1, (S.1 v0 = some (.inl (12, fs1))) ∧
      (ah_X ≤ v0) ∧
      (1 < fs1.length) ∧
      (∀ G5, G5 = ah_sf S v0 12 fs1 1 (am_R v1) →
      (∃ fs7, (G5.1 v0 = some (.inl (12, fs7))) ∧
      (0 < fs7.length) ∧
      (∀ G10, G10 = ah_sf G5 v0 12 fs7 0 (am_I v2) →
      Q none G10))))) : kX10_init l [am_R v0, am_R v1, am_I v2] S Q := by
  refine am_entry (lv := [(0, am_R v0), (1, am_R v1), (2, am_I v2)]) rfl rfl rfl (fun _ => rfl) (fun _ => Nat.le_of_ble_eq_true rfl) ?_
  refine am_aload_n dX10_init_0 rfl 0 rfl ?_
  refine am_aload_n dX10_init_1 rfl 1 rfl ?_
  obtain ⟨fs1, ho2, hh⟩ := hh
  obtain ⟨o3, hh⟩ := hh
  obtain ⟨o4, hh⟩ := hh
  refine ah_putG (ty := tyX13 1) ho2 o3 o4 rfl in_X13 tyX13 tyX13_ok nmg_X13 hall_X13 (by decide) q1186 rfl rfl rfl (tyX13_ok 1 (by decide)) (ah_fit_ref (Or.inl ⟨_, rfl⟩)) dX10_init_2 ?_
  have hh := hh _ rfl
  refine am_aload_n dX10_init_5 rfl 0 rfl ?_
  refine am_objInit q1183 q133 q134 dX10_init_6 (Nat.le_of_ble_eq_true rfl) (Nat.le_of_ble_eq_true rfl) ?_
  refine am_aload_n dX10_init_9 rfl 0 rfl ?_
  refine am_iload_n dX10_init_10 rfl 2 rfl ?_
  obtain ⟨fs7, ho8, hh⟩ := hh
  obtain ⟨o9, hh⟩ := hh
  refine ah_putG (ty := tyX13 0) ho8 o3 o9 rfl in_X13 tyX13 tyX13_ok nmg_X13 hall_X13 (by decide) q1185 rfl rfl rfl (tyX13_ok 0 (by decide)) ah_fit_int dX10_init_11 ?_
  have hh := hh _ rfl
  exact am_vret rfl dX10_init_14 (Nat.le_refl 0) (Nat.le_refl 0) hh
/-! TableArms$AsThing.<init>(LTableArms;I)V -/
set_option maxHeartbeats 4000000 in
set_option maxRecDepth 100000 in
theorem bX10_init_X14 {l : Launch} {Q : Option am_W → ah_H → Prop} {S : ah_H} (v0 : Nat) (v1 : Nat) (v2 : Int) (h2 : am_r v2)
    (hh : (∃ fs1, (S.1 v0 = some (.inl (13, fs1))) ∧
      (ah_X ≤ v0) ∧
      (1 < fs1.length) ∧
      (∀ G5, G5 = ah_sf S v0 13 fs1 1 (am_R v1) →
      (∃ fs7, (G5.1 v0 = some (.inl (13, fs7))) ∧
      (0 < fs7.length) ∧
      (∀ G10, G10 = ah_sf G5 v0 13 fs7 0 (am_I v2) →
      Q none G10))))) : kX10_init l [am_R v0, am_R v1, am_I v2] S Q := by
  refine am_entry (lv := [(0, am_R v0), (1, am_R v1), (2, am_I v2)]) rfl rfl rfl (fun _ => rfl) (fun _ => Nat.le_of_ble_eq_true rfl) ?_
  refine am_aload_n dX10_init_0 rfl 0 rfl ?_
  refine am_aload_n dX10_init_1 rfl 1 rfl ?_
  obtain ⟨fs1, ho2, hh⟩ := hh
  obtain ⟨o3, hh⟩ := hh
  obtain ⟨o4, hh⟩ := hh
  refine ah_putG (ty := tyX14 1) ho2 o3 o4 rfl in_X14 tyX14 tyX14_ok nmg_X14 hall_X14 (by decide) q1186 rfl rfl rfl (tyX14_ok 1 (by decide)) (ah_fit_ref (Or.inl ⟨_, rfl⟩)) dX10_init_2 ?_
  have hh := hh _ rfl
  refine am_aload_n dX10_init_5 rfl 0 rfl ?_
  refine am_objInit q1183 q133 q134 dX10_init_6 (Nat.le_of_ble_eq_true rfl) (Nat.le_of_ble_eq_true rfl) ?_
  refine am_aload_n dX10_init_9 rfl 0 rfl ?_
  refine am_iload_n dX10_init_10 rfl 2 rfl ?_
  obtain ⟨fs7, ho8, hh⟩ := hh
  obtain ⟨o9, hh⟩ := hh
  refine ah_putG (ty := tyX14 0) ho8 o3 o9 rfl in_X14 tyX14 tyX14_ok nmg_X14 hall_X14 (by decide) q1185 rfl rfl rfl (tyX14_ok 0 (by decide)) ah_fit_int dX10_init_11 ?_
  have hh := hh _ rfl
  exact am_vret rfl dX10_init_14 (Nat.le_refl 0) (Nat.le_refl 0) hh
/-! TableArms$AsThing.<init>(LTableArms;I)V -/
set_option maxHeartbeats 4000000 in
set_option maxRecDepth 100000 in
theorem bX10_init_X15 {l : Launch} {Q : Option am_W → ah_H → Prop} {S : ah_H} (v0 : Nat) (v1 : Nat) (v2 : Int) (h2 : am_r v2)
    (hh : (∃ fs1, (S.1 v0 = some (.inl (14, fs1))) ∧
      (ah_X ≤ v0) ∧
      (1 < fs1.length) ∧
      (∀ G5, G5 = ah_sf S v0 14 fs1 1 (am_R v1) →
      (∃ fs7, (G5.1 v0 = some (.inl (14, fs7))) ∧
      (0 < fs7.length) ∧
      (∀ G10, G10 = ah_sf G5 v0 14 fs7 0 (am_I v2) →
      Q none G10))))) : kX10_init l [am_R v0, am_R v1, am_I v2] S Q := by
  refine am_entry (lv := [(0, am_R v0), (1, am_R v1), (2, am_I v2)]) rfl rfl rfl (fun _ => rfl) (fun _ => Nat.le_of_ble_eq_true rfl) ?_
  refine am_aload_n dX10_init_0 rfl 0 rfl ?_
  refine am_aload_n dX10_init_1 rfl 1 rfl ?_
  obtain ⟨fs1, ho2, hh⟩ := hh
  obtain ⟨o3, hh⟩ := hh
  obtain ⟨o4, hh⟩ := hh
  refine ah_putG (ty := tyX15 1) ho2 o3 o4 rfl in_X15 tyX15 tyX15_ok nmg_X15 hall_X15 (by decide) q1186 rfl rfl rfl (tyX15_ok 1 (by decide)) (ah_fit_ref (Or.inl ⟨_, rfl⟩)) dX10_init_2 ?_
  have hh := hh _ rfl
  refine am_aload_n dX10_init_5 rfl 0 rfl ?_
  refine am_objInit q1183 q133 q134 dX10_init_6 (Nat.le_of_ble_eq_true rfl) (Nat.le_of_ble_eq_true rfl) ?_
  refine am_aload_n dX10_init_9 rfl 0 rfl ?_
  refine am_iload_n dX10_init_10 rfl 2 rfl ?_
  obtain ⟨fs7, ho8, hh⟩ := hh
  obtain ⟨o9, hh⟩ := hh
  refine ah_putG (ty := tyX15 0) ho8 o3 o9 rfl in_X15 tyX15 tyX15_ok nmg_X15 hall_X15 (by decide) q1185 rfl rfl rfl (tyX15_ok 0 (by decide)) ah_fit_int dX10_init_11 ?_
  have hh := hh _ rfl
  exact am_vret rfl dX10_init_14 (Nat.le_refl 0) (Nat.le_refl 0) hh
/-! TableArms$AsCup.<init>(LTableArms;I)V -/
abbrev VX11_init (l : Launch) (Q : Option am_W → ah_H → Prop) (pc : Nat) (lv : List (Nat × am_W)) (st : List am_W) (S : ah_H) : Prop := am_V ah_r l RX11 cX11_init 3 none "<init>" (am_rm 3 0 0) (am_E1 ah_r 0 0 Q) pc lv st S 0 0
abbrev kX11_init (l : Launch) (as : List am_W) (S : ah_H) (Q : Option am_W → ah_H → Prop) : Prop := am_C ah_r l yX11_init (ws_ yX11_init cX11_init 3 none) (am_rm 3 0 0) 0 0 as S Q
set_option maxHeartbeats 4000000 in
set_option maxRecDepth 100000 in
theorem bX11_init {l : Launch} {Q : Option am_W → ah_H → Prop} {S : ah_H} (v0 : Nat) (v1 : Nat) (v2 : Int) (h2 : am_r v2)
    (hh : (∃ fs1, (S.1 v0 = some (.inl (10, fs1))) ∧
      (ah_X ≤ v0) ∧
      (2 < fs1.length) ∧
      (∀ G5, G5 = ah_sf S v0 10 fs1 2 (am_R v1) →
      kX10_init l [am_R v0, am_R v1, am_I v2] G5 (am_qv fun G7 =>
        Q none G7)))) : kX11_init l [am_R v0, am_R v1, am_I v2] S Q := by
  refine am_entry (lv := [(0, am_R v0), (1, am_R v1), (2, am_I v2)]) rfl rfl rfl (fun _ => rfl) (fun _ => Nat.le_of_ble_eq_true rfl) ?_
  refine am_aload_n dX11_init_0 rfl 0 rfl ?_
  refine am_aload_n dX11_init_1 rfl 1 rfl ?_
  obtain ⟨fs1, ho2, hh⟩ := hh
  obtain ⟨o3, hh⟩ := hh
  obtain ⟨o4, hh⟩ := hh
  refine ah_putG (ty := tyX11 2) ho2 o3 o4 rfl in_X11 tyX11 tyX11_ok nmg_X11 hall_X11 (by decide) q1184 rfl rfl rfl (tyX11_ok 2 (by decide)) (ah_fit_ref (Or.inl ⟨_, rfl⟩)) dX11_init_2 ?_
  have hh := hh _ rfl
  refine am_aload_n dX11_init_5 rfl 0 rfl ?_
  refine am_aload_n dX11_init_6 rfl 1 rfl ?_
  refine am_iload_n dX11_init_7 rfl 2 rfl ?_
  refine am_rIv (n := 2) hh dX11_init_8 q1180 q1181 q120 q1182 rfl ⟨⟨by decide, by decide, by decide +kernel⟩, ⟨Nat.le_of_ble_eq_true rfl, Nat.le_of_ble_eq_true rfl⟩⟩ ⟨rfl, rfl⟩ rfl rfl (Nat.le_of_ble_eq_true rfl) ⟨(Nat.le_of_ble_eq_true rfl), (Nat.le_of_ble_eq_true rfl)⟩ (fun G7 hh => ?_)
  exact am_vret rfl dX11_init_11 (Nat.le_refl 0) (Nat.le_refl 0) hh
/-! TableArms$AsCloth.<init>(LTableArms;I)V -/
abbrev VX12_init (l : Launch) (Q : Option am_W → ah_H → Prop) (pc : Nat) (lv : List (Nat × am_W)) (st : List am_W) (S : ah_H) : Prop := am_V ah_r l RX12 cX12_init 3 none "<init>" (am_rm 3 0 0) (am_E1 ah_r 0 0 Q) pc lv st S 0 0
abbrev kX12_init (l : Launch) (as : List am_W) (S : ah_H) (Q : Option am_W → ah_H → Prop) : Prop := am_C ah_r l yX12_init (ws_ yX12_init cX12_init 3 none) (am_rm 3 0 0) 0 0 as S Q
set_option maxHeartbeats 4000000 in
set_option maxRecDepth 100000 in
theorem bX12_init {l : Launch} {Q : Option am_W → ah_H → Prop} {S : ah_H} (v0 : Nat) (v1 : Nat) (v2 : Int) (h2 : am_r v2)
    (hh : (∃ fs1, (S.1 v0 = some (.inl (11, fs1))) ∧
      (ah_X ≤ v0) ∧
      (2 < fs1.length) ∧
      (∀ G5, G5 = ah_sf S v0 11 fs1 2 (am_R v1) →
      kX10_init l [am_R v0, am_R v1, am_I v2] G5 (am_qv fun G7 =>
        Q none G7)))) : kX12_init l [am_R v0, am_R v1, am_I v2] S Q := by
  refine am_entry (lv := [(0, am_R v0), (1, am_R v1), (2, am_I v2)]) rfl rfl rfl (fun _ => rfl) (fun _ => Nat.le_of_ble_eq_true rfl) ?_
  refine am_aload_n dX12_init_0 rfl 0 rfl ?_
  refine am_aload_n dX12_init_1 rfl 1 rfl ?_
  obtain ⟨fs1, ho2, hh⟩ := hh
  obtain ⟨o3, hh⟩ := hh
  obtain ⟨o4, hh⟩ := hh
  refine ah_putG (ty := tyX12 2) ho2 o3 o4 rfl in_X12 tyX12 tyX12_ok nmg_X12 hall_X12 (by decide) q1200 rfl rfl rfl (tyX12_ok 2 (by decide)) (ah_fit_ref (Or.inl ⟨_, rfl⟩)) dX12_init_2 ?_
  have hh := hh _ rfl
  refine am_aload_n dX12_init_5 rfl 0 rfl ?_
  refine am_aload_n dX12_init_6 rfl 1 rfl ?_
  refine am_iload_n dX12_init_7 rfl 2 rfl ?_
  refine am_rIv (n := 2) hh dX12_init_8 q1199 q1181 q120 q1182 rfl ⟨⟨by decide, by decide, by decide +kernel⟩, ⟨Nat.le_of_ble_eq_true rfl, Nat.le_of_ble_eq_true rfl⟩⟩ ⟨rfl, rfl⟩ rfl rfl (Nat.le_of_ble_eq_true rfl) ⟨(Nat.le_of_ble_eq_true rfl), (Nat.le_of_ble_eq_true rfl)⟩ (fun G7 hh => ?_)
  exact am_vret rfl dX12_init_11 (Nat.le_refl 0) (Nat.le_refl 0) hh
/-! TableArms.isShut(I)Z -/
abbrev VX0_isShut (l : Launch) (Q : Option am_W → ah_H → Prop) (pc : Nat) (lv : List (Nat × am_W)) (st : List am_W) (S : ah_H) : Prop := am_V ah_r l RX0 cX0_isShut 4 (some .boolean) "isShut" (am_rm 3 0 0) (am_E1 ah_r 0 0 Q) pc lv st S 0 0
abbrev kX0_isShut (l : Launch) (as : List am_W) (S : ah_H) (Q : Option am_W → ah_H → Prop) : Prop := am_C ah_r l yX0_isShut (ws_ yX0_isShut cX0_isShut 4 (some .boolean)) (am_rm 3 0 0) 0 0 as S Q
set_option maxHeartbeats 4000000 in
set_option maxRecDepth 100000 in
theorem bX0_isShut {l : Launch} {Q : Option am_W → ah_H → Prop} {S : ah_H} (v0 : Nat) (v1 : Int) (h1 : am_r v1)
    (hh : (∃ fs1, (S.1 v0 = some (.inl (1, fs1))) ∧
      (∃ x4, (fs1[2]? = some (am_R x4)) ∧
      (∃ n5 f6, (S.1 x4 = some (.inr (0, n5, .inl f6))) ∧
      (0 ≤ v1 ∧ v1 < (n5 : Int)) ∧
      ((((f6 v1.toNat).toInt) = 2) →
        (∃ x13, (fs1[4]? = some (am_R x13)) ∧
        (∃ fs14, (S.1 x13 = some (.inl (2, fs14))) ∧
        (∃ x17, (fs14[2]? = some (am_R x17)) ∧
        (∃ n18 f19, (S.1 x17 = some (.inr (0, n18, .inl f19))) ∧
        (0 ≤ v1 ∧ v1 < (n18 : Int)) ∧
        kX1_below l [am_R x13, am_I v1] S (am_qi fun r23 G22 =>
          (∃ fs25, (G22.1 v0 = some (.inl (1, fs25))) ∧
          (∃ x28, (fs25[4]? = some (am_R x28)) ∧
          (∃ fs29, (G22.1 x28 = some (.inl (2, fs29))) ∧
          (∃ x32, (fs29[1]? = some (am_R x32)) ∧
          (∃ n33 f34, (G22.1 x32 = some (.inr (0, n33, .inl f34))) ∧
          (0 ≤ (f19 v1.toNat).toInt ∧ (f19 v1.toNat).toInt < (n33 : Int)) ∧
          (am_r (r23 + 1)) ∧
          ((((f34 ((f19 v1.toNat).toInt).toNat).toInt) ≤ (r23 + 1)) →
            Q (some (am_I (am_b false))) G22) ∧
          ((¬ ((f34 ((f19 v1.toNat).toInt).toNat).toInt) ≤ (r23 + 1)) →
            (∃ x42, (fs25[2]? = some (am_R x42)) ∧
            kX1_at l [am_R x28, am_I (f19 v1.toNat).toInt, am_I (r23 + 1)] G22 (am_qi fun r44 G43 =>
              (∃ n46 f47, (G43.1 x42 = some (.inr (0, n46, .inl f47))) ∧
              (0 ≤ r44 ∧ r44 < (n46 : Int)) ∧
              ((¬ ((f47 r44.toNat).toInt) = 3) →
                Q (some (am_I (am_b false))) G43) ∧
              ((((f47 r44.toNat).toInt) = 3) →
                Q (some (am_I (am_b true))) G43)))))))))))))))) ∧
      ((¬ ((f6 v1.toNat).toInt) = 2) →
        Q (some (am_I (am_b false))) S))))) : kX0_isShut l [am_R v0, am_I v1] S Q := by
  refine am_entry (lv := [(0, am_R v0), (1, am_I v1)]) rfl rfl rfl (fun _ => rfl) (fun _ => Nat.le_of_ble_eq_true rfl) ?_
  refine am_aload_n dX0_isShut_0 rfl 0 rfl ?_
  obtain ⟨fs1, ho2, hh⟩ := hh
  obtain ⟨x4, hv3, hh⟩ := hh
  refine ah_get ho2 hv3 rfl in_X0 (by decide) q211 (Or.inl rfl) dX0_isShut_1 ?_
  refine am_iload_n dX0_isShut_4 rfl 1 rfl ?_
  obtain ⟨n5, f6, ha7, hh⟩ := hh
  obtain ⟨o8, hh⟩ := hh
  refine ah_iald ha7 o8.1 o8.2 (v := (f6 v1.toNat).toInt) rfl dX0_isShut_5 ?_
  refine am_iconst dX0_isShut_6 ?_
  obtain ⟨ha9, hb10⟩ := hh
  refine am_icmp_eq (tgt := 12) dX0_isShut_7 (by decide) (am_rt _) (⟨by decide, by decide⟩) (fun hc11 => ?_) (fun hc11 => ?_)
  · have hh := ha9 hc11
    refine am_aload_n dX0_isShut_12 rfl 0 rfl ?_
    obtain ⟨x13, hv12, hh⟩ := hh
    refine ah_get ho2 hv12 rfl in_X0 (by decide) q215 (Or.inl rfl) dX0_isShut_13 ?_
    obtain ⟨fs14, ho15, hh⟩ := hh
    obtain ⟨x17, hv16, hh⟩ := hh
    refine ah_getN ho15 hv16 rfl in_X1 (by decide) (am_nwin q147 rfl) dX0_isShut_16 ?_
    refine am_iload_n dX0_isShut_19 rfl 1 rfl ?_
    obtain ⟨n18, f19, ha20, hh⟩ := hh
    obtain ⟨o21, hh⟩ := hh
    refine ah_iald ha20 o21.1 o21.2 (v := (f19 v1.toNat).toInt) rfl dX0_isShut_20 ?_
    refine am_istore_n dX0_isShut_21 rfl (by decide) rfl ?_
    refine am_aload_n dX0_isShut_22 rfl 1 rfl ?_
    refine ah_get ho2 hv12 rfl in_X0 (by decide) q215 (Or.inl rfl) dX0_isShut_23 ?_
    refine am_iload_n dX0_isShut_26 rfl 2 rfl ?_
    refine am_rVi (n := 1) hh dX0_isShut_27 (lw_V q473 q474 q475 q91 q476) rfl ⟨⟨by decide, by decide, by decide +kernel⟩, ⟨Nat.le_of_ble_eq_true rfl, Nat.le_of_ble_eq_true rfl⟩⟩ ⟨rfl, rfl⟩ rfl rfl (Nat.le_of_ble_eq_true rfl) ⟨(Nat.le_of_ble_eq_true rfl), (Nat.le_of_ble_eq_true rfl)⟩ (ah_recv ho15 rfl) (fun r23 G22 hr24 hh => ?_)
    refine am_iconst dX0_isShut_30 ?_
    refine am_iadd dX0_isShut_31 ?_
    refine am_istore_n dX0_isShut_32 rfl (by decide) rfl ?_
    refine am_iload_n dX0_isShut_33 rfl 0 rfl ?_
    refine am_aload_n dX0_isShut_34 rfl 2 rfl ?_
    obtain ⟨fs25, ho26, hh⟩ := hh
    obtain ⟨x28, hv27, hh⟩ := hh
    refine ah_get ho26 hv27 rfl in_X0 (by decide) q215 (Or.inl rfl) dX0_isShut_35 ?_
    obtain ⟨fs29, ho30, hh⟩ := hh
    obtain ⟨x32, hv31, hh⟩ := hh
    refine ah_getN ho30 hv31 rfl in_X1 (by decide) (am_nwin q145 rfl) dX0_isShut_38 ?_
    refine am_iload_n dX0_isShut_41 rfl 1 rfl ?_
    obtain ⟨n33, f34, ha35, hh⟩ := hh
    obtain ⟨o36, hh⟩ := hh
    refine ah_iald ha35 o36.1 o36.2 (v := (f34 ((f19 v1.toNat).toInt).toNat).toInt) rfl dX0_isShut_42 ?_
    obtain ⟨o37, hh⟩ := hh
    obtain ⟨ha38, hb39⟩ := hh
    refine am_icmp_ge (tgt := 68) dX0_isShut_43 (by decide) o37 (am_rt _) (fun hc40 => ?_) (fun hc40 => ?_)
    · have hh := ha38 hc40
      refine am_iconst dX0_isShut_68 ?_
      exact am_zret (b := false) rfl dX0_isShut_69 (Nat.le_refl 0) (Nat.le_refl 0) hh
    · have hh := hb39 hc40
      refine am_aload_n dX0_isShut_46 rfl 2 rfl ?_
      obtain ⟨x42, hv41, hh⟩ := hh
      refine ah_get ho26 hv41 rfl in_X0 (by decide) q211 (Or.inl rfl) dX0_isShut_47 ?_
      refine am_aload_n dX0_isShut_50 rfl 2 rfl ?_
      refine ah_get ho26 hv27 rfl in_X0 (by decide) q215 (Or.inl rfl) dX0_isShut_51 ?_
      refine am_iload_n dX0_isShut_54 rfl 1 rfl ?_
      refine am_iload_n dX0_isShut_55 rfl 0 rfl ?_
      refine am_rVi (n := 2) hh dX0_isShut_56 (lw_V q489 q478 q479 q91 q480) rfl ⟨⟨by decide, by decide, by decide +kernel⟩, ⟨Nat.le_of_ble_eq_true rfl, Nat.le_of_ble_eq_true rfl⟩⟩ ⟨rfl, rfl⟩ rfl rfl (Nat.le_of_ble_eq_true rfl) ⟨(Nat.le_of_ble_eq_true rfl), (Nat.le_of_ble_eq_true rfl)⟩ (ah_recv ho30 rfl) (fun r44 G43 hr45 hh => ?_)
      obtain ⟨n46, f47, ha48, hh⟩ := hh
      obtain ⟨o49, hh⟩ := hh
      refine ah_iald ha48 o49.1 o49.2 (v := (f47 r44.toNat).toInt) rfl dX0_isShut_59 ?_
      refine am_iconst dX0_isShut_60 ?_
      obtain ⟨ha50, hb51⟩ := hh
      refine am_icmp_ne (tgt := 68) dX0_isShut_61 (by decide) (am_rt _) (⟨by decide, by decide⟩) (fun hc52 => ?_) (fun hc52 => ?_)
      · have hh := ha50 hc52
        refine am_iconst dX0_isShut_68 ?_
        exact am_zret (b := false) rfl dX0_isShut_69 (Nat.le_refl 0) (Nat.le_refl 0) hh
      · have hh := hb51 hc52
        refine am_iconst dX0_isShut_64 ?_
        refine am_goto (tgt := 69) dX0_isShut_65 (by decide) ?_
        exact am_zret (b := true) rfl dX0_isShut_69 (Nat.le_refl 0) (Nat.le_refl 0) hh
  · have hh := hb10 hc11
    refine am_iconst dX0_isShut_10 ?_
    exact am_zret (b := false) rfl dX0_isShut_11 (Nat.le_refl 0) (Nat.le_refl 0) hh
/-! TableArms$AsBox.<init>(LTableArms;I)V -/
abbrev VX13_init (l : Launch) (Q : Option am_W → ah_H → Prop) (pc : Nat) (lv : List (Nat × am_W)) (st : List am_W) (S : ah_H) : Prop := am_V ah_r l RX13 cX13_init 3 none "<init>" (am_rm 3 0 0) (am_E1 ah_r 0 0 Q) pc lv st S 0 0
abbrev kX13_init (l : Launch) (as : List am_W) (S : ah_H) (Q : Option am_W → ah_H → Prop) : Prop := am_C ah_r l yX13_init (ws_ yX13_init cX13_init 3 none) (am_rm 3 0 0) 0 0 as S Q
set_option maxHeartbeats 4000000 in
set_option maxRecDepth 100000 in
theorem bX13_init_X13 {l : Launch} {Q : Option am_W → ah_H → Prop} {S : ah_H} (v0 : Nat) (v1 : Nat) (v2 : Int) (h2 : am_r v2)
    (hh : (∃ fs1, (S.1 v0 = some (.inl (12, fs1))) ∧
      (ah_X ≤ v0) ∧
      (2 < fs1.length) ∧
      (∀ G5, G5 = ah_sf S v0 12 fs1 2 (am_R v1) →
      kX10_init l [am_R v0, am_R v1, am_I v2] G5 (am_qv fun G7 =>
        Q none G7)))) : kX13_init l [am_R v0, am_R v1, am_I v2] S Q := by
  refine am_entry (lv := [(0, am_R v0), (1, am_R v1), (2, am_I v2)]) rfl rfl rfl (fun _ => rfl) (fun _ => Nat.le_of_ble_eq_true rfl) ?_
  refine am_aload_n dX13_init_0 rfl 0 rfl ?_
  refine am_aload_n dX13_init_1 rfl 1 rfl ?_
  obtain ⟨fs1, ho2, hh⟩ := hh
  obtain ⟨o3, hh⟩ := hh
  obtain ⟨o4, hh⟩ := hh
  refine ah_putG (ty := tyX13 2) ho2 o3 o4 rfl in_X13 tyX13 tyX13_ok nmg_X13 hall_X13 (by decide) q1220 rfl rfl rfl (tyX13_ok 2 (by decide)) (ah_fit_ref (Or.inl ⟨_, rfl⟩)) dX13_init_2 ?_
  have hh := hh _ rfl
  refine am_aload_n dX13_init_5 rfl 0 rfl ?_
  refine am_aload_n dX13_init_6 rfl 1 rfl ?_
  refine am_iload_n dX13_init_7 rfl 2 rfl ?_
  refine am_rIv (n := 2) hh dX13_init_8 q1218 q1181 q120 q1182 rfl ⟨⟨by decide, by decide, by decide +kernel⟩, ⟨Nat.le_of_ble_eq_true rfl, Nat.le_of_ble_eq_true rfl⟩⟩ ⟨rfl, rfl⟩ rfl rfl (Nat.le_of_ble_eq_true rfl) ⟨(Nat.le_of_ble_eq_true rfl), (Nat.le_of_ble_eq_true rfl)⟩ (fun G7 hh => ?_)
  exact am_vret rfl dX13_init_11 (Nat.le_refl 0) (Nat.le_refl 0) hh
/-! TableArms$AsBox.<init>(LTableArms;I)V -/
set_option maxHeartbeats 4000000 in
set_option maxRecDepth 100000 in
theorem bX13_init_X14 {l : Launch} {Q : Option am_W → ah_H → Prop} {S : ah_H} (v0 : Nat) (v1 : Nat) (v2 : Int) (h2 : am_r v2)
    (hh : (∃ fs1, (S.1 v0 = some (.inl (13, fs1))) ∧
      (ah_X ≤ v0) ∧
      (2 < fs1.length) ∧
      (∀ G5, G5 = ah_sf S v0 13 fs1 2 (am_R v1) →
      kX10_init l [am_R v0, am_R v1, am_I v2] G5 (am_qv fun G7 =>
        Q none G7)))) : kX13_init l [am_R v0, am_R v1, am_I v2] S Q := by
  refine am_entry (lv := [(0, am_R v0), (1, am_R v1), (2, am_I v2)]) rfl rfl rfl (fun _ => rfl) (fun _ => Nat.le_of_ble_eq_true rfl) ?_
  refine am_aload_n dX13_init_0 rfl 0 rfl ?_
  refine am_aload_n dX13_init_1 rfl 1 rfl ?_
  obtain ⟨fs1, ho2, hh⟩ := hh
  obtain ⟨o3, hh⟩ := hh
  obtain ⟨o4, hh⟩ := hh
  refine ah_putG (ty := tyX14 2) ho2 o3 o4 rfl in_X14 tyX14 tyX14_ok nmg_X14 hall_X14 (by decide) q1220 rfl rfl rfl (tyX14_ok 2 (by decide)) (ah_fit_ref (Or.inl ⟨_, rfl⟩)) dX13_init_2 ?_
  have hh := hh _ rfl
  refine am_aload_n dX13_init_5 rfl 0 rfl ?_
  refine am_aload_n dX13_init_6 rfl 1 rfl ?_
  refine am_iload_n dX13_init_7 rfl 2 rfl ?_
  refine am_rIv (n := 2) hh dX13_init_8 q1218 q1181 q120 q1182 rfl ⟨⟨by decide, by decide, by decide +kernel⟩, ⟨Nat.le_of_ble_eq_true rfl, Nat.le_of_ble_eq_true rfl⟩⟩ ⟨rfl, rfl⟩ rfl rfl (Nat.le_of_ble_eq_true rfl) ⟨(Nat.le_of_ble_eq_true rfl), (Nat.le_of_ble_eq_true rfl)⟩ (fun G7 hh => ?_)
  exact am_vret rfl dX13_init_11 (Nat.le_refl 0) (Nat.le_refl 0) hh
/-! TableArms$AsShut.<init>(LTableArms;I)V -/
abbrev VX14_init (l : Launch) (Q : Option am_W → ah_H → Prop) (pc : Nat) (lv : List (Nat × am_W)) (st : List am_W) (S : ah_H) : Prop := am_V ah_r l RX14 cX14_init 3 none "<init>" (am_rm 4 0 0) (am_E1 ah_r 0 0 Q) pc lv st S 0 0
abbrev kX14_init (l : Launch) (as : List am_W) (S : ah_H) (Q : Option am_W → ah_H → Prop) : Prop := am_C ah_r l yX14_init (ws_ yX14_init cX14_init 3 none) (am_rm 4 0 0) 0 0 as S Q
set_option maxHeartbeats 4000000 in
set_option maxRecDepth 100000 in
theorem bX14_init {l : Launch} {Q : Option am_W → ah_H → Prop} {S : ah_H} (v0 : Nat) (v1 : Nat) (v2 : Int) (h2 : am_r v2)
    (hh : (∃ fs1, (S.1 v0 = some (.inl (13, fs1))) ∧
      (ah_X ≤ v0) ∧
      (3 < fs1.length) ∧
      (∀ G5, G5 = ah_sf S v0 13 fs1 3 (am_R v1) →
      kX13_init l [am_R v0, am_R v1, am_I v2] G5 (am_qv fun G7 =>
        Q none G7)))) : kX14_init l [am_R v0, am_R v1, am_I v2] S Q := by
  refine am_entry (lv := [(0, am_R v0), (1, am_R v1), (2, am_I v2)]) rfl rfl rfl (fun _ => rfl) (fun _ => Nat.le_of_ble_eq_true rfl) ?_
  refine am_aload_n dX14_init_0 rfl 0 rfl ?_
  refine am_aload_n dX14_init_1 rfl 1 rfl ?_
  obtain ⟨fs1, ho2, hh⟩ := hh
  obtain ⟨o3, hh⟩ := hh
  obtain ⟨o4, hh⟩ := hh
  refine ah_putG (ty := tyX14 3) ho2 o3 o4 rfl in_X14 tyX14 tyX14_ok nmg_X14 hall_X14 (by decide) q1219 rfl rfl rfl (tyX14_ok 3 (by decide)) (ah_fit_ref (Or.inl ⟨_, rfl⟩)) dX14_init_2 ?_
  have hh := hh _ rfl
  refine am_aload_n dX14_init_5 rfl 0 rfl ?_
  refine am_aload_n dX14_init_6 rfl 1 rfl ?_
  refine am_iload_n dX14_init_7 rfl 2 rfl ?_
  refine am_rIv (n := 2) hh dX14_init_8 q1215 q1216 q123 q1217 rfl ⟨⟨by decide, by decide, by decide +kernel⟩, ⟨Nat.le_of_ble_eq_true rfl, Nat.le_of_ble_eq_true rfl⟩⟩ ⟨rfl, rfl⟩ rfl rfl (Nat.le_of_ble_eq_true rfl) ⟨(Nat.le_of_ble_eq_true rfl), (Nat.le_of_ble_eq_true rfl)⟩ (fun G7 hh => ?_)
  exact am_vret rfl dX14_init_11 (Nat.le_refl 0) (Nat.le_refl 0) hh
/-! TableArms$AsLid.<init>(LTableArms;I)V -/
abbrev VX15_init (l : Launch) (Q : Option am_W → ah_H → Prop) (pc : Nat) (lv : List (Nat × am_W)) (st : List am_W) (S : ah_H) : Prop := am_V ah_r l RX15 cX15_init 3 none "<init>" (am_rm 3 0 0) (am_E1 ah_r 0 0 Q) pc lv st S 0 0
abbrev kX15_init (l : Launch) (as : List am_W) (S : ah_H) (Q : Option am_W → ah_H → Prop) : Prop := am_C ah_r l yX15_init (ws_ yX15_init cX15_init 3 none) (am_rm 3 0 0) 0 0 as S Q
set_option maxHeartbeats 4000000 in
set_option maxRecDepth 100000 in
theorem bX15_init {l : Launch} {Q : Option am_W → ah_H → Prop} {S : ah_H} (v0 : Nat) (v1 : Nat) (v2 : Int) (h2 : am_r v2)
    (hh : (∃ fs1, (S.1 v0 = some (.inl (14, fs1))) ∧
      (ah_X ≤ v0) ∧
      (2 < fs1.length) ∧
      (∀ G5, G5 = ah_sf S v0 14 fs1 2 (am_R v1) →
      kX10_init l [am_R v0, am_R v1, am_I v2] G5 (am_qv fun G7 =>
        Q none G7)))) : kX15_init l [am_R v0, am_R v1, am_I v2] S Q := by
  refine am_entry (lv := [(0, am_R v0), (1, am_R v1), (2, am_I v2)]) rfl rfl rfl (fun _ => rfl) (fun _ => Nat.le_of_ble_eq_true rfl) ?_
  refine am_aload_n dX15_init_0 rfl 0 rfl ?_
  refine am_aload_n dX15_init_1 rfl 1 rfl ?_
  obtain ⟨fs1, ho2, hh⟩ := hh
  obtain ⟨o3, hh⟩ := hh
  obtain ⟨o4, hh⟩ := hh
  refine ah_putG (ty := tyX15 2) ho2 o3 o4 rfl in_X15 tyX15 tyX15_ok nmg_X15 hall_X15 (by decide) q1241 rfl rfl rfl (tyX15_ok 2 (by decide)) (ah_fit_ref (Or.inl ⟨_, rfl⟩)) dX15_init_2 ?_
  have hh := hh _ rfl
  refine am_aload_n dX15_init_5 rfl 0 rfl ?_
  refine am_aload_n dX15_init_6 rfl 1 rfl ?_
  refine am_iload_n dX15_init_7 rfl 2 rfl ?_
  refine am_rIv (n := 2) hh dX15_init_8 q1240 q1181 q120 q1182 rfl ⟨⟨by decide, by decide, by decide +kernel⟩, ⟨Nat.le_of_ble_eq_true rfl, Nat.le_of_ble_eq_true rfl⟩⟩ ⟨rfl, rfl⟩ rfl rfl (Nat.le_of_ble_eq_true rfl) ⟨(Nat.le_of_ble_eq_true rfl), (Nat.le_of_ble_eq_true rfl)⟩ (fun G7 hh => ?_)
  exact am_vret rfl dX15_init_11 (Nat.le_refl 0) (Nat.le_refl 0) hh
/-! TableArms.asked(I)LTableArms$AsThing; -/
abbrev VX0_asked (l : Launch) (mc ms : Nat) (Q : Option am_W → ah_H → Prop) (pc : Nat) (lv : List (Nat × am_W)) (st : List am_W) (S : ah_H) (cells slots : Nat) : Prop := am_V ah_r l RX0 cX0_asked 2 (some (Jvm.ClassFile.FieldType.object "TableArms$AsThing")) "asked" (am_rm 5 mc ms) (am_E1 ah_r mc ms Q) pc lv st S cells slots
abbrev kX0_asked (l : Launch) (mc ms : Nat) (as : List am_W) (S : ah_H) (Q : Option am_W → ah_H → Prop) : Prop := am_C ah_r l yX0_asked (ws_ yX0_asked cX0_asked 2 (some (Jvm.ClassFile.FieldType.object "TableArms$AsThing"))) (am_rm 5 mc ms) mc ms as S Q
set_option maxHeartbeats 4000000 in
set_option maxRecDepth 100000 in
theorem bX0_asked {l : Launch} {mc ms : Nat} {Q : Option am_W → ah_H → Prop} {S : ah_H} (v0 : Nat) (v1 : Int) (h1 : am_r v1)
    (hh : (∃ fs1, (S.1 v0 = some (.inl (1, fs1))) ∧
      (∃ x4, (fs1[2]? = some (am_R x4)) ∧
      (∃ n5 f6, (S.1 x4 = some (.inr (0, n5, .inl f6))) ∧
      (0 ≤ v1 ∧ v1 < (n5 : Int)) ∧
      (((f6 v1.toNat).toInt = 0) →
        (1 ≤ mc) ∧
        (3 ≤ ms) ∧
        (∀ G21, G21 = ah_mk S (.inl (10, ah_dX11)) →
        kX11_init l [am_R S.2, am_R v0, am_I v1] G21 (am_qv fun G23 =>
          Q (some (am_R S.2)) G23))) ∧
      (((f6 v1.toNat).toInt = 1) →
        (1 ≤ mc) ∧
        (3 ≤ ms) ∧
        (∀ G26, G26 = ah_mk S (.inl (11, ah_dX12)) →
        kX12_init l [am_R S.2, am_R v0, am_I v1] G26 (am_qv fun G28 =>
          Q (some (am_R S.2)) G28))) ∧
      (((f6 v1.toNat).toInt = 2) →
        kX0_isShut l [am_R v0, am_I v1] S (am_qz fun b30 G29 =>
          ((b30 = false) →
            (1 ≤ mc) ∧
            (3 ≤ ms) ∧
            (∀ G36, G36 = ah_mk G29 (.inl (12, ah_dX13)) →
            kX13_init l [am_R G29.2, am_R v0, am_I v1] G36 (am_qv fun G38 =>
              Q (some (am_R G29.2)) G38))) ∧
          ((b30 = true) →
            (1 ≤ mc) ∧
            (4 ≤ ms) ∧
            (∀ G41, G41 = ah_mk G29 (.inl (13, ah_dX14)) →
            kX14_init l [am_R G29.2, am_R v0, am_I v1] G41 (am_qv fun G43 =>
              Q (some (am_R G29.2)) G43))))) ∧
      (((f6 v1.toNat).toInt < 0 ∨ 2 < (f6 v1.toNat).toInt) →
        (1 ≤ mc) ∧
        (3 ≤ ms) ∧
        (∀ G16, G16 = ah_mk S (.inl (14, ah_dX15)) →
        kX15_init l [am_R S.2, am_R v0, am_I v1] G16 (am_qv fun G18 =>
          Q (some (am_R S.2)) G18))))))) : kX0_asked l mc ms [am_R v0, am_I v1] S Q := by
  refine am_entry (lv := [(0, am_R v0), (1, am_I v1)]) rfl rfl rfl (fun _ => rfl) (fun _ => Nat.le_of_ble_eq_true rfl) ?_
  refine am_aload_n dX0_asked_0 rfl 0 rfl ?_
  obtain ⟨fs1, ho2, hh⟩ := hh
  obtain ⟨x4, hv3, hh⟩ := hh
  refine ah_get ho2 hv3 rfl in_X0 (by decide) q211 (Or.inl rfl) dX0_asked_1 ?_
  refine am_iload_n dX0_asked_4 rfl 1 rfl ?_
  obtain ⟨n5, f6, ha7, hh⟩ := hh
  obtain ⟨o8, hh⟩ := hh
  refine ah_iald ha7 o8.1 o8.2 (v := (f6 v1.toNat).toInt) rfl dX0_asked_5 ?_
  obtain ⟨ha9, ha10, ha11, ha12⟩ := hh
  by_cases hc13 : (f6 v1.toNat).toInt < 0 ∨ 2 < (f6 v1.toNat).toInt
  · have hh := ha12 hc13
    refine am_tabOut (tgt := 82) dX0_asked_6 (am_rt _) hc13 (by decide) ?_
    obtain ⟨o14, hh⟩ := hh
    obtain ⟨o15, hh⟩ := hh
    refine ah_new (ci := 14) (fs := ah_dX15) tyX15 rfl in_X15 tyX15_ok q1235 q1236 q125 ah_dX15_ok o14 o15 dX0_asked_82 ?_
    have hh := hh _ rfl
    refine am_dup dX0_asked_85 rfl ?_
    refine am_aload_n dX0_asked_86 rfl 0 rfl ?_
    refine am_iload_n dX0_asked_87 rfl 1 rfl ?_
    refine am_rIv (n := 2) hh dX0_asked_88 q1237 q1238 q125 q1239 rfl ⟨⟨by decide, by decide, by decide +kernel⟩, ⟨Nat.le_of_ble_eq_true rfl, Nat.le_of_ble_eq_true rfl⟩⟩ ⟨rfl, rfl⟩ rfl rfl (Nat.le_of_ble_eq_true rfl) ⟨o14, o15⟩ (fun G18 hh => ?_)
    exact am_aret rfl (by first | exact Or.inl ⟨_, rfl⟩ | exact Or.inr ⟨_, rfl⟩) dX0_asked_91 o14 o15 hh
  have hc13 : (f6 v1.toNat).toInt = 0 ∨ (f6 v1.toNat).toInt = 1 ∨ (f6 v1.toNat).toInt = 2 := by omega
  rcases hc13 with hc13 | hc13 | hc13
  · have hh := ha9 hc13
    refine am_tabIn (tgt := 32) 0 dX0_asked_6 (am_rt _) hc13 (by decide) (by decide) rfl (by decide) ?_
    obtain ⟨o19, hh⟩ := hh
    obtain ⟨o20, hh⟩ := hh
    refine ah_new (ci := 10) (fs := ah_dX11) tyX11 rfl in_X11 tyX11_ok q1175 q1176 q121 ah_dX11_ok o19 o20 dX0_asked_32 ?_
    have hh := hh _ rfl
    refine am_dup dX0_asked_35 rfl ?_
    refine am_aload_n dX0_asked_36 rfl 0 rfl ?_
    refine am_iload_n dX0_asked_37 rfl 1 rfl ?_
    refine am_rIv (n := 2) hh dX0_asked_38 q1177 q1178 q121 q1179 rfl ⟨⟨by decide, by decide, by decide +kernel⟩, ⟨Nat.le_of_ble_eq_true rfl, Nat.le_of_ble_eq_true rfl⟩⟩ ⟨rfl, rfl⟩ rfl rfl (Nat.le_of_ble_eq_true rfl) ⟨o19, o20⟩ (fun G23 hh => ?_)
    exact am_aret rfl (by first | exact Or.inl ⟨_, rfl⟩ | exact Or.inr ⟨_, rfl⟩) dX0_asked_41 o19 o20 hh
  · have hh := ha10 hc13
    refine am_tabIn (tgt := 42) 1 dX0_asked_6 (am_rt _) hc13 (by decide) (by decide) rfl (by decide) ?_
    obtain ⟨o24, hh⟩ := hh
    obtain ⟨o25, hh⟩ := hh
    refine ah_new (ci := 11) (fs := ah_dX12) tyX12 rfl in_X12 tyX12_ok q1194 q1195 q122 ah_dX12_ok o24 o25 dX0_asked_42 ?_
    have hh := hh _ rfl
    refine am_dup dX0_asked_45 rfl ?_
    refine am_aload_n dX0_asked_46 rfl 0 rfl ?_
    refine am_iload_n dX0_asked_47 rfl 1 rfl ?_
    refine am_rIv (n := 2) hh dX0_asked_48 q1196 q1197 q122 q1198 rfl ⟨⟨by decide, by decide, by decide +kernel⟩, ⟨Nat.le_of_ble_eq_true rfl, Nat.le_of_ble_eq_true rfl⟩⟩ ⟨rfl, rfl⟩ rfl rfl (Nat.le_of_ble_eq_true rfl) ⟨o24, o25⟩ (fun G28 hh => ?_)
    exact am_aret rfl (by first | exact Or.inl ⟨_, rfl⟩ | exact Or.inr ⟨_, rfl⟩) dX0_asked_51 o24 o25 hh
  · have hh := ha11 hc13
    refine am_tabIn (tgt := 52) 2 dX0_asked_6 (am_rt _) hc13 (by decide) (by decide) rfl (by decide) ?_
    refine am_aload_n dX0_asked_52 rfl 0 rfl ?_
    refine am_iload_n dX0_asked_53 rfl 1 rfl ?_
    refine am_rVz (n := 1) hh dX0_asked_54 (lw_V q1206 q1208 qs39 q90 q1209) rfl ⟨⟨by decide, by decide, by decide +kernel⟩, ⟨Nat.le_of_ble_eq_true rfl, Nat.le_of_ble_eq_true rfl⟩⟩ ⟨rfl, rfl⟩ rfl rfl (Nat.le_of_ble_eq_true rfl) ⟨(Nat.zero_le _), (Nat.zero_le _)⟩ (ah_recv ho2 rfl) (fun b30 G29 hh => ?_)
    obtain ⟨ha31, hb32⟩ := hh
    refine am_ifB_eq (tgt := 72) dX0_asked_57 (by decide) (fun hc33 => ?_) (fun hc33 => ?_)
    · have hh := ha31 hc33
      obtain ⟨o34, hh⟩ := hh
      obtain ⟨o35, hh⟩ := hh
      refine ah_new (ci := 12) (fs := ah_dX13) tyX13 rfl in_X13 tyX13_ok q1228 q1229 q123 ah_dX13_ok o34 o35 dX0_asked_72 ?_
      have hh := hh _ rfl
      refine am_dup dX0_asked_75 rfl ?_
      refine am_aload_n dX0_asked_76 rfl 0 rfl ?_
      refine am_iload_n dX0_asked_77 rfl 1 rfl ?_
      refine am_rIv (n := 2) hh dX0_asked_78 q1230 q1216 q123 q1217 rfl ⟨⟨by decide, by decide, by decide +kernel⟩, ⟨Nat.le_of_ble_eq_true rfl, Nat.le_of_ble_eq_true rfl⟩⟩ ⟨rfl, rfl⟩ rfl rfl (Nat.le_of_ble_eq_true rfl) ⟨o34, o35⟩ (fun G38 hh => ?_)
      exact am_aret rfl (by first | exact Or.inl ⟨_, rfl⟩ | exact Or.inr ⟨_, rfl⟩) dX0_asked_81 o34 o35 hh
    · have hh := hb32 hc33
      obtain ⟨o39, hh⟩ := hh
      obtain ⟨o40, hh⟩ := hh
      refine ah_new (ci := 13) (fs := ah_dX14) tyX14 rfl in_X14 tyX14_ok q1210 q1211 q124 ah_dX14_ok o39 o40 dX0_asked_60 ?_
      have hh := hh _ rfl
      refine am_dup dX0_asked_63 rfl ?_
      refine am_aload_n dX0_asked_64 rfl 0 rfl ?_
      refine am_iload_n dX0_asked_65 rfl 1 rfl ?_
      refine am_rIv (n := 2) hh dX0_asked_66 q1212 q1213 q124 q1214 rfl ⟨⟨by decide, by decide, by decide +kernel⟩, ⟨Nat.le_of_ble_eq_true rfl, Nat.le_of_ble_eq_true rfl⟩⟩ ⟨rfl, rfl⟩ rfl rfl (Nat.le_of_ble_eq_true rfl) ⟨o39, o40⟩ (fun G43 hh => ?_)
      refine am_goto (tgt := 81) dX0_asked_69 (by decide) ?_
      exact am_aret rfl (by first | exact Or.inl ⟨_, rfl⟩ | exact Or.inr ⟨_, rfl⟩) dX0_asked_81 o39 o40 hh
/-! TableArms$AsThing.kind()I -/
abbrev VX10_kind (l : Launch) (Q : Option am_W → ah_H → Prop) (pc : Nat) (lv : List (Nat × am_W)) (st : List am_W) (S : ah_H) : Prop := am_V ah_r l RX10 cX10_kind 1 (some .int) "kind" (am_rm 1 0 0) (am_E1 ah_r 0 0 Q) pc lv st S 0 0
abbrev kX10_kind (l : Launch) (as : List am_W) (S : ah_H) (Q : Option am_W → ah_H → Prop) : Prop := am_C ah_r l yX10_kind (ws_ yX10_kind cX10_kind 1 (some .int)) (am_rm 1 0 0) 0 0 as S Q
set_option maxHeartbeats 4000000 in
set_option maxRecDepth 100000 in
theorem bX10_kind {l : Launch} {Q : Option am_W → ah_H → Prop} {S : ah_H} (v0 : Nat)
    (hh : Q (some (am_I 0)) S) : kX10_kind l [am_R v0] S Q := by
  refine am_entry (lv := [(0, am_R v0)]) rfl rfl rfl (fun _ => rfl) (fun _ => Nat.le_of_ble_eq_true rfl) ?_
  refine am_iconst dX10_kind_0 ?_
  exact am_iret rfl dX10_kind_1 (Nat.le_refl 0) (Nat.le_refl 0) hh
/-! TableArms$AsCup.kind()I -/
abbrev VX11_kind (l : Launch) (Q : Option am_W → ah_H → Prop) (pc : Nat) (lv : List (Nat × am_W)) (st : List am_W) (S : ah_H) : Prop := am_V ah_r l RX11 cX11_kind 1 (some .int) "kind" (am_rm 1 0 0) (am_E1 ah_r 0 0 Q) pc lv st S 0 0
abbrev kX11_kind (l : Launch) (as : List am_W) (S : ah_H) (Q : Option am_W → ah_H → Prop) : Prop := am_C ah_r l yX11_kind (ws_ yX11_kind cX11_kind 1 (some .int)) (am_rm 1 0 0) 0 0 as S Q
set_option maxHeartbeats 4000000 in
set_option maxRecDepth 100000 in
theorem bX11_kind {l : Launch} {Q : Option am_W → ah_H → Prop} {S : ah_H} (v0 : Nat)
    (hh : Q (some (am_I 1)) S) : kX11_kind l [am_R v0] S Q := by
  refine am_entry (lv := [(0, am_R v0)]) rfl rfl rfl (fun _ => rfl) (fun _ => Nat.le_of_ble_eq_true rfl) ?_
  refine am_iconst dX11_kind_0 ?_
  exact am_iret rfl dX11_kind_1 (Nat.le_refl 0) (Nat.le_refl 0) hh
/-! TableArms$AsCloth.kind()I -/
abbrev VX12_kind (l : Launch) (Q : Option am_W → ah_H → Prop) (pc : Nat) (lv : List (Nat × am_W)) (st : List am_W) (S : ah_H) : Prop := am_V ah_r l RX12 cX12_kind 1 (some .int) "kind" (am_rm 1 0 0) (am_E1 ah_r 0 0 Q) pc lv st S 0 0
abbrev kX12_kind (l : Launch) (as : List am_W) (S : ah_H) (Q : Option am_W → ah_H → Prop) : Prop := am_C ah_r l yX12_kind (ws_ yX12_kind cX12_kind 1 (some .int)) (am_rm 1 0 0) 0 0 as S Q
set_option maxHeartbeats 4000000 in
set_option maxRecDepth 100000 in
theorem bX12_kind {l : Launch} {Q : Option am_W → ah_H → Prop} {S : ah_H} (v0 : Nat)
    (hh : Q (some (am_I 2)) S) : kX12_kind l [am_R v0] S Q := by
  refine am_entry (lv := [(0, am_R v0)]) rfl rfl rfl (fun _ => rfl) (fun _ => Nat.le_of_ble_eq_true rfl) ?_
  refine am_iconst dX12_kind_0 ?_
  exact am_iret rfl dX12_kind_1 (Nat.le_refl 0) (Nat.le_refl 0) hh
/-! TableArms$AsBox.kind()I -/
abbrev VX13_kind (l : Launch) (Q : Option am_W → ah_H → Prop) (pc : Nat) (lv : List (Nat × am_W)) (st : List am_W) (S : ah_H) : Prop := am_V ah_r l RX13 cX13_kind 1 (some .int) "kind" (am_rm 1 0 0) (am_E1 ah_r 0 0 Q) pc lv st S 0 0
abbrev kX13_kind (l : Launch) (as : List am_W) (S : ah_H) (Q : Option am_W → ah_H → Prop) : Prop := am_C ah_r l yX13_kind (ws_ yX13_kind cX13_kind 1 (some .int)) (am_rm 1 0 0) 0 0 as S Q
set_option maxHeartbeats 4000000 in
set_option maxRecDepth 100000 in
theorem bX13_kind {l : Launch} {Q : Option am_W → ah_H → Prop} {S : ah_H} (v0 : Nat)
    (hh : Q (some (am_I 3)) S) : kX13_kind l [am_R v0] S Q := by
  refine am_entry (lv := [(0, am_R v0)]) rfl rfl rfl (fun _ => rfl) (fun _ => Nat.le_of_ble_eq_true rfl) ?_
  refine am_iconst dX13_kind_0 ?_
  exact am_iret rfl dX13_kind_1 (Nat.le_refl 0) (Nat.le_refl 0) hh
/-! TableArms$AsShut.kind()I -/
abbrev VX14_kind (l : Launch) (Q : Option am_W → ah_H → Prop) (pc : Nat) (lv : List (Nat × am_W)) (st : List am_W) (S : ah_H) : Prop := am_V ah_r l RX14 cX14_kind 1 (some .int) "kind" (am_rm 1 0 0) (am_E1 ah_r 0 0 Q) pc lv st S 0 0
abbrev kX14_kind (l : Launch) (as : List am_W) (S : ah_H) (Q : Option am_W → ah_H → Prop) : Prop := am_C ah_r l yX14_kind (ws_ yX14_kind cX14_kind 1 (some .int)) (am_rm 1 0 0) 0 0 as S Q
set_option maxHeartbeats 4000000 in
set_option maxRecDepth 100000 in
theorem bX14_kind {l : Launch} {Q : Option am_W → ah_H → Prop} {S : ah_H} (v0 : Nat)
    (hh : Q (some (am_I 4)) S) : kX14_kind l [am_R v0] S Q := by
  refine am_entry (lv := [(0, am_R v0)]) rfl rfl rfl (fun _ => rfl) (fun _ => Nat.le_of_ble_eq_true rfl) ?_
  refine am_iconst dX14_kind_0 ?_
  exact am_iret rfl dX14_kind_1 (Nat.le_refl 0) (Nat.le_refl 0) hh
/-! TableArms$AsLid.kind()I -/
abbrev VX15_kind (l : Launch) (Q : Option am_W → ah_H → Prop) (pc : Nat) (lv : List (Nat × am_W)) (st : List am_W) (S : ah_H) : Prop := am_V ah_r l RX15 cX15_kind 1 (some .int) "kind" (am_rm 1 0 0) (am_E1 ah_r 0 0 Q) pc lv st S 0 0
abbrev kX15_kind (l : Launch) (as : List am_W) (S : ah_H) (Q : Option am_W → ah_H → Prop) : Prop := am_C ah_r l yX15_kind (ws_ yX15_kind cX15_kind 1 (some .int)) (am_rm 1 0 0) 0 0 as S Q
set_option maxHeartbeats 4000000 in
set_option maxRecDepth 100000 in
theorem bX15_kind {l : Launch} {Q : Option am_W → ah_H → Prop} {S : ah_H} (v0 : Nat)
    (hh : Q (some (am_I 5)) S) : kX15_kind l [am_R v0] S Q := by
  refine am_entry (lv := [(0, am_R v0)]) rfl rfl rfl (fun _ => rfl) (fun _ => Nat.le_of_ble_eq_true rfl) ?_
  refine am_iconst dX15_kind_0 ?_
  exact am_iret rfl dX15_kind_1 (Nat.le_refl 0) (Nat.le_refl 0) hh
/-! TableArms.kind(I)I -/
abbrev VX0_kind (l : Launch) (mc ms : Nat) (Q : Option am_W → ah_H → Prop) (pc : Nat) (lv : List (Nat × am_W)) (st : List am_W) (S : ah_H) (cells slots : Nat) : Prop := am_V ah_r l RX0 cX0_kind 2 (some .int) "kind" (am_rm 6 mc ms) (am_E1 ah_r mc ms Q) pc lv st S cells slots
abbrev kX0_kind (l : Launch) (mc ms : Nat) (as : List am_W) (S : ah_H) (Q : Option am_W → ah_H → Prop) : Prop := am_C ah_r l yX0_kind (ws_ yX0_kind cX0_kind 2 (some .int)) (am_rm 6 mc ms) mc ms as S Q
set_option maxHeartbeats 4000000 in
set_option maxRecDepth 100000 in
theorem bX0_kind {l : Launch} {mc ms : Nat} {Q : Option am_W → ah_H → Prop} {S : ah_H} (v0 : Nat) (v1 : Int) (h1 : am_r v1)
    (hh : (∃ fs1, (S.1 v0 = some (.inl (1, fs1))) ∧
      kX0_isThing l [am_R v0, am_I v1] S (am_qz fun b4 G3 =>
        ((b4 = false) →
          Q (some (am_I (-1000001))) G3) ∧
        ((b4 = true) →
          (∃ mc8 ms9 : Nat, ((0 + mc8) ≤ mc ∧ (0 + ms9) ≤ ms) ∧
          (∃ fs12, (G3.1 v0 = some (.inl (1, fs12))) ∧
          kX0_asked l mc8 ms9 [am_R v0, am_I v1] G3 (am_qo fun a15 G14 => ∃ y16, a15 = some y16 ∧
            (((∃ fs17, (G14.1 y16 = some (.inl (10, fs17))) ∧
            kX11_kind l [am_R y16] G14 (am_qi fun r20 G19 =>
              Q (some (am_I r20)) G19))) ∨
            ((∃ fs22, (G14.1 y16 = some (.inl (11, fs22))) ∧
            kX12_kind l [am_R y16] G14 (am_qi fun r25 G24 =>
              Q (some (am_I r25)) G24))) ∨
            ((∃ fs27, (G14.1 y16 = some (.inl (12, fs27))) ∧
            kX13_kind l [am_R y16] G14 (am_qi fun r30 G29 =>
              Q (some (am_I r30)) G29))) ∨
            ((∃ fs32, (G14.1 y16 = some (.inl (13, fs32))) ∧
            kX14_kind l [am_R y16] G14 (am_qi fun r35 G34 =>
              Q (some (am_I r35)) G34))) ∨
            ((∃ fs37, (G14.1 y16 = some (.inl (14, fs37))) ∧
            kX15_kind l [am_R y16] G14 (am_qi fun r40 G39 =>
              Q (some (am_I r40)) G39))))))))))) : kX0_kind l mc ms [am_R v0, am_I v1] S Q := by
  refine am_entry (lv := [(0, am_R v0), (1, am_I v1)]) rfl rfl rfl (fun _ => rfl) (fun _ => Nat.le_of_ble_eq_true rfl) ?_
  refine am_aload_n dX0_kind_0 rfl 0 rfl ?_
  refine am_iload_n dX0_kind_1 rfl 1 rfl ?_
  obtain ⟨fs1, ho2, hh⟩ := hh
  refine am_rVz (n := 1) hh dX0_kind_2 (lw_V q464 q466 qs4 q90 q467) rfl ⟨⟨by decide, by decide, by decide +kernel⟩, ⟨Nat.le_of_ble_eq_true rfl, Nat.le_of_ble_eq_true rfl⟩⟩ ⟨rfl, rfl⟩ rfl rfl (Nat.le_of_ble_eq_true rfl) ⟨(Nat.zero_le _), (Nat.zero_le _)⟩ (ah_recv ho2 rfl) (fun b4 G3 hh => ?_)
  obtain ⟨ha5, hb6⟩ := hh
  refine am_ifB_eq (tgt := 19) dX0_kind_5 (by decide) (fun hc7 => ?_) (fun hc7 => ?_)
  · have hh := ha5 hc7
    refine am_ldc (z := -1000001) q289 (by decide) dX0_kind_19 ?_
    exact am_iret rfl dX0_kind_21 (Nat.zero_le _) (Nat.zero_le _) hh
  · have hh := hb6 hc7
    refine am_aload_n dX0_kind_8 rfl 0 rfl ?_
    refine am_iload_n dX0_kind_9 rfl 1 rfl ?_
    obtain ⟨mc8, ms9, ⟨o10, o11⟩, hh⟩ := hh
    obtain ⟨fs12, ho13, hh⟩ := hh
    refine am_rVo (n := 1) hh dX0_kind_10 (lw_V q1171 q1173 qs38 q90 q1174) rfl ⟨⟨by decide, by decide, by decide +kernel⟩, ⟨Nat.le_of_ble_eq_true rfl, Nat.le_of_ble_eq_true rfl⟩⟩ ⟨rfl, rfl⟩ rfl rfl (Nat.le_of_ble_eq_true rfl) ⟨o10, o11⟩ (ah_recv ho13 rfl) (fun a15 G14 hh => ?_)
    obtain ⟨y16, rfl, hh⟩ := hh
    rcases hh with hh | hh | hh | hh | hh
    · obtain ⟨fs17, ho18, hh⟩ := hh
      refine am_rUi (n := 0) hh dX0_kind_13 (am_CU_O (owner := "TableArms$AsThing") q1247 q1249 q1248 q1256 q1257 q121 q1258 q1265 ⟨rfl, rfl⟩ ⟨by decide, by decide, by decide +kernel⟩ ⟨Nat.le_of_ble_eq_true rfl, Nat.le_of_ble_eq_true rfl⟩) rfl rfl (Nat.le_of_ble_eq_true rfl) ⟨o10, o11⟩ (ah_recv ho18 rfl) (fun r20 G19 hr21 hh => ?_)
      refine am_goto (tgt := 21) dX0_kind_16 (by decide) ?_
      exact am_iret rfl dX0_kind_21 o10 o11 hh
    · obtain ⟨fs22, ho23, hh⟩ := hh
      refine am_rUi (n := 0) hh dX0_kind_13 (am_CU_O (owner := "TableArms$AsThing") q1247 q1249 q1248 q1253 q1254 q122 q1255 q1265 ⟨rfl, rfl⟩ ⟨by decide, by decide, by decide +kernel⟩ ⟨Nat.le_of_ble_eq_true rfl, Nat.le_of_ble_eq_true rfl⟩) rfl rfl (Nat.le_of_ble_eq_true rfl) ⟨o10, o11⟩ (ah_recv ho23 rfl) (fun r25 G24 hr26 hh => ?_)
      refine am_goto (tgt := 21) dX0_kind_16 (by decide) ?_
      exact am_iret rfl dX0_kind_21 o10 o11 hh
    · obtain ⟨fs27, ho28, hh⟩ := hh
      refine am_rUi (n := 0) hh dX0_kind_13 (am_CU_O (owner := "TableArms$AsThing") q1247 q1249 q1248 q1250 q1251 q123 q1252 q1265 ⟨rfl, rfl⟩ ⟨by decide, by decide, by decide +kernel⟩ ⟨Nat.le_of_ble_eq_true rfl, Nat.le_of_ble_eq_true rfl⟩) rfl rfl (Nat.le_of_ble_eq_true rfl) ⟨o10, o11⟩ (ah_recv ho28 rfl) (fun r30 G29 hr31 hh => ?_)
      refine am_goto (tgt := 21) dX0_kind_16 (by decide) ?_
      exact am_iret rfl dX0_kind_21 o10 o11 hh
    · obtain ⟨fs32, ho33, hh⟩ := hh
      refine am_rUi (n := 0) hh dX0_kind_13 (am_CU_O (owner := "TableArms$AsThing") q1247 q1249 q1248 q1262 q1263 q124 q1264 q1265 ⟨rfl, rfl⟩ ⟨by decide, by decide, by decide +kernel⟩ ⟨Nat.le_of_ble_eq_true rfl, Nat.le_of_ble_eq_true rfl⟩) rfl rfl (Nat.le_of_ble_eq_true rfl) ⟨o10, o11⟩ (ah_recv ho33 rfl) (fun r35 G34 hr36 hh => ?_)
      refine am_goto (tgt := 21) dX0_kind_16 (by decide) ?_
      exact am_iret rfl dX0_kind_21 o10 o11 hh
    · obtain ⟨fs37, ho38, hh⟩ := hh
      refine am_rUi (n := 0) hh dX0_kind_13 (am_CU_O (owner := "TableArms$AsThing") q1247 q1249 q1248 q1259 q1260 q125 q1261 q1265 ⟨rfl, rfl⟩ ⟨by decide, by decide, by decide +kernel⟩ ⟨Nat.le_of_ble_eq_true rfl, Nat.le_of_ble_eq_true rfl⟩) rfl rfl (Nat.le_of_ble_eq_true rfl) ⟨o10, o11⟩ (ah_recv ho38 rfl) (fun r40 G39 hr41 hh => ?_)
      refine am_goto (tgt := 21) dX0_kind_16 (by decide) ?_
      exact am_iret rfl dX0_kind_21 o10 o11 hh
/-! TableArms$AsThing.number()I -/
abbrev VX10_number (l : Launch) (Q : Option am_W → ah_H → Prop) (pc : Nat) (lv : List (Nat × am_W)) (st : List am_W) (S : ah_H) : Prop := am_V ah_r l RX10 cX10_number 1 (some .int) "number" (am_rm 1 0 0) (am_E1 ah_r 0 0 Q) pc lv st S 0 0
abbrev kX10_number (l : Launch) (as : List am_W) (S : ah_H) (Q : Option am_W → ah_H → Prop) : Prop := am_C ah_r l yX10_number (ws_ yX10_number cX10_number 1 (some .int)) (am_rm 1 0 0) 0 0 as S Q
set_option maxHeartbeats 4000000 in
set_option maxRecDepth 100000 in
theorem bX10_number_X11 {l : Launch} {Q : Option am_W → ah_H → Prop} {S : ah_H} (v0 : Nat)
    (hh : (∃ fs1, (S.1 v0 = some (.inl (10, fs1))) ∧
      (∃ z4, (fs1[0]? = some (am_I z4) ∧ am_r z4) ∧
      Q (some (am_I z4)) S))) : kX10_number l [am_R v0] S Q := by
  refine am_entry (lv := [(0, am_R v0)]) rfl rfl rfl (fun _ => rfl) (fun _ => Nat.le_of_ble_eq_true rfl) ?_
  refine am_aload_n dX10_number_0 rfl 0 rfl ?_
  obtain ⟨fs1, ho2, hh⟩ := hh
  obtain ⟨z4, ⟨hv3, hr5⟩, hh⟩ := hh
  refine ah_get ho2 hv3 rfl in_X11 (by decide) q1185 (Or.inl rfl) dX10_number_1 ?_
  exact am_iret rfl dX10_number_4 (Nat.le_refl 0) (Nat.le_refl 0) hh
/-! TableArms$AsThing.number()I -/
set_option maxHeartbeats 4000000 in
set_option maxRecDepth 100000 in
theorem bX10_number_X12 {l : Launch} {Q : Option am_W → ah_H → Prop} {S : ah_H} (v0 : Nat)
    (hh : (∃ fs1, (S.1 v0 = some (.inl (11, fs1))) ∧
      (∃ z4, (fs1[0]? = some (am_I z4) ∧ am_r z4) ∧
      Q (some (am_I z4)) S))) : kX10_number l [am_R v0] S Q := by
  refine am_entry (lv := [(0, am_R v0)]) rfl rfl rfl (fun _ => rfl) (fun _ => Nat.le_of_ble_eq_true rfl) ?_
  refine am_aload_n dX10_number_0 rfl 0 rfl ?_
  obtain ⟨fs1, ho2, hh⟩ := hh
  obtain ⟨z4, ⟨hv3, hr5⟩, hh⟩ := hh
  refine ah_get ho2 hv3 rfl in_X12 (by decide) q1185 (Or.inl rfl) dX10_number_1 ?_
  exact am_iret rfl dX10_number_4 (Nat.le_refl 0) (Nat.le_refl 0) hh
/-! TableArms$AsThing.number()I -/
set_option maxHeartbeats 4000000 in
set_option maxRecDepth 100000 in
theorem bX10_number_X13 {l : Launch} {Q : Option am_W → ah_H → Prop} {S : ah_H} (v0 : Nat)
    (hh : (∃ fs1, (S.1 v0 = some (.inl (12, fs1))) ∧
      (∃ z4, (fs1[0]? = some (am_I z4) ∧ am_r z4) ∧
      Q (some (am_I z4)) S))) : kX10_number l [am_R v0] S Q := by
  refine am_entry (lv := [(0, am_R v0)]) rfl rfl rfl (fun _ => rfl) (fun _ => Nat.le_of_ble_eq_true rfl) ?_
  refine am_aload_n dX10_number_0 rfl 0 rfl ?_
  obtain ⟨fs1, ho2, hh⟩ := hh
  obtain ⟨z4, ⟨hv3, hr5⟩, hh⟩ := hh
  refine ah_get ho2 hv3 rfl in_X13 (by decide) q1185 (Or.inl rfl) dX10_number_1 ?_
  exact am_iret rfl dX10_number_4 (Nat.le_refl 0) (Nat.le_refl 0) hh
/-! TableArms$AsThing.number()I -/
set_option maxHeartbeats 4000000 in
set_option maxRecDepth 100000 in
theorem bX10_number_X14 {l : Launch} {Q : Option am_W → ah_H → Prop} {S : ah_H} (v0 : Nat)
    (hh : (∃ fs1, (S.1 v0 = some (.inl (13, fs1))) ∧
      (∃ z4, (fs1[0]? = some (am_I z4) ∧ am_r z4) ∧
      Q (some (am_I z4)) S))) : kX10_number l [am_R v0] S Q := by
  refine am_entry (lv := [(0, am_R v0)]) rfl rfl rfl (fun _ => rfl) (fun _ => Nat.le_of_ble_eq_true rfl) ?_
  refine am_aload_n dX10_number_0 rfl 0 rfl ?_
  obtain ⟨fs1, ho2, hh⟩ := hh
  obtain ⟨z4, ⟨hv3, hr5⟩, hh⟩ := hh
  refine ah_get ho2 hv3 rfl in_X14 (by decide) q1185 (Or.inl rfl) dX10_number_1 ?_
  exact am_iret rfl dX10_number_4 (Nat.le_refl 0) (Nat.le_refl 0) hh
/-! TableArms$AsThing.number()I -/
set_option maxHeartbeats 4000000 in
set_option maxRecDepth 100000 in
theorem bX10_number_X15 {l : Launch} {Q : Option am_W → ah_H → Prop} {S : ah_H} (v0 : Nat)
    (hh : (∃ fs1, (S.1 v0 = some (.inl (14, fs1))) ∧
      (∃ z4, (fs1[0]? = some (am_I z4) ∧ am_r z4) ∧
      Q (some (am_I z4)) S))) : kX10_number l [am_R v0] S Q := by
  refine am_entry (lv := [(0, am_R v0)]) rfl rfl rfl (fun _ => rfl) (fun _ => Nat.le_of_ble_eq_true rfl) ?_
  refine am_aload_n dX10_number_0 rfl 0 rfl ?_
  obtain ⟨fs1, ho2, hh⟩ := hh
  obtain ⟨z4, ⟨hv3, hr5⟩, hh⟩ := hh
  refine ah_get ho2 hv3 rfl in_X15 (by decide) q1185 (Or.inl rfl) dX10_number_1 ?_
  exact am_iret rfl dX10_number_4 (Nat.le_refl 0) (Nat.le_refl 0) hh
/-! TableArms$Trail.begins(I)V -/
abbrev VX2_begins (l : Launch) (Q : Option am_W → ah_H → Prop) (pc : Nat) (lv : List (Nat × am_W)) (st : List am_W) (S : ah_H) : Prop := am_V ah_r l RX2 cX2_begins 2 none "begins" (am_rm 1 0 0) (am_E1 ah_r 0 0 Q) pc lv st S 0 0
abbrev kX2_begins (l : Launch) (as : List am_W) (S : ah_H) (Q : Option am_W → ah_H → Prop) : Prop := am_C ah_r l yX2_begins (ws_ yX2_begins cX2_begins 2 none) (am_rm 1 0 0) 0 0 as S Q
set_option maxHeartbeats 4000000 in
set_option maxRecDepth 100000 in
theorem bX2_begins {l : Launch} {Q : Option am_W → ah_H → Prop} {S : ah_H} (v0 : Nat) (v1 : Int) (h1 : am_r v1)
    (hh : (∃ fs1, (S.1 v0 = some (.inl (3, fs1))) ∧
      (∃ z4, (fs1[1]? = some (am_I z4) ∧ am_r z4) ∧
      ((16 ≤ z4) →
        Q none S) ∧
      ((¬ 16 ≤ z4) →
        (∃ x10, (fs1[0]? = some (am_R x10)) ∧
        (ah_X ≤ v0) ∧
        (1 < fs1.length) ∧
        (∀ G13, G13 = ah_sf S v0 3 fs1 1 (am_I (z4 + 1)) →
        (∃ n15 f16, (G13.1 x10 = some (.inr (0, n15, .inl f16))) ∧
        (ah_X ≤ x10) ∧
        (0 ≤ z4 ∧ z4 < (n15 : Int)) ∧
        (∀ G20, G20 = ah_si G13 x10 0 n15 f16 z4 (Int32.ofInt v1) →
        Q none G20)))))))) : kX2_begins l [am_R v0, am_I v1] S Q := by
  refine am_entry (lv := [(0, am_R v0), (1, am_I v1)]) rfl rfl rfl (fun _ => rfl) (fun _ => Nat.le_of_ble_eq_true rfl) ?_
  refine am_aload_n dX2_begins_0 rfl 0 rfl ?_
  obtain ⟨fs1, ho2, hh⟩ := hh
  obtain ⟨z4, ⟨hv3, hr5⟩, hh⟩ := hh
  refine ah_get ho2 hv3 rfl in_X2 (by decide) q201 (Or.inl rfl) dX2_begins_1 ?_
  refine am_bipush dX2_begins_4 (by decide) ?_
  obtain ⟨ha6, hb7⟩ := hh
  refine am_icmp_ge (tgt := 26) dX2_begins_6 (by decide) hr5 (⟨by decide, by decide⟩) (fun hc8 => ?_) (fun hc8 => ?_)
  · have hh := ha6 hc8
    exact am_vret rfl dX2_begins_26 (Nat.le_refl 0) (Nat.le_refl 0) hh
  · have hh := hb7 hc8
    refine am_aload_n dX2_begins_9 rfl 0 rfl ?_
    obtain ⟨x10, hv9, hh⟩ := hh
    refine ah_get ho2 hv9 rfl in_X2 (by decide) q199 (Or.inl rfl) dX2_begins_10 ?_
    refine am_aload_n dX2_begins_13 rfl 0 rfl ?_
    refine am_dup dX2_begins_14 rfl ?_
    refine ah_get ho2 hv3 rfl in_X2 (by decide) q201 (Or.inl rfl) dX2_begins_15 ?_
    refine am_dup_x1 dX2_begins_18 rfl rfl ?_
    refine am_iconst dX2_begins_19 ?_
    refine am_iadd dX2_begins_20 ?_
    obtain ⟨o11, hh⟩ := hh
    obtain ⟨o12, hh⟩ := hh
    refine ah_put (ty := tyX2 1) ho2 o11 o12 rfl in_X2 tyX2 tyX2_ok nmX2 (by decide) q201 (Or.inl rfl) rfl (tyX2_ok 1 (by decide)) ah_fit_int dX2_begins_21 ?_
    have hh := hh _ rfl
    refine am_iload_n dX2_begins_24 rfl 1 rfl ?_
    obtain ⟨n15, f16, ha17, hh⟩ := hh
    obtain ⟨o18, hh⟩ := hh
    obtain ⟨o19, hh⟩ := hh
    refine ah_iast ha17 o18 o19.1 o19.2 dX2_begins_25 ?_
    have hh := hh _ rfl
    exact am_vret rfl dX2_begins_26 (Nat.le_refl 0) (Nat.le_refl 0) hh
/-! TableArms$AsThing.size(LTableArms$Trail;)I -/
abbrev VX10_size (l : Launch) (Q : Option am_W → ah_H → Prop) (pc : Nat) (lv : List (Nat × am_W)) (st : List am_W) (S : ah_H) : Prop := am_V ah_r l RX10 cX10_size 2 (some .int) "size" (am_rm 2 0 0) (am_E1 ah_r 0 0 Q) pc lv st S 0 0
abbrev kX10_size (l : Launch) (as : List am_W) (S : ah_H) (Q : Option am_W → ah_H → Prop) : Prop := am_C ah_r l yX10_size (ws_ yX10_size cX10_size 2 (some .int)) (am_rm 2 0 0) 0 0 as S Q
set_option maxHeartbeats 4000000 in
set_option maxRecDepth 100000 in
theorem bX10_size_X11 {l : Launch} {Q : Option am_W → ah_H → Prop} {S : ah_H} (v0 : Nat) (v1 : Nat)
    (hh : (∃ fs1, (S.1 v1 = some (.inl (3, fs1))) ∧
      kX2_begins l [am_R v1, am_I 10] S (am_qv fun G3 =>
        (∃ fs4, (G3.1 v0 = some (.inl (10, fs4))) ∧
        (∃ x7, (fs4[1]? = some (am_R x7)) ∧
        (∃ fs8, (G3.1 x7 = some (.inl (1, fs8))) ∧
        (∃ x11, (fs8[3]? = some (am_R x11)) ∧
        (∃ z13, (fs4[0]? = some (am_I z13) ∧ am_r z13) ∧
        (∃ n15 f16, (G3.1 x11 = some (.inr (0, n15, .inl f16))) ∧
        (0 ≤ z13 ∧ z13 < (n15 : Int)) ∧
        Q (some (am_I (f16 z13.toNat).toInt)) G3))))))))) : kX10_size l [am_R v0, am_R v1] S Q := by
  refine am_entry (lv := [(0, am_R v0), (1, am_R v1)]) rfl rfl rfl (fun _ => rfl) (fun _ => Nat.le_of_ble_eq_true rfl) ?_
  refine am_aload_n dX10_size_0 rfl 1 rfl ?_
  refine am_bipush dX10_size_1 (by decide) ?_
  obtain ⟨fs1, ho2, hh⟩ := hh
  refine am_rVv (n := 1) hh dX10_size_3 (lw_V q1310 q1305 q1306 q95 q1307) rfl ⟨⟨by decide, by decide, by decide +kernel⟩, ⟨Nat.le_of_ble_eq_true rfl, Nat.le_of_ble_eq_true rfl⟩⟩ ⟨rfl, rfl⟩ rfl rfl (Nat.le_of_ble_eq_true rfl) ⟨(Nat.le_of_ble_eq_true rfl), (Nat.le_of_ble_eq_true rfl)⟩ (ah_recv ho2 rfl) (fun G3 hh => ?_)
  refine am_aload_n dX10_size_6 rfl 0 rfl ?_
  obtain ⟨fs4, ho5, hh⟩ := hh
  obtain ⟨x7, hv6, hh⟩ := hh
  refine ah_get ho5 hv6 rfl in_X11 (by decide) q1186 (Or.inl rfl) dX10_size_7 ?_
  obtain ⟨fs8, ho9, hh⟩ := hh
  obtain ⟨x11, hv10, hh⟩ := hh
  refine ah_getN ho9 hv10 rfl in_X0 (by decide) (am_nwin q213 rfl) dX10_size_10 ?_
  refine am_aload_n dX10_size_13 rfl 0 rfl ?_
  obtain ⟨z13, ⟨hv12, hr14⟩, hh⟩ := hh
  refine ah_get ho5 hv12 rfl in_X11 (by decide) q1185 (Or.inl rfl) dX10_size_14 ?_
  obtain ⟨n15, f16, ha17, hh⟩ := hh
  obtain ⟨o18, hh⟩ := hh
  refine ah_iald ha17 o18.1 o18.2 (v := (f16 z13.toNat).toInt) rfl dX10_size_17 ?_
  exact am_iret rfl dX10_size_18 (Nat.le_refl 0) (Nat.le_refl 0) hh
/-! TableArms$AsThing.size(LTableArms$Trail;)I -/
set_option maxHeartbeats 4000000 in
set_option maxRecDepth 100000 in
theorem bX10_size_X12 {l : Launch} {Q : Option am_W → ah_H → Prop} {S : ah_H} (v0 : Nat) (v1 : Nat)
    (hh : (∃ fs1, (S.1 v1 = some (.inl (3, fs1))) ∧
      kX2_begins l [am_R v1, am_I 10] S (am_qv fun G3 =>
        (∃ fs4, (G3.1 v0 = some (.inl (11, fs4))) ∧
        (∃ x7, (fs4[1]? = some (am_R x7)) ∧
        (∃ fs8, (G3.1 x7 = some (.inl (1, fs8))) ∧
        (∃ x11, (fs8[3]? = some (am_R x11)) ∧
        (∃ z13, (fs4[0]? = some (am_I z13) ∧ am_r z13) ∧
        (∃ n15 f16, (G3.1 x11 = some (.inr (0, n15, .inl f16))) ∧
        (0 ≤ z13 ∧ z13 < (n15 : Int)) ∧
        Q (some (am_I (f16 z13.toNat).toInt)) G3))))))))) : kX10_size l [am_R v0, am_R v1] S Q := by
  refine am_entry (lv := [(0, am_R v0), (1, am_R v1)]) rfl rfl rfl (fun _ => rfl) (fun _ => Nat.le_of_ble_eq_true rfl) ?_
  refine am_aload_n dX10_size_0 rfl 1 rfl ?_
  refine am_bipush dX10_size_1 (by decide) ?_
  obtain ⟨fs1, ho2, hh⟩ := hh
  refine am_rVv (n := 1) hh dX10_size_3 (lw_V q1310 q1305 q1306 q95 q1307) rfl ⟨⟨by decide, by decide, by decide +kernel⟩, ⟨Nat.le_of_ble_eq_true rfl, Nat.le_of_ble_eq_true rfl⟩⟩ ⟨rfl, rfl⟩ rfl rfl (Nat.le_of_ble_eq_true rfl) ⟨(Nat.le_of_ble_eq_true rfl), (Nat.le_of_ble_eq_true rfl)⟩ (ah_recv ho2 rfl) (fun G3 hh => ?_)
  refine am_aload_n dX10_size_6 rfl 0 rfl ?_
  obtain ⟨fs4, ho5, hh⟩ := hh
  obtain ⟨x7, hv6, hh⟩ := hh
  refine ah_get ho5 hv6 rfl in_X12 (by decide) q1186 (Or.inl rfl) dX10_size_7 ?_
  obtain ⟨fs8, ho9, hh⟩ := hh
  obtain ⟨x11, hv10, hh⟩ := hh
  refine ah_getN ho9 hv10 rfl in_X0 (by decide) (am_nwin q213 rfl) dX10_size_10 ?_
  refine am_aload_n dX10_size_13 rfl 0 rfl ?_
  obtain ⟨z13, ⟨hv12, hr14⟩, hh⟩ := hh
  refine ah_get ho5 hv12 rfl in_X12 (by decide) q1185 (Or.inl rfl) dX10_size_14 ?_
  obtain ⟨n15, f16, ha17, hh⟩ := hh
  obtain ⟨o18, hh⟩ := hh
  refine ah_iald ha17 o18.1 o18.2 (v := (f16 z13.toNat).toInt) rfl dX10_size_17 ?_
  exact am_iret rfl dX10_size_18 (Nat.le_refl 0) (Nat.le_refl 0) hh
/-! TableArms$AsThing.size(LTableArms$Trail;)I -/
set_option maxHeartbeats 4000000 in
set_option maxRecDepth 100000 in
theorem bX10_size_X13 {l : Launch} {Q : Option am_W → ah_H → Prop} {S : ah_H} (v0 : Nat) (v1 : Nat)
    (hh : (∃ fs1, (S.1 v1 = some (.inl (3, fs1))) ∧
      kX2_begins l [am_R v1, am_I 10] S (am_qv fun G3 =>
        (∃ fs4, (G3.1 v0 = some (.inl (12, fs4))) ∧
        (∃ x7, (fs4[1]? = some (am_R x7)) ∧
        (∃ fs8, (G3.1 x7 = some (.inl (1, fs8))) ∧
        (∃ x11, (fs8[3]? = some (am_R x11)) ∧
        (∃ z13, (fs4[0]? = some (am_I z13) ∧ am_r z13) ∧
        (∃ n15 f16, (G3.1 x11 = some (.inr (0, n15, .inl f16))) ∧
        (0 ≤ z13 ∧ z13 < (n15 : Int)) ∧
        Q (some (am_I (f16 z13.toNat).toInt)) G3))))))))) : kX10_size l [am_R v0, am_R v1] S Q := by
  refine am_entry (lv := [(0, am_R v0), (1, am_R v1)]) rfl rfl rfl (fun _ => rfl) (fun _ => Nat.le_of_ble_eq_true rfl) ?_
  refine am_aload_n dX10_size_0 rfl 1 rfl ?_
  refine am_bipush dX10_size_1 (by decide) ?_
  obtain ⟨fs1, ho2, hh⟩ := hh
  refine am_rVv (n := 1) hh dX10_size_3 (lw_V q1310 q1305 q1306 q95 q1307) rfl ⟨⟨by decide, by decide, by decide +kernel⟩, ⟨Nat.le_of_ble_eq_true rfl, Nat.le_of_ble_eq_true rfl⟩⟩ ⟨rfl, rfl⟩ rfl rfl (Nat.le_of_ble_eq_true rfl) ⟨(Nat.le_of_ble_eq_true rfl), (Nat.le_of_ble_eq_true rfl)⟩ (ah_recv ho2 rfl) (fun G3 hh => ?_)
  refine am_aload_n dX10_size_6 rfl 0 rfl ?_
  obtain ⟨fs4, ho5, hh⟩ := hh
  obtain ⟨x7, hv6, hh⟩ := hh
  refine ah_get ho5 hv6 rfl in_X13 (by decide) q1186 (Or.inl rfl) dX10_size_7 ?_
  obtain ⟨fs8, ho9, hh⟩ := hh
  obtain ⟨x11, hv10, hh⟩ := hh
  refine ah_getN ho9 hv10 rfl in_X0 (by decide) (am_nwin q213 rfl) dX10_size_10 ?_
  refine am_aload_n dX10_size_13 rfl 0 rfl ?_
  obtain ⟨z13, ⟨hv12, hr14⟩, hh⟩ := hh
  refine ah_get ho5 hv12 rfl in_X13 (by decide) q1185 (Or.inl rfl) dX10_size_14 ?_
  obtain ⟨n15, f16, ha17, hh⟩ := hh
  obtain ⟨o18, hh⟩ := hh
  refine ah_iald ha17 o18.1 o18.2 (v := (f16 z13.toNat).toInt) rfl dX10_size_17 ?_
  exact am_iret rfl dX10_size_18 (Nat.le_refl 0) (Nat.le_refl 0) hh
/-! TableArms$AsThing.size(LTableArms$Trail;)I -/
set_option maxHeartbeats 4000000 in
set_option maxRecDepth 100000 in
theorem bX10_size_X14 {l : Launch} {Q : Option am_W → ah_H → Prop} {S : ah_H} (v0 : Nat) (v1 : Nat)
    (hh : (∃ fs1, (S.1 v1 = some (.inl (3, fs1))) ∧
      kX2_begins l [am_R v1, am_I 10] S (am_qv fun G3 =>
        (∃ fs4, (G3.1 v0 = some (.inl (13, fs4))) ∧
        (∃ x7, (fs4[1]? = some (am_R x7)) ∧
        (∃ fs8, (G3.1 x7 = some (.inl (1, fs8))) ∧
        (∃ x11, (fs8[3]? = some (am_R x11)) ∧
        (∃ z13, (fs4[0]? = some (am_I z13) ∧ am_r z13) ∧
        (∃ n15 f16, (G3.1 x11 = some (.inr (0, n15, .inl f16))) ∧
        (0 ≤ z13 ∧ z13 < (n15 : Int)) ∧
        Q (some (am_I (f16 z13.toNat).toInt)) G3))))))))) : kX10_size l [am_R v0, am_R v1] S Q := by
  refine am_entry (lv := [(0, am_R v0), (1, am_R v1)]) rfl rfl rfl (fun _ => rfl) (fun _ => Nat.le_of_ble_eq_true rfl) ?_
  refine am_aload_n dX10_size_0 rfl 1 rfl ?_
  refine am_bipush dX10_size_1 (by decide) ?_
  obtain ⟨fs1, ho2, hh⟩ := hh
  refine am_rVv (n := 1) hh dX10_size_3 (lw_V q1310 q1305 q1306 q95 q1307) rfl ⟨⟨by decide, by decide, by decide +kernel⟩, ⟨Nat.le_of_ble_eq_true rfl, Nat.le_of_ble_eq_true rfl⟩⟩ ⟨rfl, rfl⟩ rfl rfl (Nat.le_of_ble_eq_true rfl) ⟨(Nat.le_of_ble_eq_true rfl), (Nat.le_of_ble_eq_true rfl)⟩ (ah_recv ho2 rfl) (fun G3 hh => ?_)
  refine am_aload_n dX10_size_6 rfl 0 rfl ?_
  obtain ⟨fs4, ho5, hh⟩ := hh
  obtain ⟨x7, hv6, hh⟩ := hh
  refine ah_get ho5 hv6 rfl in_X14 (by decide) q1186 (Or.inl rfl) dX10_size_7 ?_
  obtain ⟨fs8, ho9, hh⟩ := hh
  obtain ⟨x11, hv10, hh⟩ := hh
  refine ah_getN ho9 hv10 rfl in_X0 (by decide) (am_nwin q213 rfl) dX10_size_10 ?_
  refine am_aload_n dX10_size_13 rfl 0 rfl ?_
  obtain ⟨z13, ⟨hv12, hr14⟩, hh⟩ := hh
  refine ah_get ho5 hv12 rfl in_X14 (by decide) q1185 (Or.inl rfl) dX10_size_14 ?_
  obtain ⟨n15, f16, ha17, hh⟩ := hh
  obtain ⟨o18, hh⟩ := hh
  refine ah_iald ha17 o18.1 o18.2 (v := (f16 z13.toNat).toInt) rfl dX10_size_17 ?_
  exact am_iret rfl dX10_size_18 (Nat.le_refl 0) (Nat.le_refl 0) hh
/-! TableArms$AsThing.size(LTableArms$Trail;)I -/
set_option maxHeartbeats 4000000 in
set_option maxRecDepth 100000 in
theorem bX10_size_X15 {l : Launch} {Q : Option am_W → ah_H → Prop} {S : ah_H} (v0 : Nat) (v1 : Nat)
    (hh : (∃ fs1, (S.1 v1 = some (.inl (3, fs1))) ∧
      kX2_begins l [am_R v1, am_I 10] S (am_qv fun G3 =>
        (∃ fs4, (G3.1 v0 = some (.inl (14, fs4))) ∧
        (∃ x7, (fs4[1]? = some (am_R x7)) ∧
        (∃ fs8, (G3.1 x7 = some (.inl (1, fs8))) ∧
        (∃ x11, (fs8[3]? = some (am_R x11)) ∧
        (∃ z13, (fs4[0]? = some (am_I z13) ∧ am_r z13) ∧
        (∃ n15 f16, (G3.1 x11 = some (.inr (0, n15, .inl f16))) ∧
        (0 ≤ z13 ∧ z13 < (n15 : Int)) ∧
        Q (some (am_I (f16 z13.toNat).toInt)) G3))))))))) : kX10_size l [am_R v0, am_R v1] S Q := by
  refine am_entry (lv := [(0, am_R v0), (1, am_R v1)]) rfl rfl rfl (fun _ => rfl) (fun _ => Nat.le_of_ble_eq_true rfl) ?_
  refine am_aload_n dX10_size_0 rfl 1 rfl ?_
  refine am_bipush dX10_size_1 (by decide) ?_
  obtain ⟨fs1, ho2, hh⟩ := hh
  refine am_rVv (n := 1) hh dX10_size_3 (lw_V q1310 q1305 q1306 q95 q1307) rfl ⟨⟨by decide, by decide, by decide +kernel⟩, ⟨Nat.le_of_ble_eq_true rfl, Nat.le_of_ble_eq_true rfl⟩⟩ ⟨rfl, rfl⟩ rfl rfl (Nat.le_of_ble_eq_true rfl) ⟨(Nat.le_of_ble_eq_true rfl), (Nat.le_of_ble_eq_true rfl)⟩ (ah_recv ho2 rfl) (fun G3 hh => ?_)
  refine am_aload_n dX10_size_6 rfl 0 rfl ?_
  obtain ⟨fs4, ho5, hh⟩ := hh
  obtain ⟨x7, hv6, hh⟩ := hh
  refine ah_get ho5 hv6 rfl in_X15 (by decide) q1186 (Or.inl rfl) dX10_size_7 ?_
  obtain ⟨fs8, ho9, hh⟩ := hh
  obtain ⟨x11, hv10, hh⟩ := hh
  refine ah_getN ho9 hv10 rfl in_X0 (by decide) (am_nwin q213 rfl) dX10_size_10 ?_
  refine am_aload_n dX10_size_13 rfl 0 rfl ?_
  obtain ⟨z13, ⟨hv12, hr14⟩, hh⟩ := hh
  refine ah_get ho5 hv12 rfl in_X15 (by decide) q1185 (Or.inl rfl) dX10_size_14 ?_
  obtain ⟨n15, f16, ha17, hh⟩ := hh
  obtain ⟨o18, hh⟩ := hh
  refine ah_iald ha17 o18.1 o18.2 (v := (f16 z13.toNat).toInt) rfl dX10_size_17 ?_
  exact am_iret rfl dX10_size_18 (Nat.le_refl 0) (Nat.le_refl 0) hh
/-! TableArms$AsBox.size(LTableArms$Trail;)I -/
abbrev VX13_size (l : Launch) (Q : Option am_W → ah_H → Prop) (pc : Nat) (lv : List (Nat × am_W)) (st : List am_W) (S : ah_H) : Prop := am_V ah_r l RX13 cX13_size 2 (some .int) "size" (am_rm 3 0 0) (am_E1 ah_r 0 0 Q) pc lv st S 0 0
abbrev kX13_size (l : Launch) (as : List am_W) (S : ah_H) (Q : Option am_W → ah_H → Prop) : Prop := am_C ah_r l yX13_size (ws_ yX13_size cX13_size 2 (some .int)) (am_rm 3 0 0) 0 0 as S Q
set_option maxHeartbeats 4000000 in
set_option maxRecDepth 100000 in
theorem bX13_size_X13 {l : Launch} {Q : Option am_W → ah_H → Prop} {S : ah_H} (v0 : Nat) (v1 : Nat)
    (hh : (∃ fs1, (S.1 v1 = some (.inl (3, fs1))) ∧
      kX2_begins l [am_R v1, am_I 12] S (am_qv fun G3 =>
        (∃ fs4, (G3.1 v0 = some (.inl (12, fs4))) ∧
        kX10_size l [am_R v0, am_R v1] G3 (am_qi fun r7 G6 =>
          (∃ fs9, (G6.1 v0 = some (.inl (12, fs9))) ∧
          (∃ x12, (fs9[2]? = some (am_R x12)) ∧
          (∃ fs13, (G6.1 x12 = some (.inl (1, fs13))) ∧
          (∃ x16, (fs13[4]? = some (am_R x16)) ∧
          (∃ fs17, (G6.1 x16 = some (.inl (2, fs17))) ∧
          (∃ x20, (fs17[4]? = some (am_R x20)) ∧
          kX10_number l [am_R v0] G6 (am_qi fun r22 G21 =>
            (∃ n24 f25, (G21.1 x20 = some (.inr (0, n24, .inl f25))) ∧
            (0 ≤ r22 ∧ r22 < (n24 : Int)) ∧
            ((¬ ((f25 r22.toNat).toInt) = (-1000000)) →
              (∃ fs31, (G21.1 v0 = some (.inl (12, fs31))) ∧
              (∃ x34, (fs31[2]? = some (am_R x34)) ∧
              (∃ fs35, (G21.1 x34 = some (.inl (1, fs35))) ∧
              (∃ x38, (fs35[3]? = some (am_R x38)) ∧
              (∃ x40, (fs35[4]? = some (am_R x40)) ∧
              (∃ fs41, (G21.1 x40 = some (.inl (2, fs41))) ∧
              (∃ x44, (fs41[4]? = some (am_R x44)) ∧
              kX10_number l [am_R v0] G21 (am_qi fun r46 G45 =>
                (∃ n48 f49, (G45.1 x44 = some (.inr (0, n48, .inl f49))) ∧
                (0 ≤ r46 ∧ r46 < (n48 : Int)) ∧
                (∃ n52 f53, (G45.1 x38 = some (.inr (0, n52, .inl f53))) ∧
                (0 ≤ (f49 r46.toNat).toInt ∧ (f49 r46.toNat).toInt < (n52 : Int)) ∧
                Q (some (am_I (r7 + (f53 ((f49 r46.toNat).toInt).toNat).toInt))) G45))))))))))) ∧
            ((((f25 r22.toNat).toInt) = (-1000000)) →
              Q (some (am_I (r7 + 0))) G21)))))))))))))) : kX13_size l [am_R v0, am_R v1] S Q := by
  refine am_entry (lv := [(0, am_R v0), (1, am_R v1)]) rfl rfl rfl (fun _ => rfl) (fun _ => Nat.le_of_ble_eq_true rfl) ?_
  refine am_aload_n dX13_size_0 rfl 1 rfl ?_
  refine am_bipush dX13_size_1 (by decide) ?_
  obtain ⟨fs1, ho2, hh⟩ := hh
  refine am_rVv (n := 1) hh dX13_size_3 (lw_V q1304 q1305 q1306 q95 q1307) rfl ⟨⟨by decide, by decide, by decide +kernel⟩, ⟨Nat.le_of_ble_eq_true rfl, Nat.le_of_ble_eq_true rfl⟩⟩ ⟨rfl, rfl⟩ rfl rfl (Nat.le_of_ble_eq_true rfl) ⟨(Nat.le_of_ble_eq_true rfl), (Nat.le_of_ble_eq_true rfl)⟩ (ah_recv ho2 rfl) (fun G3 hh => ?_)
  refine am_aload_n dX13_size_6 rfl 0 rfl ?_
  refine am_aload_n dX13_size_7 rfl 1 rfl ?_
  obtain ⟨fs4, ho5, hh⟩ := hh
  refine am_rSUi (n := 1) hh dX13_size_8 (ci := 12) rfl q1308 q1300 q1234 q1299 q120 q1309 (by decide) ⟨⟨by decide, by decide, by decide +kernel⟩, ⟨Nat.le_of_ble_eq_true rfl, Nat.le_of_ble_eq_true rfl⟩⟩ ⟨rfl, rfl⟩ rfl rfl (Nat.le_of_ble_eq_true rfl) ⟨(Nat.le_of_ble_eq_true rfl), (Nat.le_of_ble_eq_true rfl)⟩ (ah_recv ho5 rfl) (fun r7 G6 hr8 hh => ?_)
  refine am_aload_n dX13_size_11 rfl 0 rfl ?_
  obtain ⟨fs9, ho10, hh⟩ := hh
  obtain ⟨x12, hv11, hh⟩ := hh
  refine ah_get ho10 hv11 rfl in_X13 (by decide) q1220 (Or.inl rfl) dX13_size_12 ?_
  obtain ⟨fs13, ho14, hh⟩ := hh
  obtain ⟨x16, hv15, hh⟩ := hh
  refine ah_getN ho14 hv15 rfl in_X0 (by decide) (am_nwin q216 rfl) dX13_size_15 ?_
  obtain ⟨fs17, ho18, hh⟩ := hh
  obtain ⟨x20, hv19, hh⟩ := hh
  refine ah_getN ho18 hv19 rfl in_X1 (by decide) (am_nwin q152 rfl) dX13_size_18 ?_
  refine am_aload_n dX13_size_21 rfl 0 rfl ?_
  refine am_rUi (n := 0) hh dX13_size_22 (am_CU_A (owner := "TableArms$AsThing") q1311 q1312 q1314 q1286 q120 q1293 (am_nwin q1313 rfl) ⟨rfl, rfl⟩ ⟨by decide, by decide, by decide +kernel⟩ ⟨Nat.le_of_ble_eq_true rfl, Nat.le_of_ble_eq_true rfl⟩) rfl rfl (Nat.le_of_ble_eq_true rfl) ⟨(Nat.le_of_ble_eq_true rfl), (Nat.le_of_ble_eq_true rfl)⟩ (ah_recv ho10 rfl) (fun r22 G21 hr23 hh => ?_)
  obtain ⟨n24, f25, ha26, hh⟩ := hh
  obtain ⟨o27, hh⟩ := hh
  refine ah_iald ha26 o27.1 o27.2 (v := (f25 r22.toNat).toInt) rfl dX13_size_25 ?_
  refine am_ldc (z := -1000000) q1316 (by decide) dX13_size_26 ?_
  obtain ⟨ha28, hb29⟩ := hh
  refine am_icmp_ne (tgt := 35) dX13_size_28 (by decide) (am_rt _) (⟨by decide, by decide⟩) (fun hc30 => ?_) (fun hc30 => ?_)
  · have hh := ha28 hc30
    refine am_aload_n dX13_size_35 rfl 0 rfl ?_
    obtain ⟨fs31, ho32, hh⟩ := hh
    obtain ⟨x34, hv33, hh⟩ := hh
    refine ah_get ho32 hv33 rfl in_X13 (by decide) q1220 (Or.inl rfl) dX13_size_36 ?_
    obtain ⟨fs35, ho36, hh⟩ := hh
    obtain ⟨x38, hv37, hh⟩ := hh
    refine ah_getN ho36 hv37 rfl in_X0 (by decide) (am_nwin q212 rfl) dX13_size_39 ?_
    refine am_aload_n dX13_size_42 rfl 0 rfl ?_
    refine ah_get ho32 hv33 rfl in_X13 (by decide) q1220 (Or.inl rfl) dX13_size_43 ?_
    obtain ⟨x40, hv39, hh⟩ := hh
    refine ah_getN ho36 hv39 rfl in_X0 (by decide) (am_nwin q216 rfl) dX13_size_46 ?_
    obtain ⟨fs41, ho42, hh⟩ := hh
    obtain ⟨x44, hv43, hh⟩ := hh
    refine ah_getN ho42 hv43 rfl in_X1 (by decide) (am_nwin q152 rfl) dX13_size_49 ?_
    refine am_aload_n dX13_size_52 rfl 0 rfl ?_
    refine am_rUi (n := 0) hh dX13_size_53 (am_CU_A (owner := "TableArms$AsThing") q1311 q1312 q1314 q1286 q120 q1293 (am_nwin q1313 rfl) ⟨rfl, rfl⟩ ⟨by decide, by decide, by decide +kernel⟩ ⟨Nat.le_of_ble_eq_true rfl, Nat.le_of_ble_eq_true rfl⟩) rfl rfl (Nat.le_of_ble_eq_true rfl) ⟨(Nat.le_of_ble_eq_true rfl), (Nat.le_of_ble_eq_true rfl)⟩ (ah_recv ho32 rfl) (fun r46 G45 hr47 hh => ?_)
    obtain ⟨n48, f49, ha50, hh⟩ := hh
    obtain ⟨o51, hh⟩ := hh
    refine ah_iald ha50 o51.1 o51.2 (v := (f49 r46.toNat).toInt) rfl dX13_size_56 ?_
    obtain ⟨n52, f53, ha54, hh⟩ := hh
    obtain ⟨o55, hh⟩ := hh
    refine ah_iald ha54 o55.1 o55.2 (v := (f53 ((f49 r46.toNat).toInt).toNat).toInt) rfl dX13_size_57 ?_
    refine am_iadd dX13_size_58 ?_
    exact am_iret rfl dX13_size_59 (Nat.le_refl 0) (Nat.le_refl 0) hh
  · have hh := hb29 hc30
    refine am_iconst dX13_size_31 ?_
    refine am_goto (tgt := 58) dX13_size_32 (by decide) ?_
    refine am_iadd dX13_size_58 ?_
    exact am_iret rfl dX13_size_59 (Nat.le_refl 0) (Nat.le_refl 0) hh
/-! TableArms$AsBox.size(LTableArms$Trail;)I -/
set_option maxHeartbeats 4000000 in
set_option maxRecDepth 100000 in
theorem bX13_size_X14 {l : Launch} {Q : Option am_W → ah_H → Prop} {S : ah_H} (v0 : Nat) (v1 : Nat)
    (hh : (∃ fs1, (S.1 v1 = some (.inl (3, fs1))) ∧
      kX2_begins l [am_R v1, am_I 12] S (am_qv fun G3 =>
        (∃ fs4, (G3.1 v0 = some (.inl (13, fs4))) ∧
        kX10_size l [am_R v0, am_R v1] G3 (am_qi fun r7 G6 =>
          (∃ fs9, (G6.1 v0 = some (.inl (13, fs9))) ∧
          (∃ x12, (fs9[2]? = some (am_R x12)) ∧
          (∃ fs13, (G6.1 x12 = some (.inl (1, fs13))) ∧
          (∃ x16, (fs13[4]? = some (am_R x16)) ∧
          (∃ fs17, (G6.1 x16 = some (.inl (2, fs17))) ∧
          (∃ x20, (fs17[4]? = some (am_R x20)) ∧
          kX10_number l [am_R v0] G6 (am_qi fun r22 G21 =>
            (∃ n24 f25, (G21.1 x20 = some (.inr (0, n24, .inl f25))) ∧
            (0 ≤ r22 ∧ r22 < (n24 : Int)) ∧
            ((¬ ((f25 r22.toNat).toInt) = (-1000000)) →
              (∃ fs31, (G21.1 v0 = some (.inl (13, fs31))) ∧
              (∃ x34, (fs31[2]? = some (am_R x34)) ∧
              (∃ fs35, (G21.1 x34 = some (.inl (1, fs35))) ∧
              (∃ x38, (fs35[3]? = some (am_R x38)) ∧
              (∃ x40, (fs35[4]? = some (am_R x40)) ∧
              (∃ fs41, (G21.1 x40 = some (.inl (2, fs41))) ∧
              (∃ x44, (fs41[4]? = some (am_R x44)) ∧
              kX10_number l [am_R v0] G21 (am_qi fun r46 G45 =>
                (∃ n48 f49, (G45.1 x44 = some (.inr (0, n48, .inl f49))) ∧
                (0 ≤ r46 ∧ r46 < (n48 : Int)) ∧
                (∃ n52 f53, (G45.1 x38 = some (.inr (0, n52, .inl f53))) ∧
                (0 ≤ (f49 r46.toNat).toInt ∧ (f49 r46.toNat).toInt < (n52 : Int)) ∧
                Q (some (am_I (r7 + (f53 ((f49 r46.toNat).toInt).toNat).toInt))) G45))))))))))) ∧
            ((((f25 r22.toNat).toInt) = (-1000000)) →
              Q (some (am_I (r7 + 0))) G21)))))))))))))) : kX13_size l [am_R v0, am_R v1] S Q := by
  refine am_entry (lv := [(0, am_R v0), (1, am_R v1)]) rfl rfl rfl (fun _ => rfl) (fun _ => Nat.le_of_ble_eq_true rfl) ?_
  refine am_aload_n dX13_size_0 rfl 1 rfl ?_
  refine am_bipush dX13_size_1 (by decide) ?_
  obtain ⟨fs1, ho2, hh⟩ := hh
  refine am_rVv (n := 1) hh dX13_size_3 (lw_V q1304 q1305 q1306 q95 q1307) rfl ⟨⟨by decide, by decide, by decide +kernel⟩, ⟨Nat.le_of_ble_eq_true rfl, Nat.le_of_ble_eq_true rfl⟩⟩ ⟨rfl, rfl⟩ rfl rfl (Nat.le_of_ble_eq_true rfl) ⟨(Nat.le_of_ble_eq_true rfl), (Nat.le_of_ble_eq_true rfl)⟩ (ah_recv ho2 rfl) (fun G3 hh => ?_)
  refine am_aload_n dX13_size_6 rfl 0 rfl ?_
  refine am_aload_n dX13_size_7 rfl 1 rfl ?_
  obtain ⟨fs4, ho5, hh⟩ := hh
  refine am_rSUi (n := 1) hh dX13_size_8 (ci := 13) rfl q1308 q1300 q1234 q1299 q120 q1309 (by decide) ⟨⟨by decide, by decide, by decide +kernel⟩, ⟨Nat.le_of_ble_eq_true rfl, Nat.le_of_ble_eq_true rfl⟩⟩ ⟨rfl, rfl⟩ rfl rfl (Nat.le_of_ble_eq_true rfl) ⟨(Nat.le_of_ble_eq_true rfl), (Nat.le_of_ble_eq_true rfl)⟩ (ah_recv ho5 rfl) (fun r7 G6 hr8 hh => ?_)
  refine am_aload_n dX13_size_11 rfl 0 rfl ?_
  obtain ⟨fs9, ho10, hh⟩ := hh
  obtain ⟨x12, hv11, hh⟩ := hh
  refine ah_get ho10 hv11 rfl in_X14 (by decide) q1220 (Or.inl rfl) dX13_size_12 ?_
  obtain ⟨fs13, ho14, hh⟩ := hh
  obtain ⟨x16, hv15, hh⟩ := hh
  refine ah_getN ho14 hv15 rfl in_X0 (by decide) (am_nwin q216 rfl) dX13_size_15 ?_
  obtain ⟨fs17, ho18, hh⟩ := hh
  obtain ⟨x20, hv19, hh⟩ := hh
  refine ah_getN ho18 hv19 rfl in_X1 (by decide) (am_nwin q152 rfl) dX13_size_18 ?_
  refine am_aload_n dX13_size_21 rfl 0 rfl ?_
  refine am_rUi (n := 0) hh dX13_size_22 (am_CU_A (owner := "TableArms$AsThing") q1311 q1312 q1315 q1286 q120 q1293 (am_nwin q1313 rfl) ⟨rfl, rfl⟩ ⟨by decide, by decide, by decide +kernel⟩ ⟨Nat.le_of_ble_eq_true rfl, Nat.le_of_ble_eq_true rfl⟩) rfl rfl (Nat.le_of_ble_eq_true rfl) ⟨(Nat.le_of_ble_eq_true rfl), (Nat.le_of_ble_eq_true rfl)⟩ (ah_recv ho10 rfl) (fun r22 G21 hr23 hh => ?_)
  obtain ⟨n24, f25, ha26, hh⟩ := hh
  obtain ⟨o27, hh⟩ := hh
  refine ah_iald ha26 o27.1 o27.2 (v := (f25 r22.toNat).toInt) rfl dX13_size_25 ?_
  refine am_ldc (z := -1000000) q1316 (by decide) dX13_size_26 ?_
  obtain ⟨ha28, hb29⟩ := hh
  refine am_icmp_ne (tgt := 35) dX13_size_28 (by decide) (am_rt _) (⟨by decide, by decide⟩) (fun hc30 => ?_) (fun hc30 => ?_)
  · have hh := ha28 hc30
    refine am_aload_n dX13_size_35 rfl 0 rfl ?_
    obtain ⟨fs31, ho32, hh⟩ := hh
    obtain ⟨x34, hv33, hh⟩ := hh
    refine ah_get ho32 hv33 rfl in_X14 (by decide) q1220 (Or.inl rfl) dX13_size_36 ?_
    obtain ⟨fs35, ho36, hh⟩ := hh
    obtain ⟨x38, hv37, hh⟩ := hh
    refine ah_getN ho36 hv37 rfl in_X0 (by decide) (am_nwin q212 rfl) dX13_size_39 ?_
    refine am_aload_n dX13_size_42 rfl 0 rfl ?_
    refine ah_get ho32 hv33 rfl in_X14 (by decide) q1220 (Or.inl rfl) dX13_size_43 ?_
    obtain ⟨x40, hv39, hh⟩ := hh
    refine ah_getN ho36 hv39 rfl in_X0 (by decide) (am_nwin q216 rfl) dX13_size_46 ?_
    obtain ⟨fs41, ho42, hh⟩ := hh
    obtain ⟨x44, hv43, hh⟩ := hh
    refine ah_getN ho42 hv43 rfl in_X1 (by decide) (am_nwin q152 rfl) dX13_size_49 ?_
    refine am_aload_n dX13_size_52 rfl 0 rfl ?_
    refine am_rUi (n := 0) hh dX13_size_53 (am_CU_A (owner := "TableArms$AsThing") q1311 q1312 q1315 q1286 q120 q1293 (am_nwin q1313 rfl) ⟨rfl, rfl⟩ ⟨by decide, by decide, by decide +kernel⟩ ⟨Nat.le_of_ble_eq_true rfl, Nat.le_of_ble_eq_true rfl⟩) rfl rfl (Nat.le_of_ble_eq_true rfl) ⟨(Nat.le_of_ble_eq_true rfl), (Nat.le_of_ble_eq_true rfl)⟩ (ah_recv ho32 rfl) (fun r46 G45 hr47 hh => ?_)
    obtain ⟨n48, f49, ha50, hh⟩ := hh
    obtain ⟨o51, hh⟩ := hh
    refine ah_iald ha50 o51.1 o51.2 (v := (f49 r46.toNat).toInt) rfl dX13_size_56 ?_
    obtain ⟨n52, f53, ha54, hh⟩ := hh
    obtain ⟨o55, hh⟩ := hh
    refine ah_iald ha54 o55.1 o55.2 (v := (f53 ((f49 r46.toNat).toInt).toNat).toInt) rfl dX13_size_57 ?_
    refine am_iadd dX13_size_58 ?_
    exact am_iret rfl dX13_size_59 (Nat.le_refl 0) (Nat.le_refl 0) hh
  · have hh := hb29 hc30
    refine am_iconst dX13_size_31 ?_
    refine am_goto (tgt := 58) dX13_size_32 (by decide) ?_
    refine am_iadd dX13_size_58 ?_
    exact am_iret rfl dX13_size_59 (Nat.le_refl 0) (Nat.le_refl 0) hh
/-! TableArms$AsShut.size(LTableArms$Trail;)I -/
abbrev VX14_size (l : Launch) (Q : Option am_W → ah_H → Prop) (pc : Nat) (lv : List (Nat × am_W)) (st : List am_W) (S : ah_H) : Prop := am_V ah_r l RX14 cX14_size 2 (some .int) "size" (am_rm 4 0 0) (am_E1 ah_r 0 0 Q) pc lv st S 0 0
abbrev kX14_size (l : Launch) (as : List am_W) (S : ah_H) (Q : Option am_W → ah_H → Prop) : Prop := am_C ah_r l yX14_size (ws_ yX14_size cX14_size 2 (some .int)) (am_rm 4 0 0) 0 0 as S Q
set_option maxHeartbeats 4000000 in
set_option maxRecDepth 100000 in
theorem bX14_size {l : Launch} {Q : Option am_W → ah_H → Prop} {S : ah_H} (v0 : Nat) (v1 : Nat)
    (hh : (∃ fs1, (S.1 v1 = some (.inl (3, fs1))) ∧
      kX2_begins l [am_R v1, am_I 13] S (am_qv fun G3 =>
        (∃ fs4, (G3.1 v0 = some (.inl (13, fs4))) ∧
        kX13_size l [am_R v0, am_R v1] G3 (am_qi fun r7 G6 =>
          Q (some (am_I (2 * r7))) G6))))) : kX14_size l [am_R v0, am_R v1] S Q := by
  refine am_entry (lv := [(0, am_R v0), (1, am_R v1)]) rfl rfl rfl (fun _ => rfl) (fun _ => Nat.le_of_ble_eq_true rfl) ?_
  refine am_aload_n dX14_size_0 rfl 1 rfl ?_
  refine am_bipush dX14_size_1 (by decide) ?_
  obtain ⟨fs1, ho2, hh⟩ := hh
  refine am_rVv (n := 1) hh dX14_size_3 (lw_V q1369 q1305 q1306 q95 q1307) rfl ⟨⟨by decide, by decide, by decide +kernel⟩, ⟨Nat.le_of_ble_eq_true rfl, Nat.le_of_ble_eq_true rfl⟩⟩ ⟨rfl, rfl⟩ rfl rfl (Nat.le_of_ble_eq_true rfl) ⟨(Nat.le_of_ble_eq_true rfl), (Nat.le_of_ble_eq_true rfl)⟩ (ah_recv ho2 rfl) (fun G3 hh => ?_)
  refine am_iconst dX14_size_6 ?_
  refine am_aload_n dX14_size_7 rfl 0 rfl ?_
  refine am_aload_n dX14_size_8 rfl 1 rfl ?_
  obtain ⟨fs4, ho5, hh⟩ := hh
  refine am_rSUi (n := 1) hh dX14_size_9 (ci := 13) rfl q1370 q1897 q1227 q1302 q123 q1303 (by decide) ⟨⟨by decide, by decide, by decide +kernel⟩, ⟨Nat.le_of_ble_eq_true rfl, Nat.le_of_ble_eq_true rfl⟩⟩ ⟨rfl, rfl⟩ rfl rfl (Nat.le_of_ble_eq_true rfl) ⟨(Nat.le_of_ble_eq_true rfl), (Nat.le_of_ble_eq_true rfl)⟩ (ah_recv ho5 rfl) (fun r7 G6 hr8 hh => ?_)
  refine am_imul dX14_size_12 ?_
  exact am_iret rfl dX14_size_13 (Nat.le_refl 0) (Nat.le_refl 0) hh
/-! TableArms$AsLid.size(LTableArms$Trail;)I -/
abbrev VX15_size (l : Launch) (Q : Option am_W → ah_H → Prop) (pc : Nat) (lv : List (Nat × am_W)) (st : List am_W) (S : ah_H) : Prop := am_V ah_r l RX15 cX15_size 2 (some .int) "size" (am_rm 3 0 0) (am_E1 ah_r 0 0 Q) pc lv st S 0 0
abbrev kX15_size (l : Launch) (as : List am_W) (S : ah_H) (Q : Option am_W → ah_H → Prop) : Prop := am_C ah_r l yX15_size (ws_ yX15_size cX15_size 2 (some .int)) (am_rm 3 0 0) 0 0 as S Q
set_option maxHeartbeats 4000000 in
set_option maxRecDepth 100000 in
theorem bX15_size {l : Launch} {Q : Option am_W → ah_H → Prop} {S : ah_H} (v0 : Nat) (v1 : Nat)
    (hh : (∃ fs1, (S.1 v1 = some (.inl (3, fs1))) ∧
      kX2_begins l [am_R v1, am_I 14] S (am_qv fun G3 =>
        (∃ fs4, (G3.1 v0 = some (.inl (14, fs4))) ∧
        kX10_size l [am_R v0, am_R v1] G3 (am_qi fun r7 G6 =>
          (∃ fs9, (G6.1 v0 = some (.inl (14, fs9))) ∧
          (∃ x12, (fs9[2]? = some (am_R x12)) ∧
          (∃ fs13, (G6.1 x12 = some (.inl (1, fs13))) ∧
          (∃ x16, (fs13[4]? = some (am_R x16)) ∧
          (∃ fs17, (G6.1 x16 = some (.inl (2, fs17))) ∧
          (∃ x20, (fs17[3]? = some (am_R x20)) ∧
          kX10_number l [am_R v0] G6 (am_qi fun r22 G21 =>
            (∃ n24 f25, (G21.1 x20 = some (.inr (0, n24, .inl f25))) ∧
            (0 ≤ r22 ∧ r22 < (n24 : Int)) ∧
            ((¬ ((f25 r22.toNat).toInt) = (-1000000)) →
              Q (some (am_I (r7 + 0))) G21) ∧
            ((((f25 r22.toNat).toInt) = (-1000000)) →
              (∃ fs31, (G21.1 v0 = some (.inl (14, fs31))) ∧
              (∃ x34, (fs31[2]? = some (am_R x34)) ∧
              (∃ fs35, (G21.1 x34 = some (.inl (1, fs35))) ∧
              (∃ x38, (fs35[4]? = some (am_R x38)) ∧
              kX10_number l [am_R v0] G21 (am_qi fun r40 G39 =>
                (∃ fs42, (G39.1 x38 = some (.inl (2, fs42))) ∧
                kX1_below l [am_R x38, am_I r40] G39 (am_qi fun r45 G44 =>
                  Q (some (am_I (r7 + r45))) G44))))))))))))))))))))) : kX15_size l [am_R v0, am_R v1] S Q := by
  refine am_entry (lv := [(0, am_R v0), (1, am_R v1)]) rfl rfl rfl (fun _ => rfl) (fun _ => Nat.le_of_ble_eq_true rfl) ?_
  refine am_aload_n dX15_size_0 rfl 1 rfl ?_
  refine am_bipush dX15_size_1 (by decide) ?_
  obtain ⟨fs1, ho2, hh⟩ := hh
  refine am_rVv (n := 1) hh dX15_size_3 (lw_V q1359 q1305 q1306 q95 q1307) rfl ⟨⟨by decide, by decide, by decide +kernel⟩, ⟨Nat.le_of_ble_eq_true rfl, Nat.le_of_ble_eq_true rfl⟩⟩ ⟨rfl, rfl⟩ rfl rfl (Nat.le_of_ble_eq_true rfl) ⟨(Nat.le_of_ble_eq_true rfl), (Nat.le_of_ble_eq_true rfl)⟩ (ah_recv ho2 rfl) (fun G3 hh => ?_)
  refine am_aload_n dX15_size_6 rfl 0 rfl ?_
  refine am_aload_n dX15_size_7 rfl 1 rfl ?_
  obtain ⟨fs4, ho5, hh⟩ := hh
  refine am_rSUi (n := 1) hh dX15_size_8 (ci := 14) rfl q1360 q1300 q1246 q1299 q120 q1309 (by decide) ⟨⟨by decide, by decide, by decide +kernel⟩, ⟨Nat.le_of_ble_eq_true rfl, Nat.le_of_ble_eq_true rfl⟩⟩ ⟨rfl, rfl⟩ rfl rfl (Nat.le_of_ble_eq_true rfl) ⟨(Nat.le_of_ble_eq_true rfl), (Nat.le_of_ble_eq_true rfl)⟩ (ah_recv ho5 rfl) (fun r7 G6 hr8 hh => ?_)
  refine am_aload_n dX15_size_11 rfl 0 rfl ?_
  obtain ⟨fs9, ho10, hh⟩ := hh
  obtain ⟨x12, hv11, hh⟩ := hh
  refine ah_get ho10 hv11 rfl in_X15 (by decide) q1241 (Or.inl rfl) dX15_size_12 ?_
  obtain ⟨fs13, ho14, hh⟩ := hh
  obtain ⟨x16, hv15, hh⟩ := hh
  refine ah_getN ho14 hv15 rfl in_X0 (by decide) (am_nwin q217 rfl) dX15_size_15 ?_
  obtain ⟨fs17, ho18, hh⟩ := hh
  obtain ⟨x20, hv19, hh⟩ := hh
  refine ah_getN ho18 hv19 rfl in_X1 (by decide) (am_nwin q149 rfl) dX15_size_18 ?_
  refine am_aload_n dX15_size_21 rfl 0 rfl ?_
  refine am_rUi (n := 0) hh dX15_size_22 (am_CU_A (owner := "TableArms$AsThing") q1361 q1362 q1363 q1286 q120 q1293 (am_nwin q1313 rfl) ⟨rfl, rfl⟩ ⟨by decide, by decide, by decide +kernel⟩ ⟨Nat.le_of_ble_eq_true rfl, Nat.le_of_ble_eq_true rfl⟩) rfl rfl (Nat.le_of_ble_eq_true rfl) ⟨(Nat.le_of_ble_eq_true rfl), (Nat.le_of_ble_eq_true rfl)⟩ (ah_recv ho10 rfl) (fun r22 G21 hr23 hh => ?_)
  obtain ⟨n24, f25, ha26, hh⟩ := hh
  obtain ⟨o27, hh⟩ := hh
  refine ah_iald ha26 o27.1 o27.2 (v := (f25 r22.toNat).toInt) rfl dX15_size_25 ?_
  refine am_ldc (z := -1000000) q1364 (by decide) dX15_size_26 ?_
  obtain ⟨ha28, hb29⟩ := hh
  refine am_icmp_ne (tgt := 48) dX15_size_28 (by decide) (am_rt _) (⟨by decide, by decide⟩) (fun hc30 => ?_) (fun hc30 => ?_)
  · have hh := ha28 hc30
    refine am_iconst dX15_size_48 ?_
    refine am_iadd dX15_size_49 ?_
    exact am_iret rfl dX15_size_50 (Nat.le_refl 0) (Nat.le_refl 0) hh
  · have hh := hb29 hc30
    refine am_aload_n dX15_size_31 rfl 0 rfl ?_
    obtain ⟨fs31, ho32, hh⟩ := hh
    obtain ⟨x34, hv33, hh⟩ := hh
    refine ah_get ho32 hv33 rfl in_X15 (by decide) q1241 (Or.inl rfl) dX15_size_32 ?_
    obtain ⟨fs35, ho36, hh⟩ := hh
    obtain ⟨x38, hv37, hh⟩ := hh
    refine ah_getN ho36 hv37 rfl in_X0 (by decide) (am_nwin q217 rfl) dX15_size_35 ?_
    refine am_aload_n dX15_size_38 rfl 0 rfl ?_
    refine am_rUi (n := 0) hh dX15_size_39 (am_CU_A (owner := "TableArms$AsThing") q1361 q1362 q1363 q1286 q120 q1293 (am_nwin q1313 rfl) ⟨rfl, rfl⟩ ⟨by decide, by decide, by decide +kernel⟩ ⟨Nat.le_of_ble_eq_true rfl, Nat.le_of_ble_eq_true rfl⟩) rfl rfl (Nat.le_of_ble_eq_true rfl) ⟨(Nat.le_of_ble_eq_true rfl), (Nat.le_of_ble_eq_true rfl)⟩ (ah_recv ho32 rfl) (fun r40 G39 hr41 hh => ?_)
    obtain ⟨fs42, ho43, hh⟩ := hh
    refine am_rVi (n := 1) hh dX15_size_42 (lw_V q1365 q474 q475 q91 q476) rfl ⟨⟨by decide, by decide, by decide +kernel⟩, ⟨Nat.le_of_ble_eq_true rfl, Nat.le_of_ble_eq_true rfl⟩⟩ ⟨rfl, rfl⟩ rfl rfl (Nat.le_of_ble_eq_true rfl) ⟨(Nat.le_of_ble_eq_true rfl), (Nat.le_of_ble_eq_true rfl)⟩ (ah_recv ho43 rfl) (fun r45 G44 hr46 hh => ?_)
    refine am_goto (tgt := 49) dX15_size_45 (by decide) ?_
    refine am_iadd dX15_size_49 ?_
    exact am_iret rfl dX15_size_50 (Nat.le_refl 0) (Nat.le_refl 0) hh
/-! TableArms.trace(I)I -/
abbrev VX0_trace (l : Launch) (Q : Option am_W → ah_H → Prop) (pc : Nat) (lv : List (Nat × am_W)) (st : List am_W) (S : ah_H) : Prop := am_V ah_r l RX0 cX0_trace 2 (some .int) "trace" (am_rm 2 0 0) (am_E1 ah_r 0 0 Q) pc lv st S 0 0
abbrev kX0_trace (l : Launch) (as : List am_W) (S : ah_H) (Q : Option am_W → ah_H → Prop) : Prop := am_C ah_r l yX0_trace (ws_ yX0_trace cX0_trace 2 (some .int)) (am_rm 2 0 0) 0 0 as S Q
set_option maxHeartbeats 4000000 in
set_option maxRecDepth 100000 in
theorem bX0_trace {l : Launch} {Q : Option am_W → ah_H → Prop} {S : ah_H} (v0 : Nat) (v1 : Int) (h1 : am_r v1)
    (hh : (∃ fs1, (S.1 v0 = some (.inl (1, fs1))) ∧
      (∃ x4, (fs1[16]? = some (am_R x4)) ∧
      (∃ fs5, (S.1 x4 = some (.inl (3, fs5))) ∧
      (∃ z8, (fs5[1]? = some (am_I z8) ∧ am_r z8) ∧
      (am_r (z8 - 1)) ∧
      kX0_isIn l [am_J v1, am_J 0, am_J (z8 - 1)] S (am_qz fun b12 G11 =>
        ((b12 = false) →
          Q (some (am_I (-1000000))) G11) ∧
        ((b12 = true) →
          (∃ fs16, (G11.1 v0 = some (.inl (1, fs16))) ∧
          (∃ x19, (fs16[16]? = some (am_R x19)) ∧
          (∃ fs20, (G11.1 x19 = some (.inl (3, fs20))) ∧
          (∃ x23, (fs20[0]? = some (am_R x23)) ∧
          (∃ n24 f25, (G11.1 x23 = some (.inr (0, n24, .inl f25))) ∧
          (0 ≤ v1 ∧ v1 < (n24 : Int)) ∧
          Q (some (am_I (f25 v1.toNat).toInt)) G11)))))))))))) : kX0_trace l [am_R v0, am_I v1] S Q := by
  refine am_entry (lv := [(0, am_R v0), (1, am_I v1)]) rfl rfl rfl (fun _ => rfl) (fun _ => Nat.le_of_ble_eq_true rfl) ?_
  refine am_iload_n dX0_trace_0 rfl 1 rfl ?_
  refine am_i2l_ h1 dX0_trace_1 ?_
  refine am_lconst (z := 0) dX0_trace_2 (by decide) ?_
  refine am_aload_n dX0_trace_3 rfl 0 rfl ?_
  obtain ⟨fs1, ho2, hh⟩ := hh
  obtain ⟨x4, hv3, hh⟩ := hh
  refine ah_get ho2 hv3 rfl in_X0 (by decide) q230 (Or.inl rfl) dX0_trace_4 ?_
  obtain ⟨fs5, ho6, hh⟩ := hh
  obtain ⟨z8, ⟨hv7, hr9⟩, hh⟩ := hh
  refine ah_getN ho6 hv7 rfl in_X2 (by decide) (am_nwin q202 rfl) dX0_trace_7 ?_
  refine am_iconst dX0_trace_10 ?_
  refine am_isub dX0_trace_11 ?_
  obtain ⟨o10, hh⟩ := hh
  refine am_i2l_ o10 dX0_trace_12 ?_
  refine am_rSz (n := 3) hh dX0_trace_13 (lw_S q285 q286 q90 q287) ⟨⟨by decide, by decide, by decide +kernel⟩, ⟨Nat.le_of_ble_eq_true rfl, Nat.le_of_ble_eq_true rfl⟩⟩ ⟨rfl, rfl⟩ rfl rfl (Nat.le_of_ble_eq_true rfl) ⟨(Nat.le_of_ble_eq_true rfl), (Nat.le_of_ble_eq_true rfl)⟩ (fun b12 G11 hh => ?_)
  obtain ⟨ha13, hb14⟩ := hh
  refine am_ifB_eq (tgt := 31) dX0_trace_16 (by decide) (fun hc15 => ?_) (fun hc15 => ?_)
  · have hh := ha13 hc15
    refine am_ldc (z := -1000000) q472 (by decide) dX0_trace_31 ?_
    exact am_iret rfl dX0_trace_33 (Nat.le_refl 0) (Nat.le_refl 0) hh
  · have hh := hb14 hc15
    refine am_aload_n dX0_trace_19 rfl 0 rfl ?_
    obtain ⟨fs16, ho17, hh⟩ := hh
    obtain ⟨x19, hv18, hh⟩ := hh
    refine ah_get ho17 hv18 rfl in_X0 (by decide) q230 (Or.inl rfl) dX0_trace_20 ?_
    obtain ⟨fs20, ho21, hh⟩ := hh
    obtain ⟨x23, hv22, hh⟩ := hh
    refine ah_getN ho21 hv22 rfl in_X2 (by decide) (am_nwin q200 rfl) dX0_trace_23 ?_
    refine am_iload_n dX0_trace_26 rfl 1 rfl ?_
    obtain ⟨n24, f25, ha26, hh⟩ := hh
    obtain ⟨o27, hh⟩ := hh
    refine ah_iald ha26 o27.1 o27.2 (v := (f25 v1.toNat).toInt) rfl dX0_trace_27 ?_
    refine am_goto (tgt := 33) dX0_trace_28 (by decide) ?_
    exact am_iret rfl dX0_trace_33 (Nat.le_refl 0) (Nat.le_refl 0) hh
/-! TableArms.count(I)I -/
abbrev VX0_count (l : Launch) (Q : Option am_W → ah_H → Prop) (pc : Nat) (lv : List (Nat × am_W)) (st : List am_W) (S : ah_H) : Prop := am_V ah_r l RX0 cX0_count 4 (some .int) "count" (am_rm 5 0 0) (am_E1 ah_r 0 0 Q) pc lv st S 0 0
abbrev kX0_count (l : Launch) (as : List am_W) (S : ah_H) (Q : Option am_W → ah_H → Prop) : Prop := am_C ah_r l yX0_count (ws_ yX0_count cX0_count 4 (some .int)) (am_rm 5 0 0) 0 0 as S Q
set_option maxHeartbeats 4000000 in
set_option maxRecDepth 100000 in
theorem bX0_count {l : Launch} {Q : Option am_W → ah_H → Prop} {S : ah_H} (v0 : Nat) (v1 : Int) (h1 : am_r v1)
    (hh : ((v1 = 0) →
        VX0_count l Q 50 [(0, am_R v0), (2, am_I 0), (3, am_I 0)] [] S) ∧
      ((v1 = 1) →
        (∃ fs11, (S.1 v0 = some (.inl (1, fs11))) ∧
        (∃ z14, (fs11[1]? = some (am_I z14) ∧ am_r z14) ∧
        Q (some (am_I z14)) S))) ∧
      ((v1 = 2) →
        (∃ fs16, (S.1 v0 = some (.inl (1, fs16))) ∧
        (∃ z19, (fs16[6]? = some (am_I z19) ∧ am_r z19) ∧
        Q (some (am_I z19)) S))) ∧
      ((v1 = 3) →
        VX0_count l Q 93 [(0, am_R v0), (2, am_I 0), (3, am_I 0)] [] S) ∧
      ((v1 = 4) →
        (∃ fs21, (S.1 v0 = some (.inl (1, fs21))) ∧
        (∃ x24, (fs21[15]? = some (am_R x24)) ∧
        (∃ fs25, (S.1 x24 = some (.inl (15, fs25))) ∧
        kJ2_size l [am_R x24] S (am_qi fun r28 G27 =>
          Q (some (am_I r28)) G27))))) ∧
      ((v1 = 5) →
        VX0_count l Q 153 [(0, am_R v0), (2, am_I 0), (3, am_I 0)] [] S) ∧
      ((v1 = 6) →
        VX0_count l Q 187 [(0, am_R v0), (2, am_I 0), (3, am_I 0)] [] S) ∧
      ((v1 = 7) →
        (∃ fs30, (S.1 v0 = some (.inl (1, fs30))) ∧
        (∃ z33, (fs30[13]? = some (am_I z33) ∧ am_r z33) ∧
        Q (some (am_I z33)) S))) ∧
      ((v1 < 0 ∨ 7 < v1) →
        Q (some (am_I (-1000001))) S)) : kX0_count l [am_R v0, am_I v1] S Q := by
  refine am_entry (lv := [(0, am_R v0), (1, am_I v1)]) rfl rfl rfl (fun _ => rfl) (fun _ => Nat.le_of_ble_eq_true rfl) ?_
  refine am_iconst dX0_count_0 ?_
  refine am_istore_n dX0_count_1 rfl (by decide) rfl ?_
  refine am_iload_n dX0_count_2 rfl 2 rfl ?_
  obtain ⟨ha1, ha2, ha3, ha4, ha5, ha6, ha7, ha8, ha9⟩ := hh
  by_cases hc10 : v1 < 0 ∨ 7 < v1
  · have hh := ha9 hc10
    refine am_tabOut (tgt := 227) dX0_count_3 h1 hc10 (by decide) ?_
    refine am_ldc (z := -1000001) q289 (by decide) dX0_count_227 ?_
    exact am_iret rfl dX0_count_229 (Nat.le_refl 0) (Nat.le_refl 0) hh
  have hc10 : v1 = 0 ∨ v1 = 1 ∨ v1 = 2 ∨ v1 = 3 ∨ v1 = 4 ∨ v1 = 5 ∨ v1 = 6 ∨ v1 = 7 := by omega
  rcases hc10 with hc10 | hc10 | hc10 | hc10 | hc10 | hc10 | hc10 | hc10
  · have hh := ha1 hc10
    refine am_tabIn (tgt := 48) 0 dX0_count_3 h1 hc10 (by decide) (by decide) rfl (by decide) ?_
    refine am_iconst dX0_count_48 ?_
    refine am_istore_n dX0_count_49 rfl (by decide) rfl ?_
    refine am_keep [2, 1, 0] rfl ?_
    exact hh
  · have hh := ha2 hc10
    refine am_tabIn (tgt := 81) 1 dX0_count_3 h1 hc10 (by decide) (by decide) rfl (by decide) ?_
    refine am_aload_n dX0_count_81 rfl 1 rfl ?_
    obtain ⟨fs11, ho12, hh⟩ := hh
    obtain ⟨z14, ⟨hv13, hr15⟩, hh⟩ := hh
    refine ah_get ho12 hv13 rfl in_X0 (by decide) q210 (Or.inl rfl) dX0_count_82 ?_
    exact am_iret rfl dX0_count_85 (Nat.le_refl 0) (Nat.le_refl 0) hh
  · have hh := ha3 hc10
    refine am_tabIn (tgt := 86) 2 dX0_count_3 h1 hc10 (by decide) (by decide) rfl (by decide) ?_
    refine am_aload_n dX0_count_86 rfl 1 rfl ?_
    obtain ⟨fs16, ho17, hh⟩ := hh
    obtain ⟨z19, ⟨hv18, hr20⟩, hh⟩ := hh
    refine ah_get ho17 hv18 rfl in_X0 (by decide) q220 (Or.inl rfl) dX0_count_87 ?_
    exact am_iret rfl dX0_count_90 (Nat.le_refl 0) (Nat.le_refl 0) hh
  · have hh := ha4 hc10
    refine am_tabIn (tgt := 91) 3 dX0_count_3 h1 hc10 (by decide) (by decide) rfl (by decide) ?_
    refine am_iconst dX0_count_91 ?_
    refine am_istore_n dX0_count_92 rfl (by decide) rfl ?_
    refine am_keep [2, 1, 0] rfl ?_
    exact hh
  · have hh := ha5 hc10
    refine am_tabIn (tgt := 141) 4 dX0_count_3 h1 hc10 (by decide) (by decide) rfl (by decide) ?_
    refine am_aload_n dX0_count_141 rfl 1 rfl ?_
    obtain ⟨fs21, ho22, hh⟩ := hh
    obtain ⟨x24, hv23, hh⟩ := hh
    refine ah_get ho22 hv23 rfl in_X0 (by decide) q229 (Or.inl rfl) dX0_count_142 ?_
    obtain ⟨fs25, ho26, hh⟩ := hh
    refine am_rFi (n := 0) hh dX0_count_145 (ci := 15) rfl ⟨q613, q612, q618, q616, q614⟩ q611 q615 q617 q94 q619 ⟨by decide, by decide, by decide +kernel⟩ ⟨Nat.le_of_ble_eq_true rfl, Nat.le_of_ble_eq_true rfl⟩ ⟨rfl, rfl⟩ rfl rfl (Nat.le_of_ble_eq_true rfl) ⟨(Nat.le_of_ble_eq_true rfl), (Nat.le_of_ble_eq_true rfl)⟩ (ah_recv ho26 rfl) (fun r28 G27 hr29 hh => ?_)
    exact am_iret rfl dX0_count_150 (Nat.le_refl 0) (Nat.le_refl 0) hh
  · have hh := ha6 hc10
    refine am_tabIn (tgt := 151) 5 dX0_count_3 h1 hc10 (by decide) (by decide) rfl (by decide) ?_
    refine am_iconst dX0_count_151 ?_
    refine am_istore_n dX0_count_152 rfl (by decide) rfl ?_
    refine am_keep [2, 1, 0] rfl ?_
    exact hh
  · have hh := ha7 hc10
    refine am_tabIn (tgt := 185) 6 dX0_count_3 h1 hc10 (by decide) (by decide) rfl (by decide) ?_
    refine am_iconst dX0_count_185 ?_
    refine am_istore_n dX0_count_186 rfl (by decide) rfl ?_
    refine am_keep [2, 1, 0] rfl ?_
    exact hh
  · have hh := ha8 hc10
    refine am_tabIn (tgt := 222) 7 dX0_count_3 h1 hc10 (by decide) (by decide) rfl (by decide) ?_
    refine am_aload_n dX0_count_222 rfl 1 rfl ?_
    obtain ⟨fs30, ho31, hh⟩ := hh
    obtain ⟨z33, ⟨hv32, hr34⟩, hh⟩ := hh
    refine ah_get ho31 hv32 rfl in_X0 (by decide) q227 (Or.inl rfl) dX0_count_223 ?_
    exact am_iret rfl dX0_count_226 (Nat.le_refl 0) (Nat.le_refl 0) hh
set_option maxHeartbeats 4000000 in
set_option maxRecDepth 100000 in
theorem bX0_count_50 {l : Launch} {Q : Option am_W → ah_H → Prop} {S : ah_H} (v0 : Nat) (v2 : Int) (h2 : am_r v2) (v3 : Int) (h3 : am_r v3)
    (hh : ((8 ≤ v3) →
        Q (some (am_I v2)) S) ∧
      ((¬ 8 ≤ v3) →
        (∃ fs4, (S.1 v0 = some (.inl (1, fs4))) ∧
        (∃ x7, (fs4[0]? = some (am_R x7)) ∧
        (∃ n8 f9, (S.1 x7 = some (.inr (4, n8, .inr f9))) ∧
        (0 ≤ v3 ∧ v3 < (n8 : Int)) ∧
        (∀ x12, x12 = f9 v3.toNat →
        ((¬ x12 = none) →
          VX0_count l Q 50 [(0, am_R v0), (2, am_I (v2 + 1)), (3, am_I (v3 + 1))] [] S) ∧
        ((x12 = none) →
          VX0_count l Q 50 [(0, am_R v0), (2, am_I (v2 + 0)), (3, am_I (v3 + 1))] [] S))))))) : VX0_count l Q 50 [(0, am_R v0), (2, am_I v2), (3, am_I v3)] [] S := by
  refine am_iload_n dX0_count_50 rfl 2 rfl ?_
  refine am_bipush dX0_count_51 (by decide) ?_
  obtain ⟨ha1, hb2⟩ := hh
  refine am_icmp_ge (tgt := 79) dX0_count_53 (by decide) h3 (⟨by decide, by decide⟩) (fun hc3 => ?_) (fun hc3 => ?_)
  · have hh := ha1 hc3
    refine am_iload_n dX0_count_79 rfl 1 rfl ?_
    exact am_iret rfl dX0_count_80 (Nat.le_refl 0) (Nat.le_refl 0) hh
  · have hh := hb2 hc3
    refine am_iload_n dX0_count_56 rfl 1 rfl ?_
    refine am_aload_n dX0_count_57 rfl 0 rfl ?_
    obtain ⟨fs4, ho5, hh⟩ := hh
    obtain ⟨x7, hv6, hh⟩ := hh
    refine ah_get ho5 hv6 rfl in_X0 (by decide) q209 (Or.inl rfl) dX0_count_58 ?_
    refine am_iload_n dX0_count_61 rfl 2 rfl ?_
    obtain ⟨n8, f9, ha10, hh⟩ := hh
    obtain ⟨o11, hh⟩ := hh
    have hh := hh _ rfl
    refine ah_aald ha10 (by decide) o11.1 o11.2 rfl dX0_count_62 ?_
    obtain ⟨ha13, hb14⟩ := hh
    refine am_ifnonnull (tgt := 70) dX0_count_63 (by decide) (fun hc15 => ?_) (fun hc15 => ?_)
    · have hh := ha13 hc15
      refine am_iconst dX0_count_70 ?_
      refine am_iadd dX0_count_71 ?_
      refine am_istore_n dX0_count_72 rfl (by decide) rfl ?_
      refine am_iinc (n := 2) dX0_count_73 rfl (by decide) rfl ?_
      refine am_goto (tgt := 50) dX0_count_76 (by decide) ?_
      refine am_keep [2, 1, 0] rfl ?_
      exact hh
    · have hh := hb14 hc15
      refine am_iconst dX0_count_66 ?_
      refine am_goto (tgt := 71) dX0_count_67 (by decide) ?_
      refine am_iadd dX0_count_71 ?_
      refine am_istore_n dX0_count_72 rfl (by decide) rfl ?_
      refine am_iinc (n := 2) dX0_count_73 rfl (by decide) rfl ?_
      refine am_goto (tgt := 50) dX0_count_76 (by decide) ?_
      refine am_keep [2, 1, 0] rfl ?_
      exact hh
set_option maxHeartbeats 4000000 in
set_option maxRecDepth 100000 in
theorem bX0_count_93 {l : Launch} {Q : Option am_W → ah_H → Prop} {S : ah_H} (v0 : Nat) (v2 : Int) (h2 : am_r v2) (v3 : Int) (h3 : am_r v3)
    (hh : (∃ fs1, (S.1 v0 = some (.inl (1, fs1))) ∧
      (∃ x4, (fs1[11]? = some (am_R x4)) ∧
      (∃ fs5, (S.1 x4 = some (.inl (15, fs5))) ∧
      kJ2_size l [am_R x4] S (am_qi fun r8 G7 =>
        ((r8 ≤ v3) →
          Q (some (am_I v2)) G7) ∧
        ((¬ r8 ≤ v3) →
          (∃ fs13, (G7.1 v0 = some (.inl (1, fs13))) ∧
          (∃ x16, (fs13[11]? = some (am_R x16)) ∧
          (∃ fs17, (G7.1 x16 = some (.inl (15, fs17))) ∧
          kJ2_get l [am_R x16, am_I v3] G7 (am_qo fun a20 G19 => ∃ y21, a20 = some y21 ∧
            (ah_is G19 (some y21) "TableArms$Lesson") ∧
            (∃ fs23, (G19.1 y21 = some (.inl (6, fs23))) ∧
            (∃ b26, (fs23[4]? = some (am_I (am_b b26))) ∧
            ((b26 = false) →
              VX0_count l Q 93 [(0, am_R v0), (2, am_I (v2 + 0)), (3, am_I (v3 + 1))] [] G19) ∧
            ((b26 = true) →
              VX0_count l Q 93 [(0, am_R v0), (2, am_I (v2 + 1)), (3, am_I (v3 + 1))] [] G19))))))))))))) : VX0_count l Q 93 [(0, am_R v0), (2, am_I v2), (3, am_I v3)] [] S := by
  refine am_iload_n dX0_count_93 rfl 2 rfl ?_
  refine am_aload_n dX0_count_94 rfl 0 rfl ?_
  obtain ⟨fs1, ho2, hh⟩ := hh
  obtain ⟨x4, hv3, hh⟩ := hh
  refine ah_get ho2 hv3 rfl in_X0 (by decide) q225 (Or.inl rfl) dX0_count_95 ?_
  obtain ⟨fs5, ho6, hh⟩ := hh
  refine am_rFi (n := 0) hh dX0_count_98 (ci := 15) rfl ⟨q613, q612, q618, q616, q614⟩ q611 q615 q617 q94 q619 ⟨by decide, by decide, by decide +kernel⟩ ⟨Nat.le_of_ble_eq_true rfl, Nat.le_of_ble_eq_true rfl⟩ ⟨rfl, rfl⟩ rfl rfl (Nat.le_of_ble_eq_true rfl) ⟨(Nat.le_of_ble_eq_true rfl), (Nat.le_of_ble_eq_true rfl)⟩ (ah_recv ho6 rfl) (fun r8 G7 hr9 hh => ?_)
  obtain ⟨ha10, hb11⟩ := hh
  refine am_icmp_ge (tgt := 139) dX0_count_103 (by decide) h3 hr9 (fun hc12 => ?_) (fun hc12 => ?_)
  · have hh := ha10 hc12
    refine am_iload_n dX0_count_139 rfl 1 rfl ?_
    exact am_iret rfl dX0_count_140 (Nat.le_refl 0) (Nat.le_refl 0) hh
  · have hh := hb11 hc12
    refine am_iload_n dX0_count_106 rfl 1 rfl ?_
    refine am_aload_n dX0_count_107 rfl 0 rfl ?_
    obtain ⟨fs13, ho14, hh⟩ := hh
    obtain ⟨x16, hv15, hh⟩ := hh
    refine ah_get ho14 hv15 rfl in_X0 (by decide) q225 (Or.inl rfl) dX0_count_108 ?_
    refine am_iload_n dX0_count_111 rfl 2 rfl ?_
    obtain ⟨fs17, ho18, hh⟩ := hh
    refine am_rFo (n := 1) hh dX0_count_112 (ci := 15) rfl ⟨q736, q735, q740, q738, q614⟩ q734 q737 q739 q94 q741 ⟨by decide, by decide, by decide +kernel⟩ ⟨Nat.le_of_ble_eq_true rfl, Nat.le_of_ble_eq_true rfl⟩ ⟨rfl, rfl⟩ rfl rfl (Nat.le_of_ble_eq_true rfl) ⟨(Nat.le_of_ble_eq_true rfl), (Nat.le_of_ble_eq_true rfl)⟩ (ah_recv ho18 rfl) (fun a20 G19 hh => ?_)
    obtain ⟨y21, rfl, hh⟩ := hh
    obtain ⟨o22, hh⟩ := hh
    refine ah_cast q620 o22 dX0_count_117 ?_
    obtain ⟨fs23, ho24, hh⟩ := hh
    obtain ⟨b26, hv25, hh⟩ := hh
    refine ah_getN ho24 hv25 rfl in_X6 (by decide) (am_nwin q635 rfl) dX0_count_120 ?_
    obtain ⟨ha27, hb28⟩ := hh
    refine am_ifB_eq (tgt := 130) dX0_count_123 (by decide) (fun hc29 => ?_) (fun hc29 => ?_)
    · have hh := ha27 hc29
      refine am_iconst dX0_count_130 ?_
      refine am_iadd dX0_count_131 ?_
      refine am_istore_n dX0_count_132 rfl (by decide) rfl ?_
      refine am_iinc (n := 2) dX0_count_133 rfl (by decide) rfl ?_
      refine am_goto (tgt := 93) dX0_count_136 (by decide) ?_
      refine am_keep [2, 1, 0] rfl ?_
      exact hh
    · have hh := hb28 hc29
      refine am_iconst dX0_count_126 ?_
      refine am_goto (tgt := 131) dX0_count_127 (by decide) ?_
      refine am_iadd dX0_count_131 ?_
      refine am_istore_n dX0_count_132 rfl (by decide) rfl ?_
      refine am_iinc (n := 2) dX0_count_133 rfl (by decide) rfl ?_
      refine am_goto (tgt := 93) dX0_count_136 (by decide) ?_
      refine am_keep [2, 1, 0] rfl ?_
      exact hh
set_option maxHeartbeats 4000000 in
set_option maxRecDepth 100000 in
theorem bX0_count_153 {l : Launch} {Q : Option am_W → ah_H → Prop} {S : ah_H} (v0 : Nat) (v2 : Int) (h2 : am_r v2) (v3 : Int) (h3 : am_r v3)
    (hh : (∃ fs1, (S.1 v0 = some (.inl (1, fs1))) ∧
      (∃ z4, (fs1[1]? = some (am_I z4) ∧ am_r z4) ∧
      ((z4 ≤ v3) →
        Q (some (am_I v2)) S) ∧
      ((¬ z4 ≤ v3) →
        kX0_isShut l [am_R v0, am_I v3] S (am_qz fun b10 G9 =>
          ((b10 = false) →
            VX0_count l Q 153 [(0, am_R v0), (2, am_I (v2 + 0)), (3, am_I (v3 + 1))] [] G9) ∧
          ((b10 = true) →
            VX0_count l Q 153 [(0, am_R v0), (2, am_I (v2 + 1)), (3, am_I (v3 + 1))] [] G9)))))) : VX0_count l Q 153 [(0, am_R v0), (2, am_I v2), (3, am_I v3)] [] S := by
  refine am_iload_n dX0_count_153 rfl 2 rfl ?_
  refine am_aload_n dX0_count_154 rfl 0 rfl ?_
  obtain ⟨fs1, ho2, hh⟩ := hh
  obtain ⟨z4, ⟨hv3, hr5⟩, hh⟩ := hh
  refine ah_get ho2 hv3 rfl in_X0 (by decide) q210 (Or.inl rfl) dX0_count_155 ?_
  obtain ⟨ha6, hb7⟩ := hh
  refine am_icmp_ge (tgt := 183) dX0_count_158 (by decide) h3 hr5 (fun hc8 => ?_) (fun hc8 => ?_)
  · have hh := ha6 hc8
    refine am_iload_n dX0_count_183 rfl 1 rfl ?_
    exact am_iret rfl dX0_count_184 (Nat.le_refl 0) (Nat.le_refl 0) hh
  · have hh := hb7 hc8
    refine am_iload_n dX0_count_161 rfl 1 rfl ?_
    refine am_aload_n dX0_count_162 rfl 0 rfl ?_
    refine am_iload_n dX0_count_163 rfl 2 rfl ?_
    refine am_rVz (n := 1) hh dX0_count_164 (lw_V q1206 q1208 qs39 q90 q1209) rfl ⟨⟨by decide, by decide, by decide +kernel⟩, ⟨Nat.le_of_ble_eq_true rfl, Nat.le_of_ble_eq_true rfl⟩⟩ ⟨rfl, rfl⟩ rfl rfl (Nat.le_of_ble_eq_true rfl) ⟨(Nat.le_of_ble_eq_true rfl), (Nat.le_of_ble_eq_true rfl)⟩ (ah_recv ho2 rfl) (fun b10 G9 hh => ?_)
    obtain ⟨ha11, hb12⟩ := hh
    refine am_ifB_eq (tgt := 174) dX0_count_167 (by decide) (fun hc13 => ?_) (fun hc13 => ?_)
    · have hh := ha11 hc13
      refine am_iconst dX0_count_174 ?_
      refine am_iadd dX0_count_175 ?_
      refine am_istore_n dX0_count_176 rfl (by decide) rfl ?_
      refine am_iinc (n := 2) dX0_count_177 rfl (by decide) rfl ?_
      refine am_goto (tgt := 153) dX0_count_180 (by decide) ?_
      refine am_keep [2, 1, 0] rfl ?_
      exact hh
    · have hh := hb12 hc13
      refine am_iconst dX0_count_170 ?_
      refine am_goto (tgt := 175) dX0_count_171 (by decide) ?_
      refine am_iadd dX0_count_175 ?_
      refine am_istore_n dX0_count_176 rfl (by decide) rfl ?_
      refine am_iinc (n := 2) dX0_count_177 rfl (by decide) rfl ?_
      refine am_goto (tgt := 153) dX0_count_180 (by decide) ?_
      refine am_keep [2, 1, 0] rfl ?_
      exact hh
set_option maxHeartbeats 4000000 in
set_option maxRecDepth 100000 in
theorem bX0_count_187 {l : Launch} {Q : Option am_W → ah_H → Prop} {S : ah_H} (v0 : Nat) (v2 : Int) (h2 : am_r v2) (v3 : Int) (h3 : am_r v3)
    (hh : (∃ fs1, (S.1 v0 = some (.inl (1, fs1))) ∧
      (∃ z4, (fs1[1]? = some (am_I z4) ∧ am_r z4) ∧
      ((z4 ≤ v3) →
        Q (some (am_I v2)) S) ∧
      ((¬ z4 ≤ v3) →
        (∃ x10, (fs1[4]? = some (am_R x10)) ∧
        (∃ fs11, (S.1 x10 = some (.inl (2, fs11))) ∧
        kX1_isClear l [am_R x10, am_I v3] S (am_qz fun b14 G13 =>
          ((b14 = false) →
            VX0_count l Q 187 [(0, am_R v0), (2, am_I (v2 + 0)), (3, am_I (v3 + 1))] [] G13) ∧
          ((b14 = true) →
            VX0_count l Q 187 [(0, am_R v0), (2, am_I (v2 + 1)), (3, am_I (v3 + 1))] [] G13)))))))) : VX0_count l Q 187 [(0, am_R v0), (2, am_I v2), (3, am_I v3)] [] S := by
  refine am_iload_n dX0_count_187 rfl 2 rfl ?_
  refine am_aload_n dX0_count_188 rfl 0 rfl ?_
  obtain ⟨fs1, ho2, hh⟩ := hh
  obtain ⟨z4, ⟨hv3, hr5⟩, hh⟩ := hh
  refine ah_get ho2 hv3 rfl in_X0 (by decide) q210 (Or.inl rfl) dX0_count_189 ?_
  obtain ⟨ha6, hb7⟩ := hh
  refine am_icmp_ge (tgt := 220) dX0_count_192 (by decide) h3 hr5 (fun hc8 => ?_) (fun hc8 => ?_)
  · have hh := ha6 hc8
    refine am_iload_n dX0_count_220 rfl 1 rfl ?_
    exact am_iret rfl dX0_count_221 (Nat.le_refl 0) (Nat.le_refl 0) hh
  · have hh := hb7 hc8
    refine am_iload_n dX0_count_195 rfl 1 rfl ?_
    refine am_aload_n dX0_count_196 rfl 0 rfl ?_
    obtain ⟨x10, hv9, hh⟩ := hh
    refine ah_get ho2 hv9 rfl in_X0 (by decide) q215 (Or.inl rfl) dX0_count_197 ?_
    refine am_iload_n dX0_count_200 rfl 2 rfl ?_
    obtain ⟨fs11, ho12, hh⟩ := hh
    refine am_rVz (n := 1) hh dX0_count_201 (lw_V q481 q482 q483 q91 q484) rfl ⟨⟨by decide, by decide, by decide +kernel⟩, ⟨Nat.le_of_ble_eq_true rfl, Nat.le_of_ble_eq_true rfl⟩⟩ ⟨rfl, rfl⟩ rfl rfl (Nat.le_of_ble_eq_true rfl) ⟨(Nat.le_of_ble_eq_true rfl), (Nat.le_of_ble_eq_true rfl)⟩ (ah_recv ho12 rfl) (fun b14 G13 hh => ?_)
    obtain ⟨ha15, hb16⟩ := hh
    refine am_ifB_eq (tgt := 211) dX0_count_204 (by decide) (fun hc17 => ?_) (fun hc17 => ?_)
    · have hh := ha15 hc17
      refine am_iconst dX0_count_211 ?_
      refine am_iadd dX0_count_212 ?_
      refine am_istore_n dX0_count_213 rfl (by decide) rfl ?_
      refine am_iinc (n := 2) dX0_count_214 rfl (by decide) rfl ?_
      refine am_goto (tgt := 187) dX0_count_217 (by decide) ?_
      refine am_keep [2, 1, 0] rfl ?_
      exact hh
    · have hh := hb16 hc17
      refine am_iconst dX0_count_207 ?_
      refine am_goto (tgt := 212) dX0_count_208 (by decide) ?_
      refine am_iadd dX0_count_212 ?_
      refine am_istore_n dX0_count_213 rfl (by decide) rfl ?_
      refine am_iinc (n := 2) dX0_count_214 rfl (by decide) rfl ?_
      refine am_goto (tgt := 187) dX0_count_217 (by decide) ?_
      refine am_keep [2, 1, 0] rfl ?_
      exact hh
