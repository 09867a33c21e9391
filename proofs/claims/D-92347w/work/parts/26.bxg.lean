/-! TableArms.status()I -/
abbrev VX0_status (l : Launch) (Q : Option am_W → ah_H → Prop) (pc : Nat) (lv : List (Nat × am_W)) (st : List am_W) (S : ah_H) : Prop := am_V ah_r l RX0 cX0_status 1 (some .int) "status" (am_rm 1 0 0) (am_E1 ah_r 0 0 Q) pc lv st S 0 0
abbrev kX0_status (l : Launch) (as : List am_W) (S : ah_H) (Q : Option am_W → ah_H → Prop) : Prop := am_C ah_r l yX0_status (ws_ yX0_status cX0_status 1 (some .int)) (am_rm 1 0 0) 0 0 as S Q
set_option maxHeartbeats 4000000 in
set_option maxRecDepth 100000 in
theorem bX0_status {l : Launch} {Q : Option am_W → ah_H → Prop} {S : ah_H} (v0 : Nat)
    (hh : (∃ fs1, (S.1 v0 = some (.inl (1, fs1))) ∧
      (∃ z4, (fs1[17]? = some (am_I z4) ∧ am_r z4) ∧
      Q (some (am_I z4)) S))) : kX0_status l [am_R v0] S Q := by
  refine am_entry (lv := [(0, am_R v0)]) rfl rfl rfl (fun _ => rfl) (fun _ => Nat.le_of_ble_eq_true rfl) ?_
  refine am_aload_n dX0_status_0 rfl 0 rfl ?_
  obtain ⟨fs1, ho2, hh⟩ := hh
  obtain ⟨z4, ⟨hv3, hr5⟩, hh⟩ := hh
  refine ah_get ho2 hv3 rfl in_X0 (by decide) q231 (Or.inl rfl) dX0_status_1 ?_
  exact am_iret rfl dX0_status_4 (Nat.le_refl 0) (Nat.le_refl 0) hh
