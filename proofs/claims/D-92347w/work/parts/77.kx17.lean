theorem l2i_and (y : Int) : am_l2i (am_landL y 255) = y % 256 := by
  have e2 : am_landL y 255 = (((BitVec.ofInt 64 y &&& 255#64).toNat : Nat) : Int) := by
    show (Int64.ofInt y &&& Int64.ofInt 255).toBitVec.toInt = _
    rw [Int64.toBitVec_and]
    have e3 : (Int64.ofInt y).toBitVec &&& (Int64.ofInt 255).toBitVec = BitVec.ofInt 64 y &&& 255#64 := rfl
    rw [e3, BitVec.toInt_eq_toNat_of_lt]
    rw [BitVec.toNat_and]
    have := Nat.and_le_right (n := (BitVec.ofInt 64 y).toNat) (m := (255#64).toNat)
    have h255 : (255#64).toNat = 255 := rfl
    rw [h255] at this ⊢
    omega
  have hn : (BitVec.ofInt 64 y &&& 255#64).toNat = (BitVec.ofInt 64 y).toNat % 256 := by
    rw [BitVec.toNat_and, show (255#64).toNat = 2 ^ 8 - 1 from rfl, Nat.and_two_pow_sub_one_eq_mod]
  have ho : ((BitVec.ofInt 64 y).toNat : Int) = y % (2 ^ 64 : Nat) := by
    rw [BitVec.toNat_ofInt]
    omega
  rw [e2]
  have e5 : (((BitVec.ofInt 64 y &&& 255#64).toNat : Nat) : Int) = y % 256 := by
    rw [hn]
    omega
  have hb : (BitVec.ofInt 64 y &&& 255#64).toNat ≤ 255 := by omega
  generalize (BitVec.ofInt 64 y &&& 255#64).toNat = k at *
  unfold am_l2i
  have e4 : (Int64.ofInt (k : Int)).toInt32.toInt = (k : Int) := by
    rw [Int64.toInt_toInt32, am_ti64 ⟨by omega, by omega⟩]
    exact Int.bmod_eq_of_le (by omega) (by omega)
  rw [e4, e5]
theorem am_l2i_bm (y : Int) : (am_l2i y).bmod 256 = y.bmod 256 := by
  unfold am_l2i
  rw [Int64.toInt_toInt32, Int64.toInt_ofInt, Int.bmod_bmod_of_dvd (by decide), Int.bmod_bmod_of_dvd (by decide)]
theorem am_i2b_bm (y : Int) : am_i2b y = y.bmod 256 := by
  unfold am_i2b
  rw [Int8.toInt_toInt32, Int32.toInt_toInt8, Int32.toInt_ofInt]
  exact Int.bmod_bmod_of_dvd (by decide)
theorem nar_bm (x : Int32) : (vp_nar .byte x).toInt = x.toInt.bmod 256 := by
  show (x.toInt8.toInt32).toInt = _
  rw [Int8.toInt_toInt32, Int32.toInt_toInt8]
theorem feed_byte (v : Int) (k : Nat) : (vp_nar .byte (Int32.ofInt (am_i2b (am_l2i (am_lshr v (8 * (k : Int))))))).toInt = sp_byte (z_byte v k) := by
  unfold z_byte
  rw [l2i_and]
  generalize am_lshr v (8 * (k : Int)) = y
  rw [nar_bm, Int32.toInt_ofInt, am_i2b_bm, am_l2i_bm, Int.bmod_bmod_of_dvd (by decide), Int.bmod_bmod]
  unfold sp_byte
  rw [Int.bmod_def]
  split <;> split <;> omega
section KX17
variable {l : Launch} {S : ah_H} {w : Nat → Nat} {Z : sp_Z} {tr : Nat}
theorem kx_feed_35 {m : Nat} {v : Int} {P : Int → ah_H → Prop} (h : xr_ S w tr Z) (hv : am_r64 v) (hm : zP Z + m ≤ 300) (hm8 : m ≤ 8) (hP : ∀ S', xr S' (z_feed v m Z) → P ((zP Z : Int) + m) S') : VX0_feed l (am_qi P) 35 [(0, am_R 32), (1, am_J v), (4, am_I ((m : Int) - 1))] [] S := by
  obtain ⟨v1, v2⟩ := id hv
  induction m generalizing S Z with
  | zero =>
    rw [z_feed] at hP
    exact bX0_feed_35 _ _ (by exact ⟨by omega, by omega⟩) _ (by first | exact am_rN (by omega) | exact ⟨by omega, by omega⟩ | assumption) ⟨fun _ => ⟨_, h.I.2, _, ⟨rfl, am_rN (by omega)⟩, am_qi_eq (k := (zP Z : Int) + ((0 : Nat) : Int)) (by omega) ⟨by omega, by omega⟩ (hP S ⟨w, tr, h⟩)⟩, fun z => absurd z (by omega)⟩
  | succ m ih =>
    rw [z_feed] at hP
    obtain ⟨gw, f, g1, g2⟩ := h.G
    have b0 := h.2.1.1
    have hzb := z_byte_le v m
    refine bX0_feed_35 _ _ (by exact ⟨by omega, by omega⟩) _ (by first | exact am_rN (by omega) | exact ⟨by omega, by omega⟩ | assumption) ⟨fun z => absurd z (by omega), fun _ => ⟨_, h.I.2, _, rfl, _, ⟨rfl, am_rN (by omega)⟩, by decide, (show 13 < 20 by decide), ?_⟩⟩
    rintro _ rfl
    refine ⟨_, _, (up_ne S.1 (some (.inl (1, (xF_Z Z tr).set 13 (am_I ((zP Z : Int) + 1))))) (show (65 : Nat) ≠ 32 by decide)).trans g1, by decide, ⟨by omega, by omega⟩, ?_⟩
    rintro _ rfl
    rw [show ((m + 1 : Nat) : Int) - 1 = (m : Int) by omega, show (m : Int) + (-1) = (m : Int) - 1 by omega]
    have fb := feed_byte v m
    generalize vp_nar .byte (Int32.ofInt (am_i2b (am_l2i (am_lshr v (8 * (m : Int)))))) = B at *
    have oI : (ah_si (ah_sf S 32 1 (xF_Z Z tr) 13 (am_I ((zP Z : Int) + 1))) 65 2 300 f (zP Z) B).1 32 = some (.inl (1, (xF_Z Z tr).set 13 (am_I ((zP Z : Int) + 1)))) := (up_ne (va_up S.1 32 (some (.inl (1, (xF_Z Z tr).set 13 (am_I ((zP Z : Int) + 1)))))) (some (.inr (2, 300, .inl (va_up f (zP Z : Int).toNat B)))) (show (32 : Nat) ≠ 65 by decide)).trans (up_at S.1 32 _)
    have oG : (ah_si (ah_sf S 32 1 (xF_Z Z tr) 13 (am_I ((zP Z : Int) + 1))) 65 2 300 f (zP Z) B).1 65 = some (.inr (2, 300, .inl (va_up f (zP Z : Int).toNat B))) := up_at (ah_sf S 32 1 (xF_Z Z tr) 13 (am_I ((zP Z : Int) + 1))).1 65 _
    have o1 : ∀ q, q ≠ 32 → q ≠ 65 → (ah_si (ah_sf S 32 1 (xF_Z Z tr) 13 (am_I ((zP Z : Int) + 1))) 65 2 300 f (zP Z) B).1 q = S.1 q := fun q z1 z2 => (up_ne _ _ z2).trans (up_ne _ _ z1)
    have e2 : (ah_si (ah_sf S 32 1 (xF_Z Z tr) 13 (am_I ((zP Z : Int) + 1))) 65 2 300 f (zP Z) B).2 = S.2 := rfl
    generalize ah_si (ah_sf S 32 1 (xF_Z Z tr) 13 (am_I ((zP Z : Int) + 1))) 65 2 300 f (zP Z) B = S4 at *
    have fr : ∀ q, S.1 q ≠ none → w q ∉ [0, 11] → S4.1 q = S.1 q ∧ w q = w q := fun q hq hn => by
      refine ⟨o1 q (fun e => ?_) (fun e => ?_), rfl⟩
      · rw [e, h.I.1] at hn
        exact hn (by decide)
      · rw [e, gw] at hn
        exact hn (by decide)
    have hx := h.all (S' := S4) (w' := w) ⟨⟨by omega, fun q hq => (o1 q (by omega) (by omega)).trans (h.2.1.2 q (by omega))⟩, fr⟩ h.X.1 (by decide)
    have r : xr_ S4 w tr (z_putb Z (z_byte v m)) := by
      refine ⟨⟨h.1.1, h.1.2.1, h.1.2.2.1, h.1.2.2.2.1, h.1.2.2.2.2.1, h.1.2.2.2.2.2.1, ⟨by show zP Z + 1 ≤ 300; omega, fun i hi => ?_⟩, h.1.2.2.2.2.2.2.2⟩, hx.1, ⟨h.I.1, oI⟩, h.A.kept fr (by decide), h.B.kept fr (by decide), h.K.kept h.K8 fr (by decide) (by decide), h.C.kept fr (by decide), h.D.kept h.L8 h.e1 fr (by decide) (by decide) (by decide), h.E.kept fr (by decide) (by decide), h.N.kept h.e1 fr (by decide) (by decide) (by decide), ⟨gw, _, oG, fun i hi => ?_⟩, h.Y.kept fr (by decide), h.U.kept fr (by decide), hx.2⟩
      · have hi : i < zP Z + 1 := hi
        show va_up (zPf Z) (zP Z) (z_byte v m) i ≤ 255
        rw [up_if]
        split
        · exact hzb
        · exact h.1.2.2.2.2.2.2.1.2 i (by omega)
      · have hi : i < zP Z + 1 := hi
        show _ = sp_byte (va_up (zPf Z) (zP Z) (z_byte v m) i)
        rw [Int.toNat_natCast, up_if, up_if]
        split
        · exact fb
        · exact g2 i (by omega)
    refine ih r (by show zP Z + 1 + m ≤ 300; omega) (by omega) (fun S' hr => ?_)
    have := hP S' hr
    rw [show ((zP Z : Int) + ((m + 1 : Nat) : Int)) = ((zP (z_putb Z (z_byte v m)) : Nat) : Int) + m by show _ = ((zP Z + 1 : Nat) : Int) + m; omega] at this
    exact this
theorem kx_feed {v n : Int} {P : Int → ah_H → Prop} (h0 : xr S Z) (hv : am_r64 v) (hn : am_r n) (hP : ∀ S', xr S' (zo_feed Z v n).2 → P (zo_feed Z v n).1 S') : kX0_feed l [am_R 32, am_J v, am_I n] S (am_qi P) := by
  obtain ⟨v1, v2⟩ := id hv
  obtain ⟨w, tr, h⟩ := h0
  have P3 := h.P300
  unfold zo_feed at hP
  refine bX0_feed _ _ (by exact ⟨by omega, by omega⟩) _ (by first | exact am_rN (by omega) | exact ⟨by omega, by omega⟩ | assumption) (kx_isIn ⟨fun h1 => ⟨_, h.I.2, _, ⟨rfl, am_rN (by omega)⟩, ?_⟩, fun h1 => ?_⟩)
  · have h1 := of_decide_eq_true h1
    obtain ⟨n, rfl⟩ : ∃ o : Nat, n = o := ⟨n.toNat, by omega⟩
    rw [if_pos h1] at hP
    refine ⟨⟨by omega, by omega⟩, fun h2 => ?_, fun h2 => ?_⟩
    · rw [if_neg (by omega), Int.toNat_natCast] at hP
      exact kx_feed_35 h hv (by omega) (by omega) hP
    · rw [if_pos (by omega)] at hP
      exact am_qi_mk ⟨by decide, by decide⟩ (hP S ⟨w, tr, h⟩)
  · have h1 := of_decide_eq_false h1
    rw [if_neg h1] at hP
    exact am_qi_mk ⟨by decide, by decide⟩ (hP S ⟨w, tr, h⟩)
end KX17
