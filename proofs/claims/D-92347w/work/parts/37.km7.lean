def zo_order (Z : sp_Z) (v : Int) : Int × sp_Z := if 0 ≤ v ∧ v ≤ 95 then match sp_order (zn Z) (zs Z) (zT Z) v.toNat with
  | (none, _) => (-1000002, Z)
  | (some m, T') => ((m : Int), z_T Z T')
  else (-1000001, Z)
def zo_thing (Z : sp_Z) (a b c : Int) : Int × sp_Z := if (0 ≤ a ∧ a ≤ 3) ∧ (1 ≤ b ∧ b ≤ 20) ∧ 0 ≤ c ∧ c ≤ 7 then if zn Z = 6 then (-1000003, Z) else ((zn Z : Int), z_B (z_A Z (zn Z + 1, va_up (zs Z) (zn Z) a.toNat, va_up (zw Z) (zn Z) b.toNat)) (sp_put (zT Z) (zn Z) c.toNat, zK Z, fun i => sp_put (zKT Z i) (zn Z) c.toNat)) else (-1000001, Z)
def zo_whereV (Z : sp_Z) (k w : Nat) : Int := match w with
  | 0 => zs Z k
  | 1 => zw Z k
  | 2 => sp_cell (zT Z) k
  | 3 => if (zT Z).2.2 k = none then sp_below (zT Z) k else -1000000
  | 4 => sp_on ((zT Z).2.2 k)
  | 5 => if sp_clear (zT Z) k = true then 1 else 0
  | _ => sp_on (sp_inside (zn Z) (zT Z) k)
def zo_where (Z : sp_Z) (k w : Int) : Int × sp_Z := if (0 ≤ k ∧ k < zn Z) ∧ 0 ≤ w ∧ w ≤ 6 then (zo_whereV Z k.toNat w.toNat, Z) else (-1000001, Z)
def zo_pile (Z : sp_Z) (c i : Int) : Int × sp_Z := if (0 ≤ c ∧ c ≤ 7) ∧ -1 ≤ i then (if i = -1 then ((zT Z).1 c.toNat).length else sp_on ((zT Z).1 c.toNat)[i.toNat]?, Z) else (-1000001, Z)
def zo_reach (Z : sp_Z) (a v : Int) : Int × sp_Z := if (0 ≤ a ∧ a ≤ 1) ∧ 0 ≤ v ∧ v ≤ 255 then ((zR Z a.toNat : Int), z_C Z (va_up (zR Z) a.toNat v.toNat)) else (-1000001, Z)
def z_mayMove (Z : sp_Z) (a k to : Int) : Bool := decide ((0 ≤ a ∧ a ≤ 1) ∧ 0 ≤ k ∧ k < zn Z) && z_isTo Z to
def z_canMove (Z : sp_Z) (a k to : Int) : Bool := sp_can (zn Z) (zs Z) (zT Z) k.toNat to.toNat && z_reaches Z (zT Z) a.toNat k.toNat to.toNat
def zo_move (Z : sp_Z) (a k to : Int) : Int × sp_Z := if z_mayMove Z a k to = true then if z_canMove Z a k to = true then (1, z_T Z (sp_move (zT Z) k.toNat to.toNat)) else (-1000002, Z) else (-1000001, Z)
def zo_keep (Z : sp_Z) : Int × sp_Z := if zK Z = 8 then (-1000003, Z) else ((zK Z : Int), z_B Z (zT Z, zK Z + 1, va_up (zKT Z) (zK Z) (zT Z)))
def zo_back (Z : sp_Z) (k : Int) : Int × sp_Z := if 0 ≤ k ∧ k < zK Z then (1, z_T Z (zKT Z k.toNat)) else (-1000001, Z)
def z_tab (Z : sp_Z) (a : Int) : sp_T := if a = -1000000 then zT Z else zKT Z a.toNat
def zo_same (Z : sp_Z) (a b : Int) : Int × sp_Z := if (a = -1000000 ∨ 0 ≤ a ∧ a < zK Z) ∧ (b = -1000000 ∨ 0 ≤ b ∧ b < zK Z) then (if sp_same (zn Z) (z_tab Z a) (z_tab Z b) = true then 1 else 0, Z) else (-1000001, Z)
theorem sp_do_le {n a rel b : Nat} {s : Nat → Nat} {odd : Bool} (m : Nat) (T : sp_T) (put such : Nat) {r : Nat} {T' : sp_T} (h : sp_do n s a rel b odd m T put such = (some r, T')) : r ≤ put + m := by
  induction m generalizing T put such with
  | zero =>
    unfold sp_do at h
    split at h
    · cases h
      omega
    · cases h
  | succ m ih =>
    rw [sp_do] at h
    split at h
    · split at h
      · split at h
        · have := ih _ _ _ h
          omega
        · have := ih _ _ _ h
          omega
      · split at h
        · split at h
          · cases h
          · cases h
            omega
        · have := ih _ _ _ h
          omega
    · have := ih _ _ _ h
      omega
section KM7
variable {l : Launch} {S : am_M} {Z : sp_Z}
theorem z_T_self (Z : sp_Z) : z_T Z (zT Z) = Z := rfl
theorem km_order {v : Int} {P : Int → am_M → Prop} (h : mr S Z) (hv : am_r v) (hP : ∀ S', mr S' (zo_order Z v).2 → P (zo_order Z v).1 S') : kX3_order l [am_R 0, am_I v] S (am_qi P) := by
  have h6 := h.n6
  unfold zo_order at hP
  refine bX3_order _ (by first | exact am_rN (by omega) | exact ⟨by omega, by omega⟩ | assumption) (km_isOrder hv ⟨fun hb => ?_, fun hb => ?_⟩)
  · have hb := of_decide_eq_true hb
    rw [if_pos hb] at hP
    obtain ⟨o, rfl⟩ : ∃ o : Nat, v = o := ⟨v.toNat, by omega⟩
    rw [Int.toNat_natCast] at hP
    refine km_copyTable (a := 0) (b := 9) (by decide) (by decide) (by decide) h.th.t0.2.2.1 (fun S1 r1 f1 => ?_)
    have h1 := h.th.fr f1 (by decide)
    refine km_doOrder (t := 9) (T := zT Z) ⟨by decide, h1.mn, r1, h.1.2.1.1⟩ (by omega) (fun r T' S2 he m2 f2 => ?_)
    have h2 := h1.fr f2 (by decide)
    rw [he] at hP
    cases r with
    | none => exact ⟨fun z => absurd rfl z, fun _ => am_qi_mk ⟨by decide, by decide⟩ (hP _ h2)⟩
    | some m =>
      refine ⟨fun _ => km_copyTable (a := 9) (b := 0) (by decide) (by decide) (by decide) m2.2.2.1 (fun S3 r3 f3 => ?_), fun z => absurd z (show ¬ (m : Int) = -1000000 by omega)⟩
      refine am_qi_mk ?_ (hP _ (h2.tab0 f3 ⟨by decide, f3.mn h2.mn, r3, m2.2.2.2⟩))
      have := sp_do_le _ _ _ _ he
      exact am_rN (n := m) (by omega)
  · have hb := of_decide_eq_false hb
    rw [if_neg hb] at hP
    exact am_qi_mk ⟨by decide, by decide⟩ (hP _ h.th)
theorem km_reach {a v : Int} {P : Int → am_M → Prop} (h : mr S Z) (ha : am_r a) (hv : am_r v) (hP : ∀ S', mr S' (zo_reach Z a v).2 → P (zo_reach Z a v).1 S') : kX3_reach l [am_R 0, am_I a, am_I v] S (am_qi P) := by
  unfold zo_reach at hP
  refine bX3_reach _ (by first | exact am_rN (by omega) | exact ⟨by omega, by omega⟩ | assumption) _ (by first | exact am_rN (by omega) | exact ⟨by omega, by omega⟩ | assumption) (km_isArm ha ⟨fun hb => ?_, fun hb => km_in ⟨fun hc => ⟨by have := of_decide_eq_true hb; omega, ?_⟩, fun hc => ?_⟩⟩)
  · have hb := of_decide_eq_false hb
    rw [if_neg (by omega)] at hP
    exact am_qi_mk ⟨by decide, by decide⟩ (hP _ h.th)
  · have hb := of_decide_eq_true hb
    have hc := of_decide_eq_true hc
    rw [if_pos ⟨hb, hc⟩] at hP
    obtain ⟨a, rfl⟩ : ∃ o : Nat, a = o := ⟨a.toNat, by omega⟩
    obtain ⟨v, rfl⟩ : ∃ o : Nat, v = o := ⟨v.toNat, by omega⟩
    simp only [Int.toNat_natCast] at hP ⊢
    have e := h.2.2.2.1 a (by omega)
    have e2 := h.1.2.2.1 a (by omega)
    show am_qi P (some (am_I (S.2 3 a).toInt)) _
    rw [e]
    refine am_qi_mk (am_rN (by omega)) (hP _ ?_)
    obtain ⟨⟨z1, z2, z3, z4⟩, q1, q2, q3, q4⟩ := h.th
    refine ⟨⟨z1, z2, fun i hi => ?_, z4⟩, q1, q2, fun i hi => ?_, q4⟩
    · show va_up (zR Z) a v i ≤ 255
      rw [up_if]
      split
      · omega
      · exact z3 i hi
    · show (va_up S.2 3 (va_up (S.2 3) (a : Int).toNat (Int32.ofInt v)) 3 i).toInt = (va_up (zR Z) a v i : Nat)
      rw [up_at, up_if, up_if, Int.toNat_natCast]
      split
      · exact am_ti hv
      · exact q3 i hi
  · have hc := of_decide_eq_false hc
    rw [if_neg (by omega)] at hP
    exact am_qi_mk ⟨by decide, by decide⟩ (hP _ h.th)
theorem z_isTo_nat {to : Nat} (h : z_isTo Z to = true) : to < 8 + zn Z ∧ (8 ≤ to → zs Z (to - 8) = 2) ∨ to < 8 := by
  unfold z_isTo at h
  rw [Bool.or_eq_true, decide_eq_true_eq, decide_eq_true_eq] at h
  rcases h with h | h
  · exact Or.inr (by omega)
  · refine Or.inl ⟨by omega, fun _ => ?_⟩
    rw [show to - 8 = ((to : Int) - 8).toNat by omega]
    exact h.2.2
theorem z_isTo_lt {to : Nat} (h : z_isTo Z to = true) : to < 8 + zn Z ∧ (8 ≤ to → zs Z (to - 8) = 2) := by
  rcases z_isTo_nat h with h | h
  · exact h
  · exact ⟨by omega, fun z => absurd z (by omega)⟩
theorem z_isTo_pos {to : Int} (h : z_isTo Z to = true) : 0 ≤ to := by
  unfold z_isTo at h
  rw [Bool.or_eq_true, decide_eq_true_eq, decide_eq_true_eq] at h
  omega
theorem km_move {a k to : Int} {P : Int → am_M → Prop} (h : mr S Z) (ha : am_r a) (hk : am_r k) (hto : am_r to) (hP : ∀ S', mr S' (zo_move Z a k to).2 → P (zo_move Z a k to).1 S') : kX3_move l [am_R 0, am_I a, am_I k, am_I to] S (am_qi P) := by
  have h6 := h.n6
  unfold zo_move z_mayMove z_canMove at hP
  refine bX3_move _ (by first | exact am_rN (by omega) | exact ⟨by omega, by omega⟩ | assumption) _ (by first | exact am_rN (by omega) | exact ⟨by omega, by omega⟩ | assumption) _ (by first | exact am_rN (by omega) | exact ⟨by omega, by omega⟩ | assumption) (km_isArm ha ⟨fun hb => ?_, fun hb => km_isThing h.th hk ⟨fun hc => ?_, fun hc => km_isTo h.th hto ⟨fun hd => ?_, fun hd => ?_⟩⟩⟩)
  · have hb := of_decide_eq_false hb
    rw [decide_eq_false (by omega)] at hP
    exact am_qi_mk ⟨by decide, by decide⟩ (hP _ h.th)
  · have hc := of_decide_eq_false hc
    rw [decide_eq_false (by omega)] at hP
    exact am_qi_mk ⟨by decide, by decide⟩ (hP _ h.th)
  · have hb := of_decide_eq_true hb
    have hc := of_decide_eq_true hc
    have hp := z_isTo_pos hd
    rw [decide_eq_true ⟨hb, hc⟩, hd, if_pos (show (true && true) = true from rfl)] at hP
    obtain ⟨a, rfl⟩ : ∃ o : Nat, a = o := ⟨a.toNat, by omega⟩
    obtain ⟨k, rfl⟩ : ∃ o : Nat, k = o := ⟨k.toNat, by omega⟩
    obtain ⟨to, rfl⟩ : ∃ o : Nat, to = o := ⟨to.toNat, by omega⟩
    simp only [Int.toNat_natCast] at hP
    obtain ⟨t1, t2⟩ := z_isTo_lt hd
    refine km_canMove h.th.t0 (by omega) t1 ⟨fun he => ?_, fun he => km_doesReach h.th h.th.t0 (by omega) (by omega) t1 ⟨fun hr => km_doMove h.th.t0 (by omega) t1 t2 he (fun S' m' f' => am_qi_mk ⟨by decide, by decide⟩ ?_), fun hr => ?_⟩⟩
    · rw [he] at hP
      exact am_qi_mk ⟨by decide, by decide⟩ (hP _ h.th)
    · rw [he, hr] at hP
      exact hP _ (h.th.tab0 f' m')
    · rw [he, hr] at hP
      exact am_qi_mk ⟨by decide, by decide⟩ (hP _ h.th)
  · rw [hd, Bool.and_false] at hP
    exact am_qi_mk ⟨by decide, by decide⟩ (hP _ h.th)
theorem km_keep {P : Int → am_M → Prop} (h : mr S Z) (hP : ∀ S', mr S' (zo_keep Z).2 → P (zo_keep Z).1 S') : kX3_keep l [am_R 0] S (am_qi P) := by
  have h6 := h.n6
  have h8 := h.K8
  have e := h.eK
  unfold zo_keep at hP
  refine bX3_keep ⟨fun hb => ?_, fun hb => ?_⟩
  · rw [if_neg (by omega)] at hP
    rw [e, show (zK Z : Int) + 1 = ((zK Z + 1 : Nat) : Int) by omega, am_ti (am_rN (by omega))]
    refine km_copyTable (a := 0) (b := zK Z + 1) (T := zT Z) (by decide) (by omega) (by omega) h.t0.2.2.1 (fun S1 r1 f1 => ?_)
    have e2 : (S1.1 3).toInt = (zK Z + 1 : Nat) := by
      rw [f1.1]
      show (va_up (am_sv S 0 0).1 3 (Int32.ofInt ((zK Z + 1 : Nat) : Int)) 3).toInt = _
      rw [up_at, am_ti (am_rN (by omega))]
    rw [e2, show (((zK Z + 1 : Nat) : Int) - 1) = (zK Z : Int) by omega]
    refine am_qi_mk (am_rN (by omega)) (hP _ ?_)
    obtain ⟨S1a, S2⟩ := S1
    obtain ⟨f1, f2, f3⟩ := f1
    have f1 : S1a = (am_sv (am_sv S 0 0) 3 ((zK Z + 1 : Nat) : Int)).1 := f1
    subst f1
    have e2 : ∀ j, j ≠ 0 → S2 j = S.2 j := f2
    obtain ⟨z, a, b, c, d, e5, g, i, j, y⟩ := h
    have fr : md_fr (zK Z + 1) S (S.1, S2) := ⟨rfl, f2, f3⟩
    refine ⟨⟨z.1, ⟨z.2.1.1, by show zK Z + 1 ≤ 8; omega, fun q hq => ?_⟩, z.2.2.1, ⟨z.2.2.2.1.1, fun q hq => ?_⟩, z.2.2.2.2⟩, ?_, ⟨by assumption, ?_, fun q hq => ?_⟩, ?_, ?_, ?_, ?_, ?_, j, ?_⟩
    · show sp_ok (zn Z) (zs Z) (va_up (zKT Z) (zK Z) (zT Z) q)
      have hq : q < zK Z + 1 := hq
      rw [up_if]
      split
      · exact z.2.1.1
      · exact z.2.1.2.2 q (by omega)
    · have := z.2.2.2.1.2 q hq
      show (zLf Z q).1 < zK Z + 1 ∧ (zLf Z q).2.1 < zK Z + 1 ∧ (zLf Z q).2.2.2.1 ≤ 9
      omega
    · show mrA (S.1 2) (S2 1) (S2 2) Z
      rw [e2 1 (by decide), e2 2 (by decide)]
      exact a
    · exact fr.tab (u := 0) (by omega) b.2.1
    · have hq : q < zK Z + 1 := hq
      show mt_r _ (q + 1) (va_up (zKT Z) (zK Z) (zT Z) q)
      rw [up_if]
      split
      · rename_i e
        rw [e]
        exact r1
      · exact fr.tab (u := q + 1) (by omega) (b.2.2 q (by omega))
    · show mrC (S2 3) Z
      rw [e2 3 (by decide)]
      exact c
    · show mrD (S.1 4) (S2 4) (S2 5) (S2 6) (S2 7) (S2 8) Z
      rw [e2 4 (by decide), e2 5 (by decide), e2 6 (by decide), e2 7 (by decide), e2 8 (by decide)]
      exact d
    · show mrE (S2 9) (S2 10) (S2 11) Z
      rw [e2 9 (by decide), e2 10 (by decide), e2 11 (by decide)]
      exact e5
    · show mrF (S.1 5) (S2 12) Z
      rw [e2 12 (by decide)]
      exact g
    · show mrG (S.1 7) (S2 13) Z
      rw [e2 13 (by decide)]
      exact i
    · show mrY (S.1 16) (S2 16) Z
      rw [e2 16 (by decide)]
      exact y
  · rw [if_pos (by omega)] at hP
    exact am_qi_mk ⟨by decide, by decide⟩ (hP _ h.th)
theorem km_back {k : Int} {P : Int → am_M → Prop} (h : mr S Z) (hk : am_r k) (hP : ∀ S', mr S' (zo_back Z k).2 → P (zo_back Z k).1 S') : kX3_back l [am_R 0, am_I k] S (am_qi P) := by
  have h8 := h.K8
  unfold zo_back at hP
  refine bX3_back _ (by first | exact am_rN (by omega) | exact ⟨by omega, by omega⟩ | assumption) (km_isKept h.th hk ⟨fun hb => ?_, fun hb => ?_⟩)
  · have hb := of_decide_eq_true hb
    rw [if_pos hb] at hP
    obtain ⟨k, rfl⟩ : ∃ o : Nat, k = o := ⟨k.toNat, by omega⟩
    rw [Int.toNat_natCast] at hP
    have hkK : k < zK Z := by omega
    have m := h.th.tk hkK
    refine km_copyTable (a := k + 1) (b := 0) (by omega) (by decide) (by omega) m.2.2.1 (fun S1 r1 f1 => am_qi_mk ⟨by decide, by decide⟩ (hP _ ?_))
    exact h.th.tab0 f1 ⟨by decide, f1.mn h.th.mn, r1, m.2.2.2⟩
  · rw [if_neg (of_decide_eq_false hb)] at hP
    exact am_qi_mk ⟨by decide, by decide⟩ (hP _ h.th)
theorem km_same {a b : Int} {P : Int → am_M → Prop} (h : mr S Z) (ha : am_r a) (hb : am_r b) (hP : ∀ S', mr S' (zo_same Z a b).2 → P (zo_same Z a b).1 S') : kX3_same l [am_R 0, am_I a, am_I b] S (am_qi P) := by
  have h8 := h.K8
  unfold zo_same at hP
  have bad : ¬ ((a = -1000000 ∨ 0 ≤ a ∧ a < zK Z) ∧ (b = -1000000 ∨ 0 ≤ b ∧ b < zK Z)) → am_qi P (some (am_I (-1000001))) (am_sv S 0 0) := by
    intro hx
    rw [if_neg hx] at hP
    exact am_qi_mk ⟨by decide, by decide⟩ (hP _ h.th)
  have key : ((a = -1000000 ∨ 0 ≤ a ∧ a < zK Z) ∧ (b = -1000000 ∨ 0 ≤ b ∧ b < zK Z)) → ∀ x y : Int, x = (if a = -1000000 then 0 else a + 1) → y = (if b = -1000000 then 0 else b + 1) → kX3_isSame l [am_R 0, am_I x, am_I y] (am_sv S 0 0) (am_qz fun b32 S31 => ((b32 = false) → am_qi P (some (am_I 0)) S31) ∧ ((b32 = true) → am_qi P (some (am_I 1)) S31)) := by
    intro hx x y ex ey
    rw [if_pos hx] at hP
    have tb : ∀ c : Int, (c = -1000000 ∨ 0 ≤ c ∧ c < zK Z) → ∀ z : Int, z = (if c = -1000000 then 0 else c + 1) → ∃ t : Nat, z = t ∧ mt S t (zn Z) (zs Z) (z_tab Z c) := by
      intro c hc z hz
      unfold z_tab
      by_cases q : c = -1000000
      · rw [if_pos q] at hz ⊢
        exact ⟨0, hz, h.t0⟩
      · rw [if_neg q] at hz ⊢
        have hc' : c.toNat < zK Z := by omega
        exact ⟨c.toNat + 1, by omega, h.tk hc'⟩
    obtain ⟨t, rfl, mt1⟩ := tb a hx.1 x ex
    obtain ⟨u, rfl, mt2⟩ := tb b hx.2 y ey
    refine km_isSame (S := am_sv S 0 0) mt1.1 mt2.1 mt1.2.2.1 mt2.2.2.1 mt1.2.2.2 mt2.2.2.2 ⟨fun e => ?_, fun e => ?_⟩
    · rw [e] at hP
      exact am_qi_mk ⟨by decide, by decide⟩ (hP _ h.th)
    · rw [e] at hP
      exact am_qi_mk ⟨by decide, by decide⟩ (hP _ h.th)
  refine bX3_same _ (by first | exact am_rN (by omega) | exact ⟨by omega, by omega⟩ | assumption) _ (by first | exact am_rN (by omega) | exact ⟨by omega, by omega⟩ | assumption) ⟨fun h1 => ⟨fun h2 => ⟨fun z => absurd h1 z, fun _ => ⟨fun z => absurd h2 z, fun _ => ?_⟩⟩, fun h2 => km_isKept h.th hb ⟨fun kt => ⟨fun z => absurd h1 z, fun _ => ⟨fun _ => ?_, fun z => absurd z h2⟩⟩, fun kf => ?_⟩⟩, fun h1 => km_isKept h.th ha ⟨fun kf => ?_, fun kt => ⟨fun h2 => ⟨fun _ => ⟨fun z => absurd h2 z, fun _ => ?_⟩, fun z => absurd z h1⟩, fun h2 => km_isKept h.th hb ⟨fun kt2 => ⟨fun _ => ⟨fun _ => ?_, fun z => absurd z h2⟩, fun z => absurd z h1⟩, fun kf => ?_⟩⟩⟩⟩
  · exact key ⟨Or.inl h1, Or.inl h2⟩ _ _ (by rw [if_pos h1]) (by rw [if_pos h2])
  · exact key ⟨Or.inl h1, Or.inr (of_decide_eq_true kt)⟩ _ _ (by rw [if_pos h1]) (by rw [if_neg h2])
  · exact bad (fun z => z.2.elim h2 (of_decide_eq_false kf))
  · exact bad (fun z => z.1.elim h1 (of_decide_eq_false kf))
  · exact key ⟨Or.inr (of_decide_eq_true kt), Or.inl h2⟩ _ _ (by rw [if_neg h1]) (by rw [if_pos h2])
  · exact key ⟨Or.inr (of_decide_eq_true kt), Or.inr (of_decide_eq_true kt2)⟩ _ _ (by rw [if_neg h1]) (by rw [if_neg h2])
  · exact bad (fun z => z.2.elim h2 (of_decide_eq_false kf))
theorem km_pile {c i : Int} {P : Int → am_M → Prop} (h : mr S Z) (hc : am_r c) (hi : am_r i) (hP : ∀ S', mr S' (zo_pile Z c i).2 → P (zo_pile Z c i).1 S') : kX3_pile l [am_R 0, am_I c, am_I i] S (am_qi P) := by
  have h6 := h.n6
  unfold zo_pile at hP
  refine bX3_pile _ (by first | exact am_rN (by omega) | exact ⟨by omega, by omega⟩ | assumption) _ (by first | exact am_rN (by omega) | exact ⟨by omega, by omega⟩ | assumption) (km_isCell hc ⟨fun hb => ?_, fun hb => ⟨fun h1 => ?_, fun h1 => ?_⟩⟩)
  · have hb := of_decide_eq_false hb
    rw [if_neg (by omega)] at hP
    exact am_qi_mk ⟨by decide, by decide⟩ (hP _ h.th)
  · have hb := of_decide_eq_true hb
    obtain ⟨c, rfl⟩ : ∃ o : Nat, c = o := ⟨c.toNat, by omega⟩
    have m := h.th.t0
    have hl := m.2.2.2.len (c := c) (by omega)
    rw [if_pos ⟨hb, h1⟩] at hP
    simp only [Int.toNat_natCast] at hP
    refine ⟨fun h2 => ?_, fun h2 => km_sizeOf (t := 0) (c := c) (by decide) (by omega) m.2.2.1 ?_⟩
    · obtain ⟨i, rfl⟩ : ∃ o : Nat, i = o := ⟨i.toNat, by omega⟩
      rw [if_neg h2, Int.toNat_natCast] at hP
      refine km_sizeOf (t := 0) (c := c) (by decide) (by omega) m.2.2.1 ⟨fun h3 => ?_, fun h3 => km_thingAt (t := 0) (by decide) (by omega) (by omega) m.2.2.1 ?_⟩
      · rw [List.getElem?_eq_none (by omega)] at hP
        exact am_qi_mk ⟨by decide, by decide⟩ (hP _ h.th)
      · obtain ⟨x, hx, hxn, -⟩ := m.tb (c := c) (i := i) (by omega) (by omega)
        rw [hx] at hP ⊢
        exact am_qi_mk (am_rN (n := x) (by omega)) (hP _ h.th)
    · rw [if_pos h2] at hP
      exact am_qi_mk (am_rN (by omega)) (hP _ h.th)
  · rw [if_neg (by omega)] at hP
    exact am_qi_mk ⟨by decide, by decide⟩ (hP _ h.th)
end KM7
