/-! THE READER -/
def xrd (h : Nat → Option ah_C) (R Y L may at_ tok fr : Nat) (num : Int) (nm : Nat) : Prop := h R = some (.inl (7, [am_R 65, am_I (L : Int), am_I (may : Int), am_I (at_ : Int), am_I (tok : Int), am_I (fr : Int), am_I num, am_R nm, am_R Y]))
def xtp (h : Nat → Option ah_C) (L : Nat) (f : Nat → Nat) : Prop := ∃ g, h 65 = some (.inr (2, 300, .inl g)) ∧ ∀ i, i < L → (g i).toInt = sp_byte (f i)
def tc (k : Nat) : Nat := match k with
  | 1 => 0
  | 2 => 1
  | 3 => 2
  | 4 => 3
  | _ => 4
/-- S0 with another reader and more cells -/
def xin (S0 S : ah_H) (R : Nat) : Prop := S0.2 ≤ S.2 ∧ (∀ q, S.2 ≤ q → S.1 q = none) ∧ ∀ q, q < S0.2 → q ≠ R → S.1 q = S0.1 q
/-- the token that was read -/
def xtk (S0 S : ah_H) (R Y L may : Nat) (f : Nat → Nat) (tk : sp_tk) : Prop := ∃ num nm, xrd S.1 R Y L may tk.2.2 (tc tk.1) tk.2.1 num nm ∧ am_r num ∧ (tk.1 = 3 → num = (z_num f tk : Int)) ∧ (tk.1 = 2 → S0.2 ≤ nm ∧ nm < S.2 ∧ ∃ x, S0.2 ≤ x ∧ x < S.2 ∧ xst S.1 nm x (tk.2.2 - tk.2.1) (fun i => f (tk.2.1 + i)))
section KX28
variable {l : Launch} {S0 S : ah_H} {R Y L may : Nat} {f : Nat → Nat}
theorem xin.up (h : xin S0 S R) (hR : R < S.2) (c : Option ah_C) : xin S0 (va_up S.1 R c, S.2) R :=
  ⟨h.1, fun q hq => by
    have hq : S.2 ≤ q := hq
    exact (up_ne _ _ (by omega)).trans (h.2.1 q hq), fun q h1 h2 => (up_ne _ _ h2).trans (h.2.2 q h1 h2)⟩
theorem xin.tp (h : xin S0 S R) (ht : xtp S0.1 L f) (h65 : 65 < S0.2) (hR : R ≠ 65) : xtp S.1 L f := by
  obtain ⟨g, h1, h2⟩ := ht
  exact ⟨g, (h.2.2 65 h65 (Ne.symm hR)).trans h1, h2⟩
theorem kx_look {p tok fr nm : Nat} {num : Int} {P : Int → ah_H → Prop} (h : xrd S.1 R Y L may p tok fr num nm) (ht : xtp S.1 L f) (hL : L ≤ 300) (hf : ∀ i, i < L → f i ≤ 255) (hp : p ≤ 1000) (hP : P (if p < L then (f p : Int) else -1000000) S) : kX7_look l [am_R R] S (am_qi P) := by
  obtain ⟨g, h1, h2⟩ := ht
  refine bX7_look _ ⟨_, h, _, ⟨rfl, am_rN (by omega)⟩, _, ⟨rfl, am_rN (by omega)⟩, fun e => ?_, fun e => ⟨_, rfl, _, _, h1, ⟨by omega, by omega⟩, ?_⟩⟩
  · rw [if_neg (by omega)] at hP
    exact am_qi_mk ⟨by decide, by decide⟩ hP
  · rw [if_pos (by omega)] at hP
    have e1 : (g (p : Int).toNat).toInt = sp_byte (f p) := h2 p (by omega)
    have hfp := hf p (by omega)
    have e2 := (am_chr ⟨f p, by omega⟩).1
    rw [e1]
    exact am_qi_eq e2 (am_rN (by omega)) hP
theorem kx_next_80 {mc ms s x k cap q e cs ss tok nm : Nat} {num : Int} {P : ah_H → Prop} (hx : xin S0 S R) (ht : xtp S0.1 L f) (h65 : 65 < S0.2) (hR : R ≠ 65) (hR2 : 32 ≤ R ∧ R < S0.2) (hL : L ≤ 300) (hf : ∀ i, i < L → f i ≤ 255) (hnum : am_r num)
    (hr : xrd S.1 R Y L may (q + k) tok q num nm) (hk : q + k ≤ L) (he : e = sp_scan (fun i => z_let1 (f i)) L (L - (q + k))) (hsb : xsb S.1 s x k cap (fun i => f (q + i))) (hs : S0.2 ≤ s ∧ s < S.2) (hxx : S0.2 ≤ x ∧ x < S.2) (hcap : cap ≤ 16 + 2 * k)
    (hcs : cs ≤ 2 + k) (hss : ss ≤ 4 + 2 * cap) (hmc : (e - q) + 4 ≤ mc) (hms : 40 + 5 * (e - q) ≤ ms)
    (hP : ∀ S', xin S0 S' R → xtk S0 S' R Y L may f (2, q, e) → P S') : VX7_next l mc ms (am_qv P) 80 [(0, am_R R), (2, am_R s)] [] S cs ss := by
  generalize hm : L - (q + k) = m
  have hall := (sp_scan_all (g := fun i => z_let1 (f i)) (L := L) (L - (q + k)) (by omega)).1
  induction m generalizing S k cap x cs ss with
  | zero =>
    have hek : e = q + k := by
      rw [he, hm]
      show L = q + k
      omega
    have hkn : e - q = k := by omega
    refine bX7_next_80 _ _ _ _ ⟨by omega, by omega, _, hr, kx_look hr (hx.tp ht h65 hR) hL hf (by omega) ?_⟩
    rw [if_neg (by omega)]
    refine kx_isIn ⟨fun _ => ⟨2, 4 + k, by omega, _, hsb.1, ?_⟩, fun z => absurd (of_decide_eq_true z) (by omega)⟩
    refine kx_toString hsb hs.2 hxx.2 (Nat.le_refl _) (by omega) (fun S' g1 g2 g3 g4 => ⟨_, rfl, _, (g3 R (by have := hx.1; omega)).trans hr, hR2.1, (show 7 < 9 by decide), ?_⟩)
    rintro _ rfl
    refine ⟨_, up_at S'.1 R _, (show 4 < 9 by decide), ?_⟩
    rintro _ rfl
    have hlo := hx.1
    refine am_qv_mk (hP _ ⟨by show S0.2 ≤ S'.2; omega, fun p hp => ?_, fun p h1 h2 => ?_⟩ ⟨num, S.2, ?_, hnum, fun z => absurd z (show ¬ (2 : Nat) = 3 by decide), fun _ => ⟨hlo, by show S.2 < S'.2; omega, S.2 + 1, by omega, by show S.2 + 1 < S'.2; omega, ?_⟩⟩)
    · have hp : S'.2 ≤ p := hp
      exact (up_ne _ _ (by omega)).trans ((up_ne _ _ (by omega)).trans ((g4 p (by omega)).trans (hx.2.1 p (by omega))))
    · exact (up_ne _ _ h2).trans ((up_ne _ _ h2).trans ((g3 p (by omega)).trans (hx.2.2 p h1 h2)))
    · rw [hek]
      exact up_at (ah_sf S' _ _ _ _ _).1 R _
    · show xst _ S.2 (S.2 + 1) (e - q) _
      rw [hkn]
      obtain ⟨⟨hs', hz', q1, q2⟩, g, q3, q4⟩ := g2
      exact ⟨⟨hs', hz', (up_ne _ _ (by omega)).trans ((up_ne _ _ (by omega)).trans q1), q2⟩, g, (up_ne _ _ (by omega)).trans ((up_ne _ _ (by omega)).trans q3), q4⟩
  | succ m ih =>
    have hkL : q + k < L := by omega
    have hfk := hf (q + k) hkL
    by_cases hlet : z_let1 (f (q + k)) = true
    · have hl2 := of_decide_eq_true hlet
      have he2 : e = sp_scan (fun i => z_let1 (f i)) L (L - (q + (k + 1))) := he.trans (sp_scan_yes hkL hlet)
      have hall2 := (sp_scan_all (g := fun i => z_let1 (f i)) (L := L) (L - (q + (k + 1))) (by omega)).1
      rw [← he2] at hall2
      have hek : q + k + 1 ≤ e := by omega
      refine bX7_next_80 _ _ _ _ ⟨by omega, by omega, _, hr, kx_look hr (hx.tp ht h65 hR) hL hf (by omega) ?_⟩
      rw [if_pos hkL]
      refine kx_isIn ⟨fun z => absurd (show (97 : Int) ≤ (f (q + k) : Int) ∧ (f (q + k) : Int) ≤ 122 by omega) (of_decide_eq_false z), fun _ => ⟨_, hr, _, rfl, _, ⟨rfl, am_rN (by omega)⟩, hR2.1, (show 3 < 9 by decide), ?_⟩⟩
      rintro _ rfl
      obtain ⟨g, t1, t2⟩ := hx.tp ht h65 hR
      have hRS : R < S.2 := by have := hx.1; omega
      have hx2 := hx.up hRS (some (.inl (7, [am_R 65, am_I (L : Int), am_I (may : Int), am_I (((q + k : Nat) : Int) + 1), am_I (tok : Int), am_I (q : Int), am_I num, am_R nm, am_R Y])))
      have e1 : (g ((q + k : Nat) : Int).toNat).toInt = sp_byte (f (q + k)) := t2 (q + k) hkL
      have e2 := am_chr ⟨f (q + k), by omega⟩
      have hsb2 : xsb (va_up S.1 R (some (.inl (7, [am_R 65, am_I (L : Int), am_I (may : Int), am_I (((q + k : Nat) : Int) + 1), am_I (tok : Int), am_I (q : Int), am_I num, am_R nm, am_R Y])))) s x k cap (fun i => f (q + i)) := by
        obtain ⟨b1, b2, b3, b4, b5, b6, g', b7, b8⟩ := hsb
        exact ⟨(up_ne _ _ (by omega)).trans b1, b2, b3, b4, b5, b6, g', (up_ne _ _ (by omega)).trans b7, b8⟩
      refine ⟨_, _, (up_ne _ _ (Ne.symm hR)).trans t1, ⟨by omega, by omega⟩, (if k = cap then 1 else 0), (if k = cap then 2 * cap + 2 else 0), ?_, _, hsb2.1, ?_⟩
      · have := hsb.2.1
        split <;> omega
      · rw [e1, e2.1, e2.2]
        refine kx_append (b := fun i => f (q + i)) (c := f (q + k)) (S := (va_up S.1 R _, S.2)) hsb2 (by omega) (by omega) rfl hs.2 hxx.2 (fun z => by rw [if_pos z]; exact Nat.le_refl _) (fun z => by rw [if_pos z]; exact Nat.le_refl _) (fun S' x' cap' g1 g2 g3 g4 g5 => ⟨s, rfl, ?_⟩)
        have g1 : S.2 ≤ S'.2 := g1
        have g2 : k = cap → S'.2 = S.2 + 1 ∧ x' = S.2 ∧ cap' = 2 * cap + 2 := g2
        have g3 : k ≠ cap → S'.2 = S.2 ∧ x' = x ∧ cap' = cap := g3
        have hlo := hx.1
        have hxin : xin S0 S' R := by
          refine ⟨by omega, fun p hp => ?_, fun p h1 h2 => ?_⟩
          · by_cases ec : k = cap
            · obtain ⟨y1, y2, y3⟩ := g2 ec
              exact (g5 p (by omega) (by omega)).trans ((up_ne _ _ (by omega)).trans (hx.2.1 p (by omega)))
            · obtain ⟨y1, y2, y3⟩ := g3 ec
              exact (g5 p (by omega) (by omega)).trans ((up_ne _ _ (by omega)).trans (hx.2.1 p (by omega)))
          · refine (g5 p (by omega) (fun z => ?_)).trans ((up_ne _ _ h2).trans (hx.2.2 p h1 h2))
            by_cases ec : k = cap
            · have := (g2 ec).2.1
              omega
            · have := (g3 ec).2.1
              omega
        have hxs : S0.2 ≤ x' ∧ x' < S'.2 := by
          by_cases ec : k = cap
          · obtain ⟨y1, y2, y3⟩ := g2 ec
            omega
          · obtain ⟨y1, y2, y3⟩ := g3 ec
            omega
        have hcc : cap' ≤ 16 + 2 * (k + 1) ∧ cs + (if k = cap then 1 else 0) ≤ 2 + (k + 1) ∧ ss + (if k = cap then 2 * cap + 2 else 0) ≤ 4 + 2 * cap' := by
          by_cases ec : k = cap
          · obtain ⟨y1, y2, y3⟩ := g2 ec
            rw [if_pos ec, if_pos ec]
            omega
          · obtain ⟨y1, y2, y3⟩ := g3 ec
            rw [if_neg ec, if_neg ec]
            omega
        refine ih (k := k + 1) (x := x') (cap := cap') hxin ((g5 R (by omega) (by omega)).trans (up_at S.1 R _)) (by omega) he2 g4 ⟨hs.1, by omega⟩ hxs hcc.1 hcc.2.1 hcc.2.2 (by omega) ?_
        rw [← he2]
        omega
    · have hek : e = q + k := he.trans (sp_scan_no hkL (by simpa using hlet))
      have hkn : e - q = k := by omega
      have hnl : ¬ (97 ≤ f (q + k) ∧ f (q + k) ≤ 122) := fun z => hlet (decide_eq_true z)
      refine bX7_next_80 _ _ _ _ ⟨by omega, by omega, _, hr, kx_look hr (hx.tp ht h65 hR) hL hf (by omega) ?_⟩
      rw [if_pos hkL]
      refine kx_isIn ⟨fun _ => ⟨2, 4 + k, by omega, _, hsb.1, ?_⟩, fun z => absurd (of_decide_eq_true z) (by omega)⟩
      refine kx_toString hsb hs.2 hxx.2 (Nat.le_refl _) (by omega) (fun S' g1 g2 g3 g4 => ⟨_, rfl, _, (g3 R (by have := hx.1; omega)).trans hr, hR2.1, (show 7 < 9 by decide), ?_⟩)
      rintro _ rfl
      refine ⟨_, up_at S'.1 R _, (show 4 < 9 by decide), ?_⟩
      rintro _ rfl
      have hlo := hx.1
      refine am_qv_mk (hP _ ⟨by show S0.2 ≤ S'.2; omega, fun p hp => ?_, fun p h1 h2 => ?_⟩ ⟨num, S.2, ?_, hnum, fun z => absurd z (show ¬ (2 : Nat) = 3 by decide), fun _ => ⟨hlo, by show S.2 < S'.2; omega, S.2 + 1, by omega, by show S.2 + 1 < S'.2; omega, ?_⟩⟩)
      · have hp : S'.2 ≤ p := hp
        exact (up_ne _ _ (by omega)).trans ((up_ne _ _ (by omega)).trans ((g4 p (by omega)).trans (hx.2.1 p (by omega))))
      · exact (up_ne _ _ h2).trans ((up_ne _ _ h2).trans ((g3 p (by omega)).trans (hx.2.2 p h1 h2)))
      · rw [hek]
        exact up_at (ah_sf S' _ _ _ _ _).1 R _
      · show xst _ S.2 (S.2 + 1) (e - q) _
        rw [hkn]
        obtain ⟨⟨hs', hz', q1, q2⟩, g, q3, q4⟩ := g2
        exact ⟨⟨hs', hz', (up_ne _ _ (by omega)).trans ((up_ne _ _ (by omega)).trans q1), q2⟩, g, (up_ne _ _ (by omega)).trans ((up_ne _ _ (by omega)).trans q3), q4⟩
end KX28
