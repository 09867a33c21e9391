section KX29
variable {l : Launch} {S0 S : ah_H} {R Y L may : Nat} {f : Nat → Nat}
theorem kx_next_161 {mc ms k q e cs ss tok nm : Nat} {P : ah_H → Prop} (hx : xin S0 S R) (ht : xtp S0.1 L f) (h65 : 65 < S0.2) (hR : R ≠ 65) (hR2 : 32 ≤ R ∧ R < S0.2) (hL : L ≤ 300) (hf : ∀ i, i < L → f i ≤ 255)
    (hr : xrd S.1 R Y L may (q + k) tok q (sp_num f q (min k 3) : Nat) nm) (hk : q + k ≤ L) (he : e = sp_scan (fun i => z_fig (f i)) L (L - (q + k))) (hd : ∀ i, i < k → f (q + i) ≤ 57) (hcs : cs ≤ mc) (hss : ss ≤ ms)
    (hP : ∀ S', xin S0 S' R → xtk S0 S' R Y L may f (if e - q ≤ 3 then 3 else 0, q, e) → P S') : VX7_next l mc ms (am_qv P) 161 [(0, am_R R)] [] S cs ss := by
  generalize hm : L - (q + k) = m
  induction m generalizing S k with
  | zero =>
    have hek : e = q + k := by
      rw [he, hm]
      show L = q + k
      omega
    have hnum := sp_num_lt (f := f) (a := q) (min k 3) (fun i hi => hd i (by omega))
    have hpow : 10 ^ (min k 3) ≤ 10 ^ 3 := Nat.pow_le_pow_right (by decide) (by omega)
    have hRS : R < S.2 := by have := hx.1; omega
    have fin : ∀ c : Nat, c = tc (if e - q ≤ 3 then 3 else 0) → P (ah_sf S R 7 [am_R 65, am_I (L : Int), am_I (may : Int), am_I ((q + k : Nat) : Int), am_I (tok : Int), am_I (q : Int), am_I ((sp_num f q (min k 3) : Nat) : Int), am_R nm, am_R Y] 4 (am_I (c : Int))) := fun c hc => by
      refine hP _ (hx.up hRS _) ⟨((sp_num f q (min k 3) : Nat) : Int), nm, ?_, am_rN (by omega), fun z => ?_, fun z => ?_⟩
      · rw [hek, ← hek, ← hc, hek]
        exact up_at S.1 R _
      · have z : (if e - q ≤ 3 then 3 else 0) = 3 := z
        by_cases e3 : e - q ≤ 3
        · show _ = ((sp_num f q (e - q) : Nat) : Int)
          rw [show min k 3 = e - q by omega]
        · rw [if_neg e3] at z
          exact absurd z (by decide)
      · have z : (if e - q ≤ 3 then 3 else 0) = 2 := z
        split at z <;> exact absurd z (by decide)
    refine bX7_next_161 _ _ _ ⟨hcs, hss, _, hr, kx_look hr (hx.tp ht h65 hR) hL hf (by omega) ?_⟩
    rw [if_neg (by omega)]
    refine kx_isIn ⟨fun _ => ⟨_, hr, _, ⟨rfl, am_rN (by omega)⟩, _, ⟨rfl, am_rN (by omega)⟩, ⟨by omega, by omega⟩, fun h3 => ⟨hR2.1, (show 4 < 9 by decide), ?_⟩, fun h3 => ⟨hR2.1, (show 4 < 9 by decide), ?_⟩⟩, fun z => absurd (of_decide_eq_true z) (by omega)⟩
    · rintro _ rfl
      exact am_qv_mk (fin 4 (by rw [if_neg (by omega)]; rfl))
    · rintro _ rfl
      exact am_qv_mk (fin 2 (by rw [if_pos (by omega)]; rfl))
  | succ m ih =>
    have hkL : q + k < L := by omega
    have hfk := hf (q + k) hkL
    have hnum := sp_num_lt (f := f) (a := q) (min k 3) (fun i hi => hd i (by omega))
    have hpow : 10 ^ (min k 3) ≤ 10 ^ 3 := Nat.pow_le_pow_right (by decide) (by omega)
    have hRS : R < S.2 := by have := hx.1; omega
    by_cases hfig : z_fig (f (q + k)) = true
    · have hl2 := of_decide_eq_true hfig
      have he2 : e = sp_scan (fun i => z_fig (f i)) L (L - (q + (k + 1))) := he.trans (sp_scan_yes hkL hfig)
      have hd2 : ∀ i, i < k + 1 → f (q + i) ≤ 57 := fun i hi => by
        by_cases e2 : i = k
        · rw [e2]; exact hl2.2
        · exact hd i (by omega)
      refine bX7_next_161 _ _ _ ⟨hcs, hss, _, hr, kx_look hr (hx.tp ht h65 hR) hL hf (by omega) ?_⟩
      rw [if_pos hkL]
      refine kx_isIn ⟨fun z => absurd (show (48 : Int) ≤ (f (q + k) : Int) ∧ (f (q + k) : Int) ≤ 57 by omega) (of_decide_eq_false z), fun _ => ⟨_, hr, _, ⟨rfl, am_rN (by omega)⟩, _, ⟨rfl, am_rN (by omega)⟩, ⟨by omega, by omega⟩, fun h3 => ⟨_, ⟨rfl, am_rN (by omega)⟩, hR2.1, (show 6 < 9 by decide), ?_⟩, fun h3 => ⟨_, ⟨rfl, am_rN (by omega)⟩, kx_look hr (hx.tp ht h65 hR) hL hf (by omega) ?_⟩⟩⟩
      · rintro _ rfl
        refine ⟨_, up_at S.1 R _, _, ⟨rfl, am_rN (by omega)⟩, (show 3 < 9 by decide), ?_⟩
        rintro _ rfl
        refine ih (k := k + 1) ((hx.up hRS _).up hRS _) ?_ (by omega) he2 hd2 (by omega)
        rw [show min (k + 1) 3 = min k 3 by omega]
        exact up_at (ah_sf S _ _ _ _ _).1 R _
      · rw [if_pos hkL]
        refine ⟨_, hr, hR2.1, (show 6 < 9 by decide), ?_⟩
        rintro _ rfl
        refine ⟨_, up_at S.1 R _, _, ⟨rfl, am_rN (by omega)⟩, (show 3 < 9 by decide), ?_⟩
        rintro _ rfl
        refine ih (k := k + 1) ((hx.up hRS _).up hRS _) ?_ (by omega) he2 hd2 (by omega)
        have hk3 : k < 3 := by omega
        rw [show min (k + 1) 3 = k + 1 by omega, sp_num]
        rw [show min k 3 = k by omega]
        rw [show ((10 * sp_num f q k + (f (q + k) - 48) : Nat) : Int) = 10 * ((sp_num f q k : Nat) : Int) + (f (q + k) : Int) - 48 by omega]
        exact up_at (ah_sf S _ _ _ _ _).1 R _
    · have hek : e = q + k := he.trans (sp_scan_no hkL (by simpa using hfig))
      have hnl : ¬ (48 ≤ f (q + k) ∧ f (q + k) ≤ 57) := fun z => hfig (decide_eq_true z)
      have fin : ∀ c : Nat, c = tc (if e - q ≤ 3 then 3 else 0) → P (ah_sf S R 7 [am_R 65, am_I (L : Int), am_I (may : Int), am_I ((q + k : Nat) : Int), am_I (tok : Int), am_I (q : Int), am_I ((sp_num f q (min k 3) : Nat) : Int), am_R nm, am_R Y] 4 (am_I (c : Int))) := fun c hc => by
        refine hP _ (hx.up hRS _) ⟨((sp_num f q (min k 3) : Nat) : Int), nm, ?_, am_rN (by omega), fun z => ?_, fun z => ?_⟩
        · rw [hek, ← hek, ← hc, hek]
          exact up_at S.1 R _
        · have z : (if e - q ≤ 3 then 3 else 0) = 3 := z
          by_cases e3 : e - q ≤ 3
          · show _ = ((sp_num f q (e - q) : Nat) : Int)
            rw [show min k 3 = e - q by omega]
          · rw [if_neg e3] at z
            exact absurd z (by decide)
        · have z : (if e - q ≤ 3 then 3 else 0) = 2 := z
          split at z <;> exact absurd z (by decide)
      refine bX7_next_161 _ _ _ ⟨hcs, hss, _, hr, kx_look hr (hx.tp ht h65 hR) hL hf (by omega) ?_⟩
      rw [if_pos hkL]
      refine kx_isIn ⟨fun _ => ⟨_, hr, _, ⟨rfl, am_rN (by omega)⟩, _, ⟨rfl, am_rN (by omega)⟩, ⟨by omega, by omega⟩, fun h3 => ⟨hR2.1, (show 4 < 9 by decide), ?_⟩, fun h3 => ⟨hR2.1, (show 4 < 9 by decide), ?_⟩⟩, fun z => absurd (of_decide_eq_true z) (by omega)⟩
      · rintro _ rfl
        exact am_qv_mk (fin 4 (by rw [if_neg (by omega)]; rfl))
      · rintro _ rfl
        exact am_qv_mk (fin 2 (by rw [if_pos (by omega)]; rfl))
/-- the next token; p: where it is looked for -/
theorem kx_next_0 {mc ms p tok fr nm : Nat} {num : Int} {P : ah_H → Prop} (hx : xin S0 S R) (ht : xtp S0.1 L f) (h65 : 65 < S0.2) (hR : R ≠ 65) (hR2 : 32 ≤ R ∧ R < S0.2) (hL : L ≤ 300) (hf : ∀ i, i < L → f i ≤ 255) (hnum : am_r num)
    (hr : xrd S.1 R Y L may p tok fr num nm) (hp : p ≤ L) (hmc : 5 * ((z_tok f L p).2.2 - (z_tok f L p).2.1) ≤ mc) (hms : 45 * ((z_tok f L p).2.2 - (z_tok f L p).2.1) ≤ ms)
    (hP : ∀ S', xin S0 S' R → xtk S0 S' R Y L may f (z_tok f L p) → P S') : VX7_next l mc ms (am_qv P) 0 [(0, am_R R)] [] S 0 0 := by
  generalize hm : L - p = m
  induction m generalizing S p with
  | zero =>
    have hpL : p = L := by omega
    subst hpL
    have hRS : R < S.2 := by have := hx.1; omega
    have etk : z_tok f p p = (1, p, p) := by
      unfold z_tok
      rw [sp_scan_end]
      unfold z_tok2
      rw [if_pos (Nat.le_refl _)]
    rw [etk] at hP
    refine bX7_next_0 _ _ _ ⟨Nat.zero_le _, Nat.zero_le _, _, hr, kx_look hr (hx.tp ht h65 hR) hL hf (by omega) ?_⟩
    rw [if_neg (by omega)]
    refine ⟨fun z => absurd z (by omega), fun _ => ⟨_, hr, kx_look hr (hx.tp ht h65 hR) hL hf (by omega) ?_⟩⟩
    rw [if_neg (by omega)]
    refine ⟨fun _ => ⟨_, hr, _, ⟨rfl, am_rN (by omega)⟩, hR2.1, (show 5 < 9 by decide), ?_⟩, fun z => absurd z (by omega)⟩
    rintro _ rfl
    have hx2 := hx.up hRS (some (.inl (7, [am_R 65, am_I (p : Int), am_I (may : Int), am_I (p : Int), am_I (tok : Int), am_I (p : Int), am_I num, am_R nm, am_R Y])))
    have hr2 : xrd (ah_sf S R 7 [am_R 65, am_I (p : Int), am_I (may : Int), am_I (p : Int), am_I (tok : Int), am_I (fr : Int), am_I num, am_R nm, am_R Y] 5 (am_I (p : Int))).1 R Y p may p tok p num nm := up_at S.1 R _
    refine ⟨_, hr2, kx_look hr2 (hx2.tp ht h65 hR) hL hf (by omega) ?_⟩
    rw [if_neg (by omega)]
    refine ⟨fun z => absurd rfl z, fun _ => ⟨_, hr2, (show 4 < 9 by decide), ?_⟩⟩
    rintro _ rfl
    exact am_qv_mk (hP _ (hx2.up hRS _) ⟨num, nm, up_at (ah_sf S _ _ _ _ _).1 R _, hnum, fun z => absurd z (show ¬ (1 : Nat) = 3 by decide), fun z => absurd z (show ¬ (1 : Nat) = 2 by decide)⟩)
  | succ m ih =>
    have hpL : p < L := by omega
    have hfp := hf p hpL
    have hRS : R < S.2 := by have := hx.1; omega
    have skip : z_sp (f p) = true → ∀ S', S' = ah_sf S R 7 [am_R 65, am_I (L : Int), am_I (may : Int), am_I (p : Int), am_I (tok : Int), am_I (fr : Int), am_I num, am_R nm, am_R Y] 3 (am_I ((p : Int) + 1)) → VX7_next l mc ms (am_qv P) 0 [(0, am_R R)] [] S' 0 0 := fun hsp S' hS' => by
      have e : z_tok f L p = z_tok f L (p + 1) := by
        unfold z_tok
        rw [sp_scan_yes (g := fun i => z_sp (f i)) hpL hsp]
      rw [e] at hP hmc hms
      subst hS'
      exact ih (p := p + 1) (hx.up hRS _) (up_at S.1 R _) (by omega) hmc hms hP (by omega)
    refine bX7_next_0 _ _ _ ⟨Nat.zero_le _, Nat.zero_le _, _, hr, kx_look hr (hx.tp ht h65 hR) hL hf (by omega) ?_⟩
    rw [if_pos hpL]
    refine ⟨fun h32 => ⟨_, hr, _, ⟨rfl, am_rN (by omega)⟩, hR2.1, (show 3 < 9 by decide), skip ?_⟩, fun h32 => ⟨_, hr, kx_look hr (hx.tp ht h65 hR) hL hf (by omega) ?_⟩⟩
    · unfold z_sp
      rw [show f p = 32 by omega]
      rfl
    rw [if_pos hpL]
    refine ⟨fun h10 => ⟨_, hr, _, ⟨rfl, am_rN (by omega)⟩, hR2.1, (show 5 < 9 by decide), ?_⟩, fun h10 => ⟨_, hr, _, ⟨rfl, am_rN (by omega)⟩, hR2.1, (show 3 < 9 by decide), skip ?_⟩⟩
    · have hns : z_sp (f p) = false := by
        unfold z_sp
        rw [Bool.or_eq_false_iff]
        exact ⟨beq_eq_false_iff_ne.mpr (by omega), beq_eq_false_iff_ne.mpr (by omega)⟩
      have etk : z_tok f L p = z_tok2 f L p := by
        unfold z_tok
        rw [sp_scan_no (g := fun i => z_sp (f i)) hpL hns]
      rw [etk] at hP hmc hms
      unfold z_tok2 at hP hmc hms
      rw [if_neg (by omega)] at hP hmc hms
      rintro _ rfl
      have hx2 := hx.up hRS (some (.inl (7, [am_R 65, am_I (L : Int), am_I (may : Int), am_I (p : Int), am_I (tok : Int), am_I (p : Int), am_I num, am_R nm, am_R Y])))
      have hr2 : xrd (ah_sf S R 7 [am_R 65, am_I (L : Int), am_I (may : Int), am_I (p : Int), am_I (tok : Int), am_I (fr : Int), am_I num, am_R nm, am_R Y] 5 (am_I (p : Int))).1 R Y L may p tok p num nm := up_at S.1 R _
      have eS : (ah_sf S R 7 [am_R 65, am_I (L : Int), am_I (may : Int), am_I (p : Int), am_I (tok : Int), am_I (fr : Int), am_I num, am_R nm, am_R Y] 5 (am_I (p : Int))) = (va_up S.1 R (some (.inl (7, [am_R 65, am_I (L : Int), am_I (may : Int), am_I (p : Int), am_I (tok : Int), am_I (p : Int), am_I num, am_R nm, am_R Y]))), S.2) := rfl
      rw [eS] at hr2 ⊢
      generalize hS1 : (va_up S.1 R (some (.inl (7, [am_R 65, am_I (L : Int), am_I (may : Int), am_I (p : Int), am_I (tok : Int), am_I (p : Int), am_I num, am_R nm, am_R Y]))), S.2) = S1 at *
      have hRS1 : R < S1.2 := by rw [← hS1]; exact hRS
      refine ⟨_, hr2, kx_look hr2 (hx2.tp ht h65 hR) hL hf (by omega) ?_⟩
      rw [if_pos hpL]
      refine ⟨fun _ => kx_isIn ⟨fun hlet => kx_isIn ⟨fun hfig => ⟨_, hr2, _, ⟨rfl, am_rN (by omega)⟩, (show 3 < 9 by decide), ?_⟩, fun hfig => ⟨_, hr2, (show 6 < 9 by decide), ?_⟩⟩, fun hlet => ⟨?_, ?_, ?_⟩⟩, fun z => absurd z (by omega)⟩
      · have hlet := of_decide_eq_false hlet
        have hfig := of_decide_eq_false hfig
        have l1 : z_let1 (f p) = false := decide_eq_false (by omega)
        have l2 : z_fig (f p) = false := decide_eq_false (by omega)
        rw [l1, l2, if_neg (by decide), if_neg (by decide)] at hP
        rintro _ rfl
        have fin : ∀ c : Nat, c = tc (if f p = 59 then 4 else 0) → P (ah_sf (ah_sf S1 R 7 [am_R 65, am_I (L : Int), am_I (may : Int), am_I (p : Int), am_I (tok : Int), am_I (p : Int), am_I num, am_R nm, am_R Y] 3 (am_I ((p : Int) + 1))) R 7 [am_R 65, am_I (L : Int), am_I (may : Int), am_I ((p : Int) + 1), am_I (tok : Int), am_I (p : Int), am_I num, am_R nm, am_R Y] 4 (am_I (c : Int))) := fun c hc => by
          refine hP _ ((hx2.up hRS1 _).up hRS1 _) ⟨num, nm, ?_, hnum, fun z => ?_, fun z => ?_⟩
          · rw [← hc]
            exact up_at (ah_sf S1 _ _ _ _ _).1 R _
          · have z : (if f p = 59 then 4 else 0) = 3 := z
            split at z <;> exact absurd z (by decide)
          · have z : (if f p = 59 then 4 else 0) = 2 := z
            split at z <;> exact absurd z (by decide)
        refine ⟨fun h59 => ⟨_, up_at S1.1 R _, (show 4 < 9 by decide), ?_⟩, fun h59 => ⟨_, up_at S1.1 R _, (show 4 < 9 by decide), ?_⟩⟩
        · rintro _ rfl
          exact am_qv_mk (fin 4 (by rw [if_neg (by omega)]; rfl))
        · rintro _ rfl
          exact am_qv_mk (fin 3 (by rw [if_pos (by omega)]; rfl))
      · have hlet := of_decide_eq_false hlet
        have hfig := of_decide_eq_true hfig
        have l1 : z_let1 (f p) = false := decide_eq_false (by omega)
        have l2 : z_fig (f p) = true := decide_eq_true (by omega)
        rw [l1, l2, if_neg (by decide), if_pos rfl] at hP
        rintro _ rfl
        exact kx_next_161 (k := 0) (q := p) (e := sp_scan (fun i => z_fig (f i)) L (L - p)) (hx2.up hRS1 _) ht h65 hR hR2 hL hf (up_at S1.1 R _) (by omega) rfl (fun i hi => absurd hi (Nat.not_lt_zero _)) (Nat.zero_le _) (Nat.zero_le _) hP
      all_goals
        have hlet := of_decide_eq_true hlet
        have l1 : z_let1 (f p) = true := decide_eq_true (by omega)
        rw [l1, if_pos rfl] at hP hmc hms
        have hsc := sp_scan_all (g := fun i => z_let1 (f i)) (L := L) (L - (p + 1)) (by omega)
        have hse : sp_scan (fun i => z_let1 (f i)) L (L - p) = sp_scan (fun i => z_let1 (f i)) L (L - (p + 1)) := sp_scan_yes hpL l1
        have hmc : 5 * (sp_scan (fun i => z_let1 (f i)) L (L - p) - p) ≤ mc := hmc
        have hms : 45 * (sp_scan (fun i => z_let1 (f i)) L (L - p) - p) ≤ ms := hms
      · omega
      · omega
      · rintro _ rfl
        have hlo := hx2.1
        refine ⟨1, 16, by omega, kx_sbinit (s := S1.2) (by omega) (up_at S1.1 S1.2 _) rfl (Nat.le_refl _) (Nat.le_refl _) (fun S' g1 g2 g3 => ?_)⟩
        have hb := hx2.2.1
        have g3' : ∀ q, q < S1.2 → S'.1 q = S1.1 q := fun q hq => (g3 q (by omega) (by omega)).trans (up_ne _ _ (by omega))
        refine kx_next_80 (S0 := S0) (k := 0) (q := p) (cap := 16) (e := sp_scan (fun i => z_let1 (f i)) L (L - p)) ⟨by omega, fun q hq => (g3 q (by omega) (by omega)).trans ((up_ne _ _ (by omega)).trans (hb q (by omega))), fun q q1 q2 => (g3' q (by omega)).trans (hx2.2.2 q q1 q2)⟩ ht h65 hR hR2 hL hf hnum ((g3' R hRS1).trans hr2) (by omega) rfl (g2 _) ⟨hlo, by omega⟩ ⟨by omega, by omega⟩ (by omega) (by omega) (by omega) (by omega) (by omega) hP
    · unfold z_sp
      rw [show f p = 10 by omega]
      rfl
end KX29
