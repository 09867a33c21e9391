def sp_pk (f : Nat → Nat) (a : Nat) : Nat → Nat
  | 0 => 0
  | m + 1 => sp_pk f a m * 256 + f (a + m)
theorem sp_pk_lt {f : Nat → Nat} {a : Nat} (m : Nat) (h : ∀ i, i < m → f (a + i) < 256) : sp_pk f a m < 256 ^ m := by
  induction m with
  | zero => exact Nat.one_pos
  | succ m ih =>
    have h1 := ih (fun i hi => h i (by omega))
    have h2 := h m (Nat.lt_succ_self m)
    rw [sp_pk, Nat.pow_succ]
    omega
theorem sp_pk_inj {f g : Nat → Nat} {a b : Nat} (m n : Nat) (hf : ∀ i, i < m → 1 ≤ f (a + i) ∧ f (a + i) < 256) (hg : ∀ i, i < n → 1 ≤ g (b + i) ∧ g (b + i) < 256) (h : sp_pk f a m = sp_pk g b n) : m = n ∧ ∀ i, i < m → f (a + i) = g (b + i) := by
  induction m generalizing n with
  | zero =>
    cases n with
    | zero => exact ⟨rfl, fun i hi => absurd hi (Nat.not_lt_zero _)⟩
    | succ n =>
      have := (hg n (Nat.lt_succ_self n)).1
      rw [sp_pk, sp_pk] at h
      omega
  | succ m ih =>
    have f1 := hf m (Nat.lt_succ_self m)
    cases n with
    | zero =>
      rw [sp_pk, sp_pk] at h
      omega
    | succ n =>
      have g1 := hg n (Nat.lt_succ_self n)
      rw [sp_pk, sp_pk] at h
      have h1 : sp_pk f a m = sp_pk g b n := by omega
      obtain ⟨e1, e2⟩ := ih n (fun i hi => hf i (by omega)) (fun i hi => hg i (by omega)) h1
      subst e1
      refine ⟨rfl, fun i hi => ?_⟩
      by_cases e : i = m
      · rw [e]
        omega
      · exact e2 i (by omega)
def sp_num (f : Nat → Nat) (a : Nat) : Nat → Nat
  | 0 => 0
  | m + 1 => 10 * sp_num f a m + (f (a + m) - 48)
theorem sp_num_lt {f : Nat → Nat} {a : Nat} (m : Nat) (h : ∀ i, i < m → f (a + i) ≤ 57) : sp_num f a m < 10 ^ m := by
  induction m with
  | zero => exact Nat.one_pos
  | succ m ih =>
    have h1 := ih (fun i hi => h i (by omega))
    have h2 := h m (Nat.lt_succ_self m)
    rw [sp_num, Nat.pow_succ]
    omega
abbrev sp_tk : Type := Nat × Nat × Nat
/-- the letters of a word; none where no word stands -/
def z_wd (f : Nat → Nat) (tk : sp_tk) : List Nat := if tk.1 = 2 then (List.range (tk.2.2 - tk.2.1)).map (fun i => f (tk.2.1 + i)) else []
def z_num (f : Nat → Nat) (tk : sp_tk) : Nat := sp_num f tk.2.1 (tk.2.2 - tk.2.1)
def w_cup : List Nat := [99, 117, 112]
def w_cloth : List Nat := [99, 108, 111, 116, 104]
def w_box : List Nat := [98, 111, 120]
def w_lid : List Nat := [108, 105, 100]
def w_on : List Nat := [111, 110]
def w_in : List Nat := [105, 110]
def w_beside : List Nat := [98, 101, 115, 105, 100, 101]
def w_at : List Nat := [97, 116]
def w_never : List Nat := [110, 101, 118, 101, 114]
def w_most : List Nat := [109, 111, 115, 116]
def z_sortOf (w : List Nat) : Option Nat := if w = w_cup then some 0 else if w = w_cloth then some 1 else if w = w_box then some 2 else if w = w_lid then some 3 else none
def z_relOf (w : List Nat) : Option Nat := if w = w_on then some 0 else if w = w_in then some 1 else if w = w_beside then some 2 else if w = w_at then some 3 else none
def p_opt (f : Nat → Nat) (L : Nat) (tk : sp_tk) (o : Option Nat) : (Nat × Nat) ⊕ (Nat × sp_tk) := match o with
  | none => .inl (1, tk.2.1)
  | some s => .inr (s, z_tok f L tk.2.2)
def p_sort (f : Nat → Nat) (L : Nat) (tk : sp_tk) : (Nat × Nat) ⊕ (Nat × sp_tk) := p_opt f L tk (z_sortOf (z_wd f tk))
def p_rel (f : Nat → Nat) (L : Nat) (tk : sp_tk) : (Nat × Nat) ⊕ (Nat × sp_tk) := p_opt f L tk (z_relOf (z_wd f tk))
def p_num (f : Nat → Nat) (L hi : Nat) (tk : sp_tk) : (Nat × Nat) ⊕ (Nat × sp_tk) := if tk.1 = 3 then if z_num f tk ≤ hi then .inr (z_num f tk, z_tok f L tk.2.2) else .inl (2, tk.2.1) else .inl (1, tk.2.1)
def p_must (f : Nat → Nat) (L : Nat) (so : Bool) (tk : sp_tk) : (Nat × Nat) ⊕ sp_tk := if so = true then .inr (z_tok f L tk.2.2) else .inl (1, tk.2.1)
def p_end (f : Nat → Nat) (L : Nat) (v : Nat × Nat × Nat) (tk : sp_tk) : (Nat × Nat) ⊕ ((Nat × Nat × Nat) × sp_tk) := match p_must f L (decide (tk.1 = 4)) tk with
  | .inl e => .inl e
  | .inr t => .inr (v, t)
def p_never (f : Nat → Nat) (L : Nat) (tk : sp_tk) : (Nat × Nat) ⊕ ((Nat × Nat × Nat) × sp_tk) := match p_sort f L tk with
  | .inl e => .inl e
  | .inr (a, t1) => match p_rel f L t1 with
    | .inl e => .inl e
    | .inr (r, t2) => match (if r = 3 then p_num f L 7 t2 else p_sort f L t2) with
      | .inl e => .inl e
      | .inr (b, t3) => p_end f L (a, r, b) t3
def p_most (f : Nat → Nat) (L : Nat) (tk : sp_tk) : (Nat × Nat) ⊕ ((Nat × Nat × Nat) × sp_tk) := match p_num f L 7 tk with
  | .inl e => .inl e
  | .inr (a, t1) => match p_num f L 200 t1 with
    | .inl e => .inl e
    | .inr (b, t2) => p_end f L (a, 4, b) t2
def z_par (f : Nat → Nat) (L : Nat) : Nat → Nat → (Nat → Nat × Nat × Nat) → sp_tk → (Nat × Nat) ⊕ (Nat × (Nat → Nat × Nat × Nat))
  | m, n, F, tk => if tk.1 = 1 then .inr (n, F) else if z_wd f tk = w_never ∨ z_wd f tk = w_most then match m with
      | 0 => .inl (3, tk.2.1)
      | m + 1 => match (if z_wd f tk = w_never then p_never f L (z_tok f L tk.2.2) else p_most f L (z_tok f L tk.2.2)) with
        | .inl e => .inl e
        | .inr (v, t) => z_par f L m (n + 1) (va_up F n v) t
    else .inl (1, tk.2.1)
def zo_nevers (Z : sp_Z) : Int × sp_Z := match z_par (zPf Z) (zP Z) (16 - zN Z) (zN Z) (zNf Z) (z_tok (zPf Z) (zP Z) 0) with
  | .inl e => (-1000100 - (e.2 : Int), z_H (z_G Z (0, zPf Z)) (e.1, zSt Z))
  | .inr x => ((x.1 : Int), z_F (z_G Z (0, zPf Z)) x)
section KM20
variable {l : Launch} {S : am_M} {Z : sp_Z} {f : Nat → Nat} {L n : Nat} {F : Nat → Nat × Nat × Nat}
theorem mp_fr.mr {S' : am_M} (h : mp_fr S S') (m : mr S Z) : mr S' Z := by
  obtain ⟨S1, S2⟩ := S'
  obtain ⟨h1, h2⟩ := h
  have h1 : S2 = S.2 := h1
  subst h1
  have h2 : ∀ j, j < 10 ∨ 13 < j → S1 j = S.1 j := h2
  obtain ⟨z, za, zb, zc, zd, ze, zf, zg, zj, zy⟩ := m
  refine ⟨z, ?_, ⟨?_, zb.2⟩, zc, ?_, ze, ?_, ?_, ?_, ?_⟩
  · show mrA (S1 2) (S.2 1) (S.2 2) Z
    rw [h2 2 (by decide)]
    exact za
  · show (S1 3).toInt = zK Z
    rw [h2 3 (by decide)]
    exact zb.1
  · show mrD (S1 4) (S.2 4) (S.2 5) (S.2 6) (S.2 7) (S.2 8) Z
    rw [h2 4 (by decide)]
    exact zd
  · show mrF (S1 5) (S.2 12) Z
    rw [h2 5 (by decide)]
    exact zf
  · show mrG (S1 7) (S.2 13) Z
    rw [h2 7 (by decide)]
    exact zg
  · show mrH (S1 8) (S1 1) Z
    rw [h2 8 (by decide), h2 1 (by decide)]
    exact zj
  · show mrY (S1 16) (S.2 16) Z
    rw [h2 16 (by decide)]
    exact zy
/-- nevers read so far -/
def mo_n (S : am_M) (Z : sp_Z) (n : Nat) (F : Nat → Nat × Nat × Nat) : Prop := (S.1 6).toInt = n ∧ n ≤ 16 ∧ zN Z ≤ n ∧ ∀ k, k < n → (S.2 12 (3 * k)).toInt = (F k).1 ∧ (S.2 12 (3 * k + 1)).toInt = (F k).2.1 ∧ (S.2 12 (3 * k + 2)).toInt = (F k).2.2
def mo_e (S : am_M) (e : Nat × Nat) : Prop := (S.1 14).toInt = e.1 ∧ 1 ≤ e.1 ∧ e.1 ≤ 3 ∧ (S.1 15).toInt = e.2 ∧ e.2 ≤ 300
def mo_t (S : am_M) (f : Nat → Nat) (L : Nat) (tk : sp_tk) : Prop := (S.1 14).toInt = 0 ∧ mp_t S tk ∧ ∃ p, p ≤ L ∧ tk = z_tok f L p
/-- the reader at a word, or with a fault -/
def mo (S : am_M) (Z : sp_Z) (f : Nat → Nat) (L n : Nat) (F : Nat → Nat × Nat × Nat) (o : (Nat × Nat) ⊕ sp_tk) : Prop := mr S Z ∧ mp_b S f L ∧ mo_n S Z n F ∧ match o with
  | .inl e => mo_e S e
  | .inr tk => mo_t S f L tk
theorem mp_fr.mon {S' : am_M} (h : mp_fr S S') (m : mo_n S Z n F) : mo_n S' Z n F := by
  obtain ⟨m1, m2, m3, m4⟩ := m
  refine ⟨?_, m2, m3, ?_⟩
  · rw [h.2 6 (by omega)]
    exact m1
  · rw [h.1]
    exact m4
theorem mp_fr.sv6 {S' : am_M} {j : Nat} (h : mp_fr S S') (hj : j < 10 ∨ 13 < j) {x : Int} (e : (S.1 j).toInt = x) : (S'.1 j).toInt = x := by
  rw [h.2 j hj]
  exact e
/-- setting the fault -/
theorem mo.bad {k : Nat} {tk : sp_tk} (h : mo S Z f L n F (.inr tk)) (hk : 1 ≤ k ∧ k ≤ 3) : mo (am_sv (am_sv S 14 k) 15 ((S.1 12).toInt)) Z f L n F (.inl (k, tk.2.1)) := by
  obtain ⟨h1, h2, h3, h4, h5, p, h6, h7⟩ := h
  have ht := z_tok_ok (f := f) (L := L) h6
  rw [← h7] at ht
  have hL := h2.2.1
  refine ⟨h1, h2, h3, ?_, hk.1, hk.2, ?_, by show tk.2.1 ≤ 300; omega⟩
  · rw [sv_ne _ _ (by decide)]
    exact sv_at _ _ (am_rN (by omega))
  · rw [h5.2.1]
    exact sv_at _ _ (am_rN (by omega))
theorem km_bad {k : Nat} {tk : sp_tk} {P : am_M → Prop} (h : mo S Z f L n F (.inr tk)) (hk : 1 ≤ k ∧ k ≤ 3) (hP : ∀ S', S'.2 = S.2 → mo S' Z f L n F (.inl (k, tk.2.1)) → P S') : kX3_bad l [am_R 0, am_I k] S (am_qv P) :=
  bX3_bad _ (by first | exact am_rN (by omega) | exact ⟨by omega, by omega⟩ | assumption) ⟨fun z => absurd h.2.2.2.1 z, fun _ => am_qv_mk (hP _ rfl (h.bad hk))⟩
theorem km_must {so : Bool} {tk : sp_tk} {P : am_M → Prop} (h : mo S Z f L n F (.inr tk)) (hP : ∀ S', S'.2 = S.2 → mo S' Z f L n F (p_must f L so tk) → P S') : kX3_must l [am_R 0, am_I (am_b so)] S (am_qv P) := by
  obtain ⟨h1, h2, h3, h4, h5, p, h6, h7⟩ := h
  have ht := z_tok_ok (f := f) (L := L) h6
  rw [← h7] at ht
  refine bX3_must _ ⟨fun hs => ⟨fun z => absurd h4 z, fun _ => km_step h2 h5.2.2.2 ht.2.2.2.1 (fun S' f' t' => am_qv_mk (hP S' f'.1 ?_))⟩, fun hs => km_bad (k := 1) (tk := tk) ⟨h1, h2, h3, h4, h5, p, h6, h7⟩ (by decide) (fun S' e' m' => ⟨fun _ => am_qv_mk (hP S' e' ?_), fun z => absurd z ?_⟩)⟩
  · unfold p_must
    rw [if_pos hs]
    exact ⟨f'.mr h1, f'.b h2, f'.mon h3, f'.sv6 (by omega) h4, t', _, ht.2.2.2.1, rfl⟩
  · unfold p_must
    rw [hs]
    exact m'
  · have e := m'.2.2.2.1
    have e : (S'.1 14).toInt = (1 : Nat) := e
    omega
/-- with a fault nothing more is read -/
theorem km_must_e {so : Bool} {e : Nat × Nat} {P : am_M → Prop} (h : mo S Z f L n F (.inl e)) (hP : mo S Z f L n F (.inl e) → P S) : kX3_must l [am_R 0, am_I (am_b so)] S (am_qv P) := by
  have h1 : (S.1 14).toInt = e.1 := h.2.2.2.1
  have h2 : 1 ≤ e.1 := h.2.2.2.2.1
  refine bX3_must _ ⟨fun _ => ⟨fun _ => am_qv_mk (hP h), fun z => absurd z (by omega)⟩, fun _ => bX3_bad _ (by first | exact am_rN (by omega) | exact ⟨by omega, by omega⟩ | assumption) ⟨fun _ => ⟨rfl, fun _ => am_qv_mk (hP h), fun z => absurd z (by omega)⟩, fun z => absurd z (by omega)⟩⟩
/-! words -/
def z_wv (f : Nat → Nat) (tk : sp_tk) : Nat := if tk.1 = 2 ∧ tk.2.2 - tk.2.1 < 8 then sp_pk f tk.2.1 (tk.2.2 - tk.2.1) else 0
theorem pow256 {m : Nat} (h : m ≤ 6) : 256 ^ m ≤ 2 ^ 48 := by
  have : 256 ^ m ≤ 256 ^ 6 := Nat.pow_le_pow_right (by decide) h
  omega
theorem km_word_7 {k : Nat} {tk : sp_tk} {P : Int → am_M → Prop} (h : mo S Z f L n F (.inr tk)) (h2 : tk.1 = 2) (h8 : tk.2.2 - tk.2.1 < 8) (hk : tk.2.1 + k ≤ tk.2.2) (hP : P (z_wv f tk : Nat) S) :
    VX3_word l (am_ql P) 7 [(0, am_R 0), (1, am_J (sp_pk f tk.2.1 k : Nat)), (3, am_I (tk.2.1 + k : Nat))] [] S := by
  obtain ⟨g1, g2, g3, g4, g5, p, g6, g7⟩ := h
  have ht := z_tok_ok (f := f) (L := L) g6
  rw [← g7] at ht
  have hL := g2.2.1
  have hlt : ∀ k, tk.2.1 + k ≤ tk.2.2 → sp_pk f tk.2.1 k < 256 ^ k := fun k hk => sp_pk_lt k (fun i hi => by
    have := (g2.2.2 (tk.2.1 + i) (by omega)).2
    omega)
  have hr : ∀ k, tk.2.1 + k ≤ tk.2.2 → am_r64 (sp_pk f tk.2.1 k : Nat) := fun k hk => by
    have q1 := hlt k hk
    have q2 : 256 ^ k ≤ 256 ^ 7 := Nat.pow_le_pow_right (by decide) (by omega)
    exact ⟨by omega, by omega⟩
  obtain ⟨e11, e12, e13, e10⟩ := g5
  generalize hm : tk.2.2 - (tk.2.1 + k) = m
  induction m generalizing k with
  | zero =>
    refine bX3_word_7 _ (hr k hk) _ (am_rN (by omega)) ⟨fun _ => ⟨_, rfl, hr k hk, ?_⟩, fun z => absurd z (by omega)⟩
    unfold z_wv at hP
    rw [if_pos ⟨h2, h8⟩, show tk.2.2 - tk.2.1 = k by omega] at hP
    exact hP
  | succ m ih =>
    obtain ⟨c1, c2⟩ := g2.2.2 (tk.2.1 + k) (by omega)
    have q1 := hlt k hk
    have q2 := pow256 (m := k) (by omega)
    have nx := ih (k := k + 1) (by omega) (by omega)
    rw [sp_pk] at nx
    refine bX3_word_7 _ (hr k hk) _ (am_rN (by omega)) ⟨fun z => absurd z (by omega), fun _ => ⟨fun z => absurd z (by omega), fun _ => ⟨⟨by omega, by omega⟩, fun z => absurd z (by omega), fun _ => ⟨by omega, ?_⟩⟩⟩⟩
    rw [Int.toNat_natCast, c1, bl_shl8 _ (by omega), bl_or _ _ (by omega) (by omega), show ((tk.2.1 + k : Nat) : Int) + 1 = ((tk.2.1 + (k + 1) : Nat) : Int) by omega]
    exact nx
theorem km_word {tk : sp_tk} {P : Int → am_M → Prop} (h : mo S Z f L n F (.inr tk)) (hP : P (z_wv f tk : Nat) S) : kX3_word l [am_R 0] S (am_ql P) := by
  have hm := h
  obtain ⟨g1, g2, g3, g4, g5, p, g6, g7⟩ := h
  have ht := z_tok_ok (f := f) (L := L) g6
  rw [← g7] at ht
  have hL := g2.2.1
  obtain ⟨e11, e12, e13, e10⟩ := g5
  refine bX3_word ?_
  rw [e12]
  by_cases h2 : tk.1 = 2 ∧ tk.2.2 - tk.2.1 < 8
  · exact km_word_7 (k := 0) hm h2.1 h2.2 (by omega) hP
  · have e0 : z_wv f tk = 0 := if_neg h2
    rw [e0] at hP
    have r0 : am_r64 0 := ⟨by decide, by decide⟩
    refine bX3_word_7 _ r0 _ (am_rN (by omega)) ⟨fun _ => ⟨_, rfl, r0, hP⟩, fun h3 => ⟨fun _ => ⟨_, rfl, r0, hP⟩, fun h4 => ⟨⟨by omega, by omega⟩, fun _ => ⟨_, rfl, r0, hP⟩, fun h5 => absurd ⟨by omega, by omega⟩ h2⟩⟩⟩
/-- a word is the one whose letters make the number -/
theorem z_wv_eq {tk : sp_tk} {w : List Nat} {c : Nat} (h : ∃ p, p ≤ L ∧ tk = z_tok f L p) (hw : w.length < 8) (hw1 : 0 < w.length) (hwl : ∀ i, i < w.length → 1 ≤ w.getD i 0 ∧ w.getD i 0 < 256) (hc : sp_pk (fun i => w.getD i 0) 0 w.length = c) : z_wv f tk = c ↔ z_wd f tk = w := by
  obtain ⟨p, g6, g7⟩ := h
  have ht := z_tok_ok (f := f) (L := L) g6
  rw [← g7] at ht
  have hcpos : 1 ≤ c := by
    rw [← hc]
    obtain ⟨m, hm⟩ : ∃ m, w.length = m + 1 := ⟨w.length - 1, by omega⟩
    have := (hwl m (by omega)).1
    rw [hm, sp_pk, Nat.zero_add]
    omega
  unfold z_wv z_wd
  by_cases h2 : tk.1 = 2
  · have hl := ht.2.2.2.2.1 h2
    have hl2 : ∀ i, i < tk.2.2 - tk.2.1 → 1 ≤ f (tk.2.1 + i) ∧ f (tk.2.1 + i) < 256 := fun i hi => by
      have := of_decide_eq_true (hl (tk.2.1 + i) (by omega) (by omega))
      omega
    rw [if_pos h2]
    by_cases h8 : tk.2.2 - tk.2.1 < 8
    · rw [if_pos ⟨h2, h8⟩]
      constructor
      · intro e
        rw [← hc] at e
        obtain ⟨e1, e2⟩ := sp_pk_inj (g := fun i => w.getD i 0) (b := 0) _ _ hl2 (fun i hi => by rw [Nat.zero_add]; exact hwl i hi) e
        refine List.ext_getElem (by simpa using e1) (fun i i1 i2 => ?_)
        have := e2 i (by omega)
        rw [Nat.zero_add] at this
        simp only [List.getElem_map, List.getElem_range]
        rw [this, List.getD_eq_getElem?_getD, List.getElem?_eq_getElem i2]
        rfl
      · intro e
        have e1 : tk.2.2 - tk.2.1 = w.length := by
          rw [← e]
          simp
        rw [← hc, e1]
        have key : ∀ m, m ≤ w.length → sp_pk f tk.2.1 m = sp_pk (fun i => w.getD i 0) 0 m := by
          intro m
          induction m with
          | zero => exact fun _ => rfl
          | succ m ih =>
            intro hm
            rw [sp_pk, sp_pk, ih (by omega), Nat.zero_add]
            have hi : m < ((List.range (tk.2.2 - tk.2.1)).map (fun i => f (tk.2.1 + i))).length := by rw [e]; omega
            have : w.getD m 0 = f (tk.2.1 + m) := by
              rw [List.getD_eq_getElem?_getD, ← e, List.getElem?_eq_getElem hi]
              simp
            rw [this]
        exact key _ (Nat.le_refl _)
    · rw [if_neg (fun z => h8 z.2)]
      refine ⟨fun z => by omega, fun e => ?_⟩
      have e1 : tk.2.2 - tk.2.1 = w.length := by
        rw [← e]
        simp
      omega
  · rw [if_neg h2, if_neg (fun z => h2 z.1)]
    refine ⟨fun z => by omega, fun e => ?_⟩
    rw [← e] at hw1
    simp at hw1
theorem zw_cup {tk : sp_tk} (h : mo_t S f L tk) : z_wv f tk = 6518128 ↔ z_wd f tk = w_cup := z_wv_eq h.2.2 (by decide) (by decide) (by decide) (by decide)
theorem zw_cloth {tk : sp_tk} (h : mo_t S f L tk) : z_wv f tk = 427021005928 ↔ z_wd f tk = w_cloth := z_wv_eq h.2.2 (by decide) (by decide) (by decide) (by decide)
theorem zw_box {tk : sp_tk} (h : mo_t S f L tk) : z_wv f tk = 6451064 ↔ z_wd f tk = w_box := z_wv_eq h.2.2 (by decide) (by decide) (by decide) (by decide)
theorem zw_lid {tk : sp_tk} (h : mo_t S f L tk) : z_wv f tk = 7104868 ↔ z_wd f tk = w_lid := z_wv_eq h.2.2 (by decide) (by decide) (by decide) (by decide)
theorem zw_on {tk : sp_tk} (h : mo_t S f L tk) : z_wv f tk = 28526 ↔ z_wd f tk = w_on := z_wv_eq h.2.2 (by decide) (by decide) (by decide) (by decide)
theorem zw_in {tk : sp_tk} (h : mo_t S f L tk) : z_wv f tk = 26990 ↔ z_wd f tk = w_in := z_wv_eq h.2.2 (by decide) (by decide) (by decide) (by decide)
theorem zw_beside {tk : sp_tk} (h : mo_t S f L tk) : z_wv f tk = 108187867505765 ↔ z_wd f tk = w_beside := z_wv_eq h.2.2 (by decide) (by decide) (by decide) (by decide)
theorem zw_at {tk : sp_tk} (h : mo_t S f L tk) : z_wv f tk = 24948 ↔ z_wd f tk = w_at := z_wv_eq h.2.2 (by decide) (by decide) (by decide) (by decide)
theorem zw_never {tk : sp_tk} (h : mo_t S f L tk) : z_wv f tk = 474148660594 ↔ z_wd f tk = w_never := z_wv_eq h.2.2 (by decide) (by decide) (by decide) (by decide)
theorem zw_most {tk : sp_tk} (h : mo_t S f L tk) : z_wv f tk = 1836020596 ↔ z_wd f tk = w_most := z_wv_eq h.2.2 (by decide) (by decide) (by decide) (by decide)
end KM20
