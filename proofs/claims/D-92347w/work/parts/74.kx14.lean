theorem am_shr1 : ∀ x : Fin 32, am_shr (x.val : Int) 1 = ((x.val / 2 : Nat) : Int) := by decide +kernel
theorem ah_isL {S : ah_H} {o : Nat} {fs : List am_W} (h : S.1 o = some (.inl (6, fs))) : ah_is S (some o) "java/lang/Object" := fun y hy => by
  cases hy
  exact ⟨6, fs, _, h, rfl, Or.inr (List.mem_filter.mpr ⟨q1912, rfl⟩)⟩
theorem ah_isN {S : ah_H} {o : Nat} {fs : List am_W} (h : S.1 o = some (.inl (9, fs))) : ah_is S (some o) "java/lang/Object" := fun y hy => by
  cases hy
  exact ⟨9, fs, _, h, rfl, Or.inr (List.mem_filter.mpr ⟨q1916, rfl⟩)⟩
theorem ah_is.fr {S S' : ah_H} {o : Nat} {K : String} (h : ah_is S (some o) K) (e : S.1 o ≠ none → S'.1 o = S.1 o) : ah_is S' (some o) K := fun y hy => by
  cases hy
  obtain ⟨ci, fs, q, h1, h2, h3⟩ := h o rfl
  exact ⟨ci, fs, q, (e (by rw [h1]; exact fun z => by cases z)).trans h1, h2, h3⟩
section KX14
variable {l : Launch} {S : ah_H} {w : Nat → Nat}
theorem kx_copyOf {mc ms v0 n c : Nat} {f : Nat → Option Nat} {P : Option Nat → ah_H → Prop} (h : S.1 v0 = some (.inr (5, n, .inr f))) (hX : 32 ≤ v0) (hv : v0 < S.2) (hX2 : 32 ≤ S.2) (hn : n ≤ c) (hc : c < 1000) (hmc : 1 ≤ mc) (hms : c ≤ ms) (hf : ∀ i, i < n → ∃ o, f i = some o ∧ o < S.2 ∧ ah_is S (some o) "java/lang/Object")
    (hP : ∀ S' g, S'.2 = S.2 + 1 → S'.1 S.2 = some (.inr (5, c, .inr g)) → (∀ i, i < n → g i = f i) → (∀ q, q ≠ S.2 → S'.1 q = S.1 q) → P (some S.2) S') : kJ11_copyOf l mc ms [am_R v0, am_I c] S (am_qo P) := by
  have hm : am_min (n : Int) c = n := by
    unfold am_min
    split <;> omega
  have hX' : ah_X ≤ S.2 := hX2
  refine bJ11_copyOf _ _ (by first | exact am_rN (by omega) | exact ⟨by omega, by omega⟩ | assumption) ⟨_, _, h, hX, mc, ms, by omega, bJ11_copyOf_2 _ _ (by first | exact am_rN (by omega) | exact ⟨by omega, by omega⟩ | assumption) _ ⟨fun i j hi hj => by cases hi; cases hj; exact Or.inr (Or.inr (Or.inr rfl)), fun z => absurd rfl z, fun _ => ⟨by omega, by omega, by omega, ?_⟩⟩⟩
  rintro _ rfl
  rw [Int.toNat_natCast]
  refine ⟨_, _, (up_ne _ _ (by omega)).trans h, _, _, up_at S.1 S.2 _, hX, hX', by omega, by omega, by omega, fun i hi => ?_, ?_⟩
  · obtain ⟨o, h1, h2, h3⟩ := hf i (by omega)
    rw [show (0 : Int).toNat + i = i by omega, h1]
    exact h3.fr (fun _ => up_ne _ _ (by omega))
  · rintro _ rfl
    refine am_qo_mk ⟨S.2, rfl, am_qo_mk (hP _ (va_cpy f (fun _ => none) (0 : Int).toNat (0 : Int).toNat (am_min (n : Int) c).toNat) rfl (up_at (ah_mk S _).1 S.2 _) (fun i hi => ?_) (fun q hq => (up_ne _ _ hq).trans (up_ne _ _ hq)))⟩
    rw [hm]
    show (if _ then _ else _) = _
    rw [if_pos (by omega)]
    congr 1
    omega
theorem kx_grow {mc ms a n k e : Nat} {f : Nat → Option Nat} {P : Option Nat → ah_H → Prop} (ha : S.1 a = some (.inl (15, [am_I (k : Int), am_R e, am_I (n : Int)]))) (he : S.1 e = some (.inr (5, n, .inr f))) (hk : k ≤ 100) (hn : n ≤ 20) (hX : 32 ≤ a) (ha2 : a < S.2) (h1 : e = 1 ∧ n = 0 ∨ 32 ≤ e ∧ 10 ≤ n) (he2 : e < S.2) (hmc : 1 ≤ mc) (hms : 30 ≤ ms) (hf : ∀ i, i < n → ∃ o, f i = some o ∧ o < S.2 ∧ ah_is S (some o) "java/lang/Object")
    (hP : ∀ S' c g, S'.2 = S.2 + 1 → S'.1 a = some (.inl (15, [am_I (k : Int), am_R S.2, am_I (n : Int)])) → S'.1 S.2 = some (.inr (5, c, .inr g)) → n < c → 10 ≤ c → c ≤ 30 → (∀ i, i < n → g i = f i) → (∀ q, q ≠ a → q ≠ S.2 → S'.1 q = S.1 q) → P (some S.2) S') : kJ2_grow l mc ms [am_R a] S (am_qo P) := by
  refine bJ2_grow _ ⟨_, ha, _, ⟨rfl, am_rN (by omega)⟩, mc, ms, by omega, bJ2_grow_2 _ _ (by first | exact am_rN (by omega) | exact ⟨by omega, by omega⟩ | assumption) ⟨_, ha, _, rfl, _, _, he, fun hz => ?_, fun hz => ?_⟩⟩
  · rcases h1 with ⟨-, h1⟩ | ⟨h1, h2⟩
    · omega
    · rw [am_shr1 ⟨n, by omega⟩]
      have em : am_max ((n : Int) + 1 - n) ((n / 2 : Nat) : Int) = ((n / 2 : Nat) : Int) := by
        unfold am_max
        rw [if_pos (by omega)]
      refine bJ10_newLength _ (by first | exact am_rN (by omega) | exact ⟨by omega, by omega⟩ | assumption) _ (by first | exact am_rN (by omega) | exact ⟨by omega, by omega⟩ | assumption) _ (by first | exact am_rN (by omega) | exact ⟨by omega, by omega⟩ | assumption) ⟨?_, fun z => ?_, fun _ => ⟨fun z => ?_, fun _ => am_qi_mk ?_ ?_⟩⟩
      · rw [em]
        exact ⟨by omega, by omega⟩
      · rw [em] at z
        omega
      · rw [em] at z
        omega
      · rw [em]
        exact ⟨by omega, by omega⟩
      · rw [em, show (n : Int) + ((n / 2 : Nat) : Int) = ((n + n / 2 : Nat) : Int) by omega]
        refine ⟨_, ha, _, rfl, mc, ms, by omega, kx_copyOf he h1 he2 (by omega) (by omega) (by omega) hmc (by omega) hf (fun S1 g g1 g2 g3 g4 => ⟨S.2, rfl, _, (g4 a (by omega)).trans ha, hX, (show 1 < 3 by decide), ?_⟩)⟩
        rintro _ rfl
        refine am_qo_mk ⟨S.2, rfl, am_qo_mk (hP _ (n + n / 2) g g1 (up_at S1.1 a _) ((up_ne _ _ (by omega)).trans g2) (by omega) (by omega) (by omega) g3 (fun q q1 q2 => (up_ne _ _ q1).trans (g4 q q2)))⟩
  · have hn0 : n = 0 := by omega
    have he1 : e = 1 := by omega
    subst hn0
    subst he1
    rw [show am_max 10 (((0 : Nat) : Int) + 1) = 10 by decide +kernel]
    refine ⟨fun i j hi hj => by cases hi; cases hj; exact Or.inr (Or.inr (Or.inr rfl)), fun _ => ⟨by decide, by omega, (show 0 + 10 ≤ ms by omega), ?_⟩, fun z => absurd rfl z⟩
    rintro _ rfl
    refine ⟨_, (up_ne _ _ (by omega)).trans ha, hX, (show 1 < 3 by decide), ?_⟩
    rintro _ rfl
    refine am_qo_mk ⟨S.2, rfl, am_qo_mk (hP _ 10 (fun _ => none) rfl (up_at (ah_mk S _).1 a _) ((up_ne _ _ (by omega)).trans (up_at S.1 S.2 _)) (by omega) (by omega) (by omega) (fun i hi => absurd hi (by omega)) (fun q q1 q2 => (up_ne _ _ q1).trans (up_ne _ _ q2)))⟩
/-- one more element: the list's cells and new ones have changed, nothing else -/
theorem kx_add {mc ms a n t o : Nat} {Pe : Nat → Nat → Prop} {P : Bool → ah_H → Prop} (h : xl S.1 w t a n Pe) (ht : t ≠ 13) (hw : ∀ q, q < 32 → w q = 13) (hN : ∀ q, S.2 ≤ q → S.1 q = none) (hb : 647 ≤ S.2) (hX : 32 ≤ a) (hn : n ≤ 16) (hmc : 1 ≤ mc) (hms : 30 ≤ ms)
    (hPe : ∀ i o, i < n → Pe i o → ah_is S (some o) "java/lang/Object") (ho : ah_is S (some o) "java/lang/Object") (hot : w o ≠ t)
    (hP : ∀ S' mk e cap f, S.2 ≤ S'.2 → (∀ q, S'.2 ≤ q → S'.1 q = none) → (∀ q, S.1 q ≠ none → w q ≠ t → S'.1 q = S.1 q) → S'.1 a = some (.inl (15, [am_I (mk : Int), am_R e, am_I ((n + 1 : Nat) : Int)])) → S'.1 e = some (.inr (5, cap, .inr f)) → mk ≤ n + 1 → n + 1 ≤ cap → cap ≤ 100 → 647 ≤ e → xtg w S.2 S'.2 t e = t → 10 ≤ cap → (∀ i, i < n → ∃ o, f i = some o ∧ Pe i o) → f n = some o → P true S') : kJ2_add l mc ms [am_R a, am_R o] S (am_qz P) := by
  obtain ⟨wa, mk, e, cap, f, h1, h2, h3, h4, h5, h6, h7⟩ := h
  have lt : ∀ q, S.1 q ≠ none → q < S.2 := fun q hq => by
    by_cases z : q < S.2
    · exact z
    · exact absurd (hN q (by omega)) hq
  have ha : a < S.2 := lt a (by rw [h1]; exact fun z => by cases z)
  have he : e < S.2 := lt e (by rw [h2]; exact fun z => by cases z)
  have hol : o < S.2 := lt o (by
    obtain ⟨ci, fs, q, g1, -⟩ := ho o rfl
    rw [g1]
    exact fun z => by cases z)
  have hae : e ≠ a := fun z => by
    rw [z, h1] at h2
    cases h2
  have hao : o ≠ a := fun z => hot (by rw [z]; exact wa)
  refine bJ2_add _ _ ⟨_, h1, _, ⟨rfl, am_rN (by omega)⟩, hX, (show 0 < 3 by decide), ?_⟩
  rintro _ rfl
  rw [show (ah_sf S a 15 [am_I (mk : Int), am_R e, am_I (n : Int)] 0 (am_I ((mk : Int) + 1))) = (va_up S.1 a (some (.inl (15, [am_I ((mk + 1 : Nat) : Int), am_R e, am_I (n : Int)]))), S.2) from rfl]
  have oA : (va_up S.1 a (some (.inl (15, [am_I ((mk + 1 : Nat) : Int), am_R e, am_I (n : Int)])))) a = some (.inl (15, [am_I ((mk + 1 : Nat) : Int), am_R e, am_I (n : Int)])) := up_at S.1 a _
  have oO : ∀ q, q ≠ a → (va_up S.1 a (some (.inl (15, [am_I ((mk + 1 : Nat) : Int), am_R e, am_I (n : Int)])))) q = S.1 q := fun q hq => up_ne _ _ hq
  generalize va_up S.1 a (some (.inl (15, [am_I ((mk + 1 : Nat) : Int), am_R e, am_I (n : Int)]))) = h' at *
  have is2 : ∀ o, ah_is S (some o) "java/lang/Object" → o ≠ a → ah_is (h', S.2) (some o) "java/lang/Object" := fun o q1 q2 => q1.fr (fun _ => oO o q2)
  have ho' := is2 o ho hao
  have hel : ∀ i, i < n → ∃ o, f i = some o ∧ o < S.2 ∧ ah_is (h', S.2) (some o) "java/lang/Object" := fun i hi => by
    obtain ⟨x, x1, x2⟩ := h7 i hi
    have x3 := hPe i x hi x2
    obtain ⟨ci, fs, q, g1, g2, g3⟩ := id x3 x rfl
    refine ⟨x, x1, lt x (by rw [g1]; exact fun z => by cases z), ?_⟩
    by_cases e : x = a
    · rw [e, h1] at g1
      cases g1
      intro y hy
      cases hy
      rw [e]
      exact ⟨15, _, q, oA, g2, g3⟩
    · exact is2 x x3 e
  refine ⟨_, oA, _, rfl, _, ⟨rfl, am_rN (by omega)⟩, mc, ms, by omega, ?_⟩
  have oE : h' e = some (.inr (5, cap, .inr f)) := (oO e hae).trans h2
  refine bJ2_add_2 _ _ _ _ (by first | exact am_rN (by omega) | exact ⟨by omega, by omega⟩ | assumption) ⟨_, _, oE, fun hz => ?_, fun hz => ?_⟩
  · have e6 : 647 ≤ e ∧ w e = t ∧ 10 ≤ cap := h6.elim (fun z => absurd hz (by omega)) id
    refine ⟨by show 32 ≤ e; omega, ⟨by omega, by omega⟩, ho', ?_⟩
    rintro _ rfl
    refine ⟨_, (up_ne _ _ (Ne.symm hae)).trans oA, hX, (show 2 < 3 by decide), ?_⟩
    rintro _ rfl
    refine am_qv_mk (am_qz_mk (hP _ (mk + 1) e cap (va_up f n (some o)) (Nat.le_refl _) (fun q hq => ?_) (fun q q1 q2 => ?_) (up_at _ a _) ((up_ne _ _ hae).trans (by rw [← Int.toNat_natCast n]; exact up_at h' e _)) (by omega) (by omega) h5 e6.1 ((xtg_out (Or.inl he)).trans e6.2.1) e6.2.2 (fun i hi => ?_) (up_at f n _)))
    · have hq : S.2 ≤ q := hq
      exact (up_ne _ _ (by omega)).trans ((up_ne _ _ (by omega)).trans ((oO q (by omega)).trans (hN q hq)))
    · have g1 : q ≠ a := fun z => q2 (by rw [z]; exact wa)
      have g2 : q ≠ e := fun z => q2 (by rw [z]; exact e6.2.1)
      exact (up_ne _ _ g1).trans ((up_ne _ _ g2).trans (oO q g1))
    · obtain ⟨x, x1, x2⟩ := h7 i hi
      exact ⟨x, (up_ne f _ (by omega)).trans x1, x2⟩
  · have hcap : cap = n := by omega
    subst hcap
    refine ⟨mc, ms, by omega, _, oA, kx_grow (S := (h', S.2)) oA oE (by omega) (by omega) hX ha ?_ he hmc hms hel (fun S1 c g g1 g2 g3 g4 g5 g6 g7 g8 => ?_)⟩
    · rcases h6 with z | z
      · exact Or.inl z
      · exact Or.inr ⟨by omega, z.2.2⟩
    · have g1 : S1.2 = S.2 + 1 := g1
      have g3 : S1.1 S.2 = some (.inr (5, c, .inr g)) := g3
      have g8 : ∀ q, q ≠ a → q ≠ S.2 → S1.1 q = h' q := g8
      refine ⟨S.2, rfl, _, _, g3, by show 32 ≤ S.2; omega, ⟨by omega, by omega⟩, ho'.fr (fun _ => g8 o hao (by omega)), ?_⟩
      rintro _ rfl
      refine ⟨_, (up_ne _ _ (by omega)).trans g2, hX, (show 2 < 3 by decide), ?_⟩
      rintro _ rfl
      refine am_qv_mk (am_qz_mk (hP _ (mk + 1) S.2 c (va_up g cap (some o)) (by show S.2 ≤ S1.2; omega) (fun q hq => ?_) (fun q q1 q2 => ?_) (up_at _ a _) ((up_ne _ _ (by omega)).trans (by rw [← Int.toNat_natCast cap]; exact up_at S1.1 S.2 _)) (by omega) (by omega) (by omega) hb (xtg_in (Nat.le_refl _) (by show S.2 < S1.2; omega)) g5 (fun i hi => ?_) (up_at g cap _)))
      · have hq : S1.2 ≤ q := hq
        exact (up_ne _ _ (by omega)).trans ((up_ne _ _ (by omega)).trans ((g8 q (by omega) (by omega)).trans ((oO q (by omega)).trans (hN q (by omega)))))
      · have k1 : q ≠ a := fun z => q2 (by rw [z]; exact wa)
        have k2 : q ≠ S.2 := fun z => by
          have := lt q q1
          omega
        exact (up_ne _ _ k1).trans ((up_ne _ _ k2).trans ((g8 q k1 k2).trans (oO q k1)))
      · obtain ⟨x, x1, x2⟩ := h7 i hi
        exact ⟨x, (up_ne g _ (by omega)).trans ((g7 i hi).trans x1), x2⟩
end KX14
