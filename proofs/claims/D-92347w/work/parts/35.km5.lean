section KM5
variable {l : Launch} {S : am_M} {n t : Nat} {s : Nat → Nat} {T : sp_T}
/-- an order from the thing n - m on -/
theorem km_doOrder_29 {o m put such : Nat} {P : Int → am_M → Prop} (h : mt S t n s T) (ho : o < 96) (hm : m ≤ n) (hp : put ≤ such) (hq : such + m ≤ n)
    (hP : ∀ r T' S', sp_do n s (o / 2 % 4) (o / 8 % 3) (o / 24) (decide (o % 2 = 1)) m T put such = (r, T') → mt S' t n s T' → md_fr t S S' → P (sp_on r) S') :
    VX3_doOrder l (am_qi P) 29 [(0, am_R 0), (1, am_I t), (2, am_I o), (3, am_I (o / 2 % 4 : Nat)), (4, am_I (o / 8 % 3 : Nat)), (5, am_I (o / 24 : Nat)), (6, am_I put), (7, am_I such), (8, am_I (n - m : Nat))] [] S := by
  have hn := h.2.2.2.1
  have ht := h.1
  induction m generalizing S T put such with
  | zero =>
    refine bX3_doOrder_29 _ (by first | exact am_rN (by omega) | exact ⟨by omega, by omega⟩ | assumption) _ (by first | exact am_rN (by omega) | exact ⟨by omega, by omega⟩ | assumption) _ (by first | exact am_rN (by omega) | exact ⟨by omega, by omega⟩ | assumption) _ (by first | exact am_rN (by omega) | exact ⟨by omega, by omega⟩ | assumption) _ (by first | exact am_rN (by omega) | exact ⟨by omega, by omega⟩ | assumption) _ (by first | exact am_rN (by omega) | exact ⟨by omega, by omega⟩ | assumption) _ (by first | exact am_rN (by omega) | exact ⟨by omega, by omega⟩ | assumption) _ (by first | exact am_rN (by omega) | exact ⟨by omega, by omega⟩ | assumption) ⟨fun _ => ⟨by omega, fun h2 => ?_, fun h2 => ⟨fun h3 => ?_, fun h3 => ⟨fun h4 => ?_, fun h4 => ?_⟩⟩⟩, fun z => absurd h.2.1.1 (by omega)⟩
    · refine am_qi_mk ⟨by decide, by decide⟩ (hP none T S ?_ h (md_fr.refl t S))
      unfold sp_do
      rw [if_neg]
      exact fun z => absurd (of_decide_eq_true z.1) (by omega)
    · refine am_qi_mk (am_rN (by omega)) (hP (some put) T S ?_ h (md_fr.refl t S))
      unfold sp_do
      rw [if_pos]
      exact ⟨decide_eq_true (by omega), Or.inl (by omega)⟩
    · refine am_qi_mk (am_rN (by omega)) (hP (some put) T S ?_ h (md_fr.refl t S))
      unfold sp_do
      rw [if_pos]
      exact ⟨decide_eq_true (by omega), Or.inr (by omega)⟩
    · refine am_qi_mk ⟨by decide, by decide⟩ (hP none T S ?_ h (md_fr.refl t S))
      unfold sp_do
      rw [if_neg]
      exact fun z => z.2.elim (fun z => by omega) (fun z => by omega)
  | succ m ih =>
    have hk : n - (m + 1) < n := by omega
    have ek : ((n - (m + 1) : Nat) : Int) + 1 = ((n - m : Nat) : Int) := by omega
    refine bX3_doOrder_29 _ (by first | exact am_rN (by omega) | exact ⟨by omega, by omega⟩ | assumption) _ (by first | exact am_rN (by omega) | exact ⟨by omega, by omega⟩ | assumption) _ (by first | exact am_rN (by omega) | exact ⟨by omega, by omega⟩ | assumption) _ (by first | exact am_rN (by omega) | exact ⟨by omega, by omega⟩ | assumption) _ (by first | exact am_rN (by omega) | exact ⟨by omega, by omega⟩ | assumption) _ (by first | exact am_rN (by omega) | exact ⟨by omega, by omega⟩ | assumption) _ (by first | exact am_rN (by omega) | exact ⟨by omega, by omega⟩ | assumption) _ (by first | exact am_rN (by omega) | exact ⟨by omega, by omega⟩ | assumption) ⟨fun z => absurd h.2.1.1 (by omega), fun _ => ⟨⟨by omega, by omega⟩, fun hs => ?_, fun hs => km_isAsTold h hk (by omega) (by omega) ⟨fun ht => ?_, fun hf => ⟨by omega, fun h2 => km_isLoose h hk ⟨fun hl => ?_, fun hl => km_isPut h hk (by omega) (by omega) (fun e1 => ⟨fun _ => ?_, fun z => by simp at z⟩) (fun T' S' e1 m' f' => ⟨fun z => by simp at z, fun _ => ?_⟩)⟩, fun h2 => km_isPut h hk (by omega) (by omega) (fun e1 => ⟨fun _ => ?_, fun z => by simp at z⟩) (fun T' S' e1 m' f' => ⟨fun z => by simp at z, fun _ => ?_⟩)⟩⟩⟩⟩
    · rw [h.sort hk] at hs
      rw [ek]
      refine ih h (by omega) hp (by omega) (fun r T' S' he => hP r T' S' ?_)
      rw [sp_do, if_neg]
      · exact he
      · exact fun z => hs (by rw [z.1])
    · rw [ek]
      refine ih h (by omega) hp (by omega) (fun r T' S' he => hP r T' S' ?_)
      rw [sp_do, if_neg]
      · exact he
      · exact fun z => by rw [z.2] at ht; simp at ht
    · rw [ek]
      rw [h.sort hk] at hs
      refine ih h (by omega) hp (by omega) (fun r T' S' he => hP r T' S' ?_)
      rw [sp_do, if_pos ⟨by omega, hf⟩, if_neg (fun z => absurd (of_decide_eq_true z) (by omega)), if_neg (by rw [hl]; simp)]
      exact he
    · rw [h.sort hk] at hs
      refine am_qi_mk ⟨by decide, by decide⟩ (hP none T S ?_ h (md_fr.refl t S))
      rw [sp_do, if_pos ⟨by omega, hf⟩, if_neg (fun z => absurd (of_decide_eq_true z) (by omega)), if_pos hl, e1]
    · rw [h.sort hk] at hs
      refine am_qi_mk ⟨by decide, by decide⟩ (hP (some 1) T' S' ?_ m' f')
      rw [sp_do, if_pos ⟨by omega, hf⟩, if_neg (fun z => absurd (of_decide_eq_true z) (by omega)), if_pos hl, e1]
    · rw [h.sort hk] at hs
      rw [ek, show ((put : Int) + 0) = put by omega]
      refine ih (such := such + 1) h (by omega) (by omega) (by omega) (fun r T' S' he => hP r T' S' ?_)
      rw [sp_do, if_pos ⟨by omega, hf⟩, if_pos (decide_eq_true (by omega)), e1]
      exact he
    · rw [h.sort hk] at hs
      rw [ek]
      refine ih (put := put + 1) (such := such + 1) m' (by omega) (by omega) (by omega) (fun r T'' S'' he m2 f2 => hP r T'' S'' ?_ m2 (f'.trans f2))
      rw [sp_do, if_pos ⟨by omega, hf⟩, if_pos (decide_eq_true (by omega)), e1]
      exact he
theorem km_doOrder {o : Nat} {P : Int → am_M → Prop} (h : mt S t n s T) (ho : o < 96) (hP : ∀ r T' S', sp_order n s T o = (r, T') → mt S' t n s T' → md_fr t S S' → P (sp_on r) S') : kX3_doOrder l [am_R 0, am_I t, am_I o] S (am_qi P) := by
  have hn := h.2.2.2.1
  have ht := h.1
  refine bX3_doOrder _ (by first | exact am_rN (by omega) | exact ⟨by omega, by omega⟩ | assumption) _ (by first | exact am_rN (by omega) | exact ⟨by omega, by omega⟩ | assumption) ⟨by omega, by omega, by omega, ?_⟩
  have e1 : ((o : Int) / 2 % 4) = ((o / 2 % 4 : Nat) : Int) := by omega
  have e2 : ((o : Int) / 8 % 3) = ((o / 8 % 3 : Nat) : Int) := by omega
  have e3 : ((o : Int) / 24) = ((o / 24 : Nat) : Int) := by omega
  have e4 : (0 : Int) = ((n - n : Nat) : Int) := by omega
  rw [e1, e2, e3]
  have := km_doOrder_29 (l := l) (P := P) (m := n) (put := 0) (such := 0) h ho (Nat.le_refl _) (Nat.le_refl _) (by omega) hP
  rw [Nat.sub_self] at this
  exact this
theorem km_copyTable_2 {a b k : Nat} {S0 : am_M} {P : am_M → Prop} (ha : a < 108) (hb : b < 108) (hab : a ≠ b) (hr : mt_r S0 a T) (hk : k ≤ 62) (hf : md_fr b S0 S) (hc : ∀ i, i < k → md S (62 * b + i) = md S0 (62 * a + i)) (hP : ∀ S', mt_r S' b T → md_fr b S0 S' → P S') :
    VX3_copyTable l (am_qv P) 2 [(0, am_R 0), (1, am_I a), (2, am_I b), (3, am_I k)] [] S := by
  generalize hm : 62 - k = m
  induction m generalizing k S with
  | zero =>
    have e : k = 62 := by omega
    subst e
    refine bX3_copyTable_2 _ (by first | exact am_rN (by omega) | exact ⟨by omega, by omega⟩ | assumption) _ (by first | exact am_rN (by omega) | exact ⟨by omega, by omega⟩ | assumption) _ (by first | exact am_rN (by omega) | exact ⟨by omega, by omega⟩ | assumption) ⟨fun _ => am_qv_mk (hP _ ⟨fun c hc8 => ⟨?_, fun i hi => ?_⟩, fun j hj => ?_⟩ hf), fun z => absurd z (by omega)⟩
    · rw [hc (7 * c) (by omega)]
      exact (hr.1 c hc8).1
    · have := hc (7 * c + 1 + i) (by omega)
      rw [show 62 * b + (7 * c + 1 + i) = 62 * b + 7 * c + 1 + i by omega, show 62 * a + (7 * c + 1 + i) = 62 * a + 7 * c + 1 + i by omega] at this
      rw [this]
      exact (hr.1 c hc8).2 i hi
    · have := hc (56 + j) (by omega)
      rw [show 62 * b + (56 + j) = 62 * b + 56 + j by omega, show 62 * a + (56 + j) = 62 * a + 56 + j by omega] at this
      rw [this]
      exact hr.2 j hj
  | succ m ih =>
    refine bX3_copyTable_2 _ (by first | exact am_rN (by omega) | exact ⟨by omega, by omega⟩ | assumption) _ (by first | exact am_rN (by omega) | exact ⟨by omega, by omega⟩ | assumption) _ (by first | exact am_rN (by omega) | exact ⟨by omega, by omega⟩ | assumption) ⟨fun z => absurd z (by omega), fun _ => ⟨⟨by omega, by omega⟩, ⟨by omega, by omega⟩, ?_⟩⟩
    refine ih (k := k + 1) (by omega) (hf.trans (md_fr.sa b S _ _ (by omega) (by omega))) (fun i hi => ?_) (by omega)
    rw [md_sa _ _ _ _ (am_rt _)]
    by_cases e : i = k
    · rw [if_pos (by omega), show (62 * (a : Int) + k).toNat = 62 * a + k by omega, e]
      exact hf.md (by omega)
    · rw [if_neg (by omega)]
      exact hc i (by omega)
theorem km_copyTable {a b : Nat} {P : am_M → Prop} (ha : a < 108) (hb : b < 108) (hab : a ≠ b) (hr : mt_r S a T) (hP : ∀ S', mt_r S' b T → md_fr b S S' → P S') : kX3_copyTable l [am_R 0, am_I a, am_I b] S (am_qv P) := by
  refine bX3_copyTable _ (by first | exact am_rN (by omega) | exact ⟨by omega, by omega⟩ | assumption) _ (by first | exact am_rN (by omega) | exact ⟨by omega, by omega⟩ | assumption) (km_copyTable_2 (k := 0) ha hb hab hr (Nat.zero_le _) (md_fr.refl b S) (fun _ z => absurd z (Nat.not_lt_zero _)) hP)
theorem sp_ob_inj {o q : Option Nat} (h : sp_ob o = sp_ob q) : o = q := by
  cases o with
  | none => exact (sp_ob_lt.mp (by rw [← h]; decide)).symm
  | some x => exact (sp_ob_eq.mp h.symm).symm
theorem sp_same_md {a b : Nat} {U : sp_T} (hr : mt_r S a T) (hu : mt_r S b U) (hT : sp_ok n s T) (hU : sp_ok n s U) : sp_same n T U = true ↔ ∀ i, i < 62 → md S (62 * a + i) = md S (62 * b + i) := by
  unfold sp_same
  rw [Bool.and_eq_true, List.all_eq_true, List.all_eq_true]
  constructor
  · rintro ⟨h1, h2⟩ i hi
    have hp : ∀ c, c < 8 → T.1 c = U.1 c := fun c hc => by simpa using h1 c (List.mem_range.mpr hc)
    have hb : ∀ k, T.2.2 k = U.2.2 k := by
      intro k
      by_cases hk : k < n
      · simpa using h2 k (List.mem_range.mpr hk)
      · cases q : T.2.2 k with
        | some x => exact absurd (hT.2.2.2.1 k x q).1 hk
        | none =>
          cases q2 : U.2.2 k with
          | some x => exact absurd (hU.2.2.2.1 k x q2).1 hk
          | none => rfl
    by_cases h56 : i < 56
    · have hc : i / 7 < 8 := by omega
      by_cases h7 : i % 7 = 0
      · rw [show 62 * a + i = 62 * a + 7 * (i / 7) by omega, show 62 * b + i = 62 * b + 7 * (i / 7) by omega, (hr.1 _ hc).1, (hu.1 _ hc).1, hp _ hc]
      · rw [show 62 * a + i = 62 * a + 7 * (i / 7) + 1 + (i % 7 - 1) by omega, show 62 * b + i = 62 * b + 7 * (i / 7) + 1 + (i % 7 - 1) by omega, (hr.1 _ hc).2 _ (by omega), (hu.1 _ hc).2 _ (by omega), hp _ hc]
    · rw [show 62 * a + i = 62 * a + 56 + (i - 56) by omega, show 62 * b + i = 62 * b + 56 + (i - 56) by omega, hr.2 _ (by omega), hu.2 _ (by omega), hb]
  · intro h
    have hn := hT.1
    refine ⟨fun c hc => ?_, fun k hk => ?_⟩
    · have hc := List.mem_range.mp hc
      have e1 := h (7 * c) (by omega)
      rw [(hr.1 c hc).1, (hu.1 c hc).1] at e1
      have l1 := hT.len hc
      have l2 := hU.len hc
      rw [beq_iff_eq]
      refine List.ext_getElem? (fun i => ?_)
      by_cases hi : i < 6
      · have e2 := h (7 * c + 1 + i) (by omega)
        rw [show 62 * a + (7 * c + 1 + i) = 62 * a + 7 * c + 1 + i by omega, show 62 * b + (7 * c + 1 + i) = 62 * b + 7 * c + 1 + i by omega, (hr.1 c hc).2 i hi, (hu.1 c hc).2 i hi] at e2
        exact sp_ob_inj e2
      · rw [List.getElem?_eq_none (by omega), List.getElem?_eq_none (by omega)]
    · have hk := List.mem_range.mp hk
      have e2 := h (56 + k) (by omega)
      rw [show 62 * a + (56 + k) = 62 * a + 56 + k by omega, show 62 * b + (56 + k) = 62 * b + 56 + k by omega, hr.2 k (by omega), hu.2 k (by omega)] at e2
      rw [beq_iff_eq]
      exact sp_ob_inj e2
theorem km_isSame_5 {a b k : Nat} {v : Bool} {U : sp_T} {P : Bool → am_M → Prop} (ha : a < 108) (hb : b < 108) (hr : mt_r S a T) (hu : mt_r S b U) (hT : sp_ok n s T) (hU : sp_ok n s U) (hk : k ≤ 62) (hv : v = true ↔ ∀ i, i < k → md S (62 * a + i) = md S (62 * b + i)) (hP : P (sp_same n T U) S) :
    VX3_isSame l (am_qz P) 5 [(0, am_R 0), (1, am_I a), (2, am_I b), (3, am_I (am_b v)), (4, am_I k)] [] S := by
  have key := sp_same_md hr hu hT hU
  generalize hm : 62 - k = m
  have hfin : v = false → am_qz P (some (am_I (am_b v))) S := by
    intro hvf
    subst hvf
    have e : sp_same n T U = false := Bool.eq_false_iff.mpr (fun z => by
      have := hv.mpr (fun i hi => key.mp z i (by omega))
      simp at this)
    rw [e] at hP
    exact am_qz_mk hP
  induction m generalizing k v with
  | zero =>
    have e : k = 62 := by omega
    subst e
    refine bX3_isSame_5 _ (by first | exact am_rN (by omega) | exact ⟨by omega, by omega⟩ | assumption) _ (by first | exact am_rN (by omega) | exact ⟨by omega, by omega⟩ | assumption) _ _ (by first | exact am_rN (by omega) | exact ⟨by omega, by omega⟩ | assumption) ⟨fun _ => ?_, fun z => absurd z (by omega)⟩
    cases v with
    | false => exact hfin rfl
    | true =>
      rw [key.mpr (hv.mp rfl)] at hP
      exact am_qz_mk hP
  | succ m ih =>
    refine bX3_isSame_5 _ (by first | exact am_rN (by omega) | exact ⟨by omega, by omega⟩ | assumption) _ (by first | exact am_rN (by omega) | exact ⟨by omega, by omega⟩ | assumption) _ _ (by first | exact am_rN (by omega) | exact ⟨by omega, by omega⟩ | assumption) ⟨fun z => absurd z (by omega), fun _ => ⟨hfin, fun hvt => ⟨⟨by omega, by omega⟩, ⟨by omega, by omega⟩, fun hne => ?_, fun he => ?_⟩⟩⟩
    all_goals
      have q1 : ((S.2 0 (62 * (a : Int) + k).toNat).toInt) = md S (62 * a + k) := by rw [show (62 * (a : Int) + k).toNat = 62 * a + k by omega]; rfl
      have q2 : ((S.2 0 (62 * (b : Int) + k).toNat).toInt) = md S (62 * b + k) := by rw [show (62 * (b : Int) + k).toNat = 62 * b + k by omega]; rfl
    · rw [q1, q2] at hne
      have hv' : false = true ↔ ∀ i, i < k + 1 → md S (62 * a + i) = md S (62 * b + i) := ⟨fun z => by simp at z, fun z => absurd (z k (by omega)) hne⟩
      refine ih (k := k + 1) (by omega) hv' (by omega) (fun _ => ?_)
      have e : sp_same n T U = false := Bool.eq_false_iff.mpr (fun z => hne (key.mp z k (by omega)))
      rw [e] at hP
      exact am_qz_mk hP
    · rw [q1, q2] at he
      have hv' : true = true ↔ ∀ i, i < k + 1 → md S (62 * a + i) = md S (62 * b + i) := ⟨fun _ i hi => by
        by_cases e : i = k
        · rw [e]; exact he
        · exact hv.mp hvt i (by omega), fun _ => rfl⟩
      exact ih (k := k + 1) (by omega) hv' (by omega) (fun z => by simp at z)
theorem km_isSame {a b : Nat} {U : sp_T} {P : Bool → am_M → Prop} (ha : a < 108) (hb : b < 108) (hr : mt_r S a T) (hu : mt_r S b U) (hT : sp_ok n s T) (hU : sp_ok n s U) (hP : P (sp_same n T U) S) : kX3_isSame l [am_R 0, am_I a, am_I b] S (am_qz P) := by
  refine bX3_isSame _ (by first | exact am_rN (by omega) | exact ⟨by omega, by omega⟩ | assumption) _ (by first | exact am_rN (by omega) | exact ⟨by omega, by omega⟩ | assumption) (km_isSame_5 (k := 0) ha hb hr hu hT hU (Nat.zero_le _) ⟨fun _ _ z => absurd z (Nat.not_lt_zero _), fun _ => rfl⟩ hP)
end KM5
