theorem up_at {α : Type} (f : Nat → α) (k : Nat) (v : α) : va_up f k v k = v := if_pos rfl
theorem up_ne {α : Type} (f : Nat → α) {k j : Nat} (v : α) (h : j ≠ k) : va_up f k v j = f j := if_neg h
theorem up_if {α : Type} (f : Nat → α) (k j : Nat) (v : α) : va_up f k v j = if j = k then v else f j := rfl
section SP3
variable {n : Nat} {s : Nat → Nat} {T : sp_T}
theorem sp_can_loose {k to : Nat} (h : sp_can n s T k to = true) : sp_loose T k = true := by
  unfold sp_can at h
  split at h
  · exact h
  · simp at h
    exact h.1.1.1
theorem sp_last {q : Nat} {p : List Nat} (h : p.getLast? = some q) : p = p.dropLast ++ [q] := by
  have hne : p ≠ [] := by
    intro e
    rw [e] at h
    exact absurd h (by simp)
  have h2 := List.dropLast_concat_getLast hne
  rw [List.getLast?_eq_some_getLast hne] at h
  rw [Option.some.inj h] at h2
  exact h2.symm
/-- what stands when a loose thing is taken -/
theorem sp_take_ok {k : Nat} (h : sp_ok n s T) (hk : k < n) (hl : sp_loose T k = true) :
    (∀ c, c < 8 → ((sp_take T k).1 c).Nodup ∧ ∀ j, j ∈ (sp_take T k).1 c ↔ (j < n ∧ j ≠ k ∧ T.2.2 j = none ∧ T.2.1 j = c)) ∧ (sp_take T k).2.1 = T.2.1 ∧ ∀ j, (sp_take T k).2.2 j = if j = k then none else T.2.2 j := by
  unfold sp_take
  cases hb : T.2.2 k with
  | some x =>
    rw [if_pos (show (some x).isSome = true from rfl)]
    refine ⟨fun c hc => ⟨(h.2.1 c hc).1, fun j => ⟨fun hj => ?_, fun hj => ((h.2.1 c hc).2 j).mpr ⟨hj.1, hj.2.2⟩⟩⟩, rfl, fun j => rfl⟩
    have := ((h.2.1 c hc).2 j).mp hj
    refine ⟨this.1, fun e => ?_, this.2⟩
    rw [e, hb] at this
    exact absurd this.2.1 (by simp)
  | none =>
    rw [if_neg (by decide)]
    have hcl : (T.1 (T.2.1 k)).getLast? = some k := by
      have e : sp_base T k = k := by unfold sp_base; rw [hb]; rfl
      unfold sp_loose sp_clear at hl
      rw [e, hb] at hl
      exact of_decide_eq_true hl
    have hs := sp_last hcl
    refine ⟨fun c hc => ?_, rfl, fun j => ?_⟩
    · show (va_up T.1 (T.2.1 k) _ c).Nodup ∧ ∀ j, j ∈ va_up T.1 (T.2.1 k) _ c ↔ _
      obtain ⟨h1, h2⟩ := h.2.1 c hc
      by_cases e : c = T.2.1 k
      · subst e
        rw [up_at]
        rw [hs] at h1
        obtain ⟨n1, n2, n3⟩ := List.nodup_append.mp h1
        refine ⟨n1, fun j => ⟨fun hj => ?_, fun hj => ?_⟩⟩
        · have := (h2 j).mp (by rw [hs]; exact List.mem_append_left _ hj)
          exact ⟨this.1, n3 j hj k (List.mem_singleton.mpr rfl), this.2⟩
        · have := (h2 j).mpr ⟨hj.1, hj.2.2⟩
          rw [hs] at this
          rcases List.mem_append.mp this with q | q
          · exact q
          · exact absurd (List.mem_singleton.mp q) hj.2.1
      · rw [up_ne _ _ e]
        refine ⟨h1, fun j => ⟨fun hj => ?_, fun hj => (h2 j).mpr ⟨hj.1, hj.2.2⟩⟩⟩
        have := (h2 j).mp hj
        refine ⟨this.1, fun q => e ?_, this.2⟩
        rw [← this.2.2, q]
    · show T.2.2 j = _
      by_cases e : j = k
      · rw [if_pos e, e, hb]
      · rw [if_neg e]
/-- the table once a taken thing is put on a cell -/
theorem sp_put_ok {k c0 : Nat} {U : sp_T} (h : sp_ok n s T) (hk : k < n) (hc0 : c0 < 8)
    (h1 : ∀ c, c < 8 → (U.1 c).Nodup ∧ ∀ j, j ∈ U.1 c ↔ (j < n ∧ j ≠ k ∧ T.2.2 j = none ∧ T.2.1 j = c)) (h2 : U.2.1 = T.2.1) (h3 : ∀ j, U.2.2 j = if j = k then none else T.2.2 j) (hin : ∀ j, T.2.2 j = some k → False ∨ s k = 2) : sp_ok n s (sp_put U k c0) := by
  refine ⟨h.1, fun c hc => ?_, fun j hj hb => ?_, fun j x hb => ?_, fun j i x hj hi => ?_⟩
  · show (va_up U.1 c0 _ c).Nodup ∧ ∀ j, j ∈ va_up U.1 c0 _ c ↔ (j < n ∧ U.2.2 j = none ∧ va_up U.2.1 k c0 j = c)
    obtain ⟨a1, a2⟩ := h1 c hc
    have hnk : k ∉ U.1 c := fun z => ((a2 k).mp z).2.1 rfl
    have hr : ∀ j, (j < n ∧ U.2.2 j = none ∧ va_up U.2.1 k c0 j = c) ↔ (j ∈ U.1 c ∨ (j = k ∧ c0 = c)) := by
      intro j
      rw [h3, a2, up_if, h2]
      by_cases e : j = k
      · subst e
        simp [hk]
      · simp [e]
    by_cases e : c = c0
    · subst e
      rw [up_at]
      refine ⟨List.nodup_append.mpr ⟨a1, List.nodup_cons.mpr ⟨List.not_mem_nil, List.nodup_nil⟩, fun a ha b hb => ?_⟩, fun j => ?_⟩
      · rw [List.mem_singleton.mp hb]
        exact fun z => hnk (z ▸ ha)
      · rw [hr, List.mem_append, List.mem_singleton]
        simp
    · rw [up_ne _ _ e]
      refine ⟨a1, fun j => ?_⟩
      rw [hr]
      exact ⟨Or.inl, fun z => z.elim id (fun z => absurd z.2.symm e)⟩
  · show va_up U.2.1 k c0 j < 8
    rw [up_if]
    split
    · exact hc0
    · rename_i e
      have hb' : U.2.2 j = none := hb
      rw [h3, if_neg e] at hb'
      rw [h2]
      exact h.2.2.1 j hj hb'
  · have hb' : U.2.2 j = some x := hb
    rw [h3] at hb'
    split at hb'
    · exact absurd hb' (by simp)
    · obtain ⟨q1, q2, q3, q4, q5⟩ := h.2.2.2.1 j x hb'
      refine ⟨q1, q2, ?_, q4, q5⟩
      show U.2.2 x = none
      rw [h3]
      split
      · rfl
      · exact q3
  · have hj' : U.2.2 j = some x := hj
    have hi' : U.2.2 i = some x := hi
    rw [h3] at hj' hi'
    split at hj'
    · exact absurd hj' (by simp)
    · split at hi'
      · exact absurd hi' (by simp)
      · exact h.2.2.2.2 j i x hj' hi'
theorem sp_into_ok {k x : Nat} {U : sp_T} (h : sp_ok n s T) (hk : k < n) (hx : x < n) (hsx : s x = 2) (hsk : s k ≠ 2) (hxb : T.2.2 x = none) (hin : ∀ j, T.2.2 j ≠ some x)
    (h1 : ∀ c, c < 8 → (U.1 c).Nodup ∧ ∀ j, j ∈ U.1 c ↔ (j < n ∧ j ≠ k ∧ T.2.2 j = none ∧ T.2.1 j = c)) (h2 : U.2.1 = T.2.1) (h3 : ∀ j, U.2.2 j = if j = k then none else T.2.2 j) : sp_ok n s (U.1, U.2.1, va_up U.2.2 k (some x)) := by
  have hr : ∀ j, va_up U.2.2 k (some x) j = if j = k then some x else T.2.2 j := by
    intro j
    rw [up_if, h3]
    split <;> rfl
  refine ⟨h.1, fun c hc => ?_, fun j hj hb => ?_, fun j y hb => ?_, fun j i y hj hi => ?_⟩
  · obtain ⟨a1, a2⟩ := h1 c hc
    refine ⟨a1, fun j => ?_⟩
    show j ∈ U.1 c ↔ (j < n ∧ va_up U.2.2 k (some x) j = none ∧ U.2.1 j = c)
    rw [a2, hr, h2]
    by_cases e : j = k
    · simp [e]
    · simp [e]
  · have hb' : va_up U.2.2 k (some x) j = none := hb
    rw [hr] at hb'
    show U.2.1 j < 8
    split at hb'
    · exact absurd hb' (by simp)
    · rw [h2]
      exact h.2.2.1 j hj hb'
  · have hb' : va_up U.2.2 k (some x) j = some y := hb
    show j < n ∧ y < n ∧ va_up U.2.2 k (some x) y = none ∧ s y = 2 ∧ s j ≠ 2
    rw [hr] at hb' ⊢
    split at hb'
    · rename_i e
      have ey : x = y := Option.some.inj hb'
      subst ey
      refine ⟨e ▸ hk, hx, ?_, hsx, e ▸ hsk⟩
      rw [if_neg (fun z : x = k => hsk (z ▸ hsx))]
      exact hxb
    · obtain ⟨q1, q2, q3, q4, q5⟩ := h.2.2.2.1 j y hb'
      refine ⟨q1, q2, ?_, q4, q5⟩
      rw [if_neg (fun z : y = k => hsk (z ▸ q4))]
      exact q3
  · have hj' : va_up U.2.2 k (some x) j = some y := hj
    have hi' : va_up U.2.2 k (some x) i = some y := hi
    rw [hr] at hj' hi'
    split at hj' <;> split at hi'
    · rename_i e1 e2
      rw [e1, e2]
    · rw [← hj'] at hi'
      exact absurd hi' (hin i)
    · rw [← hi'] at hj'
      exact absurd hj' (hin j)
    · exact h.2.2.2.2 j i y hj' hi'
theorem sp_move_ok {k to : Nat} (h : sp_ok n s T) (hk : k < n) (hto : 8 ≤ to → to < 8 + n ∧ s (to - 8) = 2) (hc : sp_can n s T k to = true) : sp_ok n s (sp_move T k to) := by
  obtain ⟨a1, a2, a3⟩ := sp_take_ok h hk (sp_can_loose hc)
  unfold sp_move
  by_cases hx : 8 ≤ to
  · rw [if_pos hx]
    obtain ⟨t1, t2⟩ := hto hx
    unfold sp_can at hc
    rw [if_neg (by omega)] at hc
    simp only [Bool.and_eq_true, decide_eq_true_eq] at hc
    obtain ⟨⟨⟨c1, c2⟩, c3⟩, c4⟩ := hc
    unfold sp_clear at c3
    simp only [Bool.and_eq_true, decide_eq_true_eq, Option.isNone_iff_eq_none] at c3
    refine sp_into_ok h hk (by omega) t2 c2 c3.1 (fun j hj => ?_) a1 a2 a3
    unfold sp_inside at c4
    rw [Option.isNone_iff_eq_none, List.find?_eq_none] at c4
    exact c4 j (List.mem_range.mpr (h.2.2.2.1 j _ hj).1) (decide_eq_true hj)
  · rw [if_neg hx]
    split
    · exact sp_put_ok h hk (by omega) a1 a2 a3 (fun j hj => Or.inr ((h.2.2.2.1 j k hj).2.2.2.1))
    · exact h
theorem sp_take_len {k c : Nat} (hk : k < n) (hn : n ≤ 6) {l : List Nat} {p : Nat → Prop} (hd : l.Nodup) (hm : ∀ j, j ∈ l ↔ (j < n ∧ j ≠ k ∧ p j)) : l.length < 6 := by
  have h1 : (k :: l).Nodup := List.nodup_cons.mpr ⟨fun z => ((hm k).mp z).2.1 rfl, hd⟩
  have h2 := sp_nodup_len h1 (n := n) (fun j hj => by
    rcases List.mem_cons.mp hj with rfl | hj
    · exact hk
    · exact ((hm j).mp hj).1)
  simp at h2
  omega
end SP3
section KM3
variable {l : Launch} {S : am_M} {n t : Nat} {s : Nat → Nat} {T : sp_T}
theorem md_sa (S : am_M) (j : Nat) (i x : Int) (hx : am_r x) : md (am_sa S 0 i x) j = if j = i.toNat then x else md S j := by
  show (va_up S.2 0 (va_up (S.2 0) i.toNat (Int32.ofInt x)) 0 j).toInt = if j = i.toNat then x else (S.2 0 j).toInt
  rw [up_at, up_if]
  split
  · exact am_ti hx
  · rfl
theorem md_fr.refl (t : Nat) (S : am_M) : md_fr t S S := ⟨rfl, fun _ _ => rfl, fun _ _ => rfl⟩
theorem md_fr.trans {t : Nat} {S S1 S2 : am_M} (h : md_fr t S S1) (k : md_fr t S1 S2) : md_fr t S S2 := ⟨k.1.trans h.1, fun j hj => (k.2.1 j hj).trans (h.2.1 j hj), fun i hi => (k.2.2 i hi).trans (h.2.2 i hi)⟩
theorem md_fr.sa (t : Nat) (S : am_M) (i x : Int) (h1 : 62 * t ≤ i.toNat) (h2 : i.toNat < 62 * t + 62) : md_fr t S (am_sa S 0 i x) := ⟨rfl, fun j hj => up_ne _ _ hj, fun j hj => by
  show va_up S.2 0 _ 0 j = _
  rw [up_at]
  exact up_ne _ _ (by omega)⟩
theorem md_fr.mn {t : Nat} {S S1 : am_M} {n : Nat} {s : Nat → Nat} (h : md_fr t S S1) (k : mn_r S n s) : mn_r S1 n s := by
  unfold mn_r
  rw [h.1, h.2.1 1 (by decide)]
  exact k
theorem md_fr.md {t : Nat} {S S1 : am_M} (h : md_fr t S S1) {i : Nat} (hi : i < 62 * t ∨ 62 * t + 62 ≤ i) : md S1 i = md S i := by
  show (S1.2 0 i).toInt = (S.2 0 i).toInt
  rw [h.2.2 i hi]
theorem md_fr.tab {t u : Nat} {S S1 : am_M} {U : sp_T} (h : md_fr t S S1) (hu : u ≠ t) (k : mt_r S u U) : mt_r S1 u U := by
  refine ⟨fun c hc => ⟨?_, fun i hi => ?_⟩, fun j hj => ?_⟩
  · rw [h.md (by omega)]
    exact (k.1 c hc).1
  · rw [h.md (by omega)]
    exact (k.1 c hc).2 i hi
  · rw [h.md (by omega)]
    exact k.2 j hj
theorem km_putOn {k c : Nat} {P : am_M → Prop} (ht : t < 108) (hk : k < 6) (hc : c < 8) (hr : mt_r S t T) (hl : (T.1 c).length < 6) (hP : ∀ S', mt_r S' t (sp_put T k c) → md_fr t S S' → P S') : kX3_putOn l [am_R 0, am_I t, am_I k, am_I c] S (am_qv P) := by
  have e0 : (62 * (t : Int) + 7 * c).toNat = 62 * t + 7 * c := by omega
  have e1 : (S.2 0 (62 * (t : Int) + 7 * c).toNat).toInt = (T.1 c).length := by
    rw [e0]
    exact (hr.1 c hc).1
  have e2 : (62 * (t : Int) + 7 * c + 1 + (T.1 c).length).toNat = 62 * t + 7 * c + 1 + (T.1 c).length := by omega
  refine bX3_putOn _ (by first | exact am_rN (by omega) | exact ⟨by omega, by omega⟩ | assumption) _ (by first | exact am_rN (by omega) | exact ⟨by omega, by omega⟩ | assumption) _ (by first | exact am_rN (by omega) | exact ⟨by omega, by omega⟩ | assumption) ⟨⟨by omega, by omega⟩, ?_, ?_⟩
  · rw [e1]
    omega
  rw [e1]
  have e3 : ((am_sa S 0 (62 * (t : Int) + 7 * c + 1 + (T.1 c).length) k).2 0 (62 * (t : Int) + 7 * c).toNat).toInt = (T.1 c).length := by
    have := md_sa S (62 * t + 7 * c) (62 * (t : Int) + 7 * c + 1 + (T.1 c).length) k (am_rN (by omega))
    rw [if_neg (by omega)] at this
    rw [e0]
    exact this.trans (hr.1 c hc).1
  rw [e3]
  have em : ∀ i, md (am_sa (am_sa S 0 (62 * (t : Int) + 7 * c + 1 + (T.1 c).length) k) 0 (62 * (t : Int) + 7 * c) ((T.1 c).length + 1)) i = if i = 62 * t + 7 * c then ((T.1 c).length : Int) + 1 else if i = 62 * t + 7 * c + 1 + (T.1 c).length then (k : Int) else md S i := by
    intro i
    rw [md_sa _ _ _ _ ⟨by omega, by omega⟩, md_sa _ _ _ _ (am_rN (by omega)), e0, e2]
  refine am_qv_mk (hP _ ⟨fun d hd => ?_, fun j hj => ?_⟩ ((md_fr.sa t S _ _ (by omega) (by omega)).trans (md_fr.sa t _ _ _ (by omega) (by omega))))
  · rw [em]
    show _ = ((va_up T.1 c (T.1 c ++ [k]) d).length : Int) ∧ ∀ i, i < 6 → _ = sp_ob ((va_up T.1 c (T.1 c ++ [k]) d)[i]?)
    by_cases e : d = c
    · subst e
      rw [up_at, if_pos rfl]
      refine ⟨by simp, fun i hi => ?_⟩
      rw [em, if_neg (by omega)]
      by_cases ei : i = (T.1 d).length
      · subst ei
        rw [if_pos rfl]
        simp [sp_ob]
      · rw [if_neg (by omega), (hr.1 d hd).2 i hi]
        by_cases h2 : i < (T.1 d).length
        · rw [List.getElem?_append_left h2]
        · rw [List.getElem?_eq_none (by omega), List.getElem?_eq_none (by simp; omega)]
    · rw [up_ne _ _ e, if_neg (by omega), if_neg (by omega)]
      refine ⟨(hr.1 d hd).1, fun i hi => ?_⟩
      rw [em, if_neg (by omega), if_neg (by omega)]
      exact (hr.1 d hd).2 i hi
  · rw [em, if_neg (by omega), if_neg (by omega)]
    exact hr.2 j hj
theorem km_takeUp {k : Nat} {P : am_M → Prop} (h : mt S t n s T) (hk : k < n) (hl : sp_loose T k = true) (hP : ∀ S', mt_r S' t (sp_take T k) → md_fr t S S' → P S') : kX3_takeUp l [am_R 0, am_I t, am_I k] S (am_qv P) := by
  have hn := h.2.2.2.1
  have ht := h.1
  have hr := h.2.2.1
  refine bX3_takeUp _ (by first | exact am_rN (by omega) | exact ⟨by omega, by omega⟩ | assumption) _ (by first | exact am_rN (by omega) | exact ⟨by omega, by omega⟩ | assumption) (km_boxOf ht (by omega) hr ⟨fun hx => km_cellOf ht hr h.2.2.2 hk ?_, fun hx => ⟨by omega, ?_⟩⟩)
  · have hb := sp_ob_lt.mp hx
    obtain ⟨b1, b2, b3, b4⟩ := h.2.2.2.base hk
    have eb : sp_base T k = k := by unfold sp_base; rw [hb]; rfl
    have ec : sp_cell T k = T.2.1 k := by unfold sp_cell; rw [eb]
    rw [ec] at b3 b4 ⊢
    rw [eb] at b4
    generalize hcc : T.2.1 k = c at *
    have hcl : (T.1 c).getLast? = some k := by
      unfold sp_loose sp_clear at hl
      rw [eb, hb, hcc] at hl
      exact of_decide_eq_true hl
    have hlen := h.2.2.2.len b3
    have hpos := List.length_pos_of_mem b4
    have et : sp_take T k = (va_up T.1 c (T.1 c).dropLast, T.2.1, T.2.2) := by
      unfold sp_take
      rw [hb, hcc]
      rfl
    rw [et] at hP
    have e0 : (62 * (t : Int) + 7 * c).toNat = 62 * t + 7 * c := by omega
    have e1 : (S.2 0 (62 * (t : Int) + 7 * c).toNat).toInt = (T.1 c).length := by
      rw [e0]
      exact (hr.1 c b3).1
    have e3 : ((am_sa S 0 (62 * (t : Int) + 7 * c) ((S.2 0 (62 * (t : Int) + 7 * c).toNat).toInt - 1)).2 0 (62 * (t : Int) + 7 * c).toNat).toInt = (T.1 c).length - 1 := by
      rw [e1]
      have := md_sa S (62 * t + 7 * c) (62 * (t : Int) + 7 * c) ((T.1 c).length - 1) ⟨by omega, by omega⟩
      rw [if_pos (by omega)] at this
      rw [e0]
      exact this
    rw [e3, e1]
    have e2 : (62 * (t : Int) + 7 * c + 1 + ((T.1 c).length - 1)).toNat = 62 * t + 7 * c + (T.1 c).length := by omega
    refine ⟨⟨by omega, by omega⟩, ⟨by omega, by omega⟩, ?_⟩
    have em : ∀ i, md (am_sa (am_sa S 0 (62 * (t : Int) + 7 * c) ((T.1 c).length - 1)) 0 (62 * (t : Int) + 7 * c + 1 + ((T.1 c).length - 1)) (-1)) i = if i = 62 * t + 7 * c + (T.1 c).length then -1 else if i = 62 * t + 7 * c then ((T.1 c).length : Int) - 1 else md S i := by
      intro i
      rw [md_sa _ _ _ _ ⟨by omega, by omega⟩, md_sa _ _ _ _ ⟨by omega, by omega⟩, e0, e2]
    refine am_qv_mk (hP _ ⟨fun d hd => ?_, fun j hj => ?_⟩ ((md_fr.sa t S _ _ (by omega) (by omega)).trans (md_fr.sa t _ _ _ (by omega) (by omega))))
    · rw [em]
      show _ = ((va_up T.1 c (T.1 c).dropLast d).length : Int) ∧ ∀ i, i < 6 → _ = sp_ob ((va_up T.1 c (T.1 c).dropLast d)[i]?)
      by_cases e : d = c
      · subst e
        rw [up_at, if_neg (by omega), if_pos rfl, List.length_dropLast]
        refine ⟨by omega, fun i hi => ?_⟩
        rw [em, List.getElem?_dropLast]
        by_cases ei : i = (T.1 d).length - 1
        · rw [if_pos (by omega), if_neg (by omega)]
          rfl
        · rw [if_neg (by omega), if_neg (by omega), (hr.1 d hd).2 i hi]
          split
          · rfl
          · rw [List.getElem?_eq_none (by omega)]
      · rw [up_ne _ _ e, if_neg (by omega), if_neg (by omega)]
        refine ⟨(hr.1 d hd).1, fun i hi => ?_⟩
        rw [em, if_neg (by omega), if_neg (by omega)]
        exact (hr.1 d hd).2 i hi
    · rw [em, if_neg (by omega), if_neg (by omega)]
      exact hr.2 j hj
  · cases hb : T.2.2 k with
    | none => rw [hb] at hx; exact absurd (show sp_ob none < 0 by decide) hx
    | some x =>
      have et : sp_take T k = (T.1, T.2.1, va_up T.2.2 k none) := by
        unfold sp_take
        rw [hb]
        rfl
      rw [et] at hP
      have em : ∀ i, md (am_sa S 0 (62 * (t : Int) + 56 + k) (-1)) i = if i = 62 * t + 56 + k then -1 else md S i := by
        intro i
        rw [md_sa _ _ _ _ ⟨by omega, by omega⟩, show (62 * (t : Int) + 56 + k).toNat = 62 * t + 56 + k by omega]
      refine am_qv_mk (hP _ ⟨fun d hd => ⟨?_, fun i hi => ?_⟩, fun j hj => ?_⟩ (md_fr.sa t S _ _ (by omega) (by omega)))
      · rw [em, if_neg (by omega)]
        exact (hr.1 d hd).1
      · rw [em, if_neg (by omega)]
        exact (hr.1 d hd).2 i hi
      · rw [em]
        show _ = sp_ob (va_up T.2.2 k none j)
        by_cases e : j = k
        · subst e
          rw [up_at, if_pos rfl]
          rfl
        · rw [up_ne _ _ e, if_neg (by omega)]
          exact hr.2 j hj
theorem km_doMove {k to : Nat} {P : am_M → Prop} (h : mt S t n s T) (hk : k < n) (hto : to < 8 + n) (hs : 8 ≤ to → s (to - 8) = 2) (hc : sp_can n s T k to = true) (hP : ∀ S', mt S' t n s (sp_move T k to) → md_fr t S S' → P S') : kX3_doMove l [am_R 0, am_I t, am_I k, am_I to] S (am_qv P) := by
  have hn := h.2.2.2.1
  have ht := h.1
  have hr := h.2.2.1
  have hl := sp_can_loose hc
  have hok := sp_move_ok h.2.2.2 hk (fun z => ⟨hto, hs z⟩) hc
  obtain ⟨a1, a2, a3⟩ := sp_take_ok h.2.2.2 hk hl
  have put : to < 8 → (T.2.2 k).isSome ∨ T.2.1 k ≠ to → kX3_takeUp l [am_R 0, am_I t, am_I k] S (am_qv fun S18 => kX3_putOn l [am_R 0, am_I t, am_I k, am_I to] S18 (am_qv fun S19 => am_qv P none S19)) := by
    intro h8 hne
    have em : sp_move T k to = sp_put (sp_take T k) k to := by
      unfold sp_move
      rw [if_neg (by omega), if_pos hne]
    rw [em] at hP hok
    refine km_takeUp h hk hl (fun S1 r1 f1 => km_putOn ht (by omega) h8 r1 ?_ (fun S2 r2 f2 => am_qv_mk (hP _ ⟨ht, (f1.trans f2).mn h.2.1, r2, hok⟩ (f1.trans f2))))
    exact sp_take_len (c := to) hk hn (a1 to h8).1 (a1 to h8).2
  refine bX3_doMove _ (by first | exact am_rN (by omega) | exact ⟨by omega, by omega⟩ | assumption) _ (by first | exact am_rN (by omega) | exact ⟨by omega, by omega⟩ | assumption) _ (by first | exact am_rN (by omega) | exact ⟨by omega, by omega⟩ | assumption) ⟨fun h8 => km_boxOf ht (by omega) hr ⟨fun hx => put (by omega) (Or.inl ?_), fun hx => km_cellOf ht hr h.2.2.2 hk ⟨fun he => ?_, fun hne => put (by omega) (Or.inr ?_)⟩⟩, fun h8 => ?_⟩
  · cases hb : T.2.2 k with
    | none => rw [hb] at hx; exact absurd hx (by decide)
    | some x => rfl
  · have hb : T.2.2 k = none := sp_ob_lt.mp (by omega)
    have eb : sp_base T k = k := by unfold sp_base; rw [hb]; rfl
    have ec : sp_cell T k = T.2.1 k := by unfold sp_cell; rw [eb]
    rw [ec] at he
    have em : sp_move T k to = T := by
      unfold sp_move
      rw [if_neg (by omega), if_neg]
      rw [hb]
      exact fun z => z.elim (fun z => by simp at z) (fun z => z (by omega))
    rw [em] at hP
    exact am_qv_mk (hP _ h (md_fr.refl t S))
  · have hb : T.2.2 k = none := sp_ob_lt.mp (by omega)
    have eb : sp_base T k = k := by unfold sp_base; rw [hb]; rfl
    have ec : sp_cell T k = T.2.1 k := by unfold sp_cell; rw [eb]
    rw [ec] at hne
    omega
  · have em : sp_move T k to = ((sp_take T k).1, (sp_take T k).2.1, va_up (sp_take T k).2.2 k (some (to - 8))) := by
      unfold sp_move
      rw [if_pos (by omega)]
    rw [em] at hP hok
    refine km_takeUp h hk hl (fun S1 r1 f1 => ⟨by omega, ?_⟩)
    have ex : (to : Int) - 8 = ((to - 8 : Nat) : Int) := by omega
    rw [ex]
    have em : ∀ i, md (am_sa S1 0 (62 * (t : Int) + 56 + k) ((to - 8 : Nat) : Int)) i = if i = 62 * t + 56 + k then ((to - 8 : Nat) : Int) else md S1 i := by
      intro i
      rw [md_sa _ _ _ _ (am_rN (by omega)), show (62 * (t : Int) + 56 + k).toNat = 62 * t + 56 + k by omega]
    have f2 := md_fr.sa t S1 (62 * (t : Int) + 56 + k) ((to - 8 : Nat) : Int) (by omega) (by omega)
    refine am_qv_mk (hP _ ⟨ht, (f1.trans f2).mn h.2.1, ⟨fun d hd => ⟨?_, fun i hi => ?_⟩, fun j hj => ?_⟩, hok⟩ (f1.trans f2))
    · rw [em, if_neg (by omega)]
      exact (r1.1 d hd).1
    · rw [em, if_neg (by omega)]
      exact (r1.1 d hd).2 i hi
    · rw [em]
      show _ = sp_ob (va_up (sp_take T k).2.2 k (some (to - 8)) j)
      by_cases e : j = k
      · subst e
        rw [up_at, if_pos rfl]
        rfl
      · rw [up_ne _ _ e, if_neg (by omega)]
        exact r1.2 j hj
end KM3
