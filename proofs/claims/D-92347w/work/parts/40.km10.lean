section KM10
variable {l : Launch} {S : am_M} {Z : sp_Z}
/-- the tables that orders gave -/
def mg (S : am_M) (Z : sp_Z) (G : List sp_T) : Prop := ∀ k U, G[k]? = some U → mt_r S (12 + k) U ∧ sp_ok (zn Z) (zs Z) U
theorem mg.fr {S' : am_M} {t : Nat} {G : List sp_T} (h : mg S Z G) (f : md_fr t S S') (ht : t < 12 ∨ 12 + G.length ≤ t) : mg S' Z G := fun k U hk => ⟨f.tab (by
  have := (List.getElem?_eq_some_iff.mp hk).1
  omega) (h k U hk).1, (h k U hk).2⟩
theorem z_unl_le {T : sp_T} (m : Nat) (G : List sp_T) (f : Nat) (hf : f ≤ 1) : z_unl Z T m G f ≤ G.length + m + 1 := by
  induction m generalizing G f with
  | zero =>
    rw [z_unl]
    omega
  | succ m ih =>
    rw [z_unl]
    split
    · split
      · have := ih G 1 (Nat.le_refl _)
        omega
      · split
        · have := ih G f hf
          omega
        · rename_i T' _ _
          have := ih (G ++ [T']) f hf
          rw [List.length_append, List.length_singleton] at this
          omega
    · have := ih G f hf
      omega
theorem km_unlike_66 {t o j f : Nat} {v : Bool} {G : List sp_T} {T' : sp_T} {P : Int → am_M → Prop} (hz : mr S Z) (hg : mg S Z G) (hT : mt_r S (12 + G.length) T') (hok : sp_ok (zn Z) (zs Z) T') (hG : G.length + 1 ≤ 96) (ht : t < zK Z) (ho : o < 96) (hf : f ≤ 1) (hj : j ≤ G.length)
    (hv : v = (G.take j).any (fun U => sp_same (zn Z) U T'))
    (n0 : G.any (fun U => sp_same (zn Z) U T') = false → VX3_unlike l (am_qi P) 7 [(0, am_R 0), (1, am_I t), (2, am_I ((G.length : Int) + 1)), (3, am_I f), (4, am_I ((o : Int) + 1))] [] S)
    (n1 : G.any (fun U => sp_same (zn Z) U T') = true → VX3_unlike l (am_qi P) 7 [(0, am_R 0), (1, am_I t), (2, am_I ((G.length : Int) + 0)), (3, am_I f), (4, am_I ((o : Int) + 1))] [] S) :
    VX3_unlike l (am_qi P) 66 [(0, am_R 0), (1, am_I t), (2, am_I G.length), (3, am_I f), (4, am_I o), (5, am_I (am_b v)), (6, am_I j)] [] S := by
  have hK := hz.K8
  generalize hm : G.length - j = m
  have hv1 : v = true → G.any (fun U => sp_same (zn Z) U T') = true := by
    intro q
    rw [hv, List.any_eq_true] at q
    obtain ⟨x, hx, hx2⟩ := q
    exact List.any_eq_true.mpr ⟨x, List.mem_of_mem_take hx, hx2⟩
  have hvr : am_r (am_b v) := by cases v <;> exact ⟨by decide, by decide⟩
  induction m generalizing j v with
  | zero =>
    have hvf : v = false → G.any (fun U => sp_same (zn Z) U T') = false := by
      intro q
      rw [hv, List.take_of_length_le (by omega)] at q
      exact q
    refine bX3_unlike_66 _ (by first | exact am_rN (by omega) | exact ⟨by omega, by omega⟩ | assumption) _ (by first | exact am_rN (by omega) | exact ⟨by omega, by omega⟩ | assumption) _ (by first | exact am_rN (by omega) | exact ⟨by omega, by omega⟩ | assumption) _ (by first | exact am_rN (by omega) | exact ⟨by omega, by omega⟩ | assumption) _ (by first | exact am_rN (by omega) | exact ⟨by omega, by omega⟩ | assumption) _ (by first | exact am_rN (by omega) | exact ⟨by omega, by omega⟩ | assumption) ⟨fun _ => ⟨fun h0 => n0 (hvf ?_), fun h0 => n1 (hv1 ?_)⟩, fun z => absurd z (by omega)⟩
    · cases v with
      | false => rfl
      | true => exact absurd h0 (by decide)
    · cases v with
      | true => rfl
      | false => exact absurd rfl h0
  | succ m ih =>
    have hjl : j < G.length := by omega
    have hx := List.getElem?_eq_getElem hjl
    obtain ⟨g1, g2⟩ := hg j _ hx
    refine bX3_unlike_66 _ (by first | exact am_rN (by omega) | exact ⟨by omega, by omega⟩ | assumption) _ (by first | exact am_rN (by omega) | exact ⟨by omega, by omega⟩ | assumption) _ (by first | exact am_rN (by omega) | exact ⟨by omega, by omega⟩ | assumption) _ (by first | exact am_rN (by omega) | exact ⟨by omega, by omega⟩ | assumption) _ (by first | exact am_rN (by omega) | exact ⟨by omega, by omega⟩ | assumption) _ (by first | exact am_rN (by omega) | exact ⟨by omega, by omega⟩ | assumption) ⟨fun z => absurd z (by omega), fun _ => ⟨fun h0 => ⟨fun z => absurd z h0, fun _ => n1 (hv1 ?_)⟩, fun h0 => ?_⟩⟩
    · cases v with
      | true => rfl
      | false => exact absurd rfl h0
    · have hvf : v = false := by
        cases v with
        | false => rfl
        | true => exact absurd h0 (by decide)
      rw [show (12 + (j : Int)) = ((12 + j : Nat) : Int) by omega, show (12 + (G.length : Int)) = ((12 + G.length : Nat) : Int) by omega]
      refine km_isSame (by omega) (by omega) g1 hT g2 hok ?_
      have e : sp_same (zn Z) G[j] T' = (G.take (j + 1)).any (fun U => sp_same (zn Z) U T') := by
        rw [List.take_add_one, hx, List.any_append, ← hv, hvf]
        simp
      refine ih (j := j + 1) (by omega) e (by omega) (fun q => ?_) ?_
      · exact List.any_eq_true.mpr ⟨G[j], List.getElem_mem hjl, q⟩
      · cases sp_same (zn Z) G[j] T' <;> exact ⟨by decide, by decide⟩
theorem km_unlike_7 {t m f : Nat} {G : List sp_T} {P : Int → am_M → Prop} (h : mr S Z) (hg : mg S Z G) (ht : t < zK Z) (hm : m ≤ 96) (hf : f ≤ 1) (hG : G.length + m ≤ 96) (hP : ∀ S', mr S' Z → P (z_unl Z (zKT Z t) m G f : Nat) S') :
    VX3_unlike l (am_qi P) 7 [(0, am_R 0), (1, am_I t), (2, am_I G.length), (3, am_I f), (4, am_I (96 - m : Nat))] [] S := by
  have hK := h.K8
  induction m generalizing S G f with
  | zero =>
    refine bX3_unlike_7 _ (by first | exact am_rN (by omega) | exact ⟨by omega, by omega⟩ | assumption) _ (by first | exact am_rN (by omega) | exact ⟨by omega, by omega⟩ | assumption) _ (by first | exact am_rN (by omega) | exact ⟨by omega, by omega⟩ | assumption) _ (by first | exact am_rN (by omega) | exact ⟨by omega, by omega⟩ | assumption) ⟨fun _ => ?_, fun z => absurd z (by omega)⟩
    have hP := hP _ h
    rw [z_unl] at hP
    rw [show ((G.length : Int) + f) = ((G.length + f : Nat) : Int) by omega]
    exact am_qi_mk (am_rN (by omega)) hP
  | succ m ih =>
    rw [z_unl] at hP
    have eo : ((96 - (m + 1) : Nat) : Int) + 1 = ((96 - m : Nat) : Int) := by omega
    refine bX3_unlike_7 _ (by first | exact am_rN (by omega) | exact ⟨by omega, by omega⟩ | assumption) _ (by first | exact am_rN (by omega) | exact ⟨by omega, by omega⟩ | assumption) _ (by first | exact am_rN (by omega) | exact ⟨by omega, by omega⟩ | assumption) _ (by first | exact am_rN (by omega) | exact ⟨by omega, by omega⟩ | assumption) ⟨fun z => absurd z (by omega), fun _ => km_standing h (km_barredBy h (by omega) (fun S1 h1 f1 => ⟨fun h2 => ?_, fun h2 => ?_⟩))⟩
    · have e : (z_barredBy Z (96 - (m + 1))).isNone = false := by
        cases q : z_barredBy Z (96 - (m + 1)) with
        | none => rw [q] at h2; exact absurd rfl h2
        | some x => rfl
      rw [e, if_neg (by decide)] at hP
      rw [eo]
      exact ih h1 (hg.fr f1 (Or.inl (by decide))) (by omega) hf (by omega) hP
    · have e : (z_barredBy Z (96 - (m + 1))).isNone = true := by
        cases q : z_barredBy Z (96 - (m + 1)) with
        | none => rfl
        | some x => rw [q] at h2; exact absurd h2 (show ¬ (x : Int) = -1000000 by omega)
      rw [e, if_pos rfl] at hP
      rw [show ((t : Int) + 1) = ((t + 1 : Nat) : Int) by omega, show (12 + (G.length : Int)) = ((12 + G.length : Nat) : Int) by omega]
      refine km_copyTable (a := t + 1) (b := 12 + G.length) (by omega) (by omega) (by omega) (h1.tk ht).2.2.1 (fun S2 r2 f2 => ?_)
      have h2' := h1.fr f2 (by omega)
      refine km_doOrder (t := 12 + G.length) ⟨by omega, h2'.mn, r2, (h1.tk ht).2.2.2⟩ (by omega) (fun r T' S3 he m3 f3 => ?_)
      have h3 := h2'.fr f3 (by omega)
      have hg3 : mg S3 Z G := ((hg.fr f1 (Or.inl (by decide))).fr f2 (Or.inr (Nat.le_refl _))).fr f3 (Or.inr (Nat.le_refl _))
      rw [he] at hP
      cases r with
      | none =>
        refine ⟨fun z => absurd rfl z, fun _ => ?_⟩
        rw [eo]
        exact ih (f := 1) h3 hg3 (by omega) (Nat.le_refl _) (by omega) hP
      | some x =>
        refine ⟨fun _ => ?_, fun z => absurd z (show ¬ (x : Int) = -1000000 by omega)⟩
        have hP : ∀ S', mr S' Z → P ((if G.any (fun U => sp_same (zn Z) U T') = true then z_unl Z (zKT Z t) m G f else z_unl Z (zKT Z t) m (G ++ [T']) f : Nat)) S' := hP
        refine km_unlike_66 (j := 0) (v := false) h3 hg3 m3.2.2.1 m3.2.2.2 (by omega) ht (by omega) hf (Nat.zero_le _) rfl (fun q => ?_) (fun q => ?_)
        · rw [q, if_neg (by decide)] at hP
          rw [eo, show ((G.length : Int) + 1) = ((G ++ [T']).length : Int) by rw [List.length_append, List.length_singleton]; omega]
          refine ih (G := G ++ [T']) h3 (fun k U hk => ?_) (by omega) hf (by rw [List.length_append, List.length_singleton]; omega) hP
          by_cases e : k < G.length
          · rw [List.getElem?_append_left e] at hk
            exact hg3 k U hk
          · have hk2 := (List.getElem?_eq_some_iff.mp hk).1
            rw [List.length_append, List.length_singleton] at hk2
            have ek : k = G.length := by omega
            subst ek
            simp at hk
            subst hk
            exact ⟨m3.2.2.1, m3.2.2.2⟩
        · rw [q, if_pos rfl] at hP
          rw [eo, show ((G.length : Int) + 0) = (G.length : Int) by omega]
          exact ih h3 hg3 (by omega) hf (by omega) hP
theorem km_unlike {t : Nat} {P : Int → am_M → Prop} (h : mr S Z) (ht : t < zK Z) (hP : ∀ S', mr S' Z → P (z_unl Z (zKT Z t) 96 [] 0 : Nat) S') : kX3_unlike l [am_R 0, am_I t] S (am_qi P) := by
  have hK := h.K8
  exact bX3_unlike _ (by first | exact am_rN (by omega) | exact ⟨by omega, by omega⟩ | assumption) (km_unlike_7 (m := 96) (G := []) (f := 0) h (fun k U hk => absurd hk (by simp)) ht (Nat.le_refl _) (by decide) (by decide) hP)
theorem km_question_26 {w b y : Int} {m : Nat} {P : Int → am_M → Prop} (h : mr S Z) (hw : w = 0 ∨ w = 1) (hm : m ≤ zK Z) (hb : b = -1000000 ∨ 0 ≤ b ∧ b ≤ 8) (hy : 0 ≤ y ∧ y ≤ 100) (hP : ∀ S', mr S' Z → P (if w = 0 then (z_que Z m b y).1 else (z_que Z m b y).2) S') :
    VX3_question l (am_qi P) 26 [(0, am_R 0), (1, am_I w), (2, am_I b), (3, am_I y), (4, am_I (zK Z - m : Nat))] [] S := by
  have hK := h.K8
  induction m generalizing S b y with
  | zero =>
    have eK := h.eK
    have hP := hP _ h
    rw [z_que] at hP
    refine bX3_question_26 _ (by first | exact am_rN (by omega) | exact ⟨by omega, by omega⟩ | assumption) _ (by first | exact am_rN (by omega) | exact ⟨by omega, by omega⟩ | assumption) _ (by first | exact am_rN (by omega) | exact ⟨by omega, by omega⟩ | assumption) _ (by first | exact am_rN (by omega) | exact ⟨by omega, by omega⟩ | assumption) ⟨fun _ => ⟨fun h1 => ?_, fun h1 => ?_⟩, fun z => absurd z (by omega)⟩
    · rw [if_neg h1] at hP
      exact am_qi_mk ⟨by omega, by omega⟩ hP
    · rw [if_pos h1] at hP
      exact am_qi_mk ⟨by omega, by omega⟩ hP
  | succ m ih =>
    have eK := h.eK
    rw [z_que] at hP
    have eo : ((zK Z - (m + 1) : Nat) : Int) + 1 = ((zK Z - m : Nat) : Int) := by omega
    have hu := z_unl_le (Z := Z) (T := zKT Z (zK Z - (m + 1))) 96 [] 0 (by decide)
    simp only [List.length_nil] at hu
    refine bX3_question_26 _ (by first | exact am_rN (by omega) | exact ⟨by omega, by omega⟩ | assumption) _ (by first | exact am_rN (by omega) | exact ⟨by omega, by omega⟩ | assumption) _ (by first | exact am_rN (by omega) | exact ⟨by omega, by omega⟩ | assumption) _ (by first | exact am_rN (by omega) | exact ⟨by omega, by omega⟩ | assumption) ⟨fun z => absurd z (by omega), fun _ => km_unlike h (by omega) (fun S1 h1 => ⟨fun h2 => ?_, fun h2 => ⟨fun h3 => ?_, fun h3 => ?_⟩⟩)⟩
    · rw [if_pos (Or.inl h2)] at hP
      rw [eo]
      exact ih h1 (by omega) (by omega) (by omega) hP
    · rw [if_neg (show ¬ (b = -1000000 ∨ y < (z_unl Z (zKT Z (zK Z - (m + 1))) 96 [] 0 : Nat)) by omega)] at hP
      rw [eo]
      exact ih h1 (by omega) hb hy hP
    · rw [if_pos (Or.inr (by omega))] at hP
      rw [eo]
      exact ih h1 (by omega) (by omega) (by omega) hP
theorem km_question {w : Int} {P : Int → am_M → Prop} (h : mr S Z) (hw : am_r w) (hP : ∀ S', mr S' (zo_question Z w).2 → P (zo_question Z w).1 S') : kX3_question l [am_R 0, am_I w] S (am_qi P) := by
  unfold zo_question at hP
  refine bX3_question _ (by first | exact am_rN (by omega) | exact ⟨by omega, by omega⟩ | assumption) (km_in ⟨fun h1 => ?_, fun h1 => ?_⟩)
  · have h1 := of_decide_eq_true h1
    rw [if_pos h1] at hP
    have := km_question_26 (l := l) (m := zK Z) (b := -1000000) (y := 0) (w := w) h.th (by omega) (Nat.le_refl _) (by omega) (by omega) hP
    rw [Nat.sub_self] at this
    exact this
  · have h1 := of_decide_eq_false h1
    rw [if_neg h1] at hP
    exact am_qi_mk ⟨by decide, by decide⟩ (hP _ h.th)
theorem sp_bits_le (x m : Nat) : sp_bits x m ≤ m := by
  induction m with
  | zero => exact Nat.le_refl _
  | succ m ih =>
    rw [sp_bits]
    split <;> omega
theorem km_bits_4 {x k : Nat} {P : Int → am_M → Prop} (hx : x < 256) (hk : k ≤ 8) (hP : P (sp_bits x 8 : Nat) S) : VX3_bits l (am_qi P) 4 [(0, am_I x), (1, am_I (sp_bits x k : Nat)), (2, am_I k)] [] S := by
  have hle := sp_bits_le x k
  generalize hm : 8 - k = m
  induction m generalizing k with
  | zero =>
    have e : k = 8 := by omega
    subst e
    exact bX3_bits_4 _ (by first | exact am_rN (by omega) | exact ⟨by omega, by omega⟩ | assumption) _ (by first | exact am_rN (by omega) | exact ⟨by omega, by omega⟩ | assumption) _ (by first | exact am_rN (by omega) | exact ⟨by omega, by omega⟩ | assumption) ⟨fun _ => am_qi_mk (am_rN (by omega)) hP, fun z => absurd z (by omega)⟩
  | succ m ih =>
    have := ih (k := k + 1) (by omega) (sp_bits_le _ _) (by omega)
    refine bX3_bits_4 _ (by first | exact am_rN (by omega) | exact ⟨by omega, by omega⟩ | assumption) _ (by first | exact am_rN (by omega) | exact ⟨by omega, by omega⟩ | assumption) _ (by first | exact am_rN (by omega) | exact ⟨by omega, by omega⟩ | assumption) ⟨fun z => absurd z (by omega), fun _ => ?_⟩
    rw [bt_nat hx (by omega)]
    rw [sp_bits] at this
    by_cases q : x.testBit k = true
    · rw [if_pos q] at this ⊢
      exact this
    · rw [if_neg q] at this ⊢
      exact this
theorem km_bits {x : Nat} {P : Int → am_M → Prop} (hx : x < 256) (hP : P (sp_bits x 8 : Nat) S) : kX3_bits l [am_I x] S (am_qi P) :=
  bX3_bits _ (by first | exact am_rN (by omega) | exact ⟨by omega, by omega⟩ | assumption) (km_bits_4 (k := 0) hx (by decide) hP)
theorem z_off_lt (h : zL Z ≤ 8) (o : Nat) : z_off Z o < 256 := Nat.lt_of_lt_of_le (sp_set_lt _ _) (show 2 ^ zL Z ≤ 2 ^ 8 from Nat.pow_le_pow_right (by decide) h)
theorem km_quarrel_26 {b o k : Nat} {P : Int → am_M → Prop} (h : mr S Z) (hb : b < 256) (ho : o < 96) (hk : k ≤ zL Z)
    (next : ∀ S', mr S' Z → VX3_quarrel l (am_qi P) 14 [(0, am_R 0), (1, am_I (z_stand Z)), (2, am_I (if sp_bits (z_off Z o) 8 < sp_bits b 8 ∨ sp_bits (z_off Z o) 8 = sp_bits b 8 ∧ z_off Z o < b then z_off Z o else b : Nat)), (3, am_I ((o : Int) + 1))] [] S') :
    VX3_quarrel l (am_qi P) 26 [(0, am_R 0), (1, am_I (z_stand Z)), (2, am_I b), (3, am_I o), (4, am_I (sp_set (z_bars Z o) k : Nat)), (5, am_I k)] [] S := by
  have L8 := h.L8
  have hst : z_stand Z < 256 := Nat.lt_of_lt_of_le (sp_set_lt _ _) (show 2 ^ zL Z ≤ 2 ^ 8 from Nat.pow_le_pow_right (by decide) L8)
  have hlt : ∀ k, k ≤ zL Z → sp_set (z_bars Z o) k < 256 := fun k hk => Nat.lt_of_lt_of_le (sp_set_lt _ _) (show 2 ^ k ≤ 2 ^ 8 from Nat.pow_le_pow_right (by decide) (by omega))
  generalize hm : zL Z - k = m
  induction m generalizing k S with
  | zero =>
    have eL := h.eL
    have e : k = zL Z := by omega
    subst e
    have h1 := hlt _ (Nat.le_refl _)
    have hn := next _ h
    rw [show z_off Z o = sp_set (z_bars Z o) (zL Z) from rfl] at hn
    refine bX3_quarrel_26 _ (by first | exact am_rN (by omega) | exact ⟨by omega, by omega⟩ | assumption) _ (by first | exact am_rN (by omega) | exact ⟨by omega, by omega⟩ | assumption) _ (by first | exact am_rN (by omega) | exact ⟨by omega, by omega⟩ | assumption) _ (by first | exact am_rN (by omega) | exact ⟨by omega, by omega⟩ | assumption) _ (by first | exact am_rN (by omega) | exact ⟨by omega, by omega⟩ | assumption) ⟨fun _ => km_bits h1 (km_bits hb ⟨fun h2 => ?_, fun h2 => km_bits h1 (km_bits hb ⟨fun h3 => ?_, fun h3 => ⟨fun h4 => ?_, fun h4 => ?_⟩⟩)⟩), fun z => absurd z (by omega)⟩
    · rw [if_pos (Or.inl (by omega))] at hn
      exact hn
    · rw [if_neg (by omega)] at hn
      exact hn
    · rw [if_neg (by omega)] at hn
      exact hn
    · rw [if_pos (Or.inr (by omega))] at hn
      exact hn
  | succ m ih =>
    have eL := h.eL
    have h1 := hlt k (by omega)
    have nx : ∀ S', mr S' Z → VX3_quarrel l (am_qi P) 26 [(0, am_R 0), (1, am_I (z_stand Z)), (2, am_I b), (3, am_I o), (4, am_I (sp_set (z_bars Z o) (k + 1) : Nat)), (5, am_I ((k : Int) + 1))] [] S' := fun S' m' => ih (k := k + 1) m' (by omega) (by omega)
    have no : z_bars Z o k = false → sp_set (z_bars Z o) (k + 1) = sp_set (z_bars Z o) k := by
      intro q
      rw [sp_set, q]
      rfl
    have yes : z_bars Z o k = true → sp_set (z_bars Z o) (k + 1) = sp_set (z_bars Z o) k + 2 ^ k := by
      intro q
      rw [sp_set, q]
      rfl
    refine bX3_quarrel_26 _ (by first | exact am_rN (by omega) | exact ⟨by omega, by omega⟩ | assumption) _ (by first | exact am_rN (by omega) | exact ⟨by omega, by omega⟩ | assumption) _ (by first | exact am_rN (by omega) | exact ⟨by omega, by omega⟩ | assumption) _ (by first | exact am_rN (by omega) | exact ⟨by omega, by omega⟩ | assumption) _ (by first | exact am_rN (by omega) | exact ⟨by omega, by omega⟩ | assumption) ⟨fun z => absurd z (by omega), fun _ => ?_⟩
    rw [bt_nat hst (by omega), z_stand, sp_set_bit, decide_eq_true (show k < zL Z by omega), Bool.true_and, bt_or0 h1, bt_or (by omega) (sp_set_lt _ _)]
    refine ⟨fun hs => ?_, fun hs => km_isBarring h (by omega) ho (fun S1 h1 f1 => ⟨fun hb => ?_, fun hb => ?_⟩)⟩
    · have := nx _ h
      rw [no] at this
      · exact this
      · unfold z_bars
        cases q : (zLf Z k).2.2.2.2 with
        | false => rfl
        | true => rw [q] at hs; exact absurd rfl hs
    · have := nx _ h1
      rw [no] at this
      · exact this
      · unfold z_bars
        rw [hb, Bool.and_false]
    · have hs' : (zLf Z k).2.2.2.2 = true := by
        cases q : (zLf Z k).2.2.2.2 with
        | true => rfl
        | false => rw [q] at hs; exact absurd hs (by decide)
      have := nx _ h1
      rw [yes] at this
      · exact this
      · unfold z_bars
        rw [hb, hs']
        rfl
theorem km_quarrel_14 {b m : Nat} {P : Int → am_M → Prop} (h : mr S Z) (hb : b < 256) (hm : m ≤ 96) (hP : ∀ S', mr S' Z → P (z_quar Z m b : Nat) S') :
    VX3_quarrel l (am_qi P) 14 [(0, am_R 0), (1, am_I (z_stand Z)), (2, am_I b), (3, am_I (96 - m : Nat))] [] S := by
  have L8 := h.L8
  have hst : z_stand Z < 256 := Nat.lt_of_lt_of_le (sp_set_lt _ _) (show 2 ^ zL Z ≤ 2 ^ 8 from Nat.pow_le_pow_right (by decide) L8)
  induction m generalizing b S with
  | zero =>
    have hP := hP _ h
    rw [z_quar] at hP
    exact bX3_quarrel_14 _ (by first | exact am_rN (by omega) | exact ⟨by omega, by omega⟩ | assumption) _ (by first | exact am_rN (by omega) | exact ⟨by omega, by omega⟩ | assumption) _ (by first | exact am_rN (by omega) | exact ⟨by omega, by omega⟩ | assumption) ⟨fun _ => am_qi_mk (am_rN (by omega)) hP, fun z => absurd z (by omega)⟩
  | succ m ih =>
    rw [z_quar] at hP
    have hof := z_off_lt L8 (96 - (m + 1))
    refine bX3_quarrel_14 _ (by first | exact am_rN (by omega) | exact ⟨by omega, by omega⟩ | assumption) _ (by first | exact am_rN (by omega) | exact ⟨by omega, by omega⟩ | assumption) _ (by first | exact am_rN (by omega) | exact ⟨by omega, by omega⟩ | assumption) ⟨fun z => absurd z (by omega), fun _ => km_quarrel_26 (k := 0) h hb (by omega) (Nat.zero_le _) (fun S1 h1 => ?_)⟩
    rw [show ((96 - (m + 1) : Nat) : Int) + 1 = ((96 - m : Nat) : Int) by omega]
    refine ih h1 ?_ (by omega) hP
    split
    · exact hof
    · exact hb
theorem km_quarrel {P : Int → am_M → Prop} (h : mr S Z) (hP : ∀ S', mr S' (zo_quarrel Z).2 → P (zo_quarrel Z).1 S') : kX3_quarrel l [am_R 0] S (am_qi P) := by
  have L8 := h.L8
  have hst : z_stand Z < 256 := Nat.lt_of_lt_of_le (sp_set_lt _ _) (show 2 ^ zL Z ≤ 2 ^ 8 from Nat.pow_le_pow_right (by decide) L8)
  exact bX3_quarrel (km_standing h.th (km_quarrel_14 (m := 96) h.th hst (Nat.le_refl _) hP))
end KM10
