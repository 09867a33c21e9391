/-! THE TABLE: piles by cells; the cell of a thing that is on a pile; the box of a thing -/
abbrev sp_T : Type := (Nat → List Nat) × (Nat → Nat) × (Nat → Option Nat)
def sp_ob (o : Option Nat) : Int := match o with
  | none => -1
  | some x => x
def sp_on (o : Option Nat) : Int := match o with
  | none => -1000000
  | some x => x
/-- a table with n things, of the sorts s (2: a box) -/
def sp_ok (n : Nat) (s : Nat → Nat) (T : sp_T) : Prop :=
  n ≤ 6 ∧ (∀ c, c < 8 → (T.1 c).Nodup ∧ ∀ k, k ∈ T.1 c ↔ (k < n ∧ T.2.2 k = none ∧ T.2.1 k = c)) ∧
  (∀ k, k < n → T.2.2 k = none → T.2.1 k < 8) ∧
  (∀ k x, T.2.2 k = some x → k < n ∧ x < n ∧ T.2.2 x = none ∧ s x = 2 ∧ s k ≠ 2) ∧
  (∀ k j x, T.2.2 k = some x → T.2.2 j = some x → k = j)
def sp_base (T : sp_T) (k : Nat) : Nat := (T.2.2 k).getD k
def sp_cell (T : sp_T) (k : Nat) : Nat := T.2.1 (sp_base T k)
def sp_below (T : sp_T) (k : Nat) : Nat := (T.1 (T.2.1 k)).idxOf k
def sp_clear (T : sp_T) (k : Nat) : Bool := (T.2.2 k).isNone && decide ((T.1 (T.2.1 k)).getLast? = some k)
def sp_loose (T : sp_T) (k : Nat) : Bool := sp_clear T (sp_base T k)
def sp_inside (n : Nat) (T : sp_T) (x : Nat) : Option Nat := (List.range n).find? (fun k => decide (T.2.2 k = some x))
def sp_can (n : Nat) (s : Nat → Nat) (T : sp_T) (k to : Nat) : Bool := if to < 8 then sp_loose T k else sp_loose T k && decide (s k ≠ 2) && sp_clear T (to - 8) && (sp_inside n T (to - 8)).isNone
def sp_take (T : sp_T) (k : Nat) : sp_T := if (T.2.2 k).isSome then (T.1, T.2.1, va_up T.2.2 k none) else (va_up T.1 (T.2.1 k) (T.1 (T.2.1 k)).dropLast, T.2.1, T.2.2)
def sp_put (T : sp_T) (k c : Nat) : sp_T := (va_up T.1 c (T.1 c ++ [k]), va_up T.2.1 k c, T.2.2)
def sp_move (T : sp_T) (k to : Nat) : sp_T := if 8 ≤ to then ((sp_take T k).1, (sp_take T k).2.1, va_up (sp_take T k).2.2 k (some (to - 8))) else if (T.2.2 k).isSome ∨ T.2.1 k ≠ to then sp_put (sp_take T k) k to else T
def sp_near (c d : Nat) : Bool := decide ((c / 4 = d / 4 ∧ (c + 1 = d ∨ d + 1 = c)) ∨ (c % 4 = d % 4 ∧ c / 4 ≠ d / 4))
theorem sp_find_some {n k : Nat} {p : Nat → Bool} (hk : k < n) (hp : p k = true) (hl : ∀ j, j < k → p j = false) : (List.range n).find? p = some k := by
  rw [List.find?_range_eq_some]
  exact ⟨hp, List.mem_range.mpr hk, fun j hj => by simp [hl j hj]⟩
theorem sp_find_none {n : Nat} {p : Nat → Bool} (hl : ∀ j, j < n → p j = false) : (List.range n).find? p = none := by
  rw [List.find?_eq_none]
  intro x hx
  simp [hl x (List.mem_range.mp hx)]
theorem sp_nodup_len {n : Nat} {l : List Nat} (h : l.Nodup) (hl : ∀ k, k ∈ l → k < n) : l.length ≤ n := by
  induction n generalizing l with
  | zero =>
    cases l with
    | nil => exact Nat.le_refl _
    | cons x l => exact absurd (hl x (List.mem_cons_self)) (Nat.not_lt_zero _)
  | succ n ih =>
    have h1 : (l.erase n).Nodup := h.erase n
    have h2 := ih h1 (fun k hk => by
      have := (h.mem_erase_iff.mp hk)
      have := hl k this.2
      omega)
    have h3 : l.length ≤ (l.erase n).length + 1 := by
      rw [List.length_erase]
      split <;> omega
    omega
theorem sp_ok.len {n : Nat} {s : Nat → Nat} {T : sp_T} (h : sp_ok n s T) {c : Nat} (hc : c < 8) : (T.1 c).length ≤ n := sp_nodup_len (h.2.1 c hc).1 (fun k hk => (((h.2.1 c hc).2 k).mp hk).1)
theorem sp_ok.base {n : Nat} {s : Nat → Nat} {T : sp_T} (h : sp_ok n s T) {k : Nat} (hk : k < n) : sp_base T k < n ∧ T.2.2 (sp_base T k) = none ∧ sp_cell T k < 8 ∧ sp_base T k ∈ T.1 (sp_cell T k) := by
  have h1 : sp_base T k < n ∧ T.2.2 (sp_base T k) = none := by
    unfold sp_base
    cases hb : T.2.2 k with
    | none => exact ⟨hk, hb⟩
    | some x => exact ⟨(h.2.2.2.1 k x hb).2.1, (h.2.2.2.1 k x hb).2.2.1⟩
  have h2 : sp_cell T k < 8 := h.2.2.1 _ h1.1 h1.2
  exact ⟨h1.1, h1.2, h2, ((h.2.1 _ h2).2 _).mpr ⟨h1.1, h1.2, rfl⟩⟩
def sp_hasNear (s : Nat → Nat) (T : sp_T) (c b : Nat) : Bool := (List.range 8).any (fun d => sp_near c d && (T.1 d).any (fun k => s k == b))
def sp_told (s : Nat → Nat) (T : sp_T) (k rel b : Nat) : Bool := if rel = 1 then (T.2.2 k).isSome && b == 2 else if (T.2.2 k).isSome then false else if rel = 0 then decide (0 < sp_below T k) && ((T.1 (T.2.1 k))[sp_below T k - 1]?.map s == some b) else decide (sp_below T k = 0) && sp_hasNear s T (T.2.1 k) b
def sp_free (T : sp_T) (c : Nat) : Option Nat := (List.range 8).find? (fun d => sp_near c d && (T.1 d).isEmpty)
def sp_goal (n : Nat) (s : Nat → Nat) (T : sp_T) (k rel b : Nat) : Option Nat :=
  if rel = 1 then ((List.range n).find? (fun o => b == 2 && (s o == 2) && sp_clear T o && (sp_inside n T o).isNone)).map (8 + ·)
  else if rel = 0 then ((List.range n).find? (fun o => (o != k) && (s o == b) && sp_clear T o)).map T.2.1
  else ((List.range n).find? (fun o => (o != k) && (s o == b) && (T.2.2 o).isNone)).bind (fun o => sp_free T (T.2.1 o))
def sp_put1 (n : Nat) (s : Nat → Nat) (T : sp_T) (k rel b : Nat) : Option sp_T := (sp_goal n s T k rel b).bind (fun to => if sp_can n s T k to = true then some (sp_move T k to) else none)
/-- an order, from the thing n - m on -/
def sp_do (n : Nat) (s : Nat → Nat) (a rel b : Nat) (odd : Bool) : Nat → sp_T → Nat → Nat → Option Nat × sp_T
  | 0, T, put, such => (if odd = true ∧ (such = 0 ∨ put ≠ 0) then some put else none, T)
  | m + 1, T, put, such =>
    if s (n - (m + 1)) = a ∧ sp_told s T (n - (m + 1)) rel b = false then
      if odd = true then match sp_put1 n s T (n - (m + 1)) rel b with
        | none => sp_do n s a rel b odd m T put (such + 1)
        | some T' => sp_do n s a rel b odd m T' (put + 1) (such + 1)
      else if sp_loose T (n - (m + 1)) = true then match sp_put1 n s T (n - (m + 1)) rel b with
        | none => (none, T)
        | some T' => (some 1, T')
      else sp_do n s a rel b odd m T put such
    else sp_do n s a rel b odd m T put such
def sp_order (n : Nat) (s : Nat → Nat) (T : sp_T) (o : Nat) : Option Nat × sp_T := sp_do n s (o / 2 % 4) (o / 8 % 3) (o / 24) (decide (o % 2 = 1)) n T 0 0
def sp_same (n : Nat) (T T' : sp_T) : Bool := (List.range 8).all (fun c => T.1 c == T'.1 c) && (List.range n).all (fun k => T.2.2 k == T'.2.2 k)
theorem sp_idx {k : Nat} {l : List Nat} (h : k ∈ l) : l[l.idxOf k]? = some k ∧ ∀ j, j < l.idxOf k → l[j]? ≠ some k := by
  induction l with
  | nil => exact absurd h (List.not_mem_nil)
  | cons x l ih =>
    rw [List.idxOf_cons]
    by_cases hx : x = k
    · subst hx
      simp
    · have hm : k ∈ l := by
        rcases List.mem_cons.mp h with rfl | h
        · exact absurd rfl hx
        · exact h
      have hx' : (x == k) = false := by simp [hx]
      rw [hx']
      refine ⟨by simpa using (ih hm).1, fun j hj => ?_⟩
      cases j with
      | zero => simpa using hx
      | succ j => simpa using (ih hm).2 j (by simpa using hj)
theorem sp_idx_lt {k : Nat} {l : List Nat} (h : k ∈ l) : l.idxOf k < l.length := List.idxOf_lt_length_of_mem h
theorem sp_near_f : ∀ c d : Fin 8, ((((((c.val : Int) % 4) - ((d.val : Int) % 4)) * (((c.val : Int) % 4) - ((d.val : Int) % 4))) + ((((c.val : Int) / 4) - ((d.val : Int) / 4)) * (((c.val : Int) / 4) - ((d.val : Int) / 4)))) = 1 ↔ sp_near c.val d.val = true) ∧ 0 ≤ ((((((c.val : Int) % 4) - ((d.val : Int) % 4)) * (((c.val : Int) % 4) - ((d.val : Int) % 4))) + ((((c.val : Int) / 4) - ((d.val : Int) / 4)) * (((c.val : Int) / 4) - ((d.val : Int) / 4))))) ∧ ((((((c.val : Int) % 4) - ((d.val : Int) % 4)) * (((c.val : Int) % 4) - ((d.val : Int) % 4))) + ((((c.val : Int) / 4) - ((d.val : Int) / 4)) * (((c.val : Int) / 4) - ((d.val : Int) / 4))))) < 100 := by decide
theorem sp_near_nat {c d : Nat} (hc : c < 8) (hd : d < 8) : ((((((c : Int) % 4) - ((d : Int) % 4)) * (((c : Int) % 4) - ((d : Int) % 4))) + ((((c : Int) / 4) - ((d : Int) / 4)) * (((c : Int) / 4) - ((d : Int) / 4)))) = 1 ↔ sp_near c d = true) ∧ am_r ((((((c : Int) % 4) - ((d : Int) % 4)) * (((c : Int) % 4) - ((d : Int) % 4))) + ((((c : Int) / 4) - ((d : Int) / 4)) * (((c : Int) / 4) - ((d : Int) / 4))))) := by
  have h := sp_near_f ⟨c, hc⟩ ⟨d, hd⟩
  exact ⟨h.1, ⟨Int.le_trans (by decide) h.2.1, Int.lt_trans h.2.2 (by decide)⟩⟩
