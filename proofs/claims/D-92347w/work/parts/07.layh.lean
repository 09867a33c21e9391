/-! THE COMPONENT's STATE: a heap of numbered cells; the first ah_X numbers are what the start holds (read only) -/
/-- an object: its class's number and its fields; an array: its kind's number, its length and what it holds -/
abbrev ah_C : Type := (Nat × List am_W) ⊕ (Nat × Nat × ((Nat → Int32) ⊕ (Nat → Option Nat)))
abbrev ah_H : Type := (Nat → Option ah_C) × Nat
def ah_X : Nat := 32
def am_ty (k : Nat) : FieldType := match k with
  | 0 => .int
  | 1 => .boolean
  | 2 => .byte
  | 3 => .object "TableArms$Table"
  | 4 => .object "TableArms$Sheet"
  | 5 => .object "java/lang/Object"
  | _ => .object "java/lang/String"
theorem am_tys_at (cA : Nat → ClassId) {k : Nat} (hk : k < 7) : (am_tys cA)[k]? = some (cA k, am_ty k) := by
  match k, hk with
  | 0, _ => rfl
  | 1, _ => rfl
  | 2, _ => rfl
  | 3, _ => rfl
  | 4, _ => rfl
  | 5, _ => rfl
  | 6, _ => rfl
  | k + 7, h => exact absurd h (by omega)
theorem am_ty_ref {k : Nat} (h3 : 3 ≤ k) (h7 : k < 7) : (am_ty k).isReference = true := by
  have h : k = 3 ∨ k = 4 ∨ k = 5 ∨ k = 6 := by omega
  rcases h with rfl | rfl | rfl | rfl <;> rfl
def ah_e (G : am_X) (c : ah_C) : va_E := match c with
  | .inl o => .inr (o.1, o.2.map (am_c G.2.2.1))
  | .inr (k, n, .inl f) => .inl (G.2.1 k, n, .inl f)
  | .inr (k, n, .inr f) => .inl (G.2.1 k, n, .inr (.inr (.inr (.inr (fun j => (f j).map G.2.2.1)))))
def ah_v (G : am_X) (d : (Nat → Int32) ⊕ (Nat → Option Nat)) (j : Nat) : Value := match d with
  | .inl f => .int (f j)
  | .inr f => va_rf ((f j).map G.2.2.1)
/-- how much is known of a cell of the start -/
def ah_w (G : am_X) (i : Nat) (c : ah_C) (H : Heap) : Prop := match c with
  | .inl o => ∃ (cell : Cell) (r : vw_C), H[G.2.2.1 i]? = some cell ∧ am_cl[o.1]? = some r ∧ cell.cls = G.1.1 o.1 ∧ cell.vm.isStatics = false ∧ cell.vm ≠ .unknown ∧ ∀ (k : Nat) (v : am_W), o.2[k]? = some v → cell.slots[G.1.2 o.1 k]? = some (am_c G.2.2.1 v)
  | .inr (k, n, d) => ∃ cell : Cell, H[G.2.2.1 i]? = some cell ∧ G.2.2.2.2.1.isArrayOf cell (am_ty k) ∧ cell.vm ≠ .unknown ∧ cell.slots.size.toInt32 = Int32.ofNat n ∧ n ≤ cell.slots.size ∧ ∀ j, j < n → cell.slots[j]? = some (ah_v G d j)
/-- arrays are shorter than 2^31, of a kind that is known -/
def ah_n (c : ah_C) : Prop := match c with
  | .inl _ => True
  | .inr (k, n, _) => k < 7 ∧ n < 2147483648
def ah_at (G : am_X) (i : Nat) (c : ah_C) (H : Heap) : Prop := if ah_X ≤ i then va_at G.1 am_cl (G.2.2.1 i, ah_e G c) H else ah_w G i c H
/-- statics whose values are known, statics of which only is known that they are null or a reference -/
def ah_sta : List (String × String × String × am_W) := [("java/lang/String", "COMPACT_STRINGS", "Z", am_I 1), ("java/util/ArrayList", "DEFAULTCAPACITY_EMPTY_ELEMENTDATA", "[Ljava/lang/Object;", am_R 1), ("TableArms", "SORTED", "[Ljava/lang/String;", am_R 2), ("TableArms", "RELS", "[Ljava/lang/String;", am_R 3)]
def ah_stq : List (String × String × String) := [("java/lang/Throwable", "UNASSIGNED_STACK", "[Ljava/lang/StackTraceElement;"), ("java/lang/Throwable", "SUPPRESSED_SENTINEL", "Ljava/util/List;")]
/-- the statics and the String constants of the start: what doesn't speak of the heap of now -/
def ah_S (G : am_X) : Prop :=
  (∀ q : String × String × String × am_W, q ∈ ah_sta → va_Z q.1 q.2.1 q.2.2.1 (am_c G.2.2.1 q.2.2.2) G.2.2.2.1 G.2.2.2.2.1 G.2.2.2.2.1.heap) ∧
  (∀ q : String × String × String, q ∈ ah_stq → ∃ x : Option Nat, va_Z q.1 q.2.1 q.2.2 (am_c G.2.2.1 (am_O x)) G.2.2.2.1 G.2.2.2.2.1 G.2.2.2.2.1.heap) ∧
  (∀ i j, 4 ≤ i → i < 15 → 4 ≤ j → j < 15 → G.2.2.1 i = G.2.2.1 j → i = j) ∧
  va_Mi "[Ljava/lang/Object;" (G.2.2.1 15) G.2.2.2.2.1
def ah_r (G : am_X) (h : ah_H) (H : Heap) : Prop :=
  (∀ (i : Nat) (c : ah_C), h.1 i = some c → i < h.2 ∧ ah_at G i c H ∧ ah_n c ∧ (ah_X ≤ i → G.2.2.2.1 (G.2.2.1 i))) ∧
  (∀ j, G.2.2.1 (h.2 + j) = H.size + j) ∧ (∀ i j, ah_X ≤ i → G.2.2.1 i = G.2.2.1 j → i = j) ∧ ah_X ≤ h.2 ∧
  (∀ q, q < G.2.2.2.2.1.heap.size → H[q]? = G.2.2.2.2.1.heap[q]?) ∧ (∀ q, q < G.2.2.2.2.1.heap.size → ¬ G.2.2.2.1 q) ∧ ah_S G
theorem ah_w.kept {G : am_X} {i : Nat} {c : ah_C} {H H1 : Heap} (h : ah_w G i c H) (hq : H1[G.2.2.1 i]? = H[G.2.2.1 i]?) : ah_w G i c H1 := by
  rcases c with o | ⟨k, n, d⟩
  · obtain ⟨cell, r, h1, h2⟩ := h
    exact ⟨cell, r, hq.trans h1, h2⟩
  · obtain ⟨cell, h1, h2⟩ := h
    exact ⟨cell, hq.trans h1, h2⟩
theorem ah_at.kept {G : am_X} {i : Nat} {c : ah_C} {H H1 : Heap} (h : ah_at G i c H) (hq : H1[G.2.2.1 i]? = H[G.2.2.1 i]?) : ah_at G i c H1 := by
  unfold ah_at at h ⊢
  split
  · rename_i hx
    rw [if_pos hx] at h
    exact va_at.kept h hq
  · rename_i hx
    rw [if_neg hx] at h
    exact h.kept hq
/-- a cell of a picture holds no statics -/
theorem va_at.nst {D : va_G} {cl : List vw_C} {q : Nat × va_E} {H : Heap} {cell : Cell} (h : va_at D cl q H) (hc : H[q.1]? = some cell) : cell.vm.isStatics = false := by
  obtain ⟨a, e⟩ := q
  rcases e with ⟨cA, z⟩ | ⟨ci, fs⟩
  · have h2 : H[a]? = some (vp_cell cA z) := h
    have hc : H[a]? = some cell := hc
    rw [h2] at hc
    cases hc
    obtain ⟨n, f | f | f | f | f⟩ := z <;> rfl
  · obtain ⟨r, q1, cell', q2, q3, q4, q5⟩ := h
    have hc : H[a]? = some cell := hc
    rw [q2] at hc
    cases hc
    rw [q4]
    rfl
theorem ah_r.set {G : am_X} {h : ah_H} {H H1 : Heap} {a : Nat} {c0 c : ah_C} (hr : ah_r G h H) (hc : h.1 a = some c0) (hX : ah_X ≤ a) (hat : va_at G.1 am_cl (G.2.2.1 a, ah_e G c) H1) (hn : ah_n c) (hz : H1.size = H.size) (oq : ∀ q : Nat, q ≠ G.2.2.1 a → H1[q]? = H[q]?) : ah_r G (va_up h.1 a (some c), h.2) H1 := by
  obtain ⟨r1, r2, r3, r4, r5, r6, r7⟩ := hr
  refine ⟨fun i x hi => ?_, fun j => by rw [hz]; exact r2 j, r3, r4, fun q hq => ?_, r6, r7⟩
  · by_cases hia : i = a
    · subst hia
      simp only [va_up, if_pos] at hi
      cases hi
      exact ⟨(r1 i c0 hc).1, by unfold ah_at; rw [if_pos hX]; exact hat, hn, (r1 i c0 hc).2.2.2⟩
    · simp only [va_up, if_neg hia] at hi
      obtain ⟨s1, s2, s3⟩ := r1 i x hi
      exact ⟨s1, s2.kept (oq _ (fun z => hia (r3 a i hX z.symm).symm)), s3⟩
  · rw [oq q (fun z => r6 q hq (by rw [z]; exact (r1 a c0 hc).2.2.2 hX))]
    exact r5 q hq
theorem ah_r.push {G : am_X} {h : ah_H} {H H1 : Heap} {c : ah_C} (hr : ah_r G h H) (hat : va_at G.1 am_cl (H.size, ah_e G c) H1) (hn : ah_n c) (hz : H1.size = H.size + 1) (oq : ∀ q : Nat, q < H.size → H1[q]? = H[q]?) (hA : G.2.2.2.1 H.size) : ah_r G (va_up h.1 h.2 (some c), h.2 + 1) H1 := by
  obtain ⟨r1, r2, r3, r4, r5, r6, r7⟩ := hr
  have r20 : G.2.2.1 h.2 = H.size := r2 0
  refine ⟨fun i x hi => ?_, fun j => ?_, r3, Nat.le_succ_of_le r4, fun q hq => ?_, r6, r7⟩
  · by_cases hia : i = h.2
    · subst hia
      simp only [va_up, if_pos] at hi
      cases hi
      exact ⟨Nat.lt_succ_self _, by unfold ah_at; rw [if_pos r4, r20]; exact hat, hn, fun _ => by rw [r20]; exact hA⟩
    · simp only [va_up, if_neg hia] at hi
      obtain ⟨s1, s2, s3⟩ := r1 i x hi
      refine ⟨Nat.lt_succ_of_lt s1, s2.kept (oq _ ?_), s3⟩
      unfold ah_at at s2
      split at s2
      · exact va_at.lt s2
      · rcases x with o | ⟨k, n, d⟩
        · obtain ⟨cell, r, h1, h2⟩ := s2
          exact (Array.getElem?_eq_some_iff.mp h1).1
        · obtain ⟨cell, h1, h2⟩ := s2
          exact (Array.getElem?_eq_some_iff.mp h1).1
  · have h1 := r2 (j + 1)
    show G.2.2.1 (h.2 + 1 + j) = H1.size + j
    rw [show h.2 + 1 + j = h.2 + (j + 1) by omega, h1, hz]
    omega
  · have hlt : q < H.size := by
      have hq2 := r5 q hq
      have h3 : H[q]? = some (G.2.2.2.2.1.heap[q]) := by rw [hq2]; exact Array.getElem?_eq_getElem hq
      exact (Array.getElem?_eq_some_iff.mp h3).1
    rw [oq q hlt]
    exact r5 q hq
/-- an array, as the rows of reading want it -/
theorem ah_arr {G : am_X} {h : ah_H} {H : Heap} {s : State} {a k n : Nat} {d : (Nat → Int32) ⊕ (Nat → Option Nat)} (hr : ah_r G h H) (hK : am_K G s) (hc : h.1 a = some (.inr (k, n, d))) : ∃ cell : Cell, H[G.2.2.1 a]? = some cell ∧ s.isArrayOf cell (am_ty k) ∧ cell.vm ≠ .unknown ∧ cell.slots.size.toInt32 = Int32.ofNat n ∧ n ≤ cell.slots.size ∧ n < 2147483648 ∧ ∀ j, j < n → cell.slots[j]? = some (ah_v G d j) := by
  obtain ⟨h1, h2, h3, -⟩ := hr.1 a _ hc
  obtain ⟨hk, hn⟩ : k < 7 ∧ n < 2147483648 := h3
  unfold ah_at at h2
  split at h2
  · have ht := hK.1.2 k _ (am_tys_at G.2.1 hk)
    cases d with
    | inl f =>
      have h4 : H[G.2.2.1 a]? = some (arrV (G.2.1 k) n (fun j => .int (f j))) := h2
      exact ⟨_, h4, ht.1 n _, (fun q => by cases q), (by rw [arrV_size]; try rfl), (by rw [arrV_size]; try exact Nat.le_refl _), hn, fun j hj => arrV_read _ _ hj⟩
    | inr f =>
      have h4 : H[G.2.2.1 a]? = some (arrV (G.2.1 k) n (fun j => va_rf ((f j).map G.2.2.1))) := h2
      exact ⟨_, h4, ht.1 n _, (fun q => by cases q), (by rw [arrV_size]; try rfl), (by rw [arrV_size]; try exact Nat.le_refl _), hn, fun j hj => arrV_read _ _ hj⟩
  · obtain ⟨cell, g1, g2, g3, g4, g5, g6⟩ := h2
    exact ⟨cell, g1, State.isArrayOf_alike hK.2.2.2.1.alike g2, g3, g4, g5, hn, g6⟩
/-- an object, as the rows of reading want it -/
theorem ah_obj {G : am_X} {h : ah_H} {H : Heap} {s : State} {a ci k : Nat} {fs : List am_W} {v : am_W} {C : String} {T : u_T} {N : Nat} (hr : ah_r G h H) (_hK : am_K G s) (hc : h.1 a = some (.inl (ci, fs))) (hcl : am_cl[ci]? = some (C, T, N)) (hk : k < N) (hv : fs[k]? = some v) : ∃ cell : Cell, H[G.2.2.1 a]? = some cell ∧ cell.cls = G.1.1 ci ∧ cell.vm.isStatics = false ∧ cell.vm ≠ .unknown ∧ cell.slots[G.1.2 ci k]? = some (am_c G.2.2.1 v) := by
  obtain ⟨h1, h2, h3, -⟩ := hr.1 a _ hc
  unfold ah_at at h2
  split at h2
  · obtain ⟨r, q1, cell, q2, q3, q4, q5⟩ := h2
    cases q1.symm.trans hcl
    refine ⟨cell, q2, q3, (by rw [q4]; rfl), (by rw [q4]; exact fun z => by cases z), ?_⟩
    rw [q5 k hk]
    simp [vp_V, List.getD_eq_getElem?_getD, List.getElem?_map, hv]
  · obtain ⟨cell, r, q1, q2, q3, q4, q5, q6⟩ := h2
    exact ⟨cell, q1, q3, q4, q5, q6 k v hv⟩
theorem ah_recv {S : ah_H} {a ci : Nat} {fs : List am_W} {C : String} {T : u_T} {N : Nat} (hc : S.1 a = some (.inl (ci, fs))) (hcl : am_cl[ci]? = some (C, T, N)) : am_recv ah_r S C a := by
  intro G H s hK hr
  obtain ⟨h1, h2, h3, -⟩ := hr.1 a _ hc
  obtain ⟨-, hfc, -⟩ := hK.1.1 ci _ hcl
  unfold ah_at at h2
  split at h2
  · obtain ⟨r, q1, cell, q2, q3, q4, q5⟩ := h2
    exact ⟨cell, q2, by rw [q4]; rfl, by rw [q3]; exact hfc⟩
  · obtain ⟨cell, r, q1, q2, q3, q4, q5⟩ := h2
    exact ⟨cell, q1, q4, by rw [q3]; exact hfc⟩
/-- the heap behind a store into an array of numbers, of references; behind a store into a field; behind a making -/
def ah_si (h : ah_H) (a k n : Nat) (f : Nat → Int32) (i : Int) (x : Int32) : ah_H := (va_up h.1 a (some (.inr (k, n, .inl (va_up f i.toNat x)))), h.2)
def ah_sr (h : ah_H) (a k n : Nat) (f : Nat → Option Nat) (i : Int) (x : Option Nat) : ah_H := (va_up h.1 a (some (.inr (k, n, .inr (va_up f i.toNat x)))), h.2)
def ah_sf (h : ah_H) (a ci : Nat) (fs : List am_W) (k : Nat) (v : am_W) : ah_H := (va_up h.1 a (some (.inl (ci, fs.set k v))), h.2)
def ah_mk (h : ah_H) (c : ah_C) : ah_H := (va_up h.1 h.2 (some c), h.2 + 1)
section AHR
variable {l : Launch} {cc : ByteArray} {nL : Nat} {ret : Option FieldType} {nm own : String} {R : Room} {E : am_Et} {pc : Nat} {lv : List (Nat × am_W)} {st : List am_W} {S : ah_H} {cells slots : Nat}
theorem ah_get {a ci k ix : Nat} {fs : List am_W} {v : am_W} {C ref : String} {T : u_T} {N : Nat} (hc : S.1 a = some (.inl (ci, fs))) (hv : fs[k]? = some v) (hcl : am_cl[ci]? = some (C, T, N)) (hin : ∀ w ∈ u_ws C T N, w ∈ lw_all) (hk : k < N) (hl : Cond.fieldLink own ix ref (T k).2.1 (T k).2.2.1 ∈ lw_all) (hs : (T k).1 = ref ∨ Cond.sameField ref (T k).1 (T k).2.1 (T k).2.2.1 ∈ lw_all) (hd : decode cc pc = .ok (.getfield ix, 3)) (kk : am_V ah_r l own cc nL ret nm R E (pc + 3) lv (v :: st) S cells slots) : am_V ah_r l own cc nL ret nm R E pc lv (am_R a :: st) S cells slots := by
  intro G p e s m args below meth c H locs ls F hr hS hl'
  obtain ⟨f1, f2, f3, f4, f5, f6, f7, f8, f9, f10⟩ := F
  obtain ⟨cell, g1, g2, g3, g4, g5⟩ := ah_obj hr f9 hc hcl hk hv
  obtain ⟨hSl, hfc, kC, hkC, hkind⟩ := f9.1.1 ci _ hcl
  obtain ⟨cf, kf, fi, f, hi, hsl⟩ := hSl k hk
  have hi2 : s.fieldFound? ref (T k).2.1 (T k).2.2.1 = some (cf, kf, fi, f) := by
    rcases hs with h | h
    · rw [← h]; exact hi
    · exact u_same (f8 _ h) _ hi
  exact W.getf f1 f2 f7 (f8 _ hl) hi2 (u_facts hfc hkC (u_lays f8 hin hk) hi).1 g1 g4 (v := am_c G.2.2.1 v) (by rw [hsl]; exact g5) rfl rfl hd (kk G p e s m args below meth c H locs ls ⟨f1, f2, f3, f4, f5, f6, f7, f8, f9, f10⟩ hr hS hl')
theorem ah_getN {a ci k ix : Nat} {fs : List am_W} {v : am_W} {C host : String} {T : u_T} {N : Nat} (hc : S.1 a = some (.inl (ci, fs))) (hv : fs[k]? = some v) (hcl : am_cl[ci]? = some (C, T, N)) (hin : ∀ w ∈ u_ws C T N, w ∈ lw_all) (hk : k < N) (hl : Cond.fieldLinkNest own ix (T k).1 (T k).2.1 (T k).2.2.1 host ∈ am_nw) (hd : decode cc pc = .ok (.getfield ix, 3)) (kk : am_V ah_r l own cc nL ret nm R E (pc + 3) lv (v :: st) S cells slots) : am_V ah_r l own cc nL ret nm R E pc lv (am_R a :: st) S cells slots := by
  intro G p e s m args below meth c H locs ls F hr hS hl'
  obtain ⟨f1, f2, f3, f4, f5, f6, f7, f8, f9, f10⟩ := F
  obtain ⟨cell, g1, g2, g3, g4, g5⟩ := ah_obj hr f9 hc hcl hk hv
  obtain ⟨hSl, hfc, kC, hkC, hkind⟩ := f9.1.1 ci _ hcl
  obtain ⟨cf, kf, fi, f, hi, hsl⟩ := hSl k hk
  exact va_Wgetf f1 f2 f7 (va_Nw.use rfl (f9.2.1 _ hl)) hi (u_facts hfc hkC (u_lays f8 hin hk) hi).1 g1 g4 (v := am_c G.2.2.1 v) (by rw [hsl]; exact g5) rfl rfl hd (kk G p e s m args below meth c H locs ls ⟨f1, f2, f3, f4, f5, f6, f7, f8, f9, f10⟩ hr hS hl')
/-- what a field may keep -/
def ah_fit (ty : FieldType) (v : am_W) : Prop := ∀ ad : Nat → Nat, narrow ty (am_c ad v) = am_c ad v ∧ fits ty (am_c ad v) = true
theorem ah_fit_int {x : Int} : ah_fit .int (am_I x) := fun _ => ⟨rfl, rfl⟩
theorem ah_fit_bool (b : Bool) : ah_fit .boolean (am_I (am_b b)) := fun _ => by cases b <;> exact ⟨rfl, rfl⟩
theorem ah_fit_ref {ty : FieldType} {x : Option Nat} (h : (∃ n, ty = .object n) ∨ ∃ t, ty = .array t) : ah_fit ty (am_O x) := fun ad => by
  rcases h with ⟨n, rfl⟩ | ⟨t, rfl⟩ <;> cases x <;> exact ⟨rfl, rfl⟩
/-- the object's picture behind a store into a field -/
theorem ah_stored {G : am_X} {H1 : Heap} {a ci k : Nat} {fs : List am_W} {v : am_W} {C : String} {T : u_T} {N : Nat} {cell : Cell} (hcl : am_cl[ci]? = some (C, T, N)) (hk : k < fs.length) (hap : ∀ x y, x < N → y < N → x ≠ y → G.1.2 ci x ≠ G.1.2 ci y) (hkN : k < N)
    (q3 : cell.cls = G.1.1 ci) (q4 : cell.vm = .none) (q5 : ∀ j, j < N → cell.slots[G.1.2 ci j]? = some (vp_V (fs.map (am_c G.2.2.1)) j)) (e1 : H1[G.2.2.1 a]? = some (cell.setSlot (G.1.2 ci k) (am_c G.2.2.1 v))) : va_at G.1 am_cl (G.2.2.1 a, ah_e G (.inl (ci, fs.set k v))) H1 := by
  refine ⟨_, hcl, t_OB.to (V := updV (vp_V (fs.map (am_c G.2.2.1))) k (am_c G.2.2.1 v)) ⟨_, e1, q3, q4, t_set q5 hap hkN _⟩ (fun j _ => ?_)⟩
  rw [vp_updV_set (by rw [List.length_map]; exact hk), List.map_set]
theorem ah_put {a ci k ix : Nat} {fs : List am_W} {v : am_W} {C ref : String} {T : u_T} {N : Nat} {ty : FieldType} (hc : S.1 a = some (.inl (ci, fs))) (hX : ah_X ≤ a) (hlen : k < fs.length) (hcl : am_cl[ci]? = some (C, T, N)) (hin : ∀ w ∈ u_ws C T N, w ∈ lw_all) (ty0 : Nat → FieldType) (hty : ∀ k, k < N → parseFieldDescriptor (T k).2.2.1 = some (ty0 k)) (hnm : ∀ a, a < N → ∀ b, b < N → a ≠ b → ((T a).2.1 ≠ (T b).2.1)) (hk : k < N) (hl : Cond.fieldLink own ix ref (T k).2.1 (T k).2.2.1 ∈ lw_all) (hs : (T k).1 = ref ∨ Cond.sameField ref (T k).1 (T k).2.1 (T k).2.2.1 ∈ lw_all) (hfin : (T k).2.2.2 = false) (hpt : parseFieldDescriptor (T k).2.2.1 = some ty) (hf : ah_fit ty v) (hd : decode cc pc = .ok (.putfield ix, 3)) (kk : am_V ah_r l own cc nL ret nm R E (pc + 3) lv st (ah_sf S a ci fs k v) cells slots) : am_V ah_r l own cc nL ret nm R E pc lv (v :: am_R a :: st) S cells slots := by
  intro G p e s m args below meth c H locs ls F hr hS hl'
  obtain ⟨f1, f2, f3, f4, f5, f6, f7, f8, f9, f10⟩ := F
  have hap := va_apart (own := own) f8 hin ty0 hty hnm f9.1 hcl
  obtain ⟨h1, h2, h3, h4⟩ := hr.1 a _ hc
  unfold ah_at at h2
  rw [if_pos hX] at h2
  obtain ⟨r, q1, cell, q2, q3, q4, q5⟩ := h2
  cases q1.symm.trans hcl
  obtain ⟨hSl, hfc, kC, hkC, hkind⟩ := f9.1.1 ci _ hcl
  obtain ⟨cf, kf, fi, f, hi, hsl⟩ := hSl k hk
  have hi2 : s.fieldFound? ref (T k).2.1 (T k).2.2.1 = some (cf, kf, fi, f) := by
    rcases hs with h | h
    · rw [← h]; exact hi
    · exact u_same (f8 _ h) _ hi
  have hlay := f8 _ (hin _ (u_in_lay hk))
  unfold u_lay at hlay
  rw [if_neg (by rw [hfin]; decide)] at hlay
  have hst := (u_facts hfc hkC (u_lays f8 hin hk) hi).1
  have h6 := u_store hfc hkC hkind hlay hi hpt (hf G.2.2.1).1 (hf G.2.2.1).2
  refine W.putK f1 f2 (f := f) ⟨f7, f8 _ hl, ⟨_, _, _, hi2⟩, hst⟩ (by rw [q3]; exact h6) q2 q4 (by rw [hsl]; exact k2_hasslot (q5 k hk)) rfl rfl hd fun H' e1 e2 e3 => ?_
  rw [hsl] at e1 ⊢
  exact kk G p e s m args below meth c H' _ ls ⟨f1, f2, f3, f4, f5, f6, f7, f8, f9, f10⟩ (hr.set hc hX (ah_stored hcl hlen hap hk q3 q4 q5 e1) trivial e2 e3) (hS.put e2 e3 (h4 hX)) hl'
theorem ah_putN {a ci k ix : Nat} {fs : List am_W} {v : am_W} {C host : String} {T : u_T} {N : Nat} {ty : FieldType} (hc : S.1 a = some (.inl (ci, fs))) (hX : ah_X ≤ a) (hlen : k < fs.length) (hcl : am_cl[ci]? = some (C, T, N)) (hin : ∀ w ∈ u_ws C T N, w ∈ lw_all) (ty0 : Nat → FieldType) (hty : ∀ k, k < N → parseFieldDescriptor (T k).2.2.1 = some (ty0 k)) (hnm : ∀ a, a < N → ∀ b, b < N → a ≠ b → ((T a).2.1 ≠ (T b).2.1)) (hk : k < N) (hl : Cond.fieldLinkNest own ix (T k).1 (T k).2.1 (T k).2.2.1 host ∈ am_nw) (hfin : (T k).2.2.2 = false) (hpt : parseFieldDescriptor (T k).2.2.1 = some ty) (hf : ah_fit ty v) (hd : decode cc pc = .ok (.putfield ix, 3)) (kk : am_V ah_r l own cc nL ret nm R E (pc + 3) lv st (ah_sf S a ci fs k v) cells slots) : am_V ah_r l own cc nL ret nm R E pc lv (v :: am_R a :: st) S cells slots := by
  intro G p e s m args below meth c H locs ls F hr hS hl'
  obtain ⟨f1, f2, f3, f4, f5, f6, f7, f8, f9, f10⟩ := F
  have hap := va_apart (own := own) f8 hin ty0 hty hnm f9.1 hcl
  obtain ⟨h1, h2, h3, h4⟩ := hr.1 a _ hc
  unfold ah_at at h2
  rw [if_pos hX] at h2
  obtain ⟨r, q1, cell, q2, q3, q4, q5⟩ := h2
  cases q1.symm.trans hcl
  obtain ⟨hSl, hfc, kC, hkC, hkind⟩ := f9.1.1 ci _ hcl
  obtain ⟨cf, kf, fi, f, hi, hsl⟩ := hSl k hk
  have hlay := f8 _ (hin _ (u_in_lay hk))
  unfold u_lay at hlay
  rw [if_neg (by rw [hfin]; decide)] at hlay
  have hst := (u_facts hfc hkC (u_lays f8 hin hk) hi).1
  have h6 := u_store hfc hkC hkind hlay hi hpt (hf G.2.2.1).1 (hf G.2.2.1).2
  refine va_WputK f1 f2 (f := f) f7 (va_Nw.use rfl (f9.2.1 _ hl)) hi hst (by rw [q3]; exact h6) q2 q4 (by rw [hsl]; exact k2_hasslot (q5 k hk)) rfl rfl hd fun H' e1 e2 e3 => ?_
  rw [hsl] at e1 ⊢
  exact kk G p e s m args below meth c H' _ ls ⟨f1, f2, f3, f4, f5, f6, f7, f8, f9, f10⟩ (hr.set hc hX (ah_stored hcl hlen hap hk q3 q4 q5 e1) trivial e2 e3) (hS.put e2 e3 (h4 hX)) hl'
theorem am_apartF {s : State} {args : Array Value} {D : va_G} {cl : List vw_C} {tys : List (ClassId × FieldType)} {C : String} {T : u_T} {N ci : Nat} {Ts : List Cond} (hts : ∀ w ∈ Ts, w.before args s = true) (hin : ∀ w ∈ u_ws C T N, w ∈ Ts) (ty : Nat → FieldType) (hty : ∀ k, k < N → parseFieldDescriptor (T k).2.2.1 = some (ty k)) (hnm : ∀ a, a < N → ∀ b, b < N → a ≠ b → ((T a).1 ≠ (T b).1 ∨ (T a).2.1 ≠ (T b).2.1)) (hall : ∀ k, k < N → (T k).2.2.2 = true) (hK : va_K D cl tys s) (hc : cl[ci]? = some (C, T, N)) : ∀ x y, x < N → y < N → x ≠ y → (D.2 ci) x ≠ (D.2 ci) y := by
  intro x y hx hy hne
  obtain ⟨hS, -⟩ := hK.1 ci _ hc
  obtain ⟨c1, k1, i1, fa, hia, ea⟩ := hS x hx
  obtain ⟨c2, k2, i2, fb, hib, eb⟩ := hS y hy
  have key : ∀ z, z < N → (Cond.laysFinal C (T z).1 (T z).2.1 (T z).2.2.1).before args s = true := fun z hz => by
    have h := hts _ (hin _ (u_in_lay hz))
    unfold u_lay at h
    rw [if_pos (hall z hz)] at h
    exact h
  obtain ⟨a, _, _, _, _, g, ha, _, hg, _, _, _, how, _, d, hd, hdn, hn, _⟩ := Cond.laysFinal_spec (key x hx)
  obtain ⟨a', _, _, _, _, g', ha', _, hg', _, _, _, how', _, d', hd', hdn', hn', _⟩ := Cond.laysFinal_spec (key y hy)
  cases hia.symm.trans hg
  cases hib.symm.trans hg'
  cases ha.symm.trans ha'
  rw [← ea, ← eb]
  intro hs
  rw [hs] at hd
  cases hd.symm.trans hd'
  rcases hnm x hx y hy hne with h | h
  · obtain ⟨q1, e1, e2⟩ := Vm.findClass_spec how
    obtain ⟨q2, e3, e4⟩ := Vm.findClass_spec how'
    have e5 := (State.fieldFound?_spec hia).1
    have e6 := (State.fieldFound?_spec hib).1
    cases e1.symm.trans e5
    cases e3.symm.trans e6
    exact h (e2.symm.trans ((hdn.symm.trans hdn').trans e4))
  · exact h (((State.fieldFound?_type hia (hty x hx)).1.symm.trans (hn.symm.trans hn')).trans (State.fieldFound?_type hib (hty y hy)).1)
theorem ah_putF {a ci k ix : Nat} {fs : List am_W} {v : am_W} {C : String} {T : u_T} {N : Nat} {ty : FieldType} (hc : S.1 a = some (.inl (ci, fs))) (hX : ah_X ≤ a) (hlen : k < fs.length) (hcl : am_cl[ci]? = some (C, T, N)) (hin : ∀ w ∈ u_ws C T N, w ∈ lw_all) (ty0 : Nat → FieldType) (hty : ∀ k, k < N → parseFieldDescriptor (T k).2.2.1 = some (ty0 k)) (hnm : ∀ a, a < N → ∀ b, b < N → a ≠ b → ((T a).2.1 ≠ (T b).2.1)) (hk : k < N) (hl : Cond.fieldLink own ix own (T k).2.1 (T k).2.2.1 ∈ lw_all) (hs : (T k).1 = own) (hfin : (T k).2.2.2 = true) (hm : nm = "<init>") (hpt : parseFieldDescriptor (T k).2.2.1 = some ty) (hf : ah_fit ty v) (hd : decode cc pc = .ok (.putfield ix, 3)) (kk : am_V ah_r l own cc nL ret nm R E (pc + 3) lv st (ah_sf S a ci fs k v) cells slots) : am_V ah_r l own cc nL ret nm R E pc lv (v :: am_R a :: st) S cells slots := by
  intro G p e s m args below meth c H locs ls F hr hS hl'
  obtain ⟨f1, f2, f3, f4, f5, f6, f7, f8, f9, f10⟩ := F
  have hap := va_apart (own := own) f8 hin ty0 hty hnm f9.1 hcl
  obtain ⟨h1, h2, h3, h4⟩ := hr.1 a _ hc
  unfold ah_at at h2
  rw [if_pos hX] at h2
  obtain ⟨r, q1, cell, q2, q3, q4, q5⟩ := h2
  cases q1.symm.trans hcl
  obtain ⟨hSl, hfc, kC, hkC, hkind⟩ := f9.1.1 ci _ hcl
  obtain ⟨cf, kf, fi, f, hi, hsl⟩ := hSl k hk
  have hst := (u_facts hfc hkC (u_lays f8 hin hk) hi).1
  have h6 := u_fits hfc hkC hkind (u_lays f8 hin hk) hi hpt (hf G.2.2.1).1 (hf G.2.2.1).2
  have hi2 : s.fieldFound? own (T k).2.1 (T k).2.2.1 = some (cf, kf, fi, f) := by rw [← hs]; exact hi
  have hlay := f8 _ (hin _ (u_in_lay hk))
  unfold u_lay at hlay
  rw [if_pos hfin] at hlay
  have hcf : m.cls = cf := by
    obtain ⟨_, _, c', _, _, _, -, -, hf', -, -, -, hown2, -⟩ := Cond.laysFinal_spec hlay
    have e1 : c' = cf := by have := hi.symm.trans hf'; simp at this; exact this.1.symm
    rw [hs] at hown2
    rw [← e1]; exact Option.some.inj (f7.symm.trans hown2)
  refine W.putFinK f1 f2 f7 (f8 _ hl) hi2 hst hcf (f6.1.trans hm) (by rw [q3]; exact h6) q2 q4 (by rw [hsl]; exact k2_hasslot (q5 k hk)) rfl rfl hd fun H' e1 e2 e3 => ?_
  rw [hsl] at e1 ⊢
  exact kk G p e s m args below meth c H' _ ls ⟨f1, f2, f3, f4, f5, f6, f7, f8, f9, f10⟩ (hr.set hc hX (ah_stored hcl hlen hap hk q3 q4 q5 e1) trivial e2 e3) (hS.put e2 e3 (h4 hX)) hl'
theorem ah_putG {a ci k ix : Nat} {fs : List am_W} {v : am_W} {C : String} {T : u_T} {N : Nat} {ty : FieldType} (hc : S.1 a = some (.inl (ci, fs))) (hX : ah_X ≤ a) (hlen : k < fs.length) (hcl : am_cl[ci]? = some (C, T, N)) (hin : ∀ w ∈ u_ws C T N, w ∈ lw_all) (ty0 : Nat → FieldType) (hty : ∀ k, k < N → parseFieldDescriptor (T k).2.2.1 = some (ty0 k)) (hnm : ∀ a, a < N → ∀ b, b < N → a ≠ b → ((T a).1 ≠ (T b).1 ∨ (T a).2.1 ≠ (T b).2.1)) (hall : ∀ k, k < N → (T k).2.2.2 = true) (hk : k < N) (hl : Cond.fieldLink own ix own (T k).2.1 (T k).2.2.1 ∈ lw_all) (hs : (T k).1 = own) (hfin : (T k).2.2.2 = true) (hm : nm = "<init>") (hpt : parseFieldDescriptor (T k).2.2.1 = some ty) (hf : ah_fit ty v) (hd : decode cc pc = .ok (.putfield ix, 3)) (kk : am_V ah_r l own cc nL ret nm R E (pc + 3) lv st (ah_sf S a ci fs k v) cells slots) : am_V ah_r l own cc nL ret nm R E pc lv (v :: am_R a :: st) S cells slots := by
  intro G p e s m args below meth c H locs ls F hr hS hl'
  obtain ⟨f1, f2, f3, f4, f5, f6, f7, f8, f9, f10⟩ := F
  have hap := am_apartF f8 hin ty0 hty hnm hall f9.1 hcl
  obtain ⟨h1, h2, h3, h4⟩ := hr.1 a _ hc
  unfold ah_at at h2
  rw [if_pos hX] at h2
  obtain ⟨r, q1, cell, q2, q3, q4, q5⟩ := h2
  cases q1.symm.trans hcl
  obtain ⟨hSl, hfc, kC, hkC, hkind⟩ := f9.1.1 ci _ hcl
  obtain ⟨cf, kf, fi, f, hi, hsl⟩ := hSl k hk
  have hst := (u_facts hfc hkC (u_lays f8 hin hk) hi).1
  have h6 := u_fits hfc hkC hkind (u_lays f8 hin hk) hi hpt (hf G.2.2.1).1 (hf G.2.2.1).2
  have hi2 : s.fieldFound? own (T k).2.1 (T k).2.2.1 = some (cf, kf, fi, f) := by rw [← hs]; exact hi
  have hlay := f8 _ (hin _ (u_in_lay hk))
  unfold u_lay at hlay
  rw [if_pos hfin] at hlay
  have hcf : m.cls = cf := by
    obtain ⟨_, _, c', _, _, _, -, -, hf', -, -, -, hown2, -⟩ := Cond.laysFinal_spec hlay
    have e1 : c' = cf := by have := hi.symm.trans hf'; simp at this; exact this.1.symm
    rw [hs] at hown2
    rw [← e1]; exact Option.some.inj (f7.symm.trans hown2)
  refine W.putFinK f1 f2 f7 (f8 _ hl) hi2 hst hcf (f6.1.trans hm) (by rw [q3]; exact h6) q2 q4 (by rw [hsl]; exact k2_hasslot (q5 k hk)) rfl rfl hd fun H' e1 e2 e3 => ?_
  rw [hsl] at e1 ⊢
  exact kk G p e s m args below meth c H' _ ls ⟨f1, f2, f3, f4, f5, f6, f7, f8, f9, f10⟩ (hr.set hc hX (ah_stored hcl hlen hap hk q3 q4 q5 e1) trivial e2 e3) (hS.put e2 e3 (h4 hX)) hl'
end AHR
section AHS
variable {l : Launch} {cc : ByteArray} {nL : Nat} {ret : Option FieldType} {nm own : String} {R : Room} {E : am_Et} {pc : Nat} {lv : List (Nat × am_W)} {st : List am_W} {S : ah_H} {cells slots : Nat}
theorem ah_in {i : Int} {n m : Nat} (h0 : 0 ≤ i) (h1 : i < n) (hn : n < 2147483648) (hm : n ≤ m) : ¬ (Int32.ofInt i < 0 ∨ m ≤ (Int32.ofInt i).toNatClampNeg) ∧ (Int32.ofInt i).toNatClampNeg = i.toNat ∧ i.toNat < n := by
  obtain ⟨g1, g2⟩ := am_in h0 h1 hn
  refine ⟨fun h => g1 (h.elim Or.inl (fun h => Or.inr (Nat.le_trans hm h))), g2, by omega⟩
theorem ah_iald {a n : Nat} {f : Nat → Int32} {i v : Int} (hc : S.1 a = some (.inr (0, n, .inl f))) (h0 : 0 ≤ i) (h1 : i < n) (hv : (f i.toNat).toInt = v) (hd : decode cc pc = .ok (.iaload, 1)) (kk : am_V ah_r l own cc nL ret nm R E (pc + 1) lv (am_I v :: st) S cells slots) : am_V ah_r l own cc nL ret nm R E pc lv (am_I i :: am_R a :: st) S cells slots := by
  intro G p e s m args below meth c H locs ls F hr hS hl'
  obtain ⟨f1, f2, f3, f4, f5, f6, f7, f8, f9, f10⟩ := F
  obtain ⟨cell, g1, g2, g3, g4, g5, g6, g7⟩ := ah_arr hr f9 hc
  obtain ⟨k1, k2, k3⟩ := ah_in h0 h1 g6 g5
  have K := kk G p e s m args below meth c H locs ls ⟨f1, f2, f3, f4, f5, f6, f7, f8, f9, f10⟩ hr hS hl'
  refine W.iald (v := am_c G.2.2.1 (am_I v)) f1 f2 g1 g2 g3 k1 ?_ rfl rfl hd K
  rw [k2, g7 _ k3, ← hv]
  exact congrArg some (congrArg Value.int (am_it _).symm)
theorem ah_bald {a n : Nat} {f : Nat → Int32} {i v : Int} (hc : S.1 a = some (.inr (2, n, .inl f))) (h0 : 0 ≤ i) (h1 : i < n) (hv : (f i.toNat).toInt = v) (hd : decode cc pc = .ok (.baload, 1)) (kk : am_V ah_r l own cc nL ret nm R E (pc + 1) lv (am_I v :: st) S cells slots) : am_V ah_r l own cc nL ret nm R E pc lv (am_I i :: am_R a :: st) S cells slots := by
  intro G p e s m args below meth c H locs ls F hr hS hl'
  obtain ⟨f1, f2, f3, f4, f5, f6, f7, f8, f9, f10⟩ := F
  obtain ⟨cell, g1, g2, g3, g4, g5, g6, g7⟩ := ah_arr hr f9 hc
  obtain ⟨k1, k2, k3⟩ := ah_in h0 h1 g6 g5
  have K := kk G p e s m args below meth c H locs ls ⟨f1, f2, f3, f4, f5, f6, f7, f8, f9, f10⟩ hr hS hl'
  refine W.bald (v := am_c G.2.2.1 (am_I v)) f1 f2 g1 g2 g3 k1 ?_ rfl rfl hd K
  rw [k2, g7 _ k3, ← hv]
  exact congrArg some (congrArg Value.int (am_it _).symm)
theorem ah_zald {a n : Nat} {f : Nat → Int32} {i v : Int} (hc : S.1 a = some (.inr (1, n, .inl f))) (h0 : 0 ≤ i) (h1 : i < n) (hv : (f i.toNat).toInt = v) (hd : decode cc pc = .ok (.baload, 1)) (kk : am_V ah_r l own cc nL ret nm R E (pc + 1) lv (am_I v :: st) S cells slots) : am_V ah_r l own cc nL ret nm R E pc lv (am_I i :: am_R a :: st) S cells slots := by
  intro G p e s m args below meth c H locs ls F hr hS hl'
  obtain ⟨f1, f2, f3, f4, f5, f6, f7, f8, f9, f10⟩ := F
  obtain ⟨cell, g1, g2, g3, g4, g5, g6, g7⟩ := ah_arr hr f9 hc
  obtain ⟨k1, k2, k3⟩ := ah_in h0 h1 g6 g5
  have K := kk G p e s m args below meth c H locs ls ⟨f1, f2, f3, f4, f5, f6, f7, f8, f9, f10⟩ hr hS hl'
  refine W.zald (v := am_c G.2.2.1 (am_I v)) f1 f2 g1 g2 g3 k1 ?_ rfl rfl hd K
  rw [k2, g7 _ k3, ← hv]
  exact congrArg some (congrArg Value.int (am_it _).symm)
theorem ah_aald {a n k : Nat} {f : Nat → Option Nat} {i : Int} {x : Option Nat} (hc : S.1 a = some (.inr (k, n, .inr f))) (hk : 3 ≤ k) (h0 : 0 ≤ i) (h1 : i < n) (hv : f i.toNat = x) (hd : decode cc pc = .ok (.aaload, 1)) (kk : am_V ah_r l own cc nL ret nm R E (pc + 1) lv (am_O x :: st) S cells slots) : am_V ah_r l own cc nL ret nm R E pc lv (am_I i :: am_R a :: st) S cells slots := by
  intro G p e s m args below meth c H locs ls F hr hS hl'
  obtain ⟨f1, f2, f3, f4, f5, f6, f7, f8, f9, f10⟩ := F
  obtain ⟨cell, g1, g2, g3, g4, g5, g6, g7⟩ := ah_arr hr f9 hc
  obtain ⟨k1, k2, k3⟩ := ah_in h0 h1 g6 g5
  have K := kk G p e s m args below meth c H locs ls ⟨f1, f2, f3, f4, f5, f6, f7, f8, f9, f10⟩ hr hS hl'
  have hty : (am_ty k).isReference = true := by
    have h7 : k < 7 := (hr.1 a _ hc).2.2.1.1
    exact am_ty_ref hk h7
  refine W.aald (v := am_c G.2.2.1 (am_O x)) f1 f2 g1 g2 hty g3 k1 ?_ rfl rfl hd K
  rw [k2, g7 _ k3, ← hv]
  show some (va_rf ((f i.toNat).map G.2.2.1)) = _
  cases f i.toNat <;> rfl
theorem ah_alen {a n k : Nat} {d : (Nat → Int32) ⊕ (Nat → Option Nat)} (hc : S.1 a = some (.inr (k, n, d))) (hd : decode cc pc = .ok (.arraylength, 1)) (kk : am_r (n : Int) → am_V ah_r l own cc nL ret nm R E (pc + 1) lv (am_I (n : Int) :: st) S cells slots) : am_V ah_r l own cc nL ret nm R E pc lv (am_R a :: st) S cells slots := by
  intro G p e s m args below meth c H locs ls F hr hS hl'
  obtain ⟨f1, f2, f3, f4, f5, f6, f7, f8, f9, f10⟩ := F
  obtain ⟨cell, g1, g2, g3, g4, g5, g6, g7⟩ := ah_arr hr f9 hc
  exact W.alen (n := Int32.ofInt (n : Int)) f1 f2 g1 g2 (g4.trans (Int32.ofInt_eq_ofNat (n := n)).symm) rfl rfl hd (kk ⟨by omega, by omega⟩ G p e s m args below meth c H locs ls ⟨f1, f2, f3, f4, f5, f6, f7, f8, f9, f10⟩ hr hS hl')
theorem ah_strong {G : am_X} {h : ah_H} {H : Heap} {a k n : Nat} {d : (Nat → Int32) ⊕ (Nat → Option Nat)} (hr : ah_r G h H) (hc : h.1 a = some (.inr (k, n, d))) (hX : ah_X ≤ a) : H[G.2.2.1 a]? = some (arrV (G.2.1 k) n (ah_v G d)) := by
  obtain ⟨h1, h2, -⟩ := hr.1 a _ hc
  unfold ah_at at h2
  rw [if_pos hX] at h2
  cases d with
  | inl f => exact h2
  | inr f => exact h2
theorem ah_iast {a n : Nat} {f : Nat → Int32} {i x : Int} (hc : S.1 a = some (.inr (0, n, .inl f))) (hX : ah_X ≤ a) (h0 : 0 ≤ i) (h1 : i < n) (hd : decode cc pc = .ok (.iastore, 1)) (kk : am_V ah_r l own cc nL ret nm R E (pc + 1) lv st (ah_si S a 0 n f i (Int32.ofInt x)) cells slots) : am_V ah_r l own cc nL ret nm R E pc lv (am_I x :: am_I i :: am_R a :: st) S cells slots := by
  intro G p e' s m args below meth c H locs ls F hr hS hl'
  obtain ⟨f1, f2, f3, f4, f5, f6, f7, f8, f9, f10⟩ := F
  obtain ⟨h1', -, hn, h4⟩ := hr.1 a _ hc
  obtain ⟨k1, k2, k3⟩ := ah_in h0 h1 hn.2 (Nat.le_refl n)
  refine W.iast f1 f2 (ah_strong hr hc hX) ((f9.1.2 0 _ rfl).1 n (ah_v G (.inl f))) (fun q => by cases q) (by rw [arrV_size]; exact k1) rfl rfl hd fun H1 e z oq => ?_
  refine kk G p e' s m args below meth c H1 _ ls ⟨f1, f2, f3, f4, f5, f6, f7, f8, f9, f10⟩ (hr.set hc hX ?_ hn z oq) (hS.put z oq (h4 hX)) hl'
  show H1[G.2.2.1 a]? = some (arrV (G.2.1 0) n (fun j => .int (va_up f i.toNat (Int32.ofInt x) j)))
  rw [e, arrV_store, k2]
  congr 2
  funext q
  by_cases hq : q = i.toNat
  · subst hq
    simp [updV, va_up]
  · simp [updV, va_up, hq, ah_v]
theorem ah_bast {a n : Nat} {f : Nat → Int32} {i x : Int} (hc : S.1 a = some (.inr (2, n, .inl f))) (hX : ah_X ≤ a) (h0 : 0 ≤ i) (h1 : i < n) (hd : decode cc pc = .ok (.bastore, 1)) (kk : am_V ah_r l own cc nL ret nm R E (pc + 1) lv st (ah_si S a 2 n f i (vp_nar .byte (Int32.ofInt x))) cells slots) : am_V ah_r l own cc nL ret nm R E pc lv (am_I x :: am_I i :: am_R a :: st) S cells slots := by
  intro G p e' s m args below meth c H locs ls F hr hS hl'
  obtain ⟨f1, f2, f3, f4, f5, f6, f7, f8, f9, f10⟩ := F
  obtain ⟨h1', -, hn, h4⟩ := hr.1 a _ hc
  obtain ⟨k1, k2, k3⟩ := ah_in h0 h1 hn.2 (Nat.le_refl n)
  refine W.bast f1 f2 (ah_strong hr hc hX) ((f9.1.2 2 _ rfl).1 n (ah_v G (.inl f))) (fun q => by cases q) (by rw [arrV_size]; exact k1) rfl rfl hd fun H1 e z oq => ?_
  refine kk G p e' s m args below meth c H1 _ ls ⟨f1, f2, f3, f4, f5, f6, f7, f8, f9, f10⟩ (hr.set hc hX ?_ hn z oq) (hS.put z oq (h4 hX)) hl'
  show H1[G.2.2.1 a]? = some (arrV (G.2.1 2) n (fun j => .int (va_up f i.toNat (vp_nar .byte (Int32.ofInt x)) j)))
  rw [e, arrV_store, k2]
  congr 2
  funext q
  by_cases hq : q = i.toNat
  · subst hq
    simp [updV, va_up, vp_nar]
    try rfl
  · simp [updV, va_up, hq, ah_v]
theorem ah_zast {a n : Nat} {f : Nat → Int32} {i : Int} {b : Bool} (hc : S.1 a = some (.inr (1, n, .inl f))) (hX : ah_X ≤ a) (h0 : 0 ≤ i) (h1 : i < n) (hd : decode cc pc = .ok (.bastore, 1)) (kk : am_V ah_r l own cc nL ret nm R E (pc + 1) lv st (ah_si S a 1 n f i (Int32.ofInt (am_b b))) cells slots) : am_V ah_r l own cc nL ret nm R E pc lv (am_I (am_b b) :: am_I i :: am_R a :: st) S cells slots := by
  intro G p e' s m args below meth c H locs ls F hr hS hl'
  obtain ⟨f1, f2, f3, f4, f5, f6, f7, f8, f9, f10⟩ := F
  obtain ⟨h1', -, hn, h4⟩ := hr.1 a _ hc
  obtain ⟨k1, k2, k3⟩ := ah_in h0 h1 hn.2 (Nat.le_refl n)
  refine W.zast f1 f2 (ah_strong hr hc hX) ((f9.1.2 1 _ rfl).1 n (ah_v G (.inl f))) (fun q => by cases q) (by rw [arrV_size]; exact k1) rfl rfl hd fun H1 e z oq => ?_
  refine kk G p e' s m args below meth c H1 _ ls ⟨f1, f2, f3, f4, f5, f6, f7, f8, f9, f10⟩ (hr.set hc hX ?_ hn z oq) (hS.put z oq (h4 hX)) hl'
  show H1[G.2.2.1 a]? = some (arrV (G.2.1 1) n (fun j => .int (va_up f i.toNat (Int32.ofInt (am_b b)) j)))
  have hb : narrow .boolean (.int (Int32.ofInt (am_b b))) = .int (Int32.ofInt (am_b b)) := by cases b <;> rfl
  rw [e, hb, arrV_store, k2]
  congr 2
  funext q
  by_cases hq : q = i.toNat
  · subst hq
    simp [updV, va_up]
  · simp [updV, va_up, hq, ah_v]
/-- a reference is put into an array: null, or an object that the tables say may be one of that kind -/
theorem ah_aast {a n k : Nat} {f : Nat → Option Nat} {i : Int} {x : Option Nat} {K : String} (hc : S.1 a = some (.inr (k, n, .inr f))) (hX : ah_X ≤ a) (hty : am_ty k = .object K) (h0 : 0 ≤ i) (h1 : i < n) (hx : ∀ y, x = some y → ∃ (ci : Nat) (fs : List am_W) (q : vw_C), S.1 y = some (.inl (ci, fs)) ∧ am_cl[ci]? = some q ∧ (q.1 = K ∨ Cond.castable q.1 K ∈ am_nw)) (hd : decode cc pc = .ok (.aastore, 1)) (kk : am_V ah_r l own cc nL ret nm R E (pc + 1) lv st (ah_sr S a k n f i x) cells slots) : am_V ah_r l own cc nL ret nm R E pc lv (am_O x :: am_I i :: am_R a :: st) S cells slots := by
  intro G p e' s m args below meth c H locs ls F hr hS hl'
  obtain ⟨f1, f2, f3, f4, f5, f6, f7, f8, f9, f10⟩ := F
  obtain ⟨h1', -, hn, h4⟩ := hr.1 a _ hc
  obtain ⟨k1, k2, k3⟩ := ah_in h0 h1 hn.2 (Nat.le_refl n)
  have ht := f9.1.2 k _ (am_tys_at G.2.1 hn.1)
  have fin : ∀ (H1 : Heap), H1[G.2.2.1 a]? = some ((arrV (G.2.1 k) n (ah_v G (.inr f))).setSlot i.toNat (am_c G.2.2.1 (am_O x))) → va_at G.1 am_cl (G.2.2.1 a, ah_e G (.inr (k, n, .inr (va_up f i.toNat x)))) H1 := by
    intro H1 e
    show H1[G.2.2.1 a]? = some (arrV (G.2.1 k) n (fun j => va_rf ((va_up f i.toNat x j).map G.2.2.1)))
    rw [e, arrV_store]
    congr 2
    funext q
    by_cases hq : q = i.toNat
    · subst hq
      simp only [updV, va_up, if_pos]
      cases x <;> rfl
    · simp [updV, va_up, hq, ah_v]
  cases x with
  | none =>
    refine va_WaastN (C := K) f1 f2 (ah_strong hr hc hX) (by rw [← hty]; exact ht.1 n (ah_v G (.inr f))) (fun q => by cases q) (by rw [arrV_size]; exact k1) rfl rfl hd fun H1 e z oq => ?_
    rw [k2] at e
    rw [k2]
    exact kk G p e' s m args below meth c H1 _ ls ⟨f1, f2, f3, f4, f5, f6, f7, f8, f9, f10⟩ (hr.set hc hX (fin H1 e) hn z oq) (hS.put z oq (h4 hX)) hl'
  | some y =>
    obtain ⟨ci, fs, q, y1, y2, y3⟩ := hx y rfl
    obtain ⟨cv, v1, v2, v3⟩ := ah_recv (S := S) y1 y2 G H s f9 hr
    obtain ⟨kv, hkv, -⟩ := Vm.findClass_spec v3
    have ht2 := ht.2
    rw [hty] at ht2
    obtain ⟨kA, comp, m1, m2, m3, -⟩ := ht2
    obtain ⟨kE, hkE, -⟩ := Vm.findClass_spec m3
    have has : s.vm.assignable cv.cls comp = true := by
      rcases y3 with h | h
      · have hca := (f9.1.1 ci q y2).2
        rw [← h] at m3
        have e1 : cv.cls = G.1.1 ci := Option.some.inj (v3.symm.trans hca.1)
        have e2 : comp = G.1.1 ci := Option.some.inj (m3.symm.trans hca.1)
        rw [e1, e2]
        exact va_assign hca
      · obtain ⟨c0, t1, g1, g2, g3⟩ := Cond.castable_spec (va_Nw.use (A := args) rfl (f9.2.1 _ h))
        cases v3.symm.trans g1
        cases m3.symm.trans g2
        exact g3
    refine W.aast f1 f2 (ah_strong hr hc hX) (fun q h => by cases h) (fun h => by cases h) m1 m2 rfl hkE ⟨fun h => k1 (Or.inl h), by rw [arrV_size, k2]; exact k3⟩ v1 (fun q h => by rw [h] at v2; cases v2) hkv has rfl rfl hd fun H1 e z oq => ?_
    rw [k2] at e
    rw [k2]
    exact kk G p e' s m args below meth c H1 _ ls ⟨f1, f2, f3, f4, f5, f6, f7, f8, f9, f10⟩ (hr.set hc hX (fin H1 e) hn z oq) (hS.put z oq (h4 hX)) hl'
theorem ah_new {ci ix : Nat} {fs : List am_W} {C : String} {T : u_T} {N : Nat} (ty : Nat → FieldType) (hcl : am_cl[ci]? = some (C, T, N)) (hin : ∀ w ∈ u_ws C T N, w ∈ lw_all) (hty : ∀ k, k < N → parseFieldDescriptor (T k).2.2.1 = some (ty k)) (hl : Cond.classLink own ix C ∈ lw_all) (hins : Cond.instantiable C N ∈ lw_all) (hini : Cond.initialized C ∈ lw_all) (hfs : ∀ (ad : Nat → Nat) (j : Nat), j < N → defaultValue (ty j) = vp_V (fs.map (am_c ad)) j) (hcs : cells + 1 ≤ R.cells) (hss : slots + N ≤ R.slots) (hd : decode cc pc = .ok (.new ix, 3)) (kk : am_V ah_r l own cc nL ret nm R E (pc + 3) lv (am_R S.2 :: st) (ah_mk S (.inl (ci, fs))) (cells + 1) (slots + N)) : am_V ah_r l own cc nL ret nm R E pc lv st S cells slots := by
  intro G p e s m args below meth c H locs ls F hr hS hl'
  obtain ⟨f1, f2, f3, f4, f5, f6, f7, f8, f9, f10⟩ := F
  refine W.newc f1 f2 f7 (f8 _ hl) (f8 _ hins) (f8 _ hini) rfl hd hcs hss (fun cC kC h1 h2 h3 h4 => ?_)
  have hz : (H.push ({ cls := cC, slots := kC.instanceTypes.map defaultValue, vm := .none } : Cell)).size = H.size + 1 := by rw [Array.size_push]
  have oq : ∀ q : Nat, q < H.size → (H.push ({ cls := cC, slots := kC.instanceTypes.map defaultValue, vm := .none } : Cell))[q]? = H[q]? := fun q hq => by rw [Array.getElem?_push, if_neg (Nat.ne_of_lt hq)]
  have hA : G.2.2.2.1 H.size := f10 _ hS.1
  have hat : va_at G.1 am_cl (H.size, ah_e G (.inl (ci, fs))) (H.push ({ cls := cC, slots := kC.instanceTypes.map defaultValue, vm := .none } : Cell)) := by
    have hKn := f9.1.1 ci _ hcl
    have hcC : cC = G.1.1 ci := Option.some.inj (h1.symm.trans hKn.2.1)
    subst hcC
    refine ⟨_, hcl, t_OB.to (V := fun k => defaultValue (ty k)) (u_born (kC := kC) ty f8 hin hKn h2 ?_ hty) (fun j hj => hfs _ j hj)⟩
    rw [Array.getElem?_push_size]
    rfl
  have K := kk G p e s m args below meth c _ locs ls ⟨f1, f2, f3, f4, f5, f6, f7, f8, f9, f10⟩ (hr.push hat trivial hz oq hA) ⟨Nat.le_trans hS.1 (by rw [hz]; omega), fun x h1 h2 => (oq x (Nat.lt_of_lt_of_le h1 hS.1)).trans (hS.2.1 x h1 h2), hS.2.2⟩ hl'
  rw [List.map_cons, show am_c G.2.2.1 (am_R S.2) = Value.ref H.size from congrArg Value.ref (hr.2.1 0)] at K
  exact K
theorem ah_newa {k : Nat} {atype : ArrayType} {ty : FieldType} {n : Int} (hat : newarray.typeOf atype = ty) (hk : am_ty k = ty) (hk3 : k < 3) (harr : Cond.arrayClass ty ∈ lw_all) (h0 : 0 ≤ n) (h1 : n < 100000) (hcs : cells + 1 ≤ R.cells) (hss : slots + n.toNat ≤ R.slots) (hd : decode cc pc = .ok (.newarray atype, 2)) (kk : am_V ah_r l own cc nL ret nm R E (pc + 2) lv (am_R S.2 :: st) (ah_mk S (.inr (k, n.toNat, .inl (fun _ => 0)))) (cells + 1) (slots + n.toNat)) : am_V ah_r l own cc nL ret nm R E pc lv (am_I n :: st) S cells slots := by
  intro G p e s m args below meth c H locs ls F hr hS hl'
  obtain ⟨f1, f2, f3, f4, f5, f6, f7, f8, f9, f10⟩ := F
  subst hat
  obtain ⟨g1, g2⟩ := am_in (n := 2147483647) h0 (by omega) (by decide)
  refine va_newaK (N := n.toNat) f1 f2 (f8 _ harr) rfl hd rfl (fun q => g1 (Or.inl q)) g2 ?_ hcs hss rfl (fun H1 cA e1 z oq hAr hfc => ?_)
  · have : componentBytes (newarray.typeOf atype) ≤ 8 := by cases atype <;> decide
    have h2 : n.toNat < 100000 := by omega
    exact Nat.le_trans (Nat.mul_le_mul (Nat.le_of_lt h2) this) (by decide)
  have hA : G.2.2.2.1 H.size := f10 _ hS.1
  have hdv : defaultValue (newarray.typeOf atype) = .int 0 := by
    rw [← hk]
    match k, hk3 with
    | 0, _ => rfl
    | 1, _ => rfl
    | 2, _ => rfl
  have hcA : cA = G.2.1 k := by
    have ht := (f9.1.2 k _ (am_tys_at G.2.1 (by omega))).2
    rw [hk] at ht
    have ht2 : s.vm.findClass ("[" ++ (newarray.typeOf atype).toString) = some (G.2.1 k) := by
      cases atype <;> exact ht
    exact Option.some.inj (hfc.symm.trans ht2)
  have hat : va_at G.1 am_cl (H.size, ah_e G (.inr (k, n.toNat, .inl (fun _ => 0)))) H1 := by
    show H1[H.size]? = some (arrV (G.2.1 k) n.toNat (fun _ => .int 0))
    rw [e1, hdv, hcA]
  have K := kk G p e s m args below meth c _ locs ls ⟨f1, f2, f3, f4, f5, f6, f7, f8, f9, f10⟩ (hr.push hat ⟨by omega, by omega⟩ z oq hA) ⟨Nat.le_trans hS.1 (by rw [z]; omega), fun x h1 h2 => (oq x (Nat.lt_of_lt_of_le h1 hS.1)).trans (hS.2.1 x h1 h2), hS.2.2⟩ hl'
  rw [List.map_cons, show am_c G.2.2.1 (am_R S.2) = Value.ref H.size from congrArg Value.ref (hr.2.1 0)] at K
  exact K
theorem am_ao {w : Cond} {G : am_X} {U : State} {C : String} (hK : am_K G U) (h : Cond.arrayOver (.object C) ∈ lw_tbl) : va_AO C U := va_AO.moved hK.2.2.2.1.alike (va_AO.of (hK.2.2.1.1 _ h))
theorem ah_anew {k ix : Nat} {n : Int} {C : String} (hk : am_ty k = .object C) (hk7 : k < 7) (hl : Cond.classLink own ix C ∈ lw_all) (hover : Cond.arrayOver (.object C) ∈ lw_tbl) (h0 : 0 ≤ n) (h1 : n < 100000) (hcs : cells + 1 ≤ R.cells) (hss : slots + n.toNat ≤ R.slots) (hd : decode cc pc = .ok (.anewarray ix, 3)) (kk : am_V ah_r l own cc nL ret nm R E (pc + 3) lv (am_R S.2 :: st) (ah_mk S (.inr (k, n.toNat, .inr (fun _ => none)))) (cells + 1) (slots + n.toNat)) : am_V ah_r l own cc nL ret nm R E pc lv (am_I n :: st) S cells slots := by
  intro G p e s m args below meth c H locs ls F hr hS hl'
  obtain ⟨f1, f2, f3, f4, f5, f6, f7, f8, f9, f10⟩ := F
  obtain ⟨g1, g2⟩ := am_in (n := 2147483647) h0 (by omega) (by decide)
  refine W.anew f1 f2 f7 (f8 _ hl) (va_AO.use (am_ao (w := Cond.tt) f9 hover)) rfl hd rfl (fun q => g1 (Or.inl q)) (by rw [g2]; omega) hcs (by rw [g2]; exact hss) fun cA kA comp h1' h2 h3 h4 => ?_
  rw [g2]
  have z : (H.push ({ cls := cA, slots := Array.replicate n.toNat .null, vm := .none } : Cell)).size = H.size + 1 := by rw [Array.size_push]
  have oq : ∀ q : Nat, q < H.size → (H.push ({ cls := cA, slots := Array.replicate n.toNat .null, vm := .none } : Cell))[q]? = H[q]? := fun q hq => by rw [Array.getElem?_push, if_neg (Nat.ne_of_lt hq)]
  have hA : G.2.2.2.1 H.size := f10 _ hS.1
  have hcA : cA = G.2.1 k := by
    have ht := (f9.1.2 k _ (am_tys_at G.2.1 hk7)).2
    rw [hk] at ht
    obtain ⟨_, _, _, _, _, h9⟩ := ht
    exact Option.some.inj (h1'.symm.trans h9)
  have hat : va_at G.1 am_cl (H.size, ah_e G (.inr (k, n.toNat, .inr (fun _ => none)))) (H.push ({ cls := cA, slots := Array.replicate n.toNat .null, vm := .none } : Cell)) := by
    show _ = some (arrV (G.2.1 k) n.toNat (fun _ => .null))
    rw [Array.getElem?_push_size, ← arrV_new, hcA]
  have K := kk G p e s m args below meth c _ locs ls ⟨f1, f2, f3, f4, f5, f6, f7, f8, f9, f10⟩ (hr.push hat ⟨hk7, by omega⟩ z oq hA) ⟨Nat.le_trans hS.1 (by rw [z]; omega), fun x h1 h2 => (oq x (Nat.lt_of_lt_of_le h1 hS.1)).trans (hS.2.1 x h1 h2), hS.2.2⟩ hl'
  rw [List.map_cons, show am_c G.2.2.1 (am_R S.2) = Value.ref H.size from congrArg Value.ref (hr.2.1 0)] at K
  exact K
end AHS
