/-! THE LAYER: numbers as Int, references as small numbers, one judgement (am_V) over an abstract state of any kind -/
abbrev am_W : Type := Int ⊕ (Int ⊕ Option Nat)
abbrev am_I (z : Int) : am_W := Sum.inl z
abbrev am_J (z : Int) : am_W := Sum.inr (Sum.inl z)
abbrev am_O (a : Option Nat) : am_W := Sum.inr (Sum.inr a)
abbrev am_R (a : Nat) : am_W := am_O (some a)
def am_b (b : Bool) : Int := if b = true then 1 else 0
def am_c (ad : Nat → Nat) (v : am_W) : Value := match v with
  | .inl z => .int (Int32.ofInt z)
  | .inr (.inl z) => .long (Int64.ofInt z)
  | .inr (.inr none) => .null
  | .inr (.inr (some a)) => .ref (ad a)
def am_cat (v : am_W) : Nat := match v with
  | .inr (.inl _) => 2
  | _ => 1
theorem am_cat_c (ad : Nat → Nat) (v : am_W) : (am_c ad v).category = am_cat v := by
  rcases v with z | z | a
  · rfl
  · rfl
  · cases a <;> rfl
def am_r (x : Int) : Prop := -2147483648 ≤ x ∧ x < 2147483648
def am_r64 (x : Int) : Prop := -9223372036854775808 ≤ x ∧ x < 9223372036854775808
theorem am_ti {x : Int} (h : am_r x) : (Int32.ofInt x).toInt = x := Int32.toInt_ofInt_of_le h.1 h.2
theorem am_ti64 {x : Int} (h : am_r64 x) : (Int64.ofInt x).toInt = x := Int64.toInt_ofInt_of_le h.1 h.2
theorem am_it (x : Int32) : Int32.ofInt x.toInt = x := Int32.ofInt_toInt x
theorem am_it64 (x : Int64) : Int64.ofInt x.toInt = x := Int64.ofInt_toInt x
theorem am_rt (x : Int32) : am_r x.toInt := ⟨Int32.le_toInt x, Int32.toInt_lt x⟩
theorem am_rt64 (x : Int64) : am_r64 x.toInt := ⟨Int64.le_toInt x, Int64.toInt_lt x⟩
theorem am_rb (b : Bool) : am_r (am_b b) := by cases b <;> exact ⟨by decide, by decide⟩
theorem am_lt {x y : Int} (hx : am_r x) (hy : am_r y) : Int32.ofInt x < Int32.ofInt y ↔ x < y := by rw [Int32.lt_iff_toInt_lt, am_ti hx, am_ti hy]
theorem am_le {x y : Int} (hx : am_r x) (hy : am_r y) : Int32.ofInt x ≤ Int32.ofInt y ↔ x ≤ y := by rw [Int32.le_iff_toInt_le, am_ti hx, am_ti hy]
theorem am_eq {x y : Int} (hx : am_r x) (hy : am_r y) : Int32.ofInt x = Int32.ofInt y ↔ x = y := ⟨fun h => by rw [← am_ti hx, ← am_ti hy, h], fun h => by rw [h]⟩
theorem am_lt64 {x y : Int} (hx : am_r64 x) (hy : am_r64 y) : Int64.ofInt x < Int64.ofInt y ↔ x < y := by rw [Int64.lt_iff_toInt_lt, am_ti64 hx, am_ti64 hy]
theorem am_eq64 {x y : Int} (hx : am_r64 x) (hy : am_r64 y) : Int64.ofInt x = Int64.ofInt y ↔ x = y := ⟨fun h => by rw [← am_ti64 hx, ← am_ti64 hy, h], fun h => by rw [h]⟩
theorem am_r0 : am_r 0 := ⟨by decide, by decide⟩
theorem am_z0 : (0 : Int32) = Int32.ofInt 0 := rfl
theorem am_in {i : Int} {n : Nat} (h0 : 0 ≤ i) (h1 : i < n) (hn : n < 2147483648) : vp_in (Int32.ofInt i) n ∧ (Int32.ofInt i).toNatClampNeg = i.toNat := by
  have hr : am_r i := ⟨by omega, by omega⟩
  refine ⟨vp_in_iff.mpr (by rw [am_ti hr]; exact ⟨h0, h1⟩), ?_⟩
  show (Int32.ofInt i).toInt.toNat = i.toNat
  rw [am_ti hr]
/-- the number of a comparison of longs -/
def am_cmp (x y : Int) : Int := if y < x then 1 else if x = y then 0 else -1
theorem am_cmp_lg {x y : Int} (hx : am_r64 x) (hy : am_r64 y) : lg_cmp (Int64.ofInt x) (Int64.ofInt y) = Int32.ofInt (am_cmp x y) := by
  unfold lg_cmp am_cmp
  by_cases h : y < x
  · rw [if_pos ((am_lt64 hy hx).mpr h), if_pos h]; rfl
  · rw [if_neg (fun q => h ((am_lt64 hy hx).mp q)), if_neg h]
    by_cases h2 : x = y
    · rw [if_pos ((am_eq64 hx hy).mpr h2), if_pos h2]; rfl
    · rw [if_neg (fun q => h2 ((am_eq64 hx hy).mp q)), if_neg h2]; rfl
def am_and (x y : Int) : Int := (Int32.ofInt x &&& Int32.ofInt y).toInt
def am_or (x y : Int) : Int := (Int32.ofInt x ||| Int32.ofInt y).toInt
def am_xor (x y : Int) : Int := (Int32.ofInt x ^^^ Int32.ofInt y).toInt
def am_shl (x y : Int) : Int := (Int32.ofInt x <<< (Int32.ofInt y &&& 31)).toInt
def am_shr (x y : Int) : Int := (Int32.ofInt x >>> (Int32.ofInt y &&& 31)).toInt
def am_ushr (x y : Int) : Int := ((Int32.ofInt x).toUInt32 >>> ((Int32.ofInt y).toUInt32 &&& Int32.toUInt32 31)).toInt32.toInt
def am_i2b (x : Int) : Int := (Int32.ofInt x).toInt8.toInt32.toInt
def am_i2s (x : Int) : Int := (Int32.ofInt x).toInt16.toInt32.toInt
def am_i2c (x : Int) : Int := ((Int32.ofInt x).toUInt32 % 65536).toInt32.toInt
def am_landL (x y : Int) : Int := (Int64.ofInt x &&& Int64.ofInt y).toInt
def am_lorL (x y : Int) : Int := (Int64.ofInt x ||| Int64.ofInt y).toInt
def am_lshl (x y : Int) : Int := (Int64.ofInt x <<< ((Int32.ofInt y).toInt64 &&& 63)).toInt
def am_lshr (x y : Int) : Int := (Int64.ofInt x >>> ((Int32.ofInt y).toInt64 &&& 63)).toInt
def am_l2i (x : Int) : Int := (Int64.ofInt x).toInt32.toInt
theorem am_i2l {x : Int} (h : am_r x) : (Int32.ofInt x).toInt64 = Int64.ofInt x := by
  have hx : am_r64 x := ⟨by have := h.1; omega, by have := h.2; omega⟩
  apply Int64.toInt_inj.mp
  rw [Int32.toInt_toInt64, am_ti h, am_ti64 hx]
theorem am_div {x y : Int} (hx : 0 ≤ x) (hx2 : x < 2147483648) (hy : 0 < y) (hy2 : y < 2147483648) : Int32.ofInt x / Int32.ofInt y = Int32.ofInt (x / y) := by
  have h1 : am_r x := ⟨by omega, hx2⟩
  have h2 : am_r y := ⟨by omega, hy2⟩
  have h3 : x / y ≤ x := Int.ediv_le_self y hx
  have h4 : 0 ≤ x / y := Int.ediv_nonneg hx (by omega)
  apply Int32.toInt_inj.mp
  rw [Int32.toInt_div, am_ti h1, am_ti h2, am_ti ⟨by omega, by omega⟩, Int.tdiv_eq_ediv_of_nonneg hx]
  have h5 : x / y < 2147483648 := by omega
  have h6 : Int.bmod (x / y) (2 ^ 32) = x / y := by
    apply Int.bmod_eq_of_le <;> omega
  exact h6
theorem am_rem {x y : Int} (hx : 0 ≤ x) (hx2 : x < 2147483648) (hy : 0 < y) (hy2 : y < 2147483648) : Int32.ofInt x - Int32.ofInt x / Int32.ofInt y * Int32.ofInt y = Int32.ofInt (x % y) := by
  rw [am_div hx hx2 hy hy2, ← Int32.ofInt_mul, ← Int32.ofInt_sub]
  congr 1
  have := Int.emod_add_mul_ediv x y
  rw [Int.mul_comm] at this
  omega
theorem am_ne0 {y : Int} (hy : 0 < y) (hy2 : y < 2147483648) : ¬ Int32.ofInt y = 0 := fun h => by
  have := (am_eq ⟨by omega, hy2⟩ am_r0).mp h
  omega
/-- the classes of objects, by number -/
def am_cl : List vw_C := [(RX3, TX3, 34), (RX0, TX0, 20), (RX1, TX1, 5), (RX2, TX2, 2), (RX4, TX4, 7), (RX5, TX5, 2), (RX6, TX6, 5), (RX7, TX7, 9), (RX8, TX8, 8), (RX9, TX9, 3), (RX11, TX11, 3), (RX12, TX12, 3), (RX13, TX13, 3), (RX14, TX14, 4), (RX15, TX15, 3), (RJ2, TJ2, 3), (RJ16, TJ16, 4), (RJ8, TJ8, 4), (RJ19, TJ19, 6), (RJ7, TJ7, 6)]
/-- the classes of arrays, by number -/
def am_tys (cA : Nat → ClassId) : List (ClassId × FieldType) := [(cA 0, .int), (cA 1, .boolean), (cA 2, .byte), (cA 3, .object "TableArms$Table"), (cA 4, .object "TableArms$Sheet"), (cA 5, .object "java/lang/Object"), (cA 6, .object "java/lang/String")]
/-- a start of the claim -/
def am_start (a0 : Array Value) (U0 : State) : Prop := (∀ w ∈ lw_tbl, w.before a0 U0 = true) ∧ (Jvm.Cond.and given_1 narrow_1).before a0 U0 = true ∧ modulesRight_1 U0 = true
/-- String constants that the code names: class, entry, text, number -/
def am_str : List (String × Nat × String × Nat) := [("TableArms$Reader", 9, "", 12), ("TableArms$Reader", 97, "never", 13), ("TableArms$Reader", 99, "most", 14)]
/-- the tables are those of the start -/
def am_ext (G : va_G × (Nat → ClassId) × (Nat → Nat) × (Nat → Prop) × State × Array Value) (U : State) : Prop := am_start G.2.2.2.2.2 G.2.2.2.2.1 ∧ G.2.2.2.2.1.WarmedH U.vm ∧ ∀ q : String × Nat × String × Nat, q ∈ am_str → vk_R q.1 q.2.1 q.2.2.1 (G.2.2.1 q.2.2.2) U
theorem am_ext.warm {G : va_G × (Nat → ClassId) × (Nat → Nat) × (Nat → Prop) × State × Array Value} {s U : State} (h : am_ext G s) (hW : s.WarmedH U.vm) : am_ext G U := ⟨h.1, State.WarmedH.trans h.2.1 hW, fun q hq => vk_R.warm hW (h.2.2 q hq)⟩
theorem am_ext.same {G : va_G × (Nat → ClassId) × (Nat → Nat) × (Nat → Prop) × State × Array Value} {u U : State} (hv : u.vm = U.vm) (h : am_ext G u) : am_ext G U := ⟨h.1, hv ▸ h.2.1, fun q hq => vk_R.same hv.symm (h.2.2 q hq)⟩
/-! the context: classes and fields' places, array classes, addresses, what may change -/
abbrev am_X : Type := va_G × (Nat → ClassId) × (Nat → Nat) × (Nat → Prop) × State × Array Value
/-- what a walk has to come to -/
abbrev am_Et : Type := am_X → List Frame → State → Array Value → State → Prop
/-- words of the tables that don't ride in lw_all -/
def am_nwk : Cond → Bool
  | .fieldLinkNest .. => true
  | .methodLinkNest .. => true
  | .castable .. => true
  | .declares .. => true
  | .privateMethod .. => true
  | _ => false
theorem am_nwk_on {w : Cond} (h : am_nwk w = true) : w.onTables = true := by
  cases w <;> first | rfl | cases h
theorem am_nwk_warm {w : Cond} (h : am_nwk w = true) {s U : State} (hW : s.WarmedH U.vm) (hZ : va_Nw w s) : va_Nw w U := by
  cases w <;> first | (exact va_Nw.warmF hW hZ) | (exact va_Nw.warmM hW hZ) | (exact va_Nw.warmC hW hZ) | (exact va_Nw.warmD hW hZ) | (exact Cond.privateMethod_warm hW hZ) | cases h
def am_nw : List Cond := lw_tbl.filter am_nwk
def am_Nw (U : State) : Prop := ∀ w ∈ am_nw, va_Nw w U
theorem am_Nw.warm {s U : State} (hW : s.WarmedH U.vm) (h : am_Nw s) : am_Nw U := fun w hw => am_nwk_warm (List.mem_filter.mp hw).2 hW (h w hw)
theorem am_Nw.same {u U : State} (hv : u.vm = U.vm) (h : am_Nw u) : am_Nw U := fun w hw => va_Nw.same (am_nwk_on (List.mem_filter.mp hw).2) hv (h w hw)
theorem am_nwin {w : Cond} (h : w ∈ lw_tbl) (g : am_nwk w = true) : w ∈ am_nw := List.mem_filter.mpr ⟨h, g⟩
/-- what is known of the tables all through a run -/
def am_K (G : am_X) (U : State) : Prop := va_K G.1 am_cl (am_tys G.2.1) U ∧ am_Nw U ∧ am_ext G U
theorem am_K.warm {G : am_X} {s U : State} (hW : s.WarmedH U.vm) (h : am_K G s) : am_K G U := ⟨va_K.moved hW.alike h.1, h.2.1.warm hW, h.2.2.warm hW⟩
theorem am_K.calling {G : am_X} {U : State} {g : JFrame} {mk : MethodId} {a : Array Value} (h : am_K G U) : am_K G (U.calling g mk a) := ⟨va_K.moved (u := U) (U := U.calling g mk a) (Vm.Alike.refl U.vm) h.1, am_Nw.same (u := U) (U := U.calling g mk a) rfl h.2.1, am_ext.same (u := U) (U := U.calling g mk a) rfl h.2.2⟩
def am_l (ad : Nat → Nat) (lv : List (Nat × am_W)) : List (Nat × Value) := lv.map (fun q => (q.1, am_c ad q.2))
def am_P {σ : Type} (rep : am_X → σ → Heap → Prop) (G : am_X) (as : List am_W) (S : σ) : Array Value → State → Prop :=
  va_Pc (as.map (am_c G.2.2.1)) (fun U => am_K G U ∧ rep G S U.heap ∧ ∀ q, U.heap.size ≤ q → G.2.2.2.1 q)
def am_Q {σ : Type} (rep : am_X → σ → Heap → Prop) (G : am_X) (Q : Option am_W → σ → Prop) : Array Value → State → Outcome → State → Prop := fun _ st o t =>
  (∃ (v : Option am_W) (S : σ), o = .returned (v.map (am_c G.2.2.1)) ∧ Q v S ∧ rep G S t.heap) ∧ va_F G.2.2.2.1 st t
/-- a method's contract -/
def am_C {σ : Type} (rep : am_X → σ → Heap → Prop) (l : Launch) (y : MethodName) (ws : List Cond) (rm : Room) (mc ms : Nat) (as : List am_W) (S : σ) (Q : Option am_W → σ → Prop) : Prop :=
  ∀ G : am_X, Met l y ws rm (am_P rep G as S) (am_Q rep G Q) mc ms G.2.2.2.1
/-- the tables of handlers of the methods that have one -/
def am_tb (own nm : String) : List (Nat × Nat × Nat × Nat) := if own = "TableArms" then (if nm = "sheet" then [(28, 61, 62, 114)] else if nm = "set" then [(10, 60, 61, 114)] else if nm = "copy" then [(53, 71, 74, 171), (17, 91, 92, 114)] else if nm = "drop" then [(10, 32, 33, 114)] else if nm = "lessons" then [(22, 105, 106, 114)] else if nm = "nevers" then [(33, 37, 40, 375)] else if nm = "ways" then [(35, 73, 88, 114), (74, 87, 88, 114)] else if nm = "as" then [(29, 105, 106, 443), (23, 105, 117, 114), (106, 117, 117, 114)] else []) else []
def am_F (own : String) (cc : ByteArray) (nL : Nat) (ret : Option FieldType) (nm : String) (G : am_X) (p : Program) (s : State) (m : MethodId) (args : Array Value) (meth : Method) (c : Code) : Prop :=
  p.tables.exec = Jvm.exec ∧ c.code = cc ∧ c.maxLocals = nL ∧ meth.sig.returnType = ret ∧ meth.locks = false ∧ (meth.name = nm ∧ c.exceptionTable.toList = tableOf (am_tb own nm)) ∧ s.vm.findClass own = some m.cls ∧ (∀ w ∈ lw_all, w.before args s = true) ∧ am_K G s ∧ ∀ q, s.heap.size ≤ q → G.2.2.2.1 q
def am_E1 {σ : Type} (rep : am_X → σ → Heap → Prop) (mc ms : Nat) (Q : Option am_W → σ → Prop) : am_Et := fun G below s args => MQ below (am_Q rep G Q) args s mc ms G.2.2.2.1
/-- from pc on, with locals lv, stack st and the state S, the method comes to an end with Q -/
def am_V {σ : Type} (rep : am_X → σ → Heap → Prop) (l : Launch) (own : String) (cc : ByteArray) (nL : Nat) (ret : Option FieldType) (nm : String) (R : Room) (E : am_Et) (pc : Nat) (lv : List (Nat × am_W)) (st : List am_W) (S : σ) (cells slots : Nat) : Prop :=
  ∀ (G : am_X) (p : Program) (e : Env) (s : State) (m : MethodId) (args : Array Value) (below : List Frame) (meth : Method) (c : Code) (H : Heap) (locs : List Loc) (ls : Array Slot),
    am_F own cc nL ret nm G p s m args meth c → rep G S H → va_S G.2.2.2.1 s.heap H locs → lv_has ls nL (am_l G.2.2.1 lv) →
    W p l e R s m args below meth c H locs cells slots (E G below s args) (F0 m pc ls (st.map (am_c G.2.2.1)))
def am_flt1 (i : Nat) (lv : List (Nat × am_W)) : List (Nat × am_W) := lv.filter (fun q => !(q.1 == i) && !(q.1 + 1 == i && am_cat q.2 == 2))
def am_flt2 (i : Nat) (lv : List (Nat × am_W)) : List (Nat × am_W) := lv.filter (fun q => !(q.1 == i) && (!(q.1 == i + 1) && !(q.1 + 1 == i && am_cat q.2 == 2)))
theorem am_l_flt1 (ad : Nat → Nat) (i : Nat) (lv : List (Nat × am_W)) : (am_l ad lv).filter (fun q => !(q.1 == i) && !(q.1 + 1 == i && q.2.category == 2)) = am_l ad (am_flt1 i lv) := by
  unfold am_l am_flt1
  rw [List.filter_map]
  congr 1
  apply List.filter_congr
  intro q _
  simp [Function.comp, am_cat_c]
theorem am_l_flt2 (ad : Nat → Nat) (i : Nat) (lv : List (Nat × am_W)) : (am_l ad lv).filter (fun q => !(q.1 == i) && (!(q.1 == i + 1) && !(q.1 + 1 == i && q.2.category == 2))) = am_l ad (am_flt2 i lv) := by
  unfold am_l am_flt2
  rw [List.filter_map]
  congr 1
  apply List.filter_congr
  intro q _
  simp [Function.comp, am_cat_c]
theorem am_l_at {ad : Nat → Nat} {lv : List (Nat × am_W)} {ls : Array Slot} {nL : Nat} (h : lv_has ls nL (am_l ad lv)) (k : Nat) {i : Nat} {v : am_W} (hk : lv[k]? = some (i, v)) : ls[i]? = some (.val (am_c ad v)) :=
  lv_at h k (by unfold am_l; rw [List.getElem?_map, hk]; rfl)
section AMR
variable {σ : Type} {rep : am_X → σ → Heap → Prop} {l : Launch} {own : String} {cc : ByteArray} {nL : Nat} {ret : Option FieldType} {nm : String} {R : Room} {E : am_Et} {mc ms : Nat} {Q : Option am_W → σ → Prop} {pc : Nat} {lv lv' : List (Nat × am_W)} {st : List am_W} {S : σ} {cells slots : Nat}
theorem am_keep (ks : List Nat) (hk : ks.filterMap (fun k => lv[k]?) = lv') (k : am_V rep l own cc nL ret nm R E pc lv' st S cells slots) : am_V rep l own cc nL ret nm R E pc lv st S cells slots := by
  intro G p e s m args below meth c H locs ls F hr hS hl
  refine k G p e s m args below meth c H locs ls F hr hS (lv_sub hl ks ?_)
  rw [← hk]
  unfold lv_pick am_l
  rw [List.map_filterMap]
  congr 1
  funext k
  rw [List.getElem?_map]
theorem am_widen {k n : Nat} (h1 : cells ≤ k) (h2 : slots ≤ n) (kk : am_V rep l own cc nL ret nm R E pc lv st S k n) : am_V rep l own cc nL ret nm R E pc lv st S cells slots := by
  intro G p e s m args below meth c H locs ls F hr hS hl
  exact W.widen h1 h2 (kk G p e s m args below meth c H locs ls F hr hS hl)
theorem am_mono {E' : am_Et} (hq : ∀ G below s args t, E G below s args t → E' G below s args t) (kk : am_V rep l own cc nL ret nm R E pc lv st S cells slots) : am_V rep l own cc nL ret nm R E' pc lv st S cells slots := by
  intro G p e s m args below meth c H locs ls F hr hS hl T hT X
  obtain ⟨t, a, h⟩ := kk G p e s m args below meth c H locs ls F hr hS hl T hT X
  exact ⟨t, a, hq _ _ _ _ _ h⟩
theorem am_iconst {n : Int} (hd : decode cc pc = .ok (.iconst n, 1)) (k : am_V rep l own cc nL ret nm R E (pc + 1) lv (am_I n :: st) S cells slots) : am_V rep l own cc nL ret nm R E pc lv st S cells slots := by
  intro G p e s m args below meth c H locs ls F hr hS hl
  exact lv_iconst F.1 F.2.1 hd rfl (k G p e s m args below meth c H locs ls F hr hS hl)
theorem am_bipush {n : Int} (hd : decode cc pc = .ok (.bipush n, 2)) (hv : (Int8.ofInt n).toInt32 = Int32.ofInt n) (k : am_V rep l own cc nL ret nm R E (pc + 2) lv (am_I n :: st) S cells slots) : am_V rep l own cc nL ret nm R E pc lv st S cells slots := by
  intro G p e s m args below meth c H locs ls F hr hS hl
  exact lv_bipush F.1 F.2.1 hd hv (k G p e s m args below meth c H locs ls F hr hS hl)
theorem am_sipush {n : Int} (hd : decode cc pc = .ok (.sipush n, 3)) (hv : (Int16.ofInt n).toInt32 = Int32.ofInt n) (k : am_V rep l own cc nL ret nm R E (pc + 3) lv (am_I n :: st) S cells slots) : am_V rep l own cc nL ret nm R E pc lv st S cells slots := by
  intro G p e s m args below meth c H locs ls F hr hS hl
  exact lv_sipush F.1 F.2.1 hd hv (k G p e s m args below meth c H locs ls F hr hS hl)
theorem am_lconst {n : Fin 2} {z : Int} (hd : decode cc pc = .ok (.lconst n, 1)) (hv : Int64.ofNat (n : Nat) = Int64.ofInt z) (k : am_V rep l own cc nL ret nm R E (pc + 1) lv (am_J z :: st) S cells slots) : am_V rep l own cc nL ret nm R E pc lv st S cells slots := by
  intro G p e s m args below meth c H locs ls F hr hS hl
  exact lv_lconst F.1 F.2.1 hd hv (k G p e s m args below meth c H locs ls F hr hS hl)
theorem am_ldc {index : Nat} {v : Int32} {z : Int} (hc : Cond.constant own index v ∈ lw_all) (hv : v = Int32.ofInt z) (hd : decode cc pc = .ok (.ldc index, 2)) (k : am_V rep l own cc nL ret nm R E (pc + 2) lv (am_I z :: st) S cells slots) : am_V rep l own cc nL ret nm R E pc lv st S cells slots := by
  intro G p e s m args below meth c H locs ls F hr hS hl
  subst hv
  exact lv_ldc F.1 F.2.1 F.2.2.2.2.2.2.1 (F.2.2.2.2.2.2.2.1 _ hc) hd (k G p e s m args below meth c H locs ls F hr hS hl)
theorem am_ldcw {index : Nat} {v : Int32} {z : Int} (hc : Cond.constant own index v ∈ lw_all) (hv : v = Int32.ofInt z) (hd : decode cc pc = .ok (.ldc_w index, 3)) (k : am_V rep l own cc nL ret nm R E (pc + 3) lv (am_I z :: st) S cells slots) : am_V rep l own cc nL ret nm R E pc lv st S cells slots := by
  intro G p e s m args below meth c H locs ls F hr hS hl
  subst hv
  exact lv_ldcw F.1 F.2.1 F.2.2.2.2.2.2.1 (F.2.2.2.2.2.2.2.1 _ hc) hd (k G p e s m args below meth c H locs ls F hr hS hl)
theorem am_ldc2 {index : Nat} {v : Int64} {z : Int} (hc : Cond.constantLong own index v ∈ lw_all) (hv : v = Int64.ofInt z) (hd : decode cc pc = .ok (.ldc2_w index, 3)) (k : am_V rep l own cc nL ret nm R E (pc + 3) lv (am_J z :: st) S cells slots) : am_V rep l own cc nL ret nm R E pc lv st S cells slots := by
  intro G p e s m args below meth c H locs ls F hr hS hl
  subst hv
  exact lv_ldc2 F.1 F.2.1 F.2.2.2.2.2.2.1 (F.2.2.2.2.2.2.2.1 _ hc) hd (k G p e s m args below meth c H locs ls F hr hS hl)
theorem am_iload_n {j : Fin 4} {i : Nat} {x : Int} (hd : decode cc pc = .ok (.iload_n j, 1)) (hi : (j : Nat) = i) (n : Nat) (hk : lv[n]? = some (i, am_I x)) (k : am_V rep l own cc nL ret nm R E (pc + 1) lv (am_I x :: st) S cells slots) : am_V rep l own cc nL ret nm R E pc lv st S cells slots := by
  intro G p e s m args below meth c H locs ls F hr hS hl
  exact lv_iload_n F.1 F.2.1 hd hi (am_l_at hl n hk) (k G p e s m args below meth c H locs ls F hr hS hl)
theorem am_iload {i : Nat} {x : Int} (hd : decode cc pc = .ok (.iload i, 2)) (n : Nat) (hk : lv[n]? = some (i, am_I x)) (k : am_V rep l own cc nL ret nm R E (pc + 2) lv (am_I x :: st) S cells slots) : am_V rep l own cc nL ret nm R E pc lv st S cells slots := by
  intro G p e s m args below meth c H locs ls F hr hS hl
  exact lv_iload F.1 F.2.1 hd (am_l_at hl n hk) (k G p e s m args below meth c H locs ls F hr hS hl)
theorem am_lload_n {j : Fin 4} {i : Nat} {x : Int} (hd : decode cc pc = .ok (.lload_n j, 1)) (hi : (j : Nat) = i) (n : Nat) (hk : lv[n]? = some (i, am_J x)) (k : am_V rep l own cc nL ret nm R E (pc + 1) lv (am_J x :: st) S cells slots) : am_V rep l own cc nL ret nm R E pc lv st S cells slots := by
  intro G p e s m args below meth c H locs ls F hr hS hl
  have hs := am_l_at hl n hk
  exact lv_lload_n F.1 F.2.1 hd hi hs (k G p e s m args below meth c H locs ls F hr hS hl)
theorem am_lload {i : Nat} {x : Int} (hd : decode cc pc = .ok (.lload i, 2)) (n : Nat) (hk : lv[n]? = some (i, am_J x)) (k : am_V rep l own cc nL ret nm R E (pc + 2) lv (am_J x :: st) S cells slots) : am_V rep l own cc nL ret nm R E pc lv st S cells slots := by
  intro G p e s m args below meth c H locs ls F hr hS hl
  have hs := am_l_at hl n hk
  exact lv_lload F.1 F.2.1 hd hs (k G p e s m args below meth c H locs ls F hr hS hl)
theorem am_aload_n {j : Fin 4} {i : Nat} {x : Option Nat} (hd : decode cc pc = .ok (.aload_n j, 1)) (hi : (j : Nat) = i) (n : Nat) (hk : lv[n]? = some (i, am_O x)) (k : am_V rep l own cc nL ret nm R E (pc + 1) lv (am_O x :: st) S cells slots) : am_V rep l own cc nL ret nm R E pc lv st S cells slots := by
  intro G p e s m args below meth c H locs ls F hr hS hl
  cases x with
  | none => exact lv_aload_nN F.1 F.2.1 hd hi (am_l_at hl n hk) (k G p e s m args below meth c H locs ls F hr hS hl)
  | some x => exact lv_aload_n F.1 F.2.1 hd hi (am_l_at hl n hk) (k G p e s m args below meth c H locs ls F hr hS hl)
theorem am_aload {i : Nat} {x : Option Nat} (hd : decode cc pc = .ok (.aload i, 2)) (n : Nat) (hk : lv[n]? = some (i, am_O x)) (k : am_V rep l own cc nL ret nm R E (pc + 2) lv (am_O x :: st) S cells slots) : am_V rep l own cc nL ret nm R E pc lv st S cells slots := by
  intro G p e s m args below meth c H locs ls F hr hS hl
  cases x with
  | none => exact lv_aloadN F.1 F.2.1 hd (am_l_at hl n hk) (k G p e s m args below meth c H locs ls F hr hS hl)
  | some x => exact lv_aload F.1 F.2.1 hd (am_l_at hl n hk) (k G p e s m args below meth c H locs ls F hr hS hl)
theorem am_istore_n {j : Fin 4} {i : Nat} {x : Int} (hd : decode cc pc = .ok (.istore_n j, 1)) (hi : (j : Nat) = i) (hn : i < nL) (hl' : (i, am_I x) :: am_flt1 i lv = lv') (k : am_V rep l own cc nL ret nm R E (pc + 1) lv' st S cells slots) : am_V rep l own cc nL ret nm R E pc lv (am_I x :: st) S cells slots := by
  intro G p e s m args below meth c H locs ls F hr hS hl
  refine lv_istore_n F.1 F.2.1 hd hi hl hn rfl (fun ls' hl2 => ?_)
  rw [am_l_flt1] at hl2
  subst hl'
  exact k G p e s m args below meth c H locs ls' F hr hS hl2
theorem am_istore {i : Nat} {x : Int} (hd : decode cc pc = .ok (.istore i, 2)) (hn : i < nL) (hl' : (i, am_I x) :: am_flt1 i lv = lv') (k : am_V rep l own cc nL ret nm R E (pc + 2) lv' st S cells slots) : am_V rep l own cc nL ret nm R E pc lv (am_I x :: st) S cells slots := by
  intro G p e s m args below meth c H locs ls F hr hS hl
  refine lv_istore F.1 F.2.1 hd hl hn rfl (fun ls' hl2 => ?_)
  rw [am_l_flt1] at hl2
  subst hl'
  exact k G p e s m args below meth c H locs ls' F hr hS hl2
theorem am_lstore_n {j : Fin 4} {i : Nat} {x : Int} (hd : decode cc pc = .ok (.lstore_n j, 1)) (hi : (j : Nat) = i) (hn : i + 1 < nL) (hl' : (i, am_J x) :: am_flt2 i lv = lv') (k : am_V rep l own cc nL ret nm R E (pc + 1) lv' st S cells slots) : am_V rep l own cc nL ret nm R E pc lv (am_J x :: st) S cells slots := by
  intro G p e s m args below meth c H locs ls F hr hS hl
  refine lv_lstore_n F.1 F.2.1 hd hi hl hn rfl (fun ls' hl2 => ?_)
  rw [am_l_flt2] at hl2
  subst hl'
  exact k G p e s m args below meth c H locs ls' F hr hS hl2
theorem am_lstore {i : Nat} {x : Int} (hd : decode cc pc = .ok (.lstore i, 2)) (hn : i + 1 < nL) (hl' : (i, am_J x) :: am_flt2 i lv = lv') (k : am_V rep l own cc nL ret nm R E (pc + 2) lv' st S cells slots) : am_V rep l own cc nL ret nm R E pc lv (am_J x :: st) S cells slots := by
  intro G p e s m args below meth c H locs ls F hr hS hl
  refine lv_lstore F.1 F.2.1 hd hl hn rfl (fun ls' hl2 => ?_)
  rw [am_l_flt2] at hl2
  subst hl'
  exact k G p e s m args below meth c H locs ls' F hr hS hl2
theorem am_astore_n {j : Fin 4} {i : Nat} {x : Option Nat} (hd : decode cc pc = .ok (.astore_n j, 1)) (hi : (j : Nat) = i) (hn : i < nL) (hl' : (i, am_O x) :: am_flt1 i lv = lv') (k : am_V rep l own cc nL ret nm R E (pc + 1) lv' st S cells slots) : am_V rep l own cc nL ret nm R E pc lv (am_O x :: st) S cells slots := by
  intro G p e s m args below meth c H locs ls F hr hS hl
  cases x with
  | none =>
    refine lv_astore_nN F.1 F.2.1 hd hi hl hn rfl (fun ls' hl2 => ?_)
    rw [am_l_flt1] at hl2
    subst hl'
    exact k G p e s m args below meth c H locs ls' F hr hS hl2
  | some x =>
    refine lv_astore_n F.1 F.2.1 hd hi hl hn rfl (fun ls' hl2 => ?_)
    rw [am_l_flt1] at hl2
    subst hl'
    exact k G p e s m args below meth c H locs ls' F hr hS hl2
theorem am_astore {i : Nat} {x : Option Nat} (hd : decode cc pc = .ok (.astore i, 2)) (hn : i < nL) (hl' : (i, am_O x) :: am_flt1 i lv = lv') (k : am_V rep l own cc nL ret nm R E (pc + 2) lv' st S cells slots) : am_V rep l own cc nL ret nm R E pc lv (am_O x :: st) S cells slots := by
  intro G p e s m args below meth c H locs ls F hr hS hl
  cases x with
  | none =>
    refine lv_astoreN F.1 F.2.1 hd hl hn rfl (fun ls' hl2 => ?_)
    rw [am_l_flt1] at hl2
    subst hl'
    exact k G p e s m args below meth c H locs ls' F hr hS hl2
  | some x =>
    refine lv_astore F.1 F.2.1 hd hl hn rfl (fun ls' hl2 => ?_)
    rw [am_l_flt1] at hl2
    subst hl'
    exact k G p e s m args below meth c H locs ls' F hr hS hl2
theorem am_iinc {i n : Nat} {z x : Int} (hd : decode cc pc = .ok (.iinc i z, 3)) (hk : lv[n]? = some (i, am_I x)) (hn : i < nL) (hl' : (i, am_I (x + z)) :: am_flt1 i lv = lv') (k : am_V rep l own cc nL ret nm R E (pc + 3) lv' st S cells slots) : am_V rep l own cc nL ret nm R E pc lv st S cells slots := by
  intro G p e s m args below meth c H locs ls F hr hS hl
  refine lv_iinc (k := n) (x := Int32.ofInt x) (v := Int32.ofInt (x + z)) F.1 F.2.1 hd hl ?_ (Int32.ofInt_add ..).symm hn rfl (fun ls' hl2 => ?_)
  · unfold am_l
    rw [List.getElem?_map, hk]
    rfl
  · rw [am_l_flt1] at hl2
    subst hl'
    exact k G p e s m args below meth c H locs ls' F hr hS hl2
theorem am_iadd {x y : Int} (hd : decode cc pc = .ok (.iadd, 1)) (k : am_V rep l own cc nL ret nm R E (pc + 1) lv (am_I (x + y) :: st) S cells slots) : am_V rep l own cc nL ret nm R E pc lv (am_I y :: am_I x :: st) S cells slots := by
  intro G p e s m args below meth c H locs ls F hr hS hl
  have K := k G p e s m args below meth c H locs ls F hr hS hl
  refine lv_iadd F.1 F.2.1 hd ?_
  rw [← Int32.ofInt_add]
  exact K
theorem am_isub {x y : Int} (hd : decode cc pc = .ok (.isub, 1)) (k : am_V rep l own cc nL ret nm R E (pc + 1) lv (am_I (x - y) :: st) S cells slots) : am_V rep l own cc nL ret nm R E pc lv (am_I y :: am_I x :: st) S cells slots := by
  intro G p e s m args below meth c H locs ls F hr hS hl
  have K := k G p e s m args below meth c H locs ls F hr hS hl
  refine lv_isub F.1 F.2.1 hd ?_
  rw [← Int32.ofInt_sub]
  exact K
theorem am_imul {x y : Int} (hd : decode cc pc = .ok (.imul, 1)) (k : am_V rep l own cc nL ret nm R E (pc + 1) lv (am_I (x * y) :: st) S cells slots) : am_V rep l own cc nL ret nm R E pc lv (am_I y :: am_I x :: st) S cells slots := by
  intro G p e s m args below meth c H locs ls F hr hS hl
  have K := k G p e s m args below meth c H locs ls F hr hS hl
  refine lv_imul F.1 F.2.1 hd ?_
  rw [← Int32.ofInt_mul]
  exact K
theorem am_ineg {x : Int} (hd : decode cc pc = .ok (.ineg, 1)) (k : am_V rep l own cc nL ret nm R E (pc + 1) lv (am_I (-x) :: st) S cells slots) : am_V rep l own cc nL ret nm R E pc lv (am_I x :: st) S cells slots := by
  intro G p e s m args below meth c H locs ls F hr hS hl
  have K := k G p e s m args below meth c H locs ls F hr hS hl
  refine lv_ineg F.1 F.2.1 hd ?_
  rw [← Int32.ofInt_neg]
  exact K
theorem am_ladd {x y : Int} (hd : decode cc pc = .ok (.ladd, 1)) (k : am_V rep l own cc nL ret nm R E (pc + 1) lv (am_J (x + y) :: st) S cells slots) : am_V rep l own cc nL ret nm R E pc lv (am_J y :: am_J x :: st) S cells slots := by
  intro G p e s m args below meth c H locs ls F hr hS hl
  have K := k G p e s m args below meth c H locs ls F hr hS hl
  refine lv_ladd F.1 F.2.1 hd ?_
  rw [← Int64.ofInt_add]
  exact K
theorem am_lsub {x y : Int} (hd : decode cc pc = .ok (.lsub, 1)) (k : am_V rep l own cc nL ret nm R E (pc + 1) lv (am_J (x - y) :: st) S cells slots) : am_V rep l own cc nL ret nm R E pc lv (am_J y :: am_J x :: st) S cells slots := by
  intro G p e s m args below meth c H locs ls F hr hS hl
  have K := k G p e s m args below meth c H locs ls F hr hS hl
  refine lv_lsub F.1 F.2.1 hd ?_
  rw [← Int64.ofInt_sub]
  exact K
theorem am_lmul {x y : Int} (hd : decode cc pc = .ok (.lmul, 1)) (k : am_V rep l own cc nL ret nm R E (pc + 1) lv (am_J (x * y) :: st) S cells slots) : am_V rep l own cc nL ret nm R E pc lv (am_J y :: am_J x :: st) S cells slots := by
  intro G p e s m args below meth c H locs ls F hr hS hl
  have K := k G p e s m args below meth c H locs ls F hr hS hl
  refine lv_lmul F.1 F.2.1 hd ?_
  rw [← Int64.ofInt_mul]
  exact K
theorem am_idiv {x y : Int} (hd : decode cc pc = .ok (.idiv, 1)) (hx : 0 ≤ x) (hx2 : x < 2147483648) (hy : 0 < y) (hy2 : y < 2147483648) (k : am_V rep l own cc nL ret nm R E (pc + 1) lv (am_I (x / y) :: st) S cells slots) : am_V rep l own cc nL ret nm R E pc lv (am_I y :: am_I x :: st) S cells slots := by
  intro G p e s m args below meth c H locs ls F hr hS hl
  have K := k G p e s m args below meth c H locs ls F hr hS hl
  refine lv_idiv F.1 F.2.1 hd (am_ne0 hy hy2) ?_
  rw [am_div hx hx2 hy hy2]
  exact K
theorem am_irem {x y : Int} (hd : decode cc pc = .ok (.irem, 1)) (hx : 0 ≤ x) (hx2 : x < 2147483648) (hy : 0 < y) (hy2 : y < 2147483648) (k : am_V rep l own cc nL ret nm R E (pc + 1) lv (am_I (x % y) :: st) S cells slots) : am_V rep l own cc nL ret nm R E pc lv (am_I y :: am_I x :: st) S cells slots := by
  intro G p e s m args below meth c H locs ls F hr hS hl
  have K := k G p e s m args below meth c H locs ls F hr hS hl
  refine lv_irem F.1 F.2.1 hd (am_ne0 hy hy2) ?_
  rw [am_rem hx hx2 hy hy2]
  exact K
theorem am_iand {x y : Int} (hd : decode cc pc = .ok (.iand, 1)) (k : am_V rep l own cc nL ret nm R E (pc + 1) lv (am_I (am_and x y) :: st) S cells slots) : am_V rep l own cc nL ret nm R E pc lv (am_I y :: am_I x :: st) S cells slots := by
  intro G p e s m args below meth c H locs ls F hr hS hl
  have K := k G p e s m args below meth c H locs ls F hr hS hl
  refine lv_iand F.1 F.2.1 hd ?_
  rw [List.map_cons, show am_c G.2.2.1 (am_I (am_and x y)) = Value.int _ from congrArg Value.int (am_it _)] at K
  exact K
theorem am_ior {x y : Int} (hd : decode cc pc = .ok (.ior, 1)) (k : am_V rep l own cc nL ret nm R E (pc + 1) lv (am_I (am_or x y) :: st) S cells slots) : am_V rep l own cc nL ret nm R E pc lv (am_I y :: am_I x :: st) S cells slots := by
  intro G p e s m args below meth c H locs ls F hr hS hl
  have K := k G p e s m args below meth c H locs ls F hr hS hl
  refine lv_ior F.1 F.2.1 hd ?_
  rw [List.map_cons, show am_c G.2.2.1 (am_I (am_or x y)) = Value.int _ from congrArg Value.int (am_it _)] at K
  exact K
theorem am_ixor {x y : Int} (hd : decode cc pc = .ok (.ixor, 1)) (k : am_V rep l own cc nL ret nm R E (pc + 1) lv (am_I (am_xor x y) :: st) S cells slots) : am_V rep l own cc nL ret nm R E pc lv (am_I y :: am_I x :: st) S cells slots := by
  intro G p e s m args below meth c H locs ls F hr hS hl
  have K := k G p e s m args below meth c H locs ls F hr hS hl
  refine lv_ixor F.1 F.2.1 hd ?_
  rw [List.map_cons, show am_c G.2.2.1 (am_I (am_xor x y)) = Value.int _ from congrArg Value.int (am_it _)] at K
  exact K
theorem am_ishl {x y : Int} (hd : decode cc pc = .ok (.ishl, 1)) (k : am_V rep l own cc nL ret nm R E (pc + 1) lv (am_I (am_shl x y) :: st) S cells slots) : am_V rep l own cc nL ret nm R E pc lv (am_I y :: am_I x :: st) S cells slots := by
  intro G p e s m args below meth c H locs ls F hr hS hl
  have K := k G p e s m args below meth c H locs ls F hr hS hl
  refine lv_ishl F.1 F.2.1 hd ?_
  rw [List.map_cons, show am_c G.2.2.1 (am_I (am_shl x y)) = Value.int _ from congrArg Value.int (am_it _)] at K
  exact K
theorem am_ishr {x y : Int} (hd : decode cc pc = .ok (.ishr, 1)) (k : am_V rep l own cc nL ret nm R E (pc + 1) lv (am_I (am_shr x y) :: st) S cells slots) : am_V rep l own cc nL ret nm R E pc lv (am_I y :: am_I x :: st) S cells slots := by
  intro G p e s m args below meth c H locs ls F hr hS hl
  have K := k G p e s m args below meth c H locs ls F hr hS hl
  refine lv_ishr F.1 F.2.1 hd ?_
  rw [List.map_cons, show am_c G.2.2.1 (am_I (am_shr x y)) = Value.int _ from congrArg Value.int (am_it _)] at K
  exact K
theorem am_iushr {x y : Int} (hd : decode cc pc = .ok (.iushr, 1)) (k : am_V rep l own cc nL ret nm R E (pc + 1) lv (am_I (am_ushr x y) :: st) S cells slots) : am_V rep l own cc nL ret nm R E pc lv (am_I y :: am_I x :: st) S cells slots := by
  intro G p e s m args below meth c H locs ls F hr hS hl
  have K := k G p e s m args below meth c H locs ls F hr hS hl
  refine lv_iushr F.1 F.2.1 hd rfl ?_
  rw [List.map_cons, show am_c G.2.2.1 (am_I (am_ushr x y)) = Value.int _ from congrArg Value.int (am_it _)] at K
  exact K
theorem am_i2b_ {x : Int} (hd : decode cc pc = .ok (.i2b, 1)) (k : am_V rep l own cc nL ret nm R E (pc + 1) lv (am_I (am_i2b x) :: st) S cells slots) : am_V rep l own cc nL ret nm R E pc lv (am_I x :: st) S cells slots := by
  intro G p e s m args below meth c H locs ls F hr hS hl
  have K := k G p e s m args below meth c H locs ls F hr hS hl
  refine lv_i2b F.1 F.2.1 hd rfl ?_
  rw [List.map_cons, show am_c G.2.2.1 (am_I (am_i2b x)) = Value.int _ from congrArg Value.int (am_it _)] at K
  exact K
theorem am_i2s_ {x : Int} (hd : decode cc pc = .ok (.i2s, 1)) (k : am_V rep l own cc nL ret nm R E (pc + 1) lv (am_I (am_i2s x) :: st) S cells slots) : am_V rep l own cc nL ret nm R E pc lv (am_I x :: st) S cells slots := by
  intro G p e s m args below meth c H locs ls F hr hS hl
  have K := k G p e s m args below meth c H locs ls F hr hS hl
  refine lv_i2s F.1 F.2.1 hd rfl ?_
  rw [List.map_cons, show am_c G.2.2.1 (am_I (am_i2s x)) = Value.int _ from congrArg Value.int (am_it _)] at K
  exact K
theorem am_i2c_ {x : Int} (hd : decode cc pc = .ok (.i2c, 1)) (k : am_V rep l own cc nL ret nm R E (pc + 1) lv (am_I (am_i2c x) :: st) S cells slots) : am_V rep l own cc nL ret nm R E pc lv (am_I x :: st) S cells slots := by
  intro G p e s m args below meth c H locs ls F hr hS hl
  have K := k G p e s m args below meth c H locs ls F hr hS hl
  refine lv_i2c F.1 F.2.1 hd rfl ?_
  rw [List.map_cons, show am_c G.2.2.1 (am_I (am_i2c x)) = Value.int _ from congrArg Value.int (am_it _)] at K
  exact K
theorem am_land {x y : Int} (hd : decode cc pc = .ok (.land, 1)) (k : am_V rep l own cc nL ret nm R E (pc + 1) lv (am_J (am_landL x y) :: st) S cells slots) : am_V rep l own cc nL ret nm R E pc lv (am_J y :: am_J x :: st) S cells slots := by
  intro G p e s m args below meth c H locs ls F hr hS hl
  have K := k G p e s m args below meth c H locs ls F hr hS hl
  refine lv_land F.1 F.2.1 hd ?_
  rw [List.map_cons, show am_c G.2.2.1 (am_J (am_landL x y)) = Value.long _ from congrArg Value.long (am_it64 _)] at K
  exact K
theorem am_lor {x y : Int} (hd : decode cc pc = .ok (.lor, 1)) (k : am_V rep l own cc nL ret nm R E (pc + 1) lv (am_J (am_lorL x y) :: st) S cells slots) : am_V rep l own cc nL ret nm R E pc lv (am_J y :: am_J x :: st) S cells slots := by
  intro G p e s m args below meth c H locs ls F hr hS hl
  have K := k G p e s m args below meth c H locs ls F hr hS hl
  refine lv_lor F.1 F.2.1 hd ?_
  rw [List.map_cons, show am_c G.2.2.1 (am_J (am_lorL x y)) = Value.long _ from congrArg Value.long (am_it64 _)] at K
  exact K
theorem am_lshl_ {x y : Int} (hd : decode cc pc = .ok (.lshl, 1)) (k : am_V rep l own cc nL ret nm R E (pc + 1) lv (am_J (am_lshl x y) :: st) S cells slots) : am_V rep l own cc nL ret nm R E pc lv (am_I y :: am_J x :: st) S cells slots := by
  intro G p e s m args below meth c H locs ls F hr hS hl
  have K := k G p e s m args below meth c H locs ls F hr hS hl
  refine lv_lshl F.1 F.2.1 hd rfl ?_
  rw [List.map_cons, show am_c G.2.2.1 (am_J (am_lshl x y)) = Value.long _ from congrArg Value.long (am_it64 _)] at K
  exact K
theorem am_lshr_ {x y : Int} (hd : decode cc pc = .ok (.lshr, 1)) (k : am_V rep l own cc nL ret nm R E (pc + 1) lv (am_J (am_lshr x y) :: st) S cells slots) : am_V rep l own cc nL ret nm R E pc lv (am_I y :: am_J x :: st) S cells slots := by
  intro G p e s m args below meth c H locs ls F hr hS hl
  have K := k G p e s m args below meth c H locs ls F hr hS hl
  refine lv_lshr F.1 F.2.1 hd rfl ?_
  rw [List.map_cons, show am_c G.2.2.1 (am_J (am_lshr x y)) = Value.long _ from congrArg Value.long (am_it64 _)] at K
  exact K
theorem am_i2l_ {x : Int} (hx : am_r x) (hd : decode cc pc = .ok (.i2l, 1)) (k : am_V rep l own cc nL ret nm R E (pc + 1) lv (am_J x :: st) S cells slots) : am_V rep l own cc nL ret nm R E pc lv (am_I x :: st) S cells slots := by
  intro G p e s m args below meth c H locs ls F hr hS hl
  have K := k G p e s m args below meth c H locs ls F hr hS hl
  refine lv_i2l F.1 F.2.1 hd (am_i2l hx) ?_
  exact K
theorem am_l2i_ {x : Int} (hd : decode cc pc = .ok (.l2i, 1)) (k : am_V rep l own cc nL ret nm R E (pc + 1) lv (am_I (am_l2i x) :: st) S cells slots) : am_V rep l own cc nL ret nm R E pc lv (am_J x :: st) S cells slots := by
  intro G p e s m args below meth c H locs ls F hr hS hl
  have K := k G p e s m args below meth c H locs ls F hr hS hl
  refine lv_l2i F.1 F.2.1 hd rfl ?_
  rw [List.map_cons, show am_c G.2.2.1 (am_I (am_l2i x)) = Value.int _ from congrArg Value.int (am_it _)] at K
  exact K
theorem am_lcmp {x y : Int} (hx : am_r64 x) (hy : am_r64 y) (hd : decode cc pc = .ok (.lcmp, 1)) (k : am_V rep l own cc nL ret nm R E (pc + 1) lv (am_I (am_cmp x y) :: st) S cells slots) : am_V rep l own cc nL ret nm R E pc lv (am_J y :: am_J x :: st) S cells slots := by
  intro G p e s m args below meth c H locs ls F hr hS hl
  have K := k G p e s m args below meth c H locs ls F hr hS hl
  refine W.lcmp F.1 F.2.1 hd ?_
  rw [am_cmp_lg hx hy]
  exact K
theorem am_dup {v : am_W} (hd : decode cc pc = .ok (.dup, 1)) (hv : am_cat v = 1) (k : am_V rep l own cc nL ret nm R E (pc + 1) lv (v :: v :: st) S cells slots) : am_V rep l own cc nL ret nm R E pc lv (v :: st) S cells slots := by
  intro G p e s m args below meth c H locs ls F hr hS hl
  have K := k G p e s m args below meth c H locs ls F hr hS hl
  exact lv_dup F.1 F.2.1 hd (by rw [am_cat_c]; exact hv) K
theorem am_pop {v : am_W} (hd : decode cc pc = .ok (.pop, 1)) (hv : am_cat v = 1) (k : am_V rep l own cc nL ret nm R E (pc + 1) lv (st) S cells slots) : am_V rep l own cc nL ret nm R E pc lv (v :: st) S cells slots := by
  intro G p e s m args below meth c H locs ls F hr hS hl
  have K := k G p e s m args below meth c H locs ls F hr hS hl
  exact lv_pop F.1 F.2.1 hd (by rw [am_cat_c]; exact hv) K
theorem am_dup_x1 {v w : am_W} (hd : decode cc pc = .ok (.dup_x1, 1)) (hv : am_cat v = 1) (hw : am_cat w = 1) (k : am_V rep l own cc nL ret nm R E (pc + 1) lv (v :: w :: v :: st) S cells slots) : am_V rep l own cc nL ret nm R E pc lv (v :: w :: st) S cells slots := by
  intro G p e s m args below meth c H locs ls F hr hS hl
  have K := k G p e s m args below meth c H locs ls F hr hS hl
  exact lv_dup_x1 F.1 F.2.1 hd (by rw [am_cat_c]; exact hv) (by rw [am_cat_c]; exact hw) K
theorem am_dup_x2 {v w u : am_W} (hd : decode cc pc = .ok (.dup_x2, 1)) (hv : am_cat v = 1) (hw : am_cat w = 1) (hu : am_cat u = 1) (k : am_V rep l own cc nL ret nm R E (pc + 1) lv (v :: w :: u :: v :: st) S cells slots) : am_V rep l own cc nL ret nm R E pc lv (v :: w :: u :: st) S cells slots := by
  intro G p e s m args below meth c H locs ls F hr hS hl
  have K := k G p e s m args below meth c H locs ls F hr hS hl
  exact lv_dup_x2 F.1 F.2.1 hd (by rw [am_cat_c]; exact hv) (by rw [am_cat_c]; exact hw) (by rw [am_cat_c]; exact hu) K
theorem am_dup2 {v w : am_W} (hd : decode cc pc = .ok (.dup2, 1)) (hv : am_cat v = 1) (hw : am_cat w = 1) (k : am_V rep l own cc nL ret nm R E (pc + 1) lv (v :: w :: v :: w :: st) S cells slots) : am_V rep l own cc nL ret nm R E pc lv (v :: w :: st) S cells slots := by
  intro G p e s m args below meth c H locs ls F hr hS hl
  have K := k G p e s m args below meth c H locs ls F hr hS hl
  exact lv_dup2_11 F.1 F.2.1 hd (by rw [am_cat_c]; exact hv) (by rw [am_cat_c]; exact hw) K
theorem am_aconst_null  (hd : decode cc pc = .ok (.aconst_null, 1)) (k : am_V rep l own cc nL ret nm R E (pc + 1) lv (am_O none :: st) S cells slots) : am_V rep l own cc nL ret nm R E pc lv (st) S cells slots := by
  intro G p e s m args below meth c H locs ls F hr hS hl
  have K := k G p e s m args below meth c H locs ls F hr hS hl
  exact lv_null F.1 F.2.1 hd K
theorem am_goto {off : Int} {tgt : Nat} (hd : decode cc pc = .ok (.goto off, 3)) (ht : (pc : Int) + off = (tgt : Int)) (k : am_V rep l own cc nL ret nm R E tgt lv st S cells slots) : am_V rep l own cc nL ret nm R E pc lv st S cells slots := by
  intro G p e s m args below meth c H locs ls F hr hS hl
  exact lv_goto F.1 F.2.1 hd ht (k G p e s m args below meth c H locs ls F hr hS hl)
theorem am_icmp_eq {x y off : Int} {tgt : Nat} (hd : decode cc pc = .ok (.if_icmp .eq off, 3)) (ht : (pc : Int) + off = (tgt : Int)) (hx : am_r x) (hy : am_r y) (kt : x = y → am_V rep l own cc nL ret nm R E tgt lv st S cells slots) (kf : ¬ (x = y) → am_V rep l own cc nL ret nm R E (pc + 3) lv st S cells slots) : am_V rep l own cc nL ret nm R E pc lv (am_I y :: am_I x :: st) S cells slots := by
  intro G p e s m args below meth c H locs ls F hr hS hl
  exact lv_icmp_eq F.1 F.2.1 hd ht (fun h => kt ((am_eq hx hy).mp h) G p e s m args below meth c H locs ls F hr hS hl) (fun h => kf (fun q => h ((am_eq hx hy).mpr q)) G p e s m args below meth c H locs ls F hr hS hl)
theorem am_if_eq {x off : Int} {tgt : Nat} (hd : decode cc pc = .ok (.ifCond .eq off, 3)) (ht : (pc : Int) + off = (tgt : Int)) (hx : am_r x) (kt : x = 0 → am_V rep l own cc nL ret nm R E tgt lv st S cells slots) (kf : ¬ (x = 0) → am_V rep l own cc nL ret nm R E (pc + 3) lv st S cells slots) : am_V rep l own cc nL ret nm R E pc lv (am_I x :: st) S cells slots := by
  intro G p e s m args below meth c H locs ls F hr hS hl
  exact lv_if_eq F.1 F.2.1 hd ht (fun h => kt ((am_eq hx am_r0).mp h) G p e s m args below meth c H locs ls F hr hS hl) (fun h => kf (fun q => h ((am_eq hx am_r0).mpr q)) G p e s m args below meth c H locs ls F hr hS hl)
theorem am_cmp_eq {x y off : Int} {tgt : Nat} (hd : decode cc pc = .ok (.ifCond .eq off, 3)) (ht : (pc : Int) + off = (tgt : Int)) (kt : x = y → am_V rep l own cc nL ret nm R E tgt lv st S cells slots) (kf : ¬ (x = y) → am_V rep l own cc nL ret nm R E (pc + 3) lv st S cells slots) : am_V rep l own cc nL ret nm R E pc lv (am_I (am_cmp x y) :: st) S cells slots := by
  have hc : am_r (am_cmp x y) ∧ ((am_cmp x y = 0) ↔ (x = y)) := by
    unfold am_cmp am_r
    split
    · omega
    · split <;> omega
  exact am_if_eq hd ht hc.1 (fun h => kt (hc.2.mp h)) (fun h => kf (fun q => h (hc.2.mpr q)))
theorem am_icmp_ne {x y off : Int} {tgt : Nat} (hd : decode cc pc = .ok (.if_icmp .ne off, 3)) (ht : (pc : Int) + off = (tgt : Int)) (hx : am_r x) (hy : am_r y) (kt : ¬ x = y → am_V rep l own cc nL ret nm R E tgt lv st S cells slots) (kf : x = y → am_V rep l own cc nL ret nm R E (pc + 3) lv st S cells slots) : am_V rep l own cc nL ret nm R E pc lv (am_I y :: am_I x :: st) S cells slots := by
  intro G p e s m args below meth c H locs ls F hr hS hl
  exact lv_icmp_ne F.1 F.2.1 hd ht (fun h => kt ((not_congr (am_eq hx hy)).mp h) G p e s m args below meth c H locs ls F hr hS hl) (fun h => kf ((am_eq hx hy).mp h) G p e s m args below meth c H locs ls F hr hS hl)
theorem am_if_ne {x off : Int} {tgt : Nat} (hd : decode cc pc = .ok (.ifCond .ne off, 3)) (ht : (pc : Int) + off = (tgt : Int)) (hx : am_r x) (kt : ¬ x = 0 → am_V rep l own cc nL ret nm R E tgt lv st S cells slots) (kf : x = 0 → am_V rep l own cc nL ret nm R E (pc + 3) lv st S cells slots) : am_V rep l own cc nL ret nm R E pc lv (am_I x :: st) S cells slots := by
  intro G p e s m args below meth c H locs ls F hr hS hl
  exact lv_if_ne F.1 F.2.1 hd ht (fun h => kt ((not_congr (am_eq hx am_r0)).mp h) G p e s m args below meth c H locs ls F hr hS hl) (fun h => kf ((am_eq hx am_r0).mp h) G p e s m args below meth c H locs ls F hr hS hl)
theorem am_cmp_ne {x y off : Int} {tgt : Nat} (hd : decode cc pc = .ok (.ifCond .ne off, 3)) (ht : (pc : Int) + off = (tgt : Int)) (kt : ¬ x = y → am_V rep l own cc nL ret nm R E tgt lv st S cells slots) (kf : x = y → am_V rep l own cc nL ret nm R E (pc + 3) lv st S cells slots) : am_V rep l own cc nL ret nm R E pc lv (am_I (am_cmp x y) :: st) S cells slots := by
  have hc : am_r (am_cmp x y) ∧ ((¬ am_cmp x y = 0) ↔ (¬ x = y)) := by
    unfold am_cmp am_r
    split
    · omega
    · split <;> omega
  exact am_if_ne hd ht hc.1 (fun h => kt (hc.2.mp h)) (fun h => kf (Classical.not_not.mp (fun q => hc.2.mpr q h)))
theorem am_icmp_lt {x y off : Int} {tgt : Nat} (hd : decode cc pc = .ok (.if_icmp .lt off, 3)) (ht : (pc : Int) + off = (tgt : Int)) (hx : am_r x) (hy : am_r y) (kt : x < y → am_V rep l own cc nL ret nm R E tgt lv st S cells slots) (kf : ¬ (x < y) → am_V rep l own cc nL ret nm R E (pc + 3) lv st S cells slots) : am_V rep l own cc nL ret nm R E pc lv (am_I y :: am_I x :: st) S cells slots := by
  intro G p e s m args below meth c H locs ls F hr hS hl
  exact lv_icmp_lt F.1 F.2.1 hd ht (fun h => kt ((am_lt hx hy).mp h) G p e s m args below meth c H locs ls F hr hS hl) (fun h => kf (fun q => h ((am_lt hx hy).mpr q)) G p e s m args below meth c H locs ls F hr hS hl)
theorem am_if_lt {x off : Int} {tgt : Nat} (hd : decode cc pc = .ok (.ifCond .lt off, 3)) (ht : (pc : Int) + off = (tgt : Int)) (hx : am_r x) (kt : x < 0 → am_V rep l own cc nL ret nm R E tgt lv st S cells slots) (kf : ¬ (x < 0) → am_V rep l own cc nL ret nm R E (pc + 3) lv st S cells slots) : am_V rep l own cc nL ret nm R E pc lv (am_I x :: st) S cells slots := by
  intro G p e s m args below meth c H locs ls F hr hS hl
  exact lv_if_lt F.1 F.2.1 hd ht (fun h => kt ((am_lt hx am_r0).mp h) G p e s m args below meth c H locs ls F hr hS hl) (fun h => kf (fun q => h ((am_lt hx am_r0).mpr q)) G p e s m args below meth c H locs ls F hr hS hl)
theorem am_cmp_lt {x y off : Int} {tgt : Nat} (hd : decode cc pc = .ok (.ifCond .lt off, 3)) (ht : (pc : Int) + off = (tgt : Int)) (kt : x < y → am_V rep l own cc nL ret nm R E tgt lv st S cells slots) (kf : ¬ (x < y) → am_V rep l own cc nL ret nm R E (pc + 3) lv st S cells slots) : am_V rep l own cc nL ret nm R E pc lv (am_I (am_cmp x y) :: st) S cells slots := by
  have hc : am_r (am_cmp x y) ∧ ((am_cmp x y < 0) ↔ (x < y)) := by
    unfold am_cmp am_r
    split
    · omega
    · split <;> omega
  exact am_if_lt hd ht hc.1 (fun h => kt (hc.2.mp h)) (fun h => kf (fun q => h (hc.2.mpr q)))
theorem am_icmp_ge {x y off : Int} {tgt : Nat} (hd : decode cc pc = .ok (.if_icmp .ge off, 3)) (ht : (pc : Int) + off = (tgt : Int)) (hx : am_r x) (hy : am_r y) (kt : y ≤ x → am_V rep l own cc nL ret nm R E tgt lv st S cells slots) (kf : ¬ (y ≤ x) → am_V rep l own cc nL ret nm R E (pc + 3) lv st S cells slots) : am_V rep l own cc nL ret nm R E pc lv (am_I y :: am_I x :: st) S cells slots := by
  intro G p e s m args below meth c H locs ls F hr hS hl
  exact lv_icmp_ge F.1 F.2.1 hd ht (fun h => kt ((am_le hy hx).mp h) G p e s m args below meth c H locs ls F hr hS hl) (fun h => kf (fun q => h ((am_le hy hx).mpr q)) G p e s m args below meth c H locs ls F hr hS hl)
theorem am_if_ge {x off : Int} {tgt : Nat} (hd : decode cc pc = .ok (.ifCond .ge off, 3)) (ht : (pc : Int) + off = (tgt : Int)) (hx : am_r x) (kt : 0 ≤ x → am_V rep l own cc nL ret nm R E tgt lv st S cells slots) (kf : ¬ (0 ≤ x) → am_V rep l own cc nL ret nm R E (pc + 3) lv st S cells slots) : am_V rep l own cc nL ret nm R E pc lv (am_I x :: st) S cells slots := by
  intro G p e s m args below meth c H locs ls F hr hS hl
  exact lv_if_ge F.1 F.2.1 hd ht (fun h => kt ((am_le am_r0 hx).mp h) G p e s m args below meth c H locs ls F hr hS hl) (fun h => kf (fun q => h ((am_le am_r0 hx).mpr q)) G p e s m args below meth c H locs ls F hr hS hl)
theorem am_cmp_ge {x y off : Int} {tgt : Nat} (hd : decode cc pc = .ok (.ifCond .ge off, 3)) (ht : (pc : Int) + off = (tgt : Int)) (kt : y ≤ x → am_V rep l own cc nL ret nm R E tgt lv st S cells slots) (kf : ¬ (y ≤ x) → am_V rep l own cc nL ret nm R E (pc + 3) lv st S cells slots) : am_V rep l own cc nL ret nm R E pc lv (am_I (am_cmp x y) :: st) S cells slots := by
  have hc : am_r (am_cmp x y) ∧ ((0 ≤ am_cmp x y) ↔ (y ≤ x)) := by
    unfold am_cmp am_r
    split
    · omega
    · split <;> omega
  exact am_if_ge hd ht hc.1 (fun h => kt (hc.2.mp h)) (fun h => kf (fun q => h (hc.2.mpr q)))
theorem am_icmp_gt {x y off : Int} {tgt : Nat} (hd : decode cc pc = .ok (.if_icmp .gt off, 3)) (ht : (pc : Int) + off = (tgt : Int)) (hx : am_r x) (hy : am_r y) (kt : y < x → am_V rep l own cc nL ret nm R E tgt lv st S cells slots) (kf : ¬ (y < x) → am_V rep l own cc nL ret nm R E (pc + 3) lv st S cells slots) : am_V rep l own cc nL ret nm R E pc lv (am_I y :: am_I x :: st) S cells slots := by
  intro G p e s m args below meth c H locs ls F hr hS hl
  exact lv_icmp_gt F.1 F.2.1 hd ht (fun h => kt ((am_lt hy hx).mp h) G p e s m args below meth c H locs ls F hr hS hl) (fun h => kf (fun q => h ((am_lt hy hx).mpr q)) G p e s m args below meth c H locs ls F hr hS hl)
theorem am_if_gt {x off : Int} {tgt : Nat} (hd : decode cc pc = .ok (.ifCond .gt off, 3)) (ht : (pc : Int) + off = (tgt : Int)) (hx : am_r x) (kt : 0 < x → am_V rep l own cc nL ret nm R E tgt lv st S cells slots) (kf : ¬ (0 < x) → am_V rep l own cc nL ret nm R E (pc + 3) lv st S cells slots) : am_V rep l own cc nL ret nm R E pc lv (am_I x :: st) S cells slots := by
  intro G p e s m args below meth c H locs ls F hr hS hl
  exact lv_if_gt F.1 F.2.1 hd ht (fun h => kt ((am_lt am_r0 hx).mp h) G p e s m args below meth c H locs ls F hr hS hl) (fun h => kf (fun q => h ((am_lt am_r0 hx).mpr q)) G p e s m args below meth c H locs ls F hr hS hl)
theorem am_cmp_gt {x y off : Int} {tgt : Nat} (hd : decode cc pc = .ok (.ifCond .gt off, 3)) (ht : (pc : Int) + off = (tgt : Int)) (kt : y < x → am_V rep l own cc nL ret nm R E tgt lv st S cells slots) (kf : ¬ (y < x) → am_V rep l own cc nL ret nm R E (pc + 3) lv st S cells slots) : am_V rep l own cc nL ret nm R E pc lv (am_I (am_cmp x y) :: st) S cells slots := by
  have hc : am_r (am_cmp x y) ∧ ((0 < am_cmp x y) ↔ (y < x)) := by
    unfold am_cmp am_r
    split
    · omega
    · split <;> omega
  exact am_if_gt hd ht hc.1 (fun h => kt (hc.2.mp h)) (fun h => kf (fun q => h (hc.2.mpr q)))
theorem am_icmp_le {x y off : Int} {tgt : Nat} (hd : decode cc pc = .ok (.if_icmp .le off, 3)) (ht : (pc : Int) + off = (tgt : Int)) (hx : am_r x) (hy : am_r y) (kt : x ≤ y → am_V rep l own cc nL ret nm R E tgt lv st S cells slots) (kf : ¬ (x ≤ y) → am_V rep l own cc nL ret nm R E (pc + 3) lv st S cells slots) : am_V rep l own cc nL ret nm R E pc lv (am_I y :: am_I x :: st) S cells slots := by
  intro G p e s m args below meth c H locs ls F hr hS hl
  exact lv_icmp_le F.1 F.2.1 hd ht (fun h => kt ((am_le hx hy).mp h) G p e s m args below meth c H locs ls F hr hS hl) (fun h => kf (fun q => h ((am_le hx hy).mpr q)) G p e s m args below meth c H locs ls F hr hS hl)
theorem am_if_le {x off : Int} {tgt : Nat} (hd : decode cc pc = .ok (.ifCond .le off, 3)) (ht : (pc : Int) + off = (tgt : Int)) (hx : am_r x) (kt : x ≤ 0 → am_V rep l own cc nL ret nm R E tgt lv st S cells slots) (kf : ¬ (x ≤ 0) → am_V rep l own cc nL ret nm R E (pc + 3) lv st S cells slots) : am_V rep l own cc nL ret nm R E pc lv (am_I x :: st) S cells slots := by
  intro G p e s m args below meth c H locs ls F hr hS hl
  exact lv_if_le F.1 F.2.1 hd ht (fun h => kt ((am_le hx am_r0).mp h) G p e s m args below meth c H locs ls F hr hS hl) (fun h => kf (fun q => h ((am_le hx am_r0).mpr q)) G p e s m args below meth c H locs ls F hr hS hl)
theorem am_cmp_le {x y off : Int} {tgt : Nat} (hd : decode cc pc = .ok (.ifCond .le off, 3)) (ht : (pc : Int) + off = (tgt : Int)) (kt : x ≤ y → am_V rep l own cc nL ret nm R E tgt lv st S cells slots) (kf : ¬ (x ≤ y) → am_V rep l own cc nL ret nm R E (pc + 3) lv st S cells slots) : am_V rep l own cc nL ret nm R E pc lv (am_I (am_cmp x y) :: st) S cells slots := by
  have hc : am_r (am_cmp x y) ∧ ((am_cmp x y ≤ 0) ↔ (x ≤ y)) := by
    unfold am_cmp am_r
    split
    · omega
    · split <;> omega
  exact am_if_le hd ht hc.1 (fun h => kt (hc.2.mp h)) (fun h => kf (fun q => h (hc.2.mpr q)))
theorem am_ifB_eq {b : Bool} {off : Int} {tgt : Nat} (hd : decode cc pc = .ok (.ifCond .eq off, 3)) (ht : (pc : Int) + off = (tgt : Int)) (kt : b = false → am_V rep l own cc nL ret nm R E tgt lv st S cells slots) (kf : b = true → am_V rep l own cc nL ret nm R E (pc + 3) lv st S cells slots) : am_V rep l own cc nL ret nm R E pc lv (am_I (am_b b) :: st) S cells slots := by
  refine am_if_eq hd ht (am_rb b) (fun h => kt ?_) (fun h => kf ?_) <;> cases b <;> first | rfl | (exfalso; revert h; decide)
theorem am_ifB_ne {b : Bool} {off : Int} {tgt : Nat} (hd : decode cc pc = .ok (.ifCond .ne off, 3)) (ht : (pc : Int) + off = (tgt : Int)) (kt : b = true → am_V rep l own cc nL ret nm R E tgt lv st S cells slots) (kf : b = false → am_V rep l own cc nL ret nm R E (pc + 3) lv st S cells slots) : am_V rep l own cc nL ret nm R E pc lv (am_I (am_b b) :: st) S cells slots := by
  refine am_if_ne hd ht (am_rb b) (fun h => kt ?_) (fun h => kf ?_) <;> cases b <;> first | rfl | (exfalso; revert h; decide)
theorem am_tabOut {dflt lo hi : Int} {offs : Array Int} {len : Nat} {x : Int} {tgt : Nat} (hd : decode cc pc = .ok (.tableswitch dflt lo hi offs, len)) (hx : am_r x) (h : x < lo ∨ hi < x) (ht : (pc : Int) + dflt = (tgt : Int)) (k : am_V rep l own cc nL ret nm R E tgt lv st S cells slots) : am_V rep l own cc nL ret nm R E pc lv (am_I x :: st) S cells slots := by
  intro G p e s m args below meth c H locs ls F hr hS hl
  exact lv_tableOut F.1 F.2.1 hd (by rw [am_ti hx]; exact h) ht (k G p e s m args below meth c H locs ls F hr hS hl)
theorem am_tabIn {dflt lo hi : Int} {offs : Array Int} {len : Nat} {x off : Int} {tgt : Nat} (j : Int) (hd : decode cc pc = .ok (.tableswitch dflt lo hi offs, len)) (hx : am_r x) (hj : x = j) (h1 : ¬ j < lo) (h2 : ¬ hi < j) (ho : offs[(j - lo).toNat]? = some off) (ht : (pc : Int) + off = (tgt : Int)) (k : am_V rep l own cc nL ret nm R E tgt lv st S cells slots) : am_V rep l own cc nL ret nm R E pc lv (am_I x :: st) S cells slots := by
  intro G p e s m args below meth c H locs ls F hr hS hl
  subst hj
  exact lv_tableIn F.1 F.2.1 hd (by rw [am_ti hx]; exact h1) (by rw [am_ti hx]; exact h2) (by rw [am_ti hx]; exact ho) ht (k G p e s m args below meth c H locs ls F hr hS hl)
theorem am_iret {x : Int} (hret : ret = some .int) (hd : decode cc pc = .ok (.ireturn, 1)) (hc : cells ≤ mc) (hs : slots ≤ ms) (k : Q (some (am_I x)) S) : am_V rep l own cc nL ret nm R (am_E1 rep mc ms Q) pc lv [am_I x] S cells slots := by
  refine am_widen hc hs ?_
  intro G p e s m args below meth c H locs ls F hr hS hl
  have hlk : meth.locks = false := F.2.2.2.2.1
  exact W.iret (v := Int32.ofInt x) F.1 F.2.1 (F.2.2.2.1.trans hret) (fun t ht _ => ⟨⟨some (am_I x), S, rfl, k, by rw [ht]; exact hr⟩, hS.F ht⟩) hS.2.2 hd
theorem am_zret {b : Bool} (hret : ret = some .boolean) (hd : decode cc pc = .ok (.ireturn, 1)) (hc : cells ≤ mc) (hs : slots ≤ ms) (k : Q (some (am_I (am_b b))) S) : am_V rep l own cc nL ret nm R (am_E1 rep mc ms Q) pc lv [am_I (am_b b)] S cells slots := by
  refine am_widen hc hs ?_
  intro G p e s m args below meth c H locs ls F hr hS hl
  have hlk : meth.locks = false := F.2.2.2.2.1
  exact W.zret (v := Int32.ofInt (am_b b)) F.1 F.2.1 (F.2.2.2.1.trans hret) (by cases b <;> rfl) (fun t ht _ => ⟨⟨some (am_I (am_b b)), S, rfl, k, by rw [ht]; exact hr⟩, hS.F ht⟩) hS.2.2 hd
theorem am_lret {x : Int} (hret : ret = some .long) (hd : decode cc pc = .ok (.lreturn, 1)) (hc : cells ≤ mc) (hs : slots ≤ ms) (k : Q (some (am_J x)) S) : am_V rep l own cc nL ret nm R (am_E1 rep mc ms Q) pc lv [am_J x] S cells slots := by
  refine am_widen hc hs ?_
  intro G p e s m args below meth c H locs ls F hr hS hl
  have hlk : meth.locks = false := F.2.2.2.2.1
  exact W.lret (v := Int64.ofInt x) F.1 F.2.1 (F.2.2.2.1.trans hret) (fun t ht _ => ⟨⟨some (am_J x), S, rfl, k, by rw [ht]; exact hr⟩, hS.F ht⟩) hS.2.2 hd
theorem am_vret (hret : ret = none) (hd : decode cc pc = .ok (.return_, 1)) (hc : cells ≤ mc) (hs : slots ≤ ms) (k : Q none S) : am_V rep l own cc nL ret nm R (am_E1 rep mc ms Q) pc lv [] S cells slots := by
  refine am_widen hc hs ?_
  intro G p e s m args below meth c H locs ls F hr hS hl
  have hlk : meth.locks = false := F.2.2.2.2.1
  exact W.vret F.1 F.2.1 (F.2.2.2.1.trans hret) (fun t ht _ => ⟨⟨none, S, rfl, k, by rw [ht]; exact hr⟩, hS.F ht⟩) hS.2.2 hd
theorem am_aret {x : Option Nat} {rt : FieldType} (hret : ret = some rt) (hrt : (∃ n, rt = .object n) ∨ ∃ t, rt = .array t) (hd : decode cc pc = .ok (.areturn, 1)) (hc : cells ≤ mc) (hs : slots ≤ ms) (k : Q (some (am_O x)) S) : am_V rep l own cc nL ret nm R (am_E1 rep mc ms Q) pc lv [am_O x] S cells slots := by
  refine am_widen hc hs ?_
  intro G p e s m args below meth c H locs ls F hr hS hl
  have hlk : meth.locks = false := F.2.2.2.2.1
  exact W.aret (v := am_c G.2.2.1 (am_O x)) F.1 F.2.1 (F.2.2.2.1.trans hret) hrt (by cases x with | none => exact Or.inl rfl | some a => exact Or.inr ⟨_, rfl⟩) (fun t ht _ => ⟨⟨some (am_O x), S, rfl, k, by rw [ht]; exact hr⟩, hS.F ht⟩) hS.2.2 hd
theorem am_ifnull {x : Option Nat} {off : Int} {tgt : Nat} (hd : decode cc pc = .ok (.ifnull off, 3)) (ht : (pc : Int) + off = (tgt : Int)) (kt : x = none → am_V rep l own cc nL ret nm R E tgt lv st S cells slots) (kf : ¬ x = none → am_V rep l own cc nL ret nm R E (pc + 3) lv st S cells slots) : am_V rep l own cc nL ret nm R E pc lv (am_O x :: st) S cells slots := by
  intro G p e s m args below meth c H locs ls F hr hS hl
  cases x with
  | none => exact lv_ifnullN F.1 F.2.1 hd ht (kt rfl G p e s m args below meth c H locs ls F hr hS hl)
  | some a => exact lv_ifnull F.1 F.2.1 hd (kf (fun h => by cases h) G p e s m args below meth c H locs ls F hr hS hl)
theorem am_ifnonnull {x : Option Nat} {off : Int} {tgt : Nat} (hd : decode cc pc = .ok (.ifnonnull off, 3)) (ht : (pc : Int) + off = (tgt : Int)) (kt : ¬ x = none → am_V rep l own cc nL ret nm R E tgt lv st S cells slots) (kf : x = none → am_V rep l own cc nL ret nm R E (pc + 3) lv st S cells slots) : am_V rep l own cc nL ret nm R E pc lv (am_O x :: st) S cells slots := by
  intro G p e s m args below meth c H locs ls F hr hS hl
  cases x with
  | none => exact lv_ifnonnullN F.1 F.2.1 hd (kf rfl G p e s m args below meth c H locs ls F hr hS hl)
  | some a => exact lv_ifnonnull F.1 F.2.1 hd ht (kt (fun h => by cases h) G p e s m args below meth c H locs ls F hr hS hl)
end AMR
section AMC
variable {σ : Type} {rep : am_X → σ → Heap → Prop} {l : Launch} {own : String} {cc : ByteArray} {nL : Nat} {ret : Option FieldType} {nm : String} {R : Room} {E : am_Et} {mc ms : Nat} {Q : Option am_W → σ → Prop} {pc : Nat} {lv : List (Nat × am_W)} {st : List am_W} {S : σ} {cells slots : Nat}
theorem am_P_blind {G : am_X} {as : List am_W} : FrameBlind (am_P rep G as S) := fun a U g mk h => ⟨h.1, h.2.1.calling, h.2.2.1, h.2.2.2⟩
/-- what a call needs of the callee's number, its room and its answer -/
abbrev am_hd (y : MethodName) (n : Nat) (maxL : Nat) (rm R : Room) : Prop := (y.cls ≠ "java/lang/invoke/MethodHandle" ∧ y.cls ≠ "java/lang/invoke/VarHandle" ∧ (parseMethodDescriptor y.desc).map (fun d => d.parameters.length) = some n) ∧ (rm.frames + 1 ≤ R.frames ∧ 8 + (maxL + 11) + rm.locals ≤ R.locals)
/-- the heap holds an object of the class C at the number b -/
def am_recv (rep : am_X → σ → Heap → Prop) (S : σ) (C : String) (b : Nat) : Prop := ∀ (G : am_X) (H : Heap) (s : State), am_K G s → rep G S H → ∃ cell : Cell, H[G.2.2.1 b]? = some cell ∧ cell.vm.isStatics = false ∧ s.vm.findClass C = some cell.cls
/-- behind a call, from the kit's run of it -/
theorem am_back {mc1 ms1 : Nat} {rest : List am_W} {Q1 : Option am_W → σ → Prop} {G : am_X} {p : Program} {e : Env} {s : State} {m : MethodId} {args a1 : Array Value} {below : List Frame} {meth : Method} {c : Code} {H : Heap} {locs : List Loc} {ls : Array Slot} {st0 : List Value}
    (F : am_F own cc nL ret nm G p s m args meth c) (hS : va_S G.2.2.2.1 s.heap H locs) (hl : lv_has ls nL (am_l G.2.2.1 lv))
    (hr : va_Run p l e R s m args below meth c H locs cells slots mc1 ms1 (F0 m pc ls st0) (rest.map (am_c G.2.2.1)) (am_Q rep G Q1 a1) G.2.2.2.1)
    (k : ∀ (v : Option am_W) (S1 : σ), Q1 v S1 → am_V rep l own cc nL ret nm R E (pc + 3) lv (v.toList ++ rest) S1 (cells + mc1) (slots + ms1)) :
    W p l e R s m args below meth c H locs cells slots (E G below s args) (F0 m pc ls st0) := by
  intro T hT X
  obtain ⟨v, st₀, t, T', L, h0, X', hL, e1, e2, ⟨⟨w, S1, hv, hQ, hrep⟩, hz, hk⟩, st⟩ := hr T hT X
  cases hv
  rw [h0] at hz hk
  have hS' : va_S G.2.2.2.1 s.heap T'.heap (locs ++ L) := ⟨Nat.le_trans hS.1 (by rw [e1]; exact hz), fun q h1 h2 => by rw [e1, hk q (Nat.lt_of_lt_of_le h1 hS.1) h2]; exact hS.2.1 q h1 h2, fun q hq => by
    rcases List.mem_append.mp hq with h | h
    · exact hS.2.2 q h
    · exact hL q h⟩
  have K := k w S1 hQ G p e s m args below meth c T'.heap (locs ++ L) ls F (by rw [e1]; exact hrep) hS' hl
  obtain ⟨t2, a1, b1⟩ := K T' rfl X'
  refine ⟨t2, st t2 ?_, b1⟩
  have hst : (w.map (am_c G.2.2.1)).toList ++ rest.map (am_c G.2.2.1) = (w.toList ++ rest).map (am_c G.2.2.1) := by cases w <;> rfl
  rw [hst]
  exact a1
theorem am_room {ad : Nat → Nat} {rest : List am_W} (h : (rest.map am_cat).sum ≤ 8) : (((rest.map (am_c ad)).map fun v => v.category).sum) ≤ 8 := by
  rw [List.map_map]
  have : ((fun v : Value => v.category) ∘ am_c ad) = am_cat := by funext v; exact am_cat_c ad v
  rw [this]
  exact h
theorem am_runV {y : MethodName} {bytes : ByteArray} {maxL mc1 ms1 n index : Nat} {rt : Option FieldType} {rm : Room} {as rest : List am_W} {b : Nat} {Q1 : Option am_W → σ → Prop} {C : String} (hd : decode cc pc = .ok (.invokevirtual index, 3))
    (hT : GoodIn lw_all (wsV own index C y (ws_ y bytes maxL rt))) (hC : y.cls = C) (hh : am_hd y n maxL rm R) (hrm : rm.cells = mc1 ∧ rm.slots = ms1) (hn : as.length = n) (hst : st = as.reverse ++ am_R b :: rest) (hroom : (rest.map am_cat).sum ≤ 8) (hf : cells + mc1 ≤ R.cells ∧ slots + ms1 ≤ R.slots)
    (hrecv : am_recv rep S C b) (hM : am_C rep l y (ws_ y bytes maxL rt) rm mc1 ms1 (am_R b :: as) S Q1)
    (k : ∀ (v : Option am_W) (S1 : σ), Q1 v S1 → am_V rep l own cc nL ret nm R E (pc + 3) lv (v.toList ++ rest) S1 (cells + mc1) (slots + ms1)) : am_V rep l own cc nL ret nm R E pc lv st S cells slots := by
  intro G p e s m args below meth c H locs ls F hr hS hl
  obtain ⟨f1, f2, f3, f4, f5, f6, f7, f8, f9, f10⟩ := F
  have F : am_F own cc nL ret nm G p s m args meth c := ⟨f1, f2, f3, f4, f5, f6, f7, f8, f9, f10⟩
  refine am_back F hS hl (va_runV (As := as.map (am_c G.2.2.1)) (b := G.2.2.1 b) (rest := rest.map (am_c G.2.2.1)) ⟨f1, f2, f3, f7, f8⟩ (hM G) (cwV n f8 hT rfl hrm.1 hrm.2 ⟨hC, hh.1⟩ hh.2) ⟨am_P_blind, hrecv G H s f9 hr, fun U hU hW => ⟨rfl, f9.warm hW, by rw [hU]; exact hr, fun q hq => f10 q (Nat.le_trans hS.1 (by rw [← hU]; exact hq))⟩⟩ rfl ?_ hl.1 ?_ (lv_room (am_room hroom)) hd hf) k
  · rw [List.length_map]; exact hn
  · rw [hst]
    simp only [List.map_append, List.map_reverse, List.map_cons]
    rfl
theorem am_runS {y : MethodName} {bytes : ByteArray} {maxL mc1 ms1 n index : Nat} {rt : Option FieldType} {rm : Room} {as rest : List am_W} {Q1 : Option am_W → σ → Prop} (hd : decode cc pc = .ok (.invokestatic index, 3))
    (hT : GoodIn lw_all (va_wsS own index y (ws_ y bytes maxL rt))) (hh : am_hd y n maxL rm R) (hrm : rm.cells = mc1 ∧ rm.slots = ms1) (hn : as.length = n) (hst : st = as.reverse ++ rest) (hroom : (rest.map am_cat).sum ≤ 8) (hf : cells + mc1 ≤ R.cells ∧ slots + ms1 ≤ R.slots)
    (hM : am_C rep l y (ws_ y bytes maxL rt) rm mc1 ms1 as S Q1)
    (k : ∀ (v : Option am_W) (S1 : σ), Q1 v S1 → am_V rep l own cc nL ret nm R E (pc + 3) lv (v.toList ++ rest) S1 (cells + mc1) (slots + ms1)) : am_V rep l own cc nL ret nm R E pc lv st S cells slots := by
  intro G p e s m args below meth c H locs ls F hr hS hl
  obtain ⟨f1, f2, f3, f4, f5, f6, f7, f8, f9, f10⟩ := F
  have F : am_F own cc nL ret nm G p s m args meth c := ⟨f1, f2, f3, f4, f5, f6, f7, f8, f9, f10⟩
  refine am_back F hS hl (va_runS (As := as.map (am_c G.2.2.1)) (rest := rest.map (am_c G.2.2.1)) ⟨f1, f2, f3, f7, f8⟩ (hM G) (va_cwS n f8 hT rfl hrm.1 hrm.2 hh.1 hh.2) ⟨am_P_blind, fun U hU hW => ⟨rfl, f9.warm hW, by rw [hU]; exact hr, fun q hq => f10 q (Nat.le_trans hS.1 (by rw [← hU]; exact hq))⟩⟩ rfl ?_ hl.1 ?_ (lv_room (am_room hroom)) hd hf) k
  · rw [List.length_map]; exact hn
  · rw [hst]
    simp only [List.map_append, List.map_reverse]
/-- a method's contract out of the walk of its body -/
theorem am_entry {y : MethodName} {as : List am_W} (hy : plainName y.cls = true) (ho : y.cls = own) (hnm : y.name = nm) (hlv : ∀ ad : Nat → Nat, lv_args 0 (as.map (am_c ad)) = am_l ad lv) (hsz : ∀ ad : Nat → Nat, (lg_sl (as.map (am_c ad))).length ≤ nL)
    (k : am_V rep l own cc nL ret nm R (am_E1 rep mc ms Q) 0 lv [] S 0 0) (htb : am_tb own nm = [] := by decide +kernel) : am_C rep l y (ws_ y cc nL ret) R mc ms as S Q := by
  intro G
  refine Met.ofW (cc := cc) (maxL := nL) (ret := ret) hy rfl ?_
  intro p e s m args below meth c s₁ B hml hv
  obtain ⟨rfl, hK, hrep, hA⟩ := hv
  have hts := atoms_spec (ws := ws_ y cc nL ret) B.pre
  have hts : ∀ w ∈ lw_all, w.before _ s = true := fun w h => hts w (List.mem_cons_of_mem _ h)
  have hown : s.vm.findClass own = some m.cls := by rw [← ho]; exact findClass_of_methodNamed B.named
  have hin : meth.name = nm := by rw [← hnm]; exact (name_of_methodNamed B.named B.method).1
  have ht : c.exceptionTable.toList = tableOf (am_tb own nm) := by
    obtain ⟨meth9, c9, h1, h2, -, -, -, -, h7, -⟩ := Cond.code_spec B.named (atoms_spec (ws := ws_ y cc nL ret) B.pre _ List.mem_cons_self)
    cases Option.some.inj (h1.symm.trans B.method)
    cases Option.some.inj (h2.symm.trans (Stand.of_body B).code)
    rw [Array.isEmpty_iff.mp h7, htb]
    rfl
  rw [lg_entry_eq]
  refine k G p e s m _ below meth c s.heap [] _ ⟨B.exec, B.bytes, hml, B.returns, B.notSynchronized, ⟨hin, ht⟩, hown, hts, hK, hA⟩ hrep va_S.rf ?_
  rw [← hlv]
  exact lv_entry _ (hsz _)
theorem am_Cmono {y : MethodName} {ws : List Cond} {rm : Room} {as : List am_W} {Q' : Option am_W → σ → Prop} (hq : ∀ v S', Q v S' → Q' v S') (h : am_C rep l y ws rm mc ms as S Q) : am_C rep l y ws rm mc ms as S Q' := by
  intro G p e ha hc hk s m args below hf happ hpre hkk
  obtain ⟨n, o, h1, h2, h3, ⟨⟨v, S', g1, g2, g3⟩, h4⟩, h5⟩ := h G p e ha hc hk s m args below hf happ hpre hkk
  exact ⟨n, o, h1, h2, h3, ⟨⟨v, S', g1, hq v S' g2, g3⟩, h4⟩, h5⟩
end AMC
/-! answers by kind, and calls by the kind of answer -/
section AMT
variable {σ : Type}
def am_qi (P : Int → σ → Prop) : Option am_W → σ → Prop := fun v S => ∃ r, v = some (am_I r) ∧ am_r r ∧ P r S
def am_qz (P : Bool → σ → Prop) : Option am_W → σ → Prop := fun v S => ∃ b, v = some (am_I (am_b b)) ∧ P b S
def am_ql (P : Int → σ → Prop) : Option am_W → σ → Prop := fun v S => ∃ r, v = some (am_J r) ∧ am_r64 r ∧ P r S
def am_qo (P : Option Nat → σ → Prop) : Option am_W → σ → Prop := fun v S => ∃ a, v = some (am_O a) ∧ P a S
def am_qv (P : σ → Prop) : Option am_W → σ → Prop := fun v S => v = none ∧ P S
def am_rm (d mc ms : Nat) : Room := { frames := d, cells := mc, slots := ms, locals := 40 * d }
theorem am_qi_mk {P : Int → σ → Prop} {r : Int} {S : σ} (h : am_r r) (k : P r S) : am_qi P (some (am_I r)) S := ⟨r, rfl, h, k⟩
theorem am_qz_mk {P : Bool → σ → Prop} {b : Bool} {S : σ} (k : P b S) : am_qz P (some (am_I (am_b b))) S := ⟨b, rfl, k⟩
theorem am_ql_mk {P : Int → σ → Prop} {r : Int} {S : σ} (h : am_r64 r) (k : P r S) : am_ql P (some (am_J r)) S := ⟨r, rfl, h, k⟩
theorem am_qo_mk {P : Option Nat → σ → Prop} {r : Option Nat} {S : σ} (k : P r S) : am_qo P (some (am_O r)) S := ⟨r, rfl, k⟩
theorem am_qv_mk {P : σ → Prop} {S : σ} (k : P S) : am_qv P none S := ⟨rfl, k⟩
variable {rep : am_X → σ → Heap → Prop} {l : Launch} {own : String} {cc : ByteArray} {nL : Nat} {ret : Option FieldType} {nm : String} {R : Room} {E : am_Et} {pc : Nat} {lv : List (Nat × am_W)} {st : List am_W} {S : σ} {cells slots : Nat}
theorem am_rVi {y : MethodName} {bytes : ByteArray} {maxL mc1 ms1 n index : Nat} {rt : Option FieldType} {rm : Room} {as rest : List am_W} {b : Nat} {P : Int → σ → Prop} {C : String} (hM : am_C rep l y (ws_ y bytes maxL rt) rm mc1 ms1 (am_R b :: as) S (am_qi P)) (hd : decode cc pc = .ok (.invokevirtual index, 3))
    (hT : GoodIn lw_all (wsV own index C y (ws_ y bytes maxL rt))) (hC : y.cls = C) (hh : am_hd y n maxL rm R) (hrm : rm.cells = mc1 ∧ rm.slots = ms1) (hn : as.length = n) (hst : st = as.reverse ++ am_R b :: rest) (hroom : (rest.map am_cat).sum ≤ 8) (hf : cells + mc1 ≤ R.cells ∧ slots + ms1 ≤ R.slots)
    (hrecv : am_recv rep S C b) (k : ∀ (r : Int) (S1 : σ), am_r r → P r S1 → am_V rep l own cc nL ret nm R E (pc + 3) lv (am_I r :: rest) S1 (cells + mc1) (slots + ms1)) : am_V rep l own cc nL ret nm R E pc lv st S cells slots :=
  am_runV hd hT hC hh hrm hn hst hroom hf hrecv hM (fun v S1 hq => by obtain ⟨r, rfl, h1, h2⟩ := hq; exact k r S1 h1 h2)
theorem am_rSi {y : MethodName} {bytes : ByteArray} {maxL mc1 ms1 n index : Nat} {rt : Option FieldType} {rm : Room} {as rest : List am_W} {P : Int → σ → Prop} (hM : am_C rep l y (ws_ y bytes maxL rt) rm mc1 ms1 as S (am_qi P)) (hd : decode cc pc = .ok (.invokestatic index, 3))
    (hT : GoodIn lw_all (va_wsS own index y (ws_ y bytes maxL rt))) (hh : am_hd y n maxL rm R) (hrm : rm.cells = mc1 ∧ rm.slots = ms1) (hn : as.length = n) (hst : st = as.reverse ++ rest) (hroom : (rest.map am_cat).sum ≤ 8) (hf : cells + mc1 ≤ R.cells ∧ slots + ms1 ≤ R.slots)
    (k : ∀ (r : Int) (S1 : σ), am_r r → P r S1 → am_V rep l own cc nL ret nm R E (pc + 3) lv (am_I r :: rest) S1 (cells + mc1) (slots + ms1)) : am_V rep l own cc nL ret nm R E pc lv st S cells slots :=
  am_runS hd hT hh hrm hn hst hroom hf hM (fun v S1 hq => by obtain ⟨r, rfl, h1, h2⟩ := hq; exact k r S1 h1 h2)
theorem am_rVl {y : MethodName} {bytes : ByteArray} {maxL mc1 ms1 n index : Nat} {rt : Option FieldType} {rm : Room} {as rest : List am_W} {b : Nat} {P : Int → σ → Prop} {C : String} (hM : am_C rep l y (ws_ y bytes maxL rt) rm mc1 ms1 (am_R b :: as) S (am_ql P)) (hd : decode cc pc = .ok (.invokevirtual index, 3))
    (hT : GoodIn lw_all (wsV own index C y (ws_ y bytes maxL rt))) (hC : y.cls = C) (hh : am_hd y n maxL rm R) (hrm : rm.cells = mc1 ∧ rm.slots = ms1) (hn : as.length = n) (hst : st = as.reverse ++ am_R b :: rest) (hroom : (rest.map am_cat).sum ≤ 8) (hf : cells + mc1 ≤ R.cells ∧ slots + ms1 ≤ R.slots)
    (hrecv : am_recv rep S C b) (k : ∀ (r : Int) (S1 : σ), am_r64 r → P r S1 → am_V rep l own cc nL ret nm R E (pc + 3) lv (am_J r :: rest) S1 (cells + mc1) (slots + ms1)) : am_V rep l own cc nL ret nm R E pc lv st S cells slots :=
  am_runV hd hT hC hh hrm hn hst hroom hf hrecv hM (fun v S1 hq => by obtain ⟨r, rfl, h1, h2⟩ := hq; exact k r S1 h1 h2)
theorem am_rSl {y : MethodName} {bytes : ByteArray} {maxL mc1 ms1 n index : Nat} {rt : Option FieldType} {rm : Room} {as rest : List am_W} {P : Int → σ → Prop} (hM : am_C rep l y (ws_ y bytes maxL rt) rm mc1 ms1 as S (am_ql P)) (hd : decode cc pc = .ok (.invokestatic index, 3))
    (hT : GoodIn lw_all (va_wsS own index y (ws_ y bytes maxL rt))) (hh : am_hd y n maxL rm R) (hrm : rm.cells = mc1 ∧ rm.slots = ms1) (hn : as.length = n) (hst : st = as.reverse ++ rest) (hroom : (rest.map am_cat).sum ≤ 8) (hf : cells + mc1 ≤ R.cells ∧ slots + ms1 ≤ R.slots)
    (k : ∀ (r : Int) (S1 : σ), am_r64 r → P r S1 → am_V rep l own cc nL ret nm R E (pc + 3) lv (am_J r :: rest) S1 (cells + mc1) (slots + ms1)) : am_V rep l own cc nL ret nm R E pc lv st S cells slots :=
  am_runS hd hT hh hrm hn hst hroom hf hM (fun v S1 hq => by obtain ⟨r, rfl, h1, h2⟩ := hq; exact k r S1 h1 h2)
theorem am_rVz {y : MethodName} {bytes : ByteArray} {maxL mc1 ms1 n index : Nat} {rt : Option FieldType} {rm : Room} {as rest : List am_W} {b : Nat} {P : Bool → σ → Prop} {C : String} (hM : am_C rep l y (ws_ y bytes maxL rt) rm mc1 ms1 (am_R b :: as) S (am_qz P)) (hd : decode cc pc = .ok (.invokevirtual index, 3))
    (hT : GoodIn lw_all (wsV own index C y (ws_ y bytes maxL rt))) (hC : y.cls = C) (hh : am_hd y n maxL rm R) (hrm : rm.cells = mc1 ∧ rm.slots = ms1) (hn : as.length = n) (hst : st = as.reverse ++ am_R b :: rest) (hroom : (rest.map am_cat).sum ≤ 8) (hf : cells + mc1 ≤ R.cells ∧ slots + ms1 ≤ R.slots)
    (hrecv : am_recv rep S C b) (k : ∀ (b : Bool) (S1 : σ), P b S1 → am_V rep l own cc nL ret nm R E (pc + 3) lv (am_I (am_b b) :: rest) S1 (cells + mc1) (slots + ms1)) : am_V rep l own cc nL ret nm R E pc lv st S cells slots :=
  am_runV hd hT hC hh hrm hn hst hroom hf hrecv hM (fun v S1 hq => by obtain ⟨b, rfl, h2⟩ := hq; exact k b S1 h2)
theorem am_rSz {y : MethodName} {bytes : ByteArray} {maxL mc1 ms1 n index : Nat} {rt : Option FieldType} {rm : Room} {as rest : List am_W} {P : Bool → σ → Prop} (hM : am_C rep l y (ws_ y bytes maxL rt) rm mc1 ms1 as S (am_qz P)) (hd : decode cc pc = .ok (.invokestatic index, 3))
    (hT : GoodIn lw_all (va_wsS own index y (ws_ y bytes maxL rt))) (hh : am_hd y n maxL rm R) (hrm : rm.cells = mc1 ∧ rm.slots = ms1) (hn : as.length = n) (hst : st = as.reverse ++ rest) (hroom : (rest.map am_cat).sum ≤ 8) (hf : cells + mc1 ≤ R.cells ∧ slots + ms1 ≤ R.slots)
    (k : ∀ (b : Bool) (S1 : σ), P b S1 → am_V rep l own cc nL ret nm R E (pc + 3) lv (am_I (am_b b) :: rest) S1 (cells + mc1) (slots + ms1)) : am_V rep l own cc nL ret nm R E pc lv st S cells slots :=
  am_runS hd hT hh hrm hn hst hroom hf hM (fun v S1 hq => by obtain ⟨b, rfl, h2⟩ := hq; exact k b S1 h2)
theorem am_rVo {y : MethodName} {bytes : ByteArray} {maxL mc1 ms1 n index : Nat} {rt : Option FieldType} {rm : Room} {as rest : List am_W} {b : Nat} {P : Option Nat → σ → Prop} {C : String} (hM : am_C rep l y (ws_ y bytes maxL rt) rm mc1 ms1 (am_R b :: as) S (am_qo P)) (hd : decode cc pc = .ok (.invokevirtual index, 3))
    (hT : GoodIn lw_all (wsV own index C y (ws_ y bytes maxL rt))) (hC : y.cls = C) (hh : am_hd y n maxL rm R) (hrm : rm.cells = mc1 ∧ rm.slots = ms1) (hn : as.length = n) (hst : st = as.reverse ++ am_R b :: rest) (hroom : (rest.map am_cat).sum ≤ 8) (hf : cells + mc1 ≤ R.cells ∧ slots + ms1 ≤ R.slots)
    (hrecv : am_recv rep S C b) (k : ∀ (a : Option Nat) (S1 : σ), P a S1 → am_V rep l own cc nL ret nm R E (pc + 3) lv (am_O a :: rest) S1 (cells + mc1) (slots + ms1)) : am_V rep l own cc nL ret nm R E pc lv st S cells slots :=
  am_runV hd hT hC hh hrm hn hst hroom hf hrecv hM (fun v S1 hq => by obtain ⟨a, rfl, h2⟩ := hq; exact k a S1 h2)
theorem am_rSo {y : MethodName} {bytes : ByteArray} {maxL mc1 ms1 n index : Nat} {rt : Option FieldType} {rm : Room} {as rest : List am_W} {P : Option Nat → σ → Prop} (hM : am_C rep l y (ws_ y bytes maxL rt) rm mc1 ms1 as S (am_qo P)) (hd : decode cc pc = .ok (.invokestatic index, 3))
    (hT : GoodIn lw_all (va_wsS own index y (ws_ y bytes maxL rt))) (hh : am_hd y n maxL rm R) (hrm : rm.cells = mc1 ∧ rm.slots = ms1) (hn : as.length = n) (hst : st = as.reverse ++ rest) (hroom : (rest.map am_cat).sum ≤ 8) (hf : cells + mc1 ≤ R.cells ∧ slots + ms1 ≤ R.slots)
    (k : ∀ (a : Option Nat) (S1 : σ), P a S1 → am_V rep l own cc nL ret nm R E (pc + 3) lv (am_O a :: rest) S1 (cells + mc1) (slots + ms1)) : am_V rep l own cc nL ret nm R E pc lv st S cells slots :=
  am_runS hd hT hh hrm hn hst hroom hf hM (fun v S1 hq => by obtain ⟨a, rfl, h2⟩ := hq; exact k a S1 h2)
theorem am_rVv {y : MethodName} {bytes : ByteArray} {maxL mc1 ms1 n index : Nat} {rt : Option FieldType} {rm : Room} {as rest : List am_W} {b : Nat} {P : σ → Prop} {C : String} (hM : am_C rep l y (ws_ y bytes maxL rt) rm mc1 ms1 (am_R b :: as) S (am_qv P)) (hd : decode cc pc = .ok (.invokevirtual index, 3))
    (hT : GoodIn lw_all (wsV own index C y (ws_ y bytes maxL rt))) (hC : y.cls = C) (hh : am_hd y n maxL rm R) (hrm : rm.cells = mc1 ∧ rm.slots = ms1) (hn : as.length = n) (hst : st = as.reverse ++ am_R b :: rest) (hroom : (rest.map am_cat).sum ≤ 8) (hf : cells + mc1 ≤ R.cells ∧ slots + ms1 ≤ R.slots)
    (hrecv : am_recv rep S C b) (k : ∀ (S1 : σ), P S1 → am_V rep l own cc nL ret nm R E (pc + 3) lv (rest) S1 (cells + mc1) (slots + ms1)) : am_V rep l own cc nL ret nm R E pc lv st S cells slots :=
  am_runV hd hT hC hh hrm hn hst hroom hf hrecv hM (fun v S1 hq => by obtain ⟨rfl, h2⟩ := hq; exact k S1 h2)
theorem am_rSv {y : MethodName} {bytes : ByteArray} {maxL mc1 ms1 n index : Nat} {rt : Option FieldType} {rm : Room} {as rest : List am_W} {P : σ → Prop} (hM : am_C rep l y (ws_ y bytes maxL rt) rm mc1 ms1 as S (am_qv P)) (hd : decode cc pc = .ok (.invokestatic index, 3))
    (hT : GoodIn lw_all (va_wsS own index y (ws_ y bytes maxL rt))) (hh : am_hd y n maxL rm R) (hrm : rm.cells = mc1 ∧ rm.slots = ms1) (hn : as.length = n) (hst : st = as.reverse ++ rest) (hroom : (rest.map am_cat).sum ≤ 8) (hf : cells + mc1 ≤ R.cells ∧ slots + ms1 ≤ R.slots)
    (k : ∀ (S1 : σ), P S1 → am_V rep l own cc nL ret nm R E (pc + 3) lv (rest) S1 (cells + mc1) (slots + ms1)) : am_V rep l own cc nL ret nm R E pc lv st S cells slots :=
  am_runS hd hT hh hrm hn hst hroom hf hM (fun v S1 hq => by obtain ⟨rfl, h2⟩ := hq; exact k S1 h2)
end AMT
theorem am_r64_of {x : Int} (h : am_r x) : am_r64 x := ⟨by have := h.1; omega, by have := h.2; omega⟩
theorem am_r_rem {x y : Int} (hx : 0 ≤ x) (hx2 : x < 2147483648) (hy : 0 < y) : am_r (x % y) := by
  have h1 := Int.emod_nonneg x (show y ≠ 0 by omega)
  have h2 : x % y ≤ x := by
    have h3 := Int.emod_add_mul_ediv x y
    have h4 : 0 ≤ y * (x / y) := Int.mul_nonneg (by omega) (Int.ediv_nonneg hx (by omega))
    omega
  exact ⟨by omega, by omega⟩
theorem am_r_div {x y : Int} (hx : 0 ≤ x) (hx2 : x < 2147483648) (hy : 0 < y) : am_r (x / y) := ⟨by have := Int.ediv_nonneg hx (show 0 ≤ y by omega); omega, by have := Int.ediv_le_self y hx; omega⟩
/-! THE MODEL's STATE: 17 numbers, 17 arrays; its object is number 0, its arrays 1 to 17 -/
abbrev am_M : Type := (Nat → Int32) × (Nat → Nat → Int32)
def am_ml : Nat → Nat := fun j => match j with
  | 0 => 6696
  | 1 => 6
  | 2 => 6
  | 3 => 2
  | 4 => 8
  | 5 => 8
  | 6 => 8
  | 7 => 8
  | 8 => 8
  | 9 => 8
  | 10 => 8
  | 11 => 320
  | 12 => 48
  | 13 => 300
  | 14 => 144
  | 15 => 144
  | _ => 16
def am_mk : Nat → Nat := fun j => match j with
  | 6 => 1
  | 8 => 1
  | 14 => 1
  | 15 => 1
  | _ => 0
/-- the field of a number, of an array -/
def am_mp : Nat → Nat := fun j => match j with
  | 0 => 0
  | 1 => 1
  | 2 => 3
  | 3 => 6
  | 4 => 8
  | 5 => 17
  | 6 => 19
  | 7 => 21
  | 8 => 22
  | 9 => 23
  | 10 => 24
  | 11 => 25
  | 12 => 26
  | 13 => 27
  | 14 => 28
  | 15 => 29
  | _ => 33
def am_mq : Nat → Nat := fun j => match j with
  | 0 => 2
  | 1 => 4
  | 2 => 5
  | 3 => 7
  | 4 => 9
  | 5 => 10
  | 6 => 11
  | 7 => 12
  | 8 => 13
  | 9 => 14
  | 10 => 15
  | 11 => 16
  | 12 => 18
  | 13 => 20
  | 14 => 30
  | 15 => 31
  | _ => 32
def am_mv (ad : Nat → Nat) (S : am_M) : List Value := [.int (S.1 0), .int (S.1 1), .ref (ad 1), .int (S.1 2), .ref (ad 2), .ref (ad 3), .int (S.1 3), .ref (ad 4), .int (S.1 4), .ref (ad 5), .ref (ad 6), .ref (ad 7), .ref (ad 8), .ref (ad 9), .ref (ad 10), .ref (ad 11), .ref (ad 12), .int (S.1 5), .ref (ad 13), .int (S.1 6), .ref (ad 14), .int (S.1 7), .int (S.1 8), .int (S.1 9), .int (S.1 10), .int (S.1 11), .int (S.1 12), .int (S.1 13), .int (S.1 14), .int (S.1 15), .ref (ad 15), .ref (ad 16), .ref (ad 17), .int (S.1 16)]
def am_mw (G : am_X) (S : am_M) : va_W := (G.2.2.1 0, .inr (0, am_mv G.2.2.1 S)) :: (List.range 17).map (fun j => (G.2.2.1 (j + 1), .inl (G.2.1 (am_mk j), am_ml j, .inl (S.2 j))))
def am_mr (G : am_X) (S : am_M) (H : Heap) : Prop := va_P G.1 am_cl (am_mw G S) H ∧ va_D G.2.2.2.1 (am_mw G S)
theorem am_mw_at (G : am_X) (S : am_M) {j : Nat} (hj : j < 17) : (am_mw G S)[j + 1]? = some (G.2.2.1 (j + 1), .inl (G.2.1 (am_mk j), am_ml j, .inl (S.2 j))) := by
  unfold am_mw
  rw [List.getElem?_cons_succ, List.getElem?_map, List.getElem?_range hj]
  rfl
theorem am_mv_get (ad : Nat → Nat) (S : am_M) : ∀ j, j < 17 → (am_mv ad S)[am_mp j]? = some (.int (S.1 j)) := by
  intro j hj
  match j, hj with
  | 0, _ => rfl
  | 1, _ => rfl
  | 2, _ => rfl
  | 3, _ => rfl
  | 4, _ => rfl
  | 5, _ => rfl
  | 6, _ => rfl
  | 7, _ => rfl
  | 8, _ => rfl
  | 9, _ => rfl
  | 10, _ => rfl
  | 11, _ => rfl
  | 12, _ => rfl
  | 13, _ => rfl
  | 14, _ => rfl
  | 15, _ => rfl
  | 16, _ => rfl
  | j + 17, h => exact absurd h (by omega)
theorem am_mv_arr (ad : Nat → Nat) (S : am_M) : ∀ j, j < 17 → (am_mv ad S)[am_mq j]? = some (.ref (ad (j + 1))) := by
  intro j hj
  match j, hj with
  | 0, _ => rfl
  | 1, _ => rfl
  | 2, _ => rfl
  | 3, _ => rfl
  | 4, _ => rfl
  | 5, _ => rfl
  | 6, _ => rfl
  | 7, _ => rfl
  | 8, _ => rfl
  | 9, _ => rfl
  | 10, _ => rfl
  | 11, _ => rfl
  | 12, _ => rfl
  | 13, _ => rfl
  | 14, _ => rfl
  | 15, _ => rfl
  | 16, _ => rfl
  | j + 17, h => exact absurd h (by omega)
theorem am_mv_set (ad : Nat → Nat) (S : am_M) (x : Int32) : ∀ j, j < 17 → (am_mv ad S).set (am_mp j) (.int x) = am_mv ad (va_up S.1 j x, S.2) := by
  intro j hj
  match j, hj with
  | 0, _ => rfl
  | 1, _ => rfl
  | 2, _ => rfl
  | 3, _ => rfl
  | 4, _ => rfl
  | 5, _ => rfl
  | 6, _ => rfl
  | 7, _ => rfl
  | 8, _ => rfl
  | 9, _ => rfl
  | 10, _ => rfl
  | 11, _ => rfl
  | 12, _ => rfl
  | 13, _ => rfl
  | 14, _ => rfl
  | 15, _ => rfl
  | 16, _ => rfl
  | j + 17, h => exact absurd h (by omega)
theorem am_tx3 (k : Nat) : (TX3 k).1 = RX3 := by unfold TX3; split <;> rfl
theorem am_mp_ok : ∀ j, j < 17 → am_mp j < 34 ∧ (TX3 (am_mp j)).2.2.2 = false ∧ parseFieldDescriptor (TX3 (am_mp j)).2.2.1 = some .int := by decide +kernel
theorem am_mq_ok : ∀ j, j < 17 → am_mq j < 34 := by decide +kernel
theorem am_ml_ok : ∀ j, j < 17 → am_ml j < 2147483648 := by decide +kernel
/-- the model's state behind a store -/
def am_sv (S : am_M) (j : Nat) (x : Int) : am_M := (va_up S.1 j (Int32.ofInt x), S.2)
def am_sa (S : am_M) (j : Nat) (i : Int) (x : Int) : am_M := (S.1, va_up S.2 j (va_up (S.2 j) i.toNat (Int32.ofInt x)))
theorem am_mw_set (G : am_X) (S : am_M) (f : Nat → Int32) {j : Nat} (hj : j < 17) : (am_mw G S).set (j + 1) (G.2.2.1 (j + 1), .inl (G.2.1 (am_mk j), am_ml j, .inl f)) = am_mw G (S.1, va_up S.2 j f) := by
  unfold am_mw
  rw [List.set_cons_succ]
  congr 1
  apply List.ext_getElem?
  intro i
  by_cases hi : i < 17
  · by_cases h : i = j
    · subst h
      rw [List.getElem?_set_self (by simpa using hi), List.getElem?_map, List.getElem?_range hi]
      simp [va_up]
    · rw [List.getElem?_set_ne (Ne.symm h), List.getElem?_map, List.getElem?_map, List.getElem?_range hi]
      simp [va_up, h]
  · rw [List.getElem?_eq_none (by simpa using hi), List.getElem?_eq_none (by simpa using hi)]
theorem am_mrecv (S : am_M) : am_recv am_mr S RX3 0 := fun G H s hK hr => va_recv (q0 := 0) (ci := 0) hK.1 hr.1 rfl rfl

section AMM
variable {l : Launch} {cc : ByteArray} {nL : Nat} {ret : Option FieldType} {nm own : String} {R : Room} {E : am_Et} {pc : Nat} {lv : List (Nat × am_W)} {st : List am_W} {S : am_M} {cells slots : Nat}
theorem am_mgeti (j : Nat) (hj : j < 17) {v : Int} (hv : (S.1 j).toInt = v) {ix : Nat} (hl : Cond.fieldLink own ix RX3 (TX3 (am_mp j)).2.1 (TX3 (am_mp j)).2.2.1 ∈ lw_all) (hd : decode cc pc = .ok (.getfield ix, 3)) (k : am_V am_mr l own cc nL ret nm R E (pc + 3) lv (am_I v :: st) S cells slots) : am_V am_mr l own cc nL ret nm R E pc lv (am_R 0 :: st) S cells slots := by
  intro G p e s m args below meth c H locs ls F hr hS hl'
  obtain ⟨f1, f2, f3, f4, f5, f6, f7, f8, f9, f10⟩ := F
  subst hv
  refine va_get (D := G.1) (cl := am_cl) (ci := 0) (C := RX3) (T := TX3) (N := 34) f1 f2 f8 in_X3 f7 f9.1 hr.1 0 rfl rfl (am_mp j) (am_mp_ok j hj).1 (f8 _ hl) (fun x h => by rw [show (TX3 (am_mp j)).1 = RX3 from am_tx3 _] at h; exact h) (am_mv_get _ S j hj) hd ?_
  have K := k G p e s m args below meth c H locs ls ⟨f1, f2, f3, f4, f5, f6, f7, f8, f9, f10⟩ hr hS hl'
  rw [List.map_cons, show am_c G.2.2.1 (am_I (S.1 j).toInt) = Value.int _ from congrArg Value.int (am_it _)] at K
  exact K
theorem am_mgeta (j : Nat) (hj : j < 17) {ix : Nat} (hl : Cond.fieldLink own ix RX3 (TX3 (am_mq j)).2.1 (TX3 (am_mq j)).2.2.1 ∈ lw_all) (hd : decode cc pc = .ok (.getfield ix, 3)) (k : am_V am_mr l own cc nL ret nm R E (pc + 3) lv (am_R (j + 1) :: st) S cells slots) : am_V am_mr l own cc nL ret nm R E pc lv (am_R 0 :: st) S cells slots := by
  intro G p e s m args below meth c H locs ls F hr hS hl'
  obtain ⟨f1, f2, f3, f4, f5, f6, f7, f8, f9, f10⟩ := F
  exact va_get (D := G.1) (cl := am_cl) (ci := 0) (C := RX3) (T := TX3) (N := 34) f1 f2 f8 in_X3 f7 f9.1 hr.1 0 rfl rfl (am_mq j) (am_mq_ok j hj) (f8 _ hl) (fun x h => by rw [show (TX3 (am_mq j)).1 = RX3 from am_tx3 _] at h; exact h) (am_mv_arr _ S j hj) hd (k G p e s m args below meth c H locs ls ⟨f1, f2, f3, f4, f5, f6, f7, f8, f9, f10⟩ hr hS hl')
theorem am_mput (j : Nat) (hj : j < 17) {ix : Nat} {x : Int} (hl : Cond.fieldLink own ix RX3 (TX3 (am_mp j)).2.1 (TX3 (am_mp j)).2.2.1 ∈ lw_all) (hd : decode cc pc = .ok (.putfield ix, 3)) (k : am_V am_mr l own cc nL ret nm R E (pc + 3) lv st (am_sv S j x) cells slots) : am_V am_mr l own cc nL ret nm R E pc lv (am_I x :: am_R 0 :: st) S cells slots := by
  intro G p e' s m args below meth c H locs ls F hr hS hl'
  obtain ⟨f1, f2, f3, f4, f5, f6, f7, f8, f9, f10⟩ := F
  obtain ⟨g1, g2, g3⟩ := am_mp_ok j hj
  refine va_put (D := G.1) (cl := am_cl) (ci := 0) (C := RX3) (T := TX3) (N := 34) (v := .int (Int32.ofInt x)) (ty := .int) f1 f2 f8 in_X3 tyX3 tyX3_ok nmX3 f7 f9.1 hr.1 hr.2 hS 0 rfl rfl (am_mp j) g1 (f8 _ hl) (fun x h => by rw [show (TX3 (am_mp j)).1 = RX3 from am_tx3 _] at h; exact h) g2 g3 rfl rfl g1 hd (fun H1 locs1 hP hD hS1 => ?_)
  have e : (am_mw G S).set 0 (G.2.2.1 0, .inr (0, (am_mv G.2.2.1 S).set (am_mp j) (.int (Int32.ofInt x)))) = am_mw G (am_sv S j x) := by
    rw [am_mv_set _ S _ j hj]
    rfl
  rw [e] at hP hD
  exact k G p e' s m args below meth c H1 locs1 ls ⟨f1, f2, f3, f4, f5, f6, f7, f8, f9, f10⟩ ⟨hP, hD⟩ hS1 hl'

theorem am_miald (j : Nat) (hj : j < 17) (hk : am_mk j = 0) {i v : Int} (hv : (S.2 j i.toNat).toInt = v) (h0 : 0 ≤ i) (h1 : i < am_ml j) (hd : decode cc pc = .ok (.iaload, 1)) (k : am_V am_mr l own cc nL ret nm R E (pc + 1) lv (am_I v :: st) S cells slots) : am_V am_mr l own cc nL ret nm R E pc lv (am_I i :: am_R (j + 1) :: st) S cells slots := by
  intro G p e s m args below meth c H locs ls F hr hS hl'
  obtain ⟨f1, f2, f3, f4, f5, f6, f7, f8, f9, f10⟩ := F
  subst hv
  obtain ⟨g1, g2⟩ := am_in h0 h1 (am_ml_ok j hj)
  refine va_iald (D := G.1) (cl := am_cl) (n := am_ml j) (f := S.2 j) (cA := G.2.1 0) f1 f2 f9.1 hr.1 (j + 1) 0 (by rw [am_mw_at G S hj, hk]) rfl g1 hd ?_
  have K := k G p e s m args below meth c H locs ls ⟨f1, f2, f3, f4, f5, f6, f7, f8, f9, f10⟩ hr hS hl'
  rw [List.map_cons, show am_c G.2.2.1 (am_I (S.2 j i.toNat).toInt) = Value.int _ from congrArg Value.int (am_it _)] at K
  rw [g2]
  exact K

theorem am_mzald (j : Nat) (hj : j < 17) (hk : am_mk j = 1) {i v : Int} (hv : (S.2 j i.toNat).toInt = v) (h0 : 0 ≤ i) (h1 : i < am_ml j) (hd : decode cc pc = .ok (.baload, 1)) (k : am_V am_mr l own cc nL ret nm R E (pc + 1) lv (am_I v :: st) S cells slots) : am_V am_mr l own cc nL ret nm R E pc lv (am_I i :: am_R (j + 1) :: st) S cells slots := by
  intro G p e s m args below meth c H locs ls F hr hS hl'
  obtain ⟨f1, f2, f3, f4, f5, f6, f7, f8, f9, f10⟩ := F
  subst hv
  obtain ⟨g1, g2⟩ := am_in h0 h1 (am_ml_ok j hj)
  refine va_zald (D := G.1) (cl := am_cl) (n := am_ml j) (f := S.2 j) (cA := G.2.1 1) f1 f2 f9.1 hr.1 (j + 1) 1 (by rw [am_mw_at G S hj, hk]) rfl g1 hd ?_
  have K := k G p e s m args below meth c H locs ls ⟨f1, f2, f3, f4, f5, f6, f7, f8, f9, f10⟩ hr hS hl'
  rw [List.map_cons, show am_c G.2.2.1 (am_I (S.2 j i.toNat).toInt) = Value.int _ from congrArg Value.int (am_it _)] at K
  rw [g2]
  exact K

theorem am_miast (j : Nat) (hj : j < 17) (hk : am_mk j = 0) {i x : Int} (h0 : 0 ≤ i) (h1 : i < am_ml j) (hd : decode cc pc = .ok (.iastore, 1)) (k : am_V am_mr l own cc nL ret nm R E (pc + 1) lv st (am_sa S j i x) cells slots) : am_V am_mr l own cc nL ret nm R E pc lv (am_I x :: am_I i :: am_R (j + 1) :: st) S cells slots := by
  intro G p e s m args below meth c H locs ls F hr hS hl'
  obtain ⟨f1, f2, f3, f4, f5, f6, f7, f8, f9, f10⟩ := F
  obtain ⟨g1, g2⟩ := am_in h0 h1 (am_ml_ok j hj)
  refine va_iast (D := G.1) (cl := am_cl) (n := am_ml j) (f := S.2 j) (cA := G.2.1 0) f1 f2 f9.1 hr.1 hr.2 hS (j + 1) 0 (by rw [am_mw_at G S hj, hk]) rfl g1 hd (fun H1 locs1 hP hD hS1 => ?_)
  have ee := am_mw_set G S (upd (S.2 j) i.toNat (Int32.ofInt x)) hj
  rw [hk] at ee
  rw [g2, ee] at hP hD
  exact k G p e s m args below meth c H1 locs1 ls ⟨f1, f2, f3, f4, f5, f6, f7, f8, f9, f10⟩ ⟨hP, hD⟩ hS1 hl'
theorem am_mzast (j : Nat) (hj : j < 17) (hk : am_mk j = 1) {i : Int} {b : Bool} (h0 : 0 ≤ i) (h1 : i < am_ml j) (hd : decode cc pc = .ok (.bastore, 1)) (k : am_V am_mr l own cc nL ret nm R E (pc + 1) lv st (am_sa S j i (am_b b)) cells slots) : am_V am_mr l own cc nL ret nm R E pc lv (am_I (am_b b) :: am_I i :: am_R (j + 1) :: st) S cells slots := by
  intro G p e s m args below meth c H locs ls F hr hS hl'
  obtain ⟨f1, f2, f3, f4, f5, f6, f7, f8, f9, f10⟩ := F
  obtain ⟨g1, g2⟩ := am_in h0 h1 (am_ml_ok j hj)
  refine va_zast (D := G.1) (cl := am_cl) (n := am_ml j) (f := S.2 j) (cA := G.2.1 1) f1 f2 f9.1 hr.1 hr.2 hS (j + 1) 1 (by rw [am_mw_at G S hj, hk]) rfl g1 hd (fun H1 locs1 hP hD hS1 => ?_)
  have ee := am_mw_set G S (upd (S.2 j) i.toNat (Int32.ofInt (am_b b))) hj
  rw [hk] at ee
  have hb : vp_nar .boolean (Int32.ofInt (am_b b)) = Int32.ofInt (am_b b) := by cases b <;> rfl
  rw [g2, hb, ee] at hP hD
  exact k G p e s m args below meth c H1 locs1 ls ⟨f1, f2, f3, f4, f5, f6, f7, f8, f9, f10⟩ ⟨hP, hD⟩ hS1 hl'
end AMM

