/-! EXCEPTIONS: methods that throw an object of ours, and their callers -/
section AX0
variable {σ : Type}
/-- how a throwing call ends: the class, the number of what is thrown, the state -/
def am_XC (rep : am_X → σ → Heap → Prop) (G : am_X) (QX : String → Nat → σ → Prop) : String → Addr → State → State → Prop := fun E q st t => ∃ (k : Nat) (S : σ), q = G.2.2.1 k ∧ QX E k S ∧ rep G S t.heap ∧ va_F G.2.2.2.1 st t
/-- the contract of a method that returns or throws -/
def am_T (rep : am_X → σ → Heap → Prop) (l : Launch) (y : MethodName) (ws : List Cond) (rm : Room) (mc ms : Nat) (as : List am_W) (S : σ) (Q : Option am_W → σ → Prop) (QX : String → Nat → σ → Prop) : Prop :=
  ∀ G : am_X, vx_Met l y ws rm (am_P rep G as S) (am_Q rep G Q) (am_XC rep G QX) mc ms G.2.2.2.1
def am_E2 (rep : am_X → σ → Heap → Prop) (mc ms : Nat) (Q : Option am_W → σ → Prop) (QX : String → Nat → σ → Prop) : am_Et := fun G below s args => vx_MQ below (am_Q rep G Q) (am_XC rep G QX) args s mc ms G.2.2.2.1
/-- the object k has been thrown over the frame at pc -/
def am_VX (rep : am_X → σ → Heap → Prop) (l : Launch) (own : String) (cc : ByteArray) (nL : Nat) (ret : Option FieldType) (nm : String) (R : Room) (E : am_Et) (pc : Nat) (lv : List (Nat × am_W)) (ex : String) (k : Nat) (S : σ) (cells slots : Nat) : Prop :=
  ∀ (G : am_X) (p : Program) (e : Env) (s : State) (m : MethodId) (args : Array Value) (below : List Frame) (meth : Method) (c : Code) (H : Heap) (locs : List Loc) (ls : Array Slot) (rest : List Value),
    am_F own cc nL ret nm G p s m args meth c → rep G S H → va_S G.2.2.2.1 s.heap H locs → lv_has ls nL (am_l G.2.2.1 lv) → (∃ ce : Cell, H[G.2.2.1 k]? = some ce ∧ ce.vm = .none ∧ s.vm.findClass ex = some ce.cls) →
    vx_W p l e R s m args below meth c H locs cells slots (E G below s args) (F0 m pc ls rest) (G.2.2.1 k)
variable {rep : am_X → σ → Heap → Prop} {l : Launch} {own : String} {cc : ByteArray} {nL : Nat} {ret : Option FieldType} {nm : String} {R : Room} {E : am_Et} {mc ms : Nat} {Q : Option am_W → σ → Prop} {QX : String → Nat → σ → Prop} {pc : Nat} {lv : List (Nat × am_W)} {st : List am_W} {S : σ} {cells slots : Nat}
/-- a row that returns serves a method that may throw -/
theorem am_e12 (k : am_V rep l own cc nL ret nm R (am_E1 rep mc ms Q) pc lv st S cells slots) : am_V rep l own cc nL ret nm R (am_E2 rep mc ms Q QX) pc lv st S cells slots :=
  am_mono (fun _ _ _ _ _ h => by
    obtain ⟨o, b1, b2, b3, b4⟩ := h
    exact ⟨o, b1, b2, Or.inl ⟨b3, b4⟩⟩) k
theorem am_athrow {a : Nat} {ex : String} (hd : decode cc pc = .ok (.athrow, 1)) (ha : ∀ (G : am_X) (H : Heap) (s : State), am_K G s → rep G S H → ∃ ce : Cell, H[G.2.2.1 a]? = some ce ∧ ce.vm = .none ∧ s.vm.findClass ex = some ce.cls) (kk : am_VX rep l own cc nL ret nm R E pc lv ex a S cells slots) : am_V rep l own cc nL ret nm R E pc lv (am_R a :: st) S cells slots := by
  intro G p e s m args below meth c H locs ls F hr hS hl'
  exact vx_athrow F.1 F.2.1 hd (kk G p e s m args below meth c H locs ls _ F hr hS hl' (ha G H s F.2.2.2.2.2.2.2.2.1 hr))
/-- it leaves the method -/
theorem am_xout {ex : String} {k : Nat} (L : List (Nat × Nat × Nat × Nat)) (hs : am_tb own nm = L) (hout : ∀ x ∈ tableOf L, covers x pc = false) (hc : cells ≤ mc) (hsl : slots ≤ ms) (hQ : QX ex k S) : am_VX rep l own cc nL ret nm R (am_E2 rep mc ms Q QX) pc lv ex k S cells slots := by
  intro G p e s m args below meth c H locs ls rest F hr hS hl' ⟨ce, h1, h2, h3⟩
  obtain ⟨f1, f2, f3, f4, f5, f6, f7, f8, f9, f10⟩ := F
  refine vx_out (by rw [f6.2, hs]; exact hout) f5 h1 h2 h3 (fun t ht _ => ⟨k, S, rfl, hQ, by rw [ht]; exact hr, ?_⟩) hS.2.2 hc hsl
  exact ⟨by rw [ht]; exact hS.1, fun q g1 g2 => by rw [ht]; exact hS.2.1 q g1 g2⟩
/-- it is caught here -/
theorem am_xcatch {ex name : String} {k hpc : Nat} (L : List (Nat × Nat × Nat × Nat)) (hs : am_tb own nm = L) (pre : List ExceptionTableEntry) (x : ExceptionTableEntry) (suf : List ExceptionTableEntry) (hsplit : tableOf L = pre ++ x :: suf) (hpass : ∀ z ∈ pre, covers z pc = false) (hx : covers x pc = true) (h0 : x.catchType ≠ 0) (hlink : Cond.classLink own x.catchType name ∈ lw_all) (hcast : Cond.castable ex name ∈ am_nw) (hh : x.handlerPc = hpc) (kk : am_V rep l own cc nL ret nm R E hpc lv [am_R k] S cells slots) : am_VX rep l own cc nL ret nm R E pc lv ex k S cells slots := by
  intro G p e s m args below meth c H locs ls rest F hr hS hl' ⟨ce, h1, h2, h3⟩
  obtain ⟨f1, f2, f3, f4, f5, f6, f7, f8, f9, f10⟩ := F
  subst hh
  exact vx_catch f7 pre x suf (by rw [f6.2, hs]; exact hsplit) (fun z hz => Or.inl (hpass z hz)) hx h0 (f8 _ hlink) (va_Nw.use rfl (f9.2.1 _ hcast)) h1 h2 h3 (kk G p e s m args below meth c H locs ls ⟨f1, f2, f3, f4, f5, f6, f7, f8, f9, f10⟩ hr hS hl')
theorem am_VX.keep {lv' : List (Nat × am_W)} {ex : String} {k : Nat} (ks : List Nat) (hk : ks.filterMap (fun k => lv[k]?) = lv') (kk : am_VX rep l own cc nL ret nm R E pc lv' ex k S cells slots) : am_VX rep l own cc nL ret nm R E pc lv ex k S cells slots := by
  intro G p e s m args below meth c H locs ls rest F hr hS hl
  refine kk G p e s m args below meth c H locs ls rest F hr hS (lv_sub hl ks ?_)
  rw [← hk]
  unfold lv_pick am_l
  rw [List.map_filterMap]
  congr 1
  funext k
  rw [List.getElem?_map]
/-- behind a call that may throw -/
theorem am_backT {mc1 ms1 : Nat} {rest : List am_W} {Q1 : Option am_W → σ → Prop} {QX1 : String → Nat → σ → Prop} {G : am_X} {p : Program} {e : Env} {s : State} {m : MethodId} {args a1 : Array Value} {below : List Frame} {meth : Method} {c : Code} {H : Heap} {locs : List Loc} {ls : Array Slot} {st0 : List Value}
    (F : am_F own cc nL ret nm G p s m args meth c) (hS : va_S G.2.2.2.1 s.heap H locs) (hl : lv_has ls nL (am_l G.2.2.1 lv))
    (hr : vx_Run p l e R s m args below meth c H locs cells slots mc1 ms1 (F0 m pc ls st0) (rest.map (am_c G.2.2.1)) (am_Q rep G Q1 a1) (am_XC rep G QX1) G.2.2.2.1)
    (k : ∀ (v : Option am_W) (S1 : σ), Q1 v S1 → am_V rep l own cc nL ret nm R E (pc + 3) lv (v.toList ++ rest) S1 (cells + mc1) (slots + ms1))
    (kx : ∀ (ex : String) (j : Nat) (S1 : σ), QX1 ex j S1 → am_VX rep l own cc nL ret nm R E pc lv ex j S1 (cells + mc1) (slots + ms1)) :
    W p l e R s m args below meth c H locs cells slots (E G below s args) (F0 m pc ls st0) := by
  intro T hT X
  rcases hr T hT X with ⟨v, st₀, t, T', L, h0, X', hL, e1, e2, ⟨⟨w, S1, hv, hQ, hrep⟩, hz, hk⟩, st⟩ | ⟨q, st₀, t, T', L, E9, ce, h0, X', hL, e1, e2, ⟨j, S1, hq, hQ, hrep, hz, hk⟩, hce, hcv, hcl, st⟩
  · cases hv
    rw [h0] at hz hk
    have hS' : va_S G.2.2.2.1 s.heap T'.heap (locs ++ L) := ⟨Nat.le_trans hS.1 (by rw [e1]; exact hz), fun q h1 h2 => by rw [e1, hk q (Nat.lt_of_lt_of_le h1 hS.1) h2]; exact hS.2.1 q h1 h2, fun q hq => by
      rcases List.mem_append.mp hq with h | h
      · exact hS.2.2 q h
      · exact hL q h⟩
    have K := k w S1 hQ G p e s m args below meth c T'.heap (locs ++ L) ls F (by rw [e1]; exact hrep) hS' hl
    obtain ⟨t2, a1, b1⟩ := K T' rfl X'
    refine ⟨t2, st t2 ?_, b1⟩
    have hst : (w.map (am_c G.2.2.1)).toList ++ rest.map (am_c G.2.2.1) = (w.toList ++ rest).map (am_c G.2.2.1) := by cases w <;> rfl
    rw [hst]
    exact a1
  · rw [h0] at hz hk
    have hS' : va_S G.2.2.2.1 s.heap T'.heap (locs ++ L) := ⟨Nat.le_trans hS.1 (by rw [e1]; exact hz), fun q h1 h2 => by rw [e1, hk q (Nat.lt_of_lt_of_le h1 hS.1) h2]; exact hS.2.1 q h1 h2, fun q hq => by
      rcases List.mem_append.mp hq with h | h
      · exact hS.2.2 q h
      · exact hL q h⟩
    subst hq
    have K := kx E9 j S1 hQ G p e s m args below meth c T'.heap (locs ++ L) ls (rest.map (am_c G.2.2.1)) F (by rw [e1]; exact hrep) hS' hl ⟨ce, by rw [e1]; exact hce, hcv, hcl⟩
    obtain ⟨t2, a1, b1⟩ := K T' rfl X'
    exact ⟨t2, st.trans a1, b1⟩
theorem am_tV {y : MethodName} {bytes : ByteArray} {maxL mc1 ms1 n index : Nat} {rt : Option FieldType} {rm : Room} {as rest : List am_W} {b : Nat} {Q1 : Option am_W → σ → Prop} {QX1 : String → Nat → σ → Prop} {C : String} (hM : am_T rep l y (ws_ y bytes maxL rt) rm mc1 ms1 (am_R b :: as) S Q1 QX1) (hd : decode cc pc = .ok (.invokevirtual index, 3))
    (hT : GoodIn lw_all (wsV own index C y (ws_ y bytes maxL rt))) (hC : y.cls = C) (hh : am_hd y n maxL rm R) (hrm : rm.cells = mc1 ∧ rm.slots = ms1) (hn : as.length = n) (hst : st = as.reverse ++ am_R b :: rest) (hroom : (rest.map am_cat).sum ≤ 8) (hf : cells + mc1 ≤ R.cells ∧ slots + ms1 ≤ R.slots)
    (hrecv : am_recv rep S C b)
    (k : ∀ (v : Option am_W) (S1 : σ), Q1 v S1 → am_V rep l own cc nL ret nm R E (pc + 3) lv (v.toList ++ rest) S1 (cells + mc1) (slots + ms1))
    (kx : ∀ (ex : String) (j : Nat) (S1 : σ), QX1 ex j S1 → am_VX rep l own cc nL ret nm R E pc lv ex j S1 (cells + mc1) (slots + ms1)) : am_V rep l own cc nL ret nm R E pc lv st S cells slots := by
  intro G p e s m args below meth c H locs ls F hr hS hl
  obtain ⟨f1, f2, f3, f4, f5, f6, f7, f8, f9, f10⟩ := F
  have F : am_F own cc nL ret nm G p s m args meth c := ⟨f1, f2, f3, f4, f5, f6, f7, f8, f9, f10⟩
  refine am_backT F hS hl (vx_runV (As := as.map (am_c G.2.2.1)) (b := G.2.2.1 b) (rest := rest.map (am_c G.2.2.1)) ⟨f1, f2, f3, f7, f8⟩ (hM G) (cwV n f8 hT rfl hrm.1 hrm.2 ⟨hC, hh.1⟩ hh.2) ⟨am_P_blind, hrecv G H s f9 hr, fun U hU hW => ⟨rfl, f9.warm hW, by rw [hU]; exact hr, fun q hq => f10 q (Nat.le_trans hS.1 (by rw [← hU]; exact hq))⟩⟩ rfl ?_ hl.1 ?_ (lv_room (am_room hroom)) hd hf) k kx
  · rw [List.length_map]; exact hn
  · rw [hst]
    simp only [List.map_append, List.map_reverse, List.map_cons]
    rfl
theorem am_tS {y : MethodName} {bytes : ByteArray} {maxL mc1 ms1 n index : Nat} {rt : Option FieldType} {rm : Room} {as rest : List am_W} {Q1 : Option am_W → σ → Prop} {QX1 : String → Nat → σ → Prop} (hM : am_T rep l y (ws_ y bytes maxL rt) rm mc1 ms1 as S Q1 QX1) (hd : decode cc pc = .ok (.invokestatic index, 3))
    (hT : GoodIn lw_all (va_wsS own index y (ws_ y bytes maxL rt))) (hh : am_hd y n maxL rm R) (hrm : rm.cells = mc1 ∧ rm.slots = ms1) (hn : as.length = n) (hst : st = as.reverse ++ rest) (hroom : (rest.map am_cat).sum ≤ 8) (hf : cells + mc1 ≤ R.cells ∧ slots + ms1 ≤ R.slots)
    (k : ∀ (v : Option am_W) (S1 : σ), Q1 v S1 → am_V rep l own cc nL ret nm R E (pc + 3) lv (v.toList ++ rest) S1 (cells + mc1) (slots + ms1))
    (kx : ∀ (ex : String) (j : Nat) (S1 : σ), QX1 ex j S1 → am_VX rep l own cc nL ret nm R E pc lv ex j S1 (cells + mc1) (slots + ms1)) : am_V rep l own cc nL ret nm R E pc lv st S cells slots := by
  intro G p e s m args below meth c H locs ls F hr hS hl
  obtain ⟨f1, f2, f3, f4, f5, f6, f7, f8, f9, f10⟩ := F
  have F : am_F own cc nL ret nm G p s m args meth c := ⟨f1, f2, f3, f4, f5, f6, f7, f8, f9, f10⟩
  refine am_backT F hS hl (vx_runS (As := as.map (am_c G.2.2.1)) (rest := rest.map (am_c G.2.2.1)) ⟨f1, f2, f3, f7, f8⟩ (hM G) (va_cwS n f8 hT rfl hrm.1 hrm.2 hh.1 hh.2) ⟨am_P_blind, fun U hU hW => ⟨rfl, f9.warm hW, by rw [hU]; exact hr, fun q hq => f10 q (Nat.le_trans hS.1 (by rw [← hU]; exact hq))⟩⟩ rfl ?_ hl.1 ?_ (lv_room (am_room hroom)) hd hf) k kx
  · rw [List.length_map]; exact hn
  · rw [hst]
    simp only [List.map_append, List.map_reverse]
theorem am_tSN {y : MethodName} {bytes : ByteArray} {maxL mc1 ms1 n index : Nat} {rt : Option FieldType} {rm : Room} {as rest : List am_W} {host : String} {Q1 : Option am_W → σ → Prop} {QX1 : String → Nat → σ → Prop} (hM : am_T rep l y (ws_ y bytes maxL rt) rm mc1 ms1 as S Q1 QX1) (hd : decode cc pc = .ok (.invokestatic index, 3)) (hl : Cond.methodLinkNest own index y host ∈ am_nw) (hsta : Cond.static y ∈ lw_all) (hini : Cond.initialized y.cls ∈ lw_all) (hcode : Cond.code y bytes maxL rt ∈ lw_all) (hh : am_hd y n maxL rm R) (hrm : rm.cells = mc1 ∧ rm.slots = ms1) (hn : as.length = n) (hst : st = as.reverse ++ rest) (hroom : (rest.map am_cat).sum ≤ 8) (hf : cells + mc1 ≤ R.cells ∧ slots + ms1 ≤ R.slots)
    (k : ∀ (v : Option am_W) (S1 : σ), Q1 v S1 → am_V rep l own cc nL ret nm R E (pc + 3) lv (v.toList ++ rest) S1 (cells + mc1) (slots + ms1))
    (kx : ∀ (ex : String) (j : Nat) (S1 : σ), QX1 ex j S1 → am_VX rep l own cc nL ret nm R E pc lv ex j S1 (cells + mc1) (slots + ms1)) : am_V rep l own cc nL ret nm R E pc lv st S cells slots := by
  intro G p e s m args below meth c H locs ls F hr hS hl'
  obtain ⟨f1, f2, f3, f4, f5, f6, f7, f8, f9, f10⟩ := F
  have F : am_F own cc nL ret nm G p s m args meth c := ⟨f1, f2, f3, f4, f5, f6, f7, f8, f9, f10⟩
  refine am_backT F hS hl' (vx_runSN (As := as.map (am_c G.2.2.1)) (rest := rest.map (am_c G.2.2.1)) ⟨f1, f2, f3, f7, f8⟩ (hM G) ⟨va_cnB n f8 (lw_meth hcode) rfl hrm.1 hrm.2 (f9.2.1 _ hl) (f8 _ hini) hh.1 hh.2, f8 _ hsta, trivial⟩ ⟨am_P_blind, fun U hU hW => ⟨rfl, f9.warm hW, by rw [hU]; exact hr, fun q hq => f10 q (Nat.le_trans hS.1 (by rw [← hU]; exact hq))⟩⟩ rfl ?_ hl'.1 ?_ (lv_room (am_room hroom)) hd hf) k kx
  · rw [List.length_map]; exact hn
  · rw [hst]
    simp only [List.map_append, List.map_reverse]
/-- the contract of a method that throws, out of the walk of its body -/
theorem am_entryT {y : MethodName} {as : List am_W} (hy : plainName y.cls = true) (ho : y.cls = own) (hnm : y.name = nm) (hlv : ∀ ad : Nat → Nat, lv_args 0 (as.map (am_c ad)) = am_l ad lv) (hsz : ∀ ad : Nat → Nat, (lg_sl (as.map (am_c ad))).length ≤ nL)
    (k : am_V rep l own cc nL ret nm R (am_E2 rep mc ms Q QX) 0 lv [] S 0 0) (htb : am_tb own nm = [] := by decide +kernel) : am_T rep l y (ws_ y cc nL ret) R mc ms as S Q QX := by
  intro G
  refine vx_ofW (cc := cc) (maxL := nL) (ret := ret) hy rfl ?_
  intro p e s m args below meth c s₁ B hml htl hv
  obtain ⟨rfl, hK, hrep, hA⟩ := hv
  have hts := atoms_spec (ws := ws_ y cc nL ret) B.pre
  have hts : ∀ w ∈ lw_all, w.before _ s = true := fun w h => hts w (List.mem_cons_of_mem _ h)
  have hown : s.vm.findClass own = some m.cls := by rw [← ho]; exact findClass_of_methodNamed B.named
  have hin : meth.name = nm := by rw [← hnm]; exact (name_of_methodNamed B.named B.method).1
  have ht : c.exceptionTable.toList = tableOf (am_tb own nm) := by
    rw [htb]
    cases h : c.exceptionTable.toList with
    | nil => rfl
    | cons x xs => exact (htl x (by rw [h]; exact List.mem_cons_self)).elim
  rw [lg_entry_eq]
  refine k G p e s m _ below meth c s.heap [] _ ⟨B.exec, B.bytes, hml, B.returns, B.notSynchronized, ⟨hin, ht⟩, hown, hts, hK, hA⟩ hrep va_S.rf ?_
  rw [← hlv]
  exact lv_entry _ (hsz _)
/-- .. of one that has handlers, and doesn't throw -/
theorem am_entryW {y : MethodName} {as : List am_W} (L : List (Nat × Nat × Nat × Nat)) (hy : plainName y.cls = true) (ho : y.cls = own) (hnm : y.name = nm) (hlv : ∀ ad : Nat → Nat, lv_args 0 (as.map (am_c ad)) = am_l ad lv) (hsz : ∀ ad : Nat → Nat, (lg_sl (as.map (am_c ad))).length ≤ nL)
    (k : am_V rep l own cc nL ret nm R (am_E1 rep mc ms Q) 0 lv [] S 0 0) (htb : am_tb own nm = L := by decide +kernel) : am_C rep l y (wsW_ y cc nL ret L) R mc ms as S Q := by
  intro G
  refine MetFree.of_bodyS (code := cc) (maxLocals := nL) (ret := ret) hy ?_ ?_
  · intro args s m h hn
    obtain ⟨m9, meth, c, hn9, h1, h2, h3, h4, -, h5, h6, -⟩ := Cond.codeWith_spec (atoms_spec (ws := wsW_ y cc nL ret L) h _ List.mem_cons_self)
    cases hn.symm.trans hn9
    exact ⟨meth, c, h1, h2, h3, h4, h5, h6⟩
  · intro p e s m args below meth c s₁ B hml hv _
    have hh0 : s₁.heap = s.heap := by rw [B.state]; rfl
    obtain ⟨rfl, hK, hrep, hA⟩ := hv
    have hts0 := atoms_spec (ws := wsW_ y cc nL ret L) B.pre
    have hts : ∀ w ∈ lw_all, w.before _ s = true := fun w h => hts0 w (List.mem_cons_of_mem _ h)
    have hown : s.vm.findClass own = some m.cls := by rw [← ho]; exact findClass_of_methodNamed B.named
    have hin : meth.name = nm := by rw [← hnm]; exact (name_of_methodNamed B.named B.method).1
    have ht : c.exceptionTable.toList = tableOf (am_tb own nm) := by
      rw [htb]
      exact vx_table (x := y) B (hts0 _ List.mem_cons_self)
    have K : W p l e R s m (as.map (am_c G.2.2.1)).toArray below meth c s.heap [] 0 0 (am_E1 rep mc ms Q G below s (as.map (am_c G.2.2.1)).toArray) (entryFrame m (as.map (am_c G.2.2.1)).toArray nL) := by
      rw [lg_entry_eq]
      refine k G p e s m _ below meth c s.heap [] _ ⟨B.exec, B.bytes, hml, B.returns, B.notSynchronized, ⟨hin, ht⟩, hown, hts, hK, hA⟩ hrep va_S.rf ?_
      rw [← hlv]
      exact lv_entry _ (hsz _)
    obtain ⟨t, a1, o, b1, b2, b3, b4⟩ := K s₁ hh0 (Stand.of_body B)
    exact ⟨t, o, a1, b1, b2, ⟨b3, b4⟩⟩
end AX0
/-- an object of ours, as a throw wants it -/
theorem ah_thrown {S : ah_H} {a ci : Nat} {fs : List am_W} {C : String} {T : u_T} {N : Nat} (hc : S.1 a = some (.inl (ci, fs))) (hX : ah_X ≤ a) (hcl : am_cl[ci]? = some (C, T, N)) : ∀ (G : am_X) (H : Heap) (s : State), am_K G s → ah_r G S H → ∃ ce : Cell, H[G.2.2.1 a]? = some ce ∧ ce.vm = .none ∧ s.vm.findClass C = some ce.cls := by
  intro G H s hK hr
  obtain ⟨h1, h2, h3, -⟩ := hr.1 a _ hc
  obtain ⟨-, hfc, -⟩ := hK.1.1 ci _ hcl
  unfold ah_at at h2
  rw [if_pos hX] at h2
  obtain ⟨r, q1, cell, q2, q3, q4, q5⟩ := h2
  exact ⟨cell, q2, q4, by rw [q3]; exact hfc⟩
