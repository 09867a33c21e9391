section AMD
variable {σ : Type} {rep : am_X → σ → Heap → Prop} {l : Launch} {own : String} {cc : ByteArray} {nL : Nat} {ret : Option FieldType} {nm : String} {R : Room} {E : am_Et} {pc : Nat} {lv : List (Nat × am_W)} {st : List am_W} {S : σ} {cells slots : Nat}
theorem am_back5 {mc1 ms1 : Nat} {rest : List am_W} {Q1 : Option am_W → σ → Prop} {G : am_X} {p : Program} {e : Env} {s : State} {m : MethodId} {args a1 : Array Value} {below : List Frame} {meth : Method} {c : Code} {H : Heap} {locs : List Loc} {ls : Array Slot} {st0 : List Value}
    (F : am_F own cc nL ret nm G p s m args meth c) (hS : va_S G.2.2.2.1 s.heap H locs) (hl : lv_has ls nL (am_l G.2.2.1 lv))
    (hr : va_Run5 p l e R s m args below meth c H locs cells slots mc1 ms1 (F0 m pc ls st0) (rest.map (am_c G.2.2.1)) (am_Q rep G Q1 a1) G.2.2.2.1)
    (k : ∀ (v : Option am_W) (S1 : σ), Q1 v S1 → am_V rep l own cc nL ret nm R E (pc + 5) lv (v.toList ++ rest) S1 (cells + mc1) (slots + ms1)) :
    W p l e R s m args below meth c H locs cells slots (E G below s args) (F0 m pc ls st0) := by
  intro T hT X
  obtain ⟨v, st₀, t, T', L, h0, X', hL, e1, e2, ⟨⟨w, S1, hv, hQ, hrep⟩, hz, hk⟩, st⟩ := hr T hT X
  cases hv
  rw [h0] at hz hk
  have hS' : va_S G.2.2.2.1 s.heap T'.heap (locs ++ L) := ⟨Nat.le_trans hS.1 (by rw [e1]; exact hz), fun q h1 h2 => by rw [e1, hk q (Nat.lt_of_lt_of_le h1 hS.1) h2]; exact hS.2.1 q h1 h2, fun q hq => by
    rcases List.mem_append.mp hq with h | h
    · exact hS.2.2 q h
    · exact hL q h⟩
  have K := k w S1 hQ G p e s m args below meth c T'.heap (locs ++ L) ls F (by rw [e1]; exact hrep) hS' hl
  obtain ⟨t2, a1, b1⟩ := K T' rfl X'
  refine ⟨t2, st t2 ?_, b1⟩
  have hst : (w.map (am_c G.2.2.1)).toList ++ rest.map (am_c G.2.2.1) = (w.toList ++ rest).map (am_c G.2.2.1) := by cases w <;> rfl
  rw [hst]
  exact a1
/-- a call of a method that the receiver's class may override, or that it inherits: what the kit wants of it -/
def am_CU (R : Room) (own C owner : String) (index : Nat) (x y : MethodName) (bytes : ByteArray) (maxL : Nat) (rt : Option FieldType) (rm : Room) (mc1 ms1 n : Nat) : Prop := ∀ (s : State) (args : Array Value), (∀ w ∈ lw_all, w.before args s = true) → am_Nw s → va_CU R s args own C owner index x y bytes maxL rt (ws_ y bytes maxL rt) rm mc1 ms1 n
theorem am_CU_A {R : Room} {own C owner : String} {index : Nat} {x y : MethodName} {bytes : ByteArray} {maxL : Nat} {rt : Option FieldType} {rm : Room} {mc1 ms1 n : Nat} (h1 : Cond.methodLink own index x ∈ lw_all) (h2 : Cond.sameMethod x.cls owner x.name x.desc ∈ lw_all) (h3 : Cond.selects C x y ∈ lw_all) (h4 : Cond.instanceMethod y ∈ lw_all) (h5 : Cond.initialized y.cls ∈ lw_all) (h6 : Cond.code y bytes maxL rt ∈ lw_all) (hz : Cond.declares ⟨owner, x.name, x.desc⟩ ∈ am_nw) (hrm : rm.cells = mc1 ∧ rm.slots = ms1)
    (hd : owner ≠ "java/lang/invoke/MethodHandle" ∧ owner ≠ "java/lang/invoke/VarHandle" ∧ (parseMethodDescriptor x.desc).map (fun d => d.parameters.length) = some n) (hR : rm.frames + 1 ≤ R.frames ∧ 8 + (maxL + 11) + rm.locals ≤ R.locals) : am_CU R own C owner index x y bytes maxL rt rm mc1 ms1 n := fun s args hts hN =>
  va_cwA n hts (lw_app (fun w hw => by
    rcases List.mem_cons.mp hw with rfl | hw
    · exact h1
    rcases List.mem_cons.mp hw with rfl | hw
    · exact h2
    rcases List.mem_cons.mp hw with rfl | hw
    · exact h3
    rcases List.mem_cons.mp hw with rfl | hw
    · exact h4
    rcases List.mem_cons.mp hw with rfl | hw
    · exact h5
    cases hw) (lw_meth h6)) rfl hrm.1 hrm.2 (hN _ hz) hd hR
theorem am_CU_O {R : Room} {own C owner : String} {index : Nat} {x y : MethodName} {bytes b0 : ByteArray} {m0 : Nat} {r0 : Option FieldType} {maxL : Nat} {rt : Option FieldType} {rm : Room} {mc1 ms1 n : Nat} (h1 : Cond.methodLink own index x ∈ lw_all) (h2 : Cond.sameMethod x.cls owner x.name x.desc ∈ lw_all) (h7 : Cond.instanceMethod ⟨owner, x.name, x.desc⟩ ∈ lw_all) (h3 : Cond.selects C x y ∈ lw_all) (h4 : Cond.instanceMethod y ∈ lw_all) (h5 : Cond.initialized y.cls ∈ lw_all) (h6 : Cond.code y bytes maxL rt ∈ lw_all) (h0 : Cond.code ⟨owner, x.name, x.desc⟩ b0 m0 r0 ∈ lw_all) (hrm : rm.cells = mc1 ∧ rm.slots = ms1)
    (hd : owner ≠ "java/lang/invoke/MethodHandle" ∧ owner ≠ "java/lang/invoke/VarHandle" ∧ (parseMethodDescriptor x.desc).map (fun d => d.parameters.length) = some n) (hR : rm.frames + 1 ≤ R.frames ∧ 8 + (maxL + 11) + rm.locals ≤ R.locals) : am_CU R own C owner index x y bytes maxL rt rm mc1 ms1 n := fun s args hts hN =>
  va_cwO n hts (lw_app (fun w hw => by
    rcases List.mem_cons.mp hw with rfl | hw
    · exact h1
    rcases List.mem_cons.mp hw with rfl | hw
    · exact h2
    rcases List.mem_cons.mp hw with rfl | hw
    · exact h7
    rcases List.mem_cons.mp hw with rfl | hw
    · exact h3
    rcases List.mem_cons.mp hw with rfl | hw
    · exact h4
    rcases List.mem_cons.mp hw with rfl | hw
    · exact h5
    cases hw) (lw_meth h6)) rfl hrm.1 hrm.2 h0 hd hR
/-- an interface's method on a class that has it -/
def am_Fw (C : String) (x y : MethodName) : Prop := Cond.declares x ∈ lw_tbl ∧ Cond.interfaceMethod x.cls x.cls x.name x.desc ∈ lw_tbl ∧ Cond.publicMethod y ∈ lw_tbl ∧ Cond.unhidden C x.name x.desc ∈ lw_tbl ∧ Cond.castable C x.cls ∈ lw_tbl
theorem am_fw {G : am_X} {U : State} {C : String} {x y : MethodName} (hx : x.cls ≠ "java/lang/invoke/MethodHandle" ∧ x.cls ≠ "java/lang/invoke/VarHandle") (hK : am_K G U) (h : am_Fw C x y) : va_Fw C x y U :=
  va_Fw.moved hx hK.2.2.2.1.alike (va_Fw.of (hK.2.2.1.1 _ h.1) (hK.2.2.1.1 _ h.2.1) (hK.2.2.1.1 _ h.2.2.1) (hK.2.2.1.1 _ h.2.2.2.1) (hK.2.2.1.1 _ h.2.2.2.2))

theorem am_runI {y : MethodName} {bytes : ByteArray} {maxL mc1 ms1 n index : Nat} {rm : Room} {as rest : List am_W} {b : Nat} {Q1 : Option am_W → σ → Prop} (hM : am_C rep l y (ws_ y bytes maxL none) rm mc1 ms1 (am_R b :: as) S Q1) (hd : decode cc pc = .ok (.invokespecial index, 3)) (hl : Cond.methodLink own index y ∈ lw_all) (hin : Cond.instanceMethod y ∈ lw_all) (hini : Cond.initialized y.cls ∈ lw_all) (hcode : Cond.code y bytes maxL none ∈ lw_all) (hy1 : y.name = "<init>") (hh : am_hd y n maxL rm R) (hrm : rm.cells = mc1 ∧ rm.slots = ms1) (hn : as.length = n) (hst : st = as.reverse ++ am_R b :: rest) (hroom : (rest.map am_cat).sum ≤ 8) (hf : cells + mc1 ≤ R.cells ∧ slots + ms1 ≤ R.slots) 
    (k : ∀ (v : Option am_W) (S1 : σ), Q1 v S1 → am_V rep l own cc nL ret nm R E (pc + 3) lv (v.toList ++ rest) S1 (cells + mc1) (slots + ms1)) : am_V rep l own cc nL ret nm R E pc lv st S cells slots := by
  intro G p e s m args below meth c H locs ls F hr hS hl'
  obtain ⟨f1, f2, f3, f4, f5, f6, f7, f8, f9, f10⟩ := F
  have F : am_F own cc nL ret nm G p s m args meth c := ⟨f1, f2, f3, f4, f5, f6, f7, f8, f9, f10⟩
  refine am_back F hS hl' (va_runI (As := as.map (am_c G.2.2.1)) (b := G.2.2.1 b) (rest := rest.map (am_c G.2.2.1)) ⟨f1, f2, f3, f7, f8⟩ (hM G) (cwI n f8 (lw_meth hcode) rfl hrm.1 hrm.2 (f8 _ hini) (f8 _ hl) (f8 _ hin) hy1 hh.1 hh.2) ⟨am_P_blind, fun U hU hW => ⟨rfl, f9.warm hW, by rw [hU]; exact hr, fun q hq => f10 q (Nat.le_trans hS.1 (by rw [← hU]; exact hq))⟩⟩ rfl ?_ hl'.1 ?_ (lv_room (am_room hroom)) hd hf) k
  · rw [List.length_map]; exact hn
  · rw [hst]
    simp only [List.map_append, List.map_reverse, List.map_cons]
    rfl
theorem am_rIv {y : MethodName} {bytes : ByteArray} {maxL mc1 ms1 n index : Nat} {rm : Room} {as rest : List am_W} {b : Nat} {P : σ → Prop} (hM : am_C rep l y (ws_ y bytes maxL none) rm mc1 ms1 (am_R b :: as) S (am_qv P)) (hd : decode cc pc = .ok (.invokespecial index, 3)) (hl : Cond.methodLink own index y ∈ lw_all) (hin : Cond.instanceMethod y ∈ lw_all) (hini : Cond.initialized y.cls ∈ lw_all) (hcode : Cond.code y bytes maxL none ∈ lw_all) (hy1 : y.name = "<init>") (hh : am_hd y n maxL rm R) (hrm : rm.cells = mc1 ∧ rm.slots = ms1) (hn : as.length = n) (hst : st = as.reverse ++ am_R b :: rest) (hroom : (rest.map am_cat).sum ≤ 8) (hf : cells + mc1 ≤ R.cells ∧ slots + ms1 ≤ R.slots) 
    (k : ∀ (S1 : σ), P S1 → am_V rep l own cc nL ret nm R E (pc + 3) lv (rest) S1 (cells + mc1) (slots + ms1)) : am_V rep l own cc nL ret nm R E pc lv st S cells slots :=
  am_runI hM hd hl hin hini hcode hy1 hh hrm hn hst hroom hf (fun v S1 hq => by obtain ⟨rfl, h2⟩ := hq; exact k S1 h2)
theorem am_runIN {y : MethodName} {bytes : ByteArray} {maxL mc1 ms1 n index : Nat} {rm : Room} {as rest : List am_W} {b : Nat} {host : String} {Q1 : Option am_W → σ → Prop} (hM : am_C rep l y (ws_ y bytes maxL none) rm mc1 ms1 (am_R b :: as) S Q1) (hd : decode cc pc = .ok (.invokespecial index, 3)) (hl : Cond.methodLinkNest own index y host ∈ am_nw) (hin : Cond.instanceMethod y ∈ lw_all) (hini : Cond.initialized y.cls ∈ lw_all) (hcode : Cond.code y bytes maxL none ∈ lw_all) (hy1 : y.name = "<init>") (hh : am_hd y n maxL rm R) (hrm : rm.cells = mc1 ∧ rm.slots = ms1) (hn : as.length = n) (hst : st = as.reverse ++ am_R b :: rest) (hroom : (rest.map am_cat).sum ≤ 8) (hf : cells + mc1 ≤ R.cells ∧ slots + ms1 ≤ R.slots) 
    (k : ∀ (v : Option am_W) (S1 : σ), Q1 v S1 → am_V rep l own cc nL ret nm R E (pc + 3) lv (v.toList ++ rest) S1 (cells + mc1) (slots + ms1)) : am_V rep l own cc nL ret nm R E pc lv st S cells slots := by
  intro G p e s m args below meth c H locs ls F hr hS hl'
  obtain ⟨f1, f2, f3, f4, f5, f6, f7, f8, f9, f10⟩ := F
  have F : am_F own cc nL ret nm G p s m args meth c := ⟨f1, f2, f3, f4, f5, f6, f7, f8, f9, f10⟩
  refine am_back F hS hl' (va_runIN (As := as.map (am_c G.2.2.1)) (b := G.2.2.1 b) (rest := rest.map (am_c G.2.2.1)) ⟨f1, f2, f3, f7, f8⟩ (hM G) ⟨va_cnB n f8 (lw_meth hcode) rfl hrm.1 hrm.2 (f9.2.1 _ hl) (f8 _ hini) hh.1 hh.2, hy1, f8 _ hin⟩ ⟨am_P_blind, fun U hU hW => ⟨rfl, f9.warm hW, by rw [hU]; exact hr, fun q hq => f10 q (Nat.le_trans hS.1 (by rw [← hU]; exact hq))⟩⟩ rfl ?_ hl'.1 ?_ (lv_room (am_room hroom)) hd hf) k
  · rw [List.length_map]; exact hn
  · rw [hst]
    simp only [List.map_append, List.map_reverse, List.map_cons]
    rfl
theorem am_rINv {y : MethodName} {bytes : ByteArray} {maxL mc1 ms1 n index : Nat} {rm : Room} {as rest : List am_W} {b : Nat} {host : String} {P : σ → Prop} (hM : am_C rep l y (ws_ y bytes maxL none) rm mc1 ms1 (am_R b :: as) S (am_qv P)) (hd : decode cc pc = .ok (.invokespecial index, 3)) (hl : Cond.methodLinkNest own index y host ∈ am_nw) (hin : Cond.instanceMethod y ∈ lw_all) (hini : Cond.initialized y.cls ∈ lw_all) (hcode : Cond.code y bytes maxL none ∈ lw_all) (hy1 : y.name = "<init>") (hh : am_hd y n maxL rm R) (hrm : rm.cells = mc1 ∧ rm.slots = ms1) (hn : as.length = n) (hst : st = as.reverse ++ am_R b :: rest) (hroom : (rest.map am_cat).sum ≤ 8) (hf : cells + mc1 ≤ R.cells ∧ slots + ms1 ≤ R.slots) 
    (k : ∀ (S1 : σ), P S1 → am_V rep l own cc nL ret nm R E (pc + 3) lv (rest) S1 (cells + mc1) (slots + ms1)) : am_V rep l own cc nL ret nm R E pc lv st S cells slots :=
  am_runIN hM hd hl hin hini hcode hy1 hh hrm hn hst hroom hf (fun v S1 hq => by obtain ⟨rfl, h2⟩ := hq; exact k S1 h2)
theorem am_runSN {y : MethodName} {bytes : ByteArray} {maxL mc1 ms1 n index : Nat} {rt : Option FieldType} {rm : Room} {as rest : List am_W} {host : String} {Q1 : Option am_W → σ → Prop} (hM : am_C rep l y (ws_ y bytes maxL rt) rm mc1 ms1 as S Q1) (hd : decode cc pc = .ok (.invokestatic index, 3)) (hl : Cond.methodLinkNest own index y host ∈ am_nw) (hsta : Cond.static y ∈ lw_all) (hini : Cond.initialized y.cls ∈ lw_all) (hcode : Cond.code y bytes maxL rt ∈ lw_all) (hh : am_hd y n maxL rm R) (hrm : rm.cells = mc1 ∧ rm.slots = ms1) (hn : as.length = n) (hst : st = as.reverse ++ rest) (hroom : (rest.map am_cat).sum ≤ 8) (hf : cells + mc1 ≤ R.cells ∧ slots + ms1 ≤ R.slots) 
    (k : ∀ (v : Option am_W) (S1 : σ), Q1 v S1 → am_V rep l own cc nL ret nm R E (pc + 3) lv (v.toList ++ rest) S1 (cells + mc1) (slots + ms1)) : am_V rep l own cc nL ret nm R E pc lv st S cells slots := by
  intro G p e s m args below meth c H locs ls F hr hS hl'
  obtain ⟨f1, f2, f3, f4, f5, f6, f7, f8, f9, f10⟩ := F
  have F : am_F own cc nL ret nm G p s m args meth c := ⟨f1, f2, f3, f4, f5, f6, f7, f8, f9, f10⟩
  refine am_back F hS hl' (va_runSN (As := as.map (am_c G.2.2.1)) (rest := rest.map (am_c G.2.2.1)) ⟨f1, f2, f3, f7, f8⟩ (hM G) ⟨va_cnB n f8 (lw_meth hcode) rfl hrm.1 hrm.2 (f9.2.1 _ hl) (f8 _ hini) hh.1 hh.2, f8 _ hsta, trivial⟩ ⟨am_P_blind, fun U hU hW => ⟨rfl, f9.warm hW, by rw [hU]; exact hr, fun q hq => f10 q (Nat.le_trans hS.1 (by rw [← hU]; exact hq))⟩⟩ rfl ?_ hl'.1 ?_ (lv_room (am_room hroom)) hd hf) k
  · rw [List.length_map]; exact hn
  · rw [hst]
    simp only [List.map_append, List.map_reverse]
theorem am_rSNi {y : MethodName} {bytes : ByteArray} {maxL mc1 ms1 n index : Nat} {rt : Option FieldType} {rm : Room} {as rest : List am_W} {host : String} {P : Int → σ → Prop} (hM : am_C rep l y (ws_ y bytes maxL rt) rm mc1 ms1 as S (am_qi P)) (hd : decode cc pc = .ok (.invokestatic index, 3)) (hl : Cond.methodLinkNest own index y host ∈ am_nw) (hsta : Cond.static y ∈ lw_all) (hini : Cond.initialized y.cls ∈ lw_all) (hcode : Cond.code y bytes maxL rt ∈ lw_all) (hh : am_hd y n maxL rm R) (hrm : rm.cells = mc1 ∧ rm.slots = ms1) (hn : as.length = n) (hst : st = as.reverse ++ rest) (hroom : (rest.map am_cat).sum ≤ 8) (hf : cells + mc1 ≤ R.cells ∧ slots + ms1 ≤ R.slots) 
    (k : ∀ (r : Int) (S1 : σ), am_r r → P r S1 → am_V rep l own cc nL ret nm R E (pc + 3) lv (am_I r :: rest) S1 (cells + mc1) (slots + ms1)) : am_V rep l own cc nL ret nm R E pc lv st S cells slots :=
  am_runSN hM hd hl hsta hini hcode hh hrm hn hst hroom hf (fun v S1 hq => by obtain ⟨r, rfl, h1, h2⟩ := hq; exact k r S1 h1 h2)
theorem am_rSNl {y : MethodName} {bytes : ByteArray} {maxL mc1 ms1 n index : Nat} {rt : Option FieldType} {rm : Room} {as rest : List am_W} {host : String} {P : Int → σ → Prop} (hM : am_C rep l y (ws_ y bytes maxL rt) rm mc1 ms1 as S (am_ql P)) (hd : decode cc pc = .ok (.invokestatic index, 3)) (hl : Cond.methodLinkNest own index y host ∈ am_nw) (hsta : Cond.static y ∈ lw_all) (hini : Cond.initialized y.cls ∈ lw_all) (hcode : Cond.code y bytes maxL rt ∈ lw_all) (hh : am_hd y n maxL rm R) (hrm : rm.cells = mc1 ∧ rm.slots = ms1) (hn : as.length = n) (hst : st = as.reverse ++ rest) (hroom : (rest.map am_cat).sum ≤ 8) (hf : cells + mc1 ≤ R.cells ∧ slots + ms1 ≤ R.slots) 
    (k : ∀ (r : Int) (S1 : σ), am_r64 r → P r S1 → am_V rep l own cc nL ret nm R E (pc + 3) lv (am_J r :: rest) S1 (cells + mc1) (slots + ms1)) : am_V rep l own cc nL ret nm R E pc lv st S cells slots :=
  am_runSN hM hd hl hsta hini hcode hh hrm hn hst hroom hf (fun v S1 hq => by obtain ⟨r, rfl, h1, h2⟩ := hq; exact k r S1 h1 h2)
theorem am_rSNz {y : MethodName} {bytes : ByteArray} {maxL mc1 ms1 n index : Nat} {rt : Option FieldType} {rm : Room} {as rest : List am_W} {host : String} {P : Bool → σ → Prop} (hM : am_C rep l y (ws_ y bytes maxL rt) rm mc1 ms1 as S (am_qz P)) (hd : decode cc pc = .ok (.invokestatic index, 3)) (hl : Cond.methodLinkNest own index y host ∈ am_nw) (hsta : Cond.static y ∈ lw_all) (hini : Cond.initialized y.cls ∈ lw_all) (hcode : Cond.code y bytes maxL rt ∈ lw_all) (hh : am_hd y n maxL rm R) (hrm : rm.cells = mc1 ∧ rm.slots = ms1) (hn : as.length = n) (hst : st = as.reverse ++ rest) (hroom : (rest.map am_cat).sum ≤ 8) (hf : cells + mc1 ≤ R.cells ∧ slots + ms1 ≤ R.slots) 
    (k : ∀ (b : Bool) (S1 : σ), P b S1 → am_V rep l own cc nL ret nm R E (pc + 3) lv (am_I (am_b b) :: rest) S1 (cells + mc1) (slots + ms1)) : am_V rep l own cc nL ret nm R E pc lv st S cells slots :=
  am_runSN hM hd hl hsta hini hcode hh hrm hn hst hroom hf (fun v S1 hq => by obtain ⟨b, rfl, h2⟩ := hq; exact k b S1 h2)
theorem am_rSNo {y : MethodName} {bytes : ByteArray} {maxL mc1 ms1 n index : Nat} {rt : Option FieldType} {rm : Room} {as rest : List am_W} {host : String} {P : Option Nat → σ → Prop} (hM : am_C rep l y (ws_ y bytes maxL rt) rm mc1 ms1 as S (am_qo P)) (hd : decode cc pc = .ok (.invokestatic index, 3)) (hl : Cond.methodLinkNest own index y host ∈ am_nw) (hsta : Cond.static y ∈ lw_all) (hini : Cond.initialized y.cls ∈ lw_all) (hcode : Cond.code y bytes maxL rt ∈ lw_all) (hh : am_hd y n maxL rm R) (hrm : rm.cells = mc1 ∧ rm.slots = ms1) (hn : as.length = n) (hst : st = as.reverse ++ rest) (hroom : (rest.map am_cat).sum ≤ 8) (hf : cells + mc1 ≤ R.cells ∧ slots + ms1 ≤ R.slots) 
    (k : ∀ (a : Option Nat) (S1 : σ), P a S1 → am_V rep l own cc nL ret nm R E (pc + 3) lv (am_O a :: rest) S1 (cells + mc1) (slots + ms1)) : am_V rep l own cc nL ret nm R E pc lv st S cells slots :=
  am_runSN hM hd hl hsta hini hcode hh hrm hn hst hroom hf (fun v S1 hq => by obtain ⟨a, rfl, h2⟩ := hq; exact k a S1 h2)
theorem am_rSNv {y : MethodName} {bytes : ByteArray} {maxL mc1 ms1 n index : Nat} {rt : Option FieldType} {rm : Room} {as rest : List am_W} {host : String} {P : σ → Prop} (hM : am_C rep l y (ws_ y bytes maxL rt) rm mc1 ms1 as S (am_qv P)) (hd : decode cc pc = .ok (.invokestatic index, 3)) (hl : Cond.methodLinkNest own index y host ∈ am_nw) (hsta : Cond.static y ∈ lw_all) (hini : Cond.initialized y.cls ∈ lw_all) (hcode : Cond.code y bytes maxL rt ∈ lw_all) (hh : am_hd y n maxL rm R) (hrm : rm.cells = mc1 ∧ rm.slots = ms1) (hn : as.length = n) (hst : st = as.reverse ++ rest) (hroom : (rest.map am_cat).sum ≤ 8) (hf : cells + mc1 ≤ R.cells ∧ slots + ms1 ≤ R.slots) 
    (k : ∀ (S1 : σ), P S1 → am_V rep l own cc nL ret nm R E (pc + 3) lv (rest) S1 (cells + mc1) (slots + ms1)) : am_V rep l own cc nL ret nm R E pc lv st S cells slots :=
  am_runSN hM hd hl hsta hini hcode hh hrm hn hst hroom hf (fun v S1 hq => by obtain ⟨rfl, h2⟩ := hq; exact k S1 h2)
theorem am_runSU {y : MethodName} {bytes : ByteArray} {maxL mc1 ms1 n index : Nat} {rt : Option FieldType} {rm : Room} {as rest : List am_W} {b : Nat} {C : String} {T : u_T} {N ci : Nat} {Q1 : Option am_W → σ → Prop} (hM : am_C rep l y (ws_ y bytes maxL rt) rm mc1 ms1 (am_R b :: as) S Q1) (hd : decode cc pc = .ok (.invokespecial index, 3)) (hcl : am_cl[ci]? = some (C, T, N)) (hl : Cond.methodLink own index y ∈ lw_all) (hsm : Cond.sameMethod y.cls y.cls y.name y.desc ∈ lw_all) (hsc : Cond.superclass own y.cls ∈ lw_all) (hin : Cond.instanceMethod y ∈ lw_all) (hini : Cond.initialized y.cls ∈ lw_all) (hcode : Cond.code y bytes maxL rt ∈ lw_all) (hy1 : y.name ≠ "<init>") (hh : am_hd y n maxL rm R) (hrm : rm.cells = mc1 ∧ rm.slots = ms1) (hn : as.length = n) (hst : st = as.reverse ++ am_R b :: rest) (hroom : (rest.map am_cat).sum ≤ 8) (hf : cells + mc1 ≤ R.cells ∧ slots + ms1 ≤ R.slots) (hrecv : am_recv rep S C b) 
    (k : ∀ (v : Option am_W) (S1 : σ), Q1 v S1 → am_V rep l own cc nL ret nm R E (pc + 3) lv (v.toList ++ rest) S1 (cells + mc1) (slots + ms1)) : am_V rep l own cc nL ret nm R E pc lv st S cells slots := by
  intro G p e s m args below meth c H locs ls F hr hS hl'
  obtain ⟨f1, f2, f3, f4, f5, f6, f7, f8, f9, f10⟩ := F
  have F : am_F own cc nL ret nm G p s m args meth c := ⟨f1, f2, f3, f4, f5, f6, f7, f8, f9, f10⟩
  refine am_back F hS hl' (va_runSU (As := as.map (am_c G.2.2.1)) (b := G.2.2.1 b) (rest := rest.map (am_c G.2.2.1)) (f9.1.1 ci _ hcl).2 ⟨f1, f2, f3, f7, f8⟩ (hM G) (va_cwSU n f8 (lw_app (fun w hw => by rcases List.mem_cons.mp hw with rfl | hw; exact hl; rcases List.mem_cons.mp hw with rfl | hw; exact hsm; rcases List.mem_cons.mp hw with rfl | hw; exact hsc; rcases List.mem_cons.mp hw with rfl | hw; exact hin; rcases List.mem_cons.mp hw with rfl | hw; exact hini; cases hw) (lw_meth hcode)) rfl hrm.1 hrm.2 ⟨hy1, hh.1.2.2⟩ hh.2) ⟨am_P_blind, hrecv G H s f9 hr, fun U hU hW => ⟨rfl, f9.warm hW, by rw [hU]; exact hr, fun q hq => f10 q (Nat.le_trans hS.1 (by rw [← hU]; exact hq))⟩⟩ rfl ?_ hl'.1 ?_ (lv_room (am_room hroom)) hd hf) k
  · rw [List.length_map]; exact hn
  · rw [hst]
    simp only [List.map_append, List.map_reverse, List.map_cons]
    rfl
theorem am_rSUi {y : MethodName} {bytes : ByteArray} {maxL mc1 ms1 n index : Nat} {rt : Option FieldType} {rm : Room} {as rest : List am_W} {b : Nat} {C : String} {T : u_T} {N ci : Nat} {P : Int → σ → Prop} (hM : am_C rep l y (ws_ y bytes maxL rt) rm mc1 ms1 (am_R b :: as) S (am_qi P)) (hd : decode cc pc = .ok (.invokespecial index, 3)) (hcl : am_cl[ci]? = some (C, T, N)) (hl : Cond.methodLink own index y ∈ lw_all) (hsm : Cond.sameMethod y.cls y.cls y.name y.desc ∈ lw_all) (hsc : Cond.superclass own y.cls ∈ lw_all) (hin : Cond.instanceMethod y ∈ lw_all) (hini : Cond.initialized y.cls ∈ lw_all) (hcode : Cond.code y bytes maxL rt ∈ lw_all) (hy1 : y.name ≠ "<init>") (hh : am_hd y n maxL rm R) (hrm : rm.cells = mc1 ∧ rm.slots = ms1) (hn : as.length = n) (hst : st = as.reverse ++ am_R b :: rest) (hroom : (rest.map am_cat).sum ≤ 8) (hf : cells + mc1 ≤ R.cells ∧ slots + ms1 ≤ R.slots) (hrecv : am_recv rep S C b) 
    (k : ∀ (r : Int) (S1 : σ), am_r r → P r S1 → am_V rep l own cc nL ret nm R E (pc + 3) lv (am_I r :: rest) S1 (cells + mc1) (slots + ms1)) : am_V rep l own cc nL ret nm R E pc lv st S cells slots :=
  am_runSU hM hd hcl hl hsm hsc hin hini hcode hy1 hh hrm hn hst hroom hf hrecv (fun v S1 hq => by obtain ⟨r, rfl, h1, h2⟩ := hq; exact k r S1 h1 h2)
theorem am_rSUl {y : MethodName} {bytes : ByteArray} {maxL mc1 ms1 n index : Nat} {rt : Option FieldType} {rm : Room} {as rest : List am_W} {b : Nat} {C : String} {T : u_T} {N ci : Nat} {P : Int → σ → Prop} (hM : am_C rep l y (ws_ y bytes maxL rt) rm mc1 ms1 (am_R b :: as) S (am_ql P)) (hd : decode cc pc = .ok (.invokespecial index, 3)) (hcl : am_cl[ci]? = some (C, T, N)) (hl : Cond.methodLink own index y ∈ lw_all) (hsm : Cond.sameMethod y.cls y.cls y.name y.desc ∈ lw_all) (hsc : Cond.superclass own y.cls ∈ lw_all) (hin : Cond.instanceMethod y ∈ lw_all) (hini : Cond.initialized y.cls ∈ lw_all) (hcode : Cond.code y bytes maxL rt ∈ lw_all) (hy1 : y.name ≠ "<init>") (hh : am_hd y n maxL rm R) (hrm : rm.cells = mc1 ∧ rm.slots = ms1) (hn : as.length = n) (hst : st = as.reverse ++ am_R b :: rest) (hroom : (rest.map am_cat).sum ≤ 8) (hf : cells + mc1 ≤ R.cells ∧ slots + ms1 ≤ R.slots) (hrecv : am_recv rep S C b) 
    (k : ∀ (r : Int) (S1 : σ), am_r64 r → P r S1 → am_V rep l own cc nL ret nm R E (pc + 3) lv (am_J r :: rest) S1 (cells + mc1) (slots + ms1)) : am_V rep l own cc nL ret nm R E pc lv st S cells slots :=
  am_runSU hM hd hcl hl hsm hsc hin hini hcode hy1 hh hrm hn hst hroom hf hrecv (fun v S1 hq => by obtain ⟨r, rfl, h1, h2⟩ := hq; exact k r S1 h1 h2)
theorem am_rSUz {y : MethodName} {bytes : ByteArray} {maxL mc1 ms1 n index : Nat} {rt : Option FieldType} {rm : Room} {as rest : List am_W} {b : Nat} {C : String} {T : u_T} {N ci : Nat} {P : Bool → σ → Prop} (hM : am_C rep l y (ws_ y bytes maxL rt) rm mc1 ms1 (am_R b :: as) S (am_qz P)) (hd : decode cc pc = .ok (.invokespecial index, 3)) (hcl : am_cl[ci]? = some (C, T, N)) (hl : Cond.methodLink own index y ∈ lw_all) (hsm : Cond.sameMethod y.cls y.cls y.name y.desc ∈ lw_all) (hsc : Cond.superclass own y.cls ∈ lw_all) (hin : Cond.instanceMethod y ∈ lw_all) (hini : Cond.initialized y.cls ∈ lw_all) (hcode : Cond.code y bytes maxL rt ∈ lw_all) (hy1 : y.name ≠ "<init>") (hh : am_hd y n maxL rm R) (hrm : rm.cells = mc1 ∧ rm.slots = ms1) (hn : as.length = n) (hst : st = as.reverse ++ am_R b :: rest) (hroom : (rest.map am_cat).sum ≤ 8) (hf : cells + mc1 ≤ R.cells ∧ slots + ms1 ≤ R.slots) (hrecv : am_recv rep S C b) 
    (k : ∀ (b : Bool) (S1 : σ), P b S1 → am_V rep l own cc nL ret nm R E (pc + 3) lv (am_I (am_b b) :: rest) S1 (cells + mc1) (slots + ms1)) : am_V rep l own cc nL ret nm R E pc lv st S cells slots :=
  am_runSU hM hd hcl hl hsm hsc hin hini hcode hy1 hh hrm hn hst hroom hf hrecv (fun v S1 hq => by obtain ⟨b, rfl, h2⟩ := hq; exact k b S1 h2)
theorem am_rSUo {y : MethodName} {bytes : ByteArray} {maxL mc1 ms1 n index : Nat} {rt : Option FieldType} {rm : Room} {as rest : List am_W} {b : Nat} {C : String} {T : u_T} {N ci : Nat} {P : Option Nat → σ → Prop} (hM : am_C rep l y (ws_ y bytes maxL rt) rm mc1 ms1 (am_R b :: as) S (am_qo P)) (hd : decode cc pc = .ok (.invokespecial index, 3)) (hcl : am_cl[ci]? = some (C, T, N)) (hl : Cond.methodLink own index y ∈ lw_all) (hsm : Cond.sameMethod y.cls y.cls y.name y.desc ∈ lw_all) (hsc : Cond.superclass own y.cls ∈ lw_all) (hin : Cond.instanceMethod y ∈ lw_all) (hini : Cond.initialized y.cls ∈ lw_all) (hcode : Cond.code y bytes maxL rt ∈ lw_all) (hy1 : y.name ≠ "<init>") (hh : am_hd y n maxL rm R) (hrm : rm.cells = mc1 ∧ rm.slots = ms1) (hn : as.length = n) (hst : st = as.reverse ++ am_R b :: rest) (hroom : (rest.map am_cat).sum ≤ 8) (hf : cells + mc1 ≤ R.cells ∧ slots + ms1 ≤ R.slots) (hrecv : am_recv rep S C b) 
    (k : ∀ (a : Option Nat) (S1 : σ), P a S1 → am_V rep l own cc nL ret nm R E (pc + 3) lv (am_O a :: rest) S1 (cells + mc1) (slots + ms1)) : am_V rep l own cc nL ret nm R E pc lv st S cells slots :=
  am_runSU hM hd hcl hl hsm hsc hin hini hcode hy1 hh hrm hn hst hroom hf hrecv (fun v S1 hq => by obtain ⟨a, rfl, h2⟩ := hq; exact k a S1 h2)
theorem am_rSUv {y : MethodName} {bytes : ByteArray} {maxL mc1 ms1 n index : Nat} {rt : Option FieldType} {rm : Room} {as rest : List am_W} {b : Nat} {C : String} {T : u_T} {N ci : Nat} {P : σ → Prop} (hM : am_C rep l y (ws_ y bytes maxL rt) rm mc1 ms1 (am_R b :: as) S (am_qv P)) (hd : decode cc pc = .ok (.invokespecial index, 3)) (hcl : am_cl[ci]? = some (C, T, N)) (hl : Cond.methodLink own index y ∈ lw_all) (hsm : Cond.sameMethod y.cls y.cls y.name y.desc ∈ lw_all) (hsc : Cond.superclass own y.cls ∈ lw_all) (hin : Cond.instanceMethod y ∈ lw_all) (hini : Cond.initialized y.cls ∈ lw_all) (hcode : Cond.code y bytes maxL rt ∈ lw_all) (hy1 : y.name ≠ "<init>") (hh : am_hd y n maxL rm R) (hrm : rm.cells = mc1 ∧ rm.slots = ms1) (hn : as.length = n) (hst : st = as.reverse ++ am_R b :: rest) (hroom : (rest.map am_cat).sum ≤ 8) (hf : cells + mc1 ≤ R.cells ∧ slots + ms1 ≤ R.slots) (hrecv : am_recv rep S C b) 
    (k : ∀ (S1 : σ), P S1 → am_V rep l own cc nL ret nm R E (pc + 3) lv (rest) S1 (cells + mc1) (slots + ms1)) : am_V rep l own cc nL ret nm R E pc lv st S cells slots :=
  am_runSU hM hd hcl hl hsm hsc hin hini hcode hy1 hh hrm hn hst hroom hf hrecv (fun v S1 hq => by obtain ⟨rfl, h2⟩ := hq; exact k S1 h2)
theorem am_runU {y : MethodName} {bytes : ByteArray} {maxL mc1 ms1 n index : Nat} {rt : Option FieldType} {rm : Room} {as rest : List am_W} {b : Nat} {C owner : String} {x : MethodName} {Q1 : Option am_W → σ → Prop} (hM : am_C rep l y (ws_ y bytes maxL rt) rm mc1 ms1 (am_R b :: as) S Q1) (hd : decode cc pc = .ok (.invokevirtual index, 3)) (hcw : am_CU R own C owner index x y bytes maxL rt rm mc1 ms1 n) (hn : as.length = n) (hst : st = as.reverse ++ am_R b :: rest) (hroom : (rest.map am_cat).sum ≤ 8) (hf : cells + mc1 ≤ R.cells ∧ slots + ms1 ≤ R.slots) (hrecv : am_recv rep S C b) 
    (k : ∀ (v : Option am_W) (S1 : σ), Q1 v S1 → am_V rep l own cc nL ret nm R E (pc + 3) lv (v.toList ++ rest) S1 (cells + mc1) (slots + ms1)) : am_V rep l own cc nL ret nm R E pc lv st S cells slots := by
  intro G p e s m args below meth c H locs ls F hr hS hl'
  obtain ⟨f1, f2, f3, f4, f5, f6, f7, f8, f9, f10⟩ := F
  have F : am_F own cc nL ret nm G p s m args meth c := ⟨f1, f2, f3, f4, f5, f6, f7, f8, f9, f10⟩
  refine am_back F hS hl' (va_runU (As := as.map (am_c G.2.2.1)) (b := G.2.2.1 b) (rest := rest.map (am_c G.2.2.1)) ⟨f1, f2, f3, f7, f8⟩ (hM G) (hcw s args f8 f9.2.1) ⟨am_P_blind, hrecv G H s f9 hr, fun U hU hW => ⟨rfl, f9.warm hW, by rw [hU]; exact hr, fun q hq => f10 q (Nat.le_trans hS.1 (by rw [← hU]; exact hq))⟩⟩ rfl ?_ hl'.1 ?_ (lv_room (am_room hroom)) hd hf) k
  · rw [List.length_map]; exact hn
  · rw [hst]
    simp only [List.map_append, List.map_reverse, List.map_cons]
    rfl
theorem am_rUi {y : MethodName} {bytes : ByteArray} {maxL mc1 ms1 n index : Nat} {rt : Option FieldType} {rm : Room} {as rest : List am_W} {b : Nat} {C owner : String} {x : MethodName} {P : Int → σ → Prop} (hM : am_C rep l y (ws_ y bytes maxL rt) rm mc1 ms1 (am_R b :: as) S (am_qi P)) (hd : decode cc pc = .ok (.invokevirtual index, 3)) (hcw : am_CU R own C owner index x y bytes maxL rt rm mc1 ms1 n) (hn : as.length = n) (hst : st = as.reverse ++ am_R b :: rest) (hroom : (rest.map am_cat).sum ≤ 8) (hf : cells + mc1 ≤ R.cells ∧ slots + ms1 ≤ R.slots) (hrecv : am_recv rep S C b) 
    (k : ∀ (r : Int) (S1 : σ), am_r r → P r S1 → am_V rep l own cc nL ret nm R E (pc + 3) lv (am_I r :: rest) S1 (cells + mc1) (slots + ms1)) : am_V rep l own cc nL ret nm R E pc lv st S cells slots :=
  am_runU hM hd hcw hn hst hroom hf hrecv (fun v S1 hq => by obtain ⟨r, rfl, h1, h2⟩ := hq; exact k r S1 h1 h2)
theorem am_rUl {y : MethodName} {bytes : ByteArray} {maxL mc1 ms1 n index : Nat} {rt : Option FieldType} {rm : Room} {as rest : List am_W} {b : Nat} {C owner : String} {x : MethodName} {P : Int → σ → Prop} (hM : am_C rep l y (ws_ y bytes maxL rt) rm mc1 ms1 (am_R b :: as) S (am_ql P)) (hd : decode cc pc = .ok (.invokevirtual index, 3)) (hcw : am_CU R own C owner index x y bytes maxL rt rm mc1 ms1 n) (hn : as.length = n) (hst : st = as.reverse ++ am_R b :: rest) (hroom : (rest.map am_cat).sum ≤ 8) (hf : cells + mc1 ≤ R.cells ∧ slots + ms1 ≤ R.slots) (hrecv : am_recv rep S C b) 
    (k : ∀ (r : Int) (S1 : σ), am_r64 r → P r S1 → am_V rep l own cc nL ret nm R E (pc + 3) lv (am_J r :: rest) S1 (cells + mc1) (slots + ms1)) : am_V rep l own cc nL ret nm R E pc lv st S cells slots :=
  am_runU hM hd hcw hn hst hroom hf hrecv (fun v S1 hq => by obtain ⟨r, rfl, h1, h2⟩ := hq; exact k r S1 h1 h2)
theorem am_rUz {y : MethodName} {bytes : ByteArray} {maxL mc1 ms1 n index : Nat} {rt : Option FieldType} {rm : Room} {as rest : List am_W} {b : Nat} {C owner : String} {x : MethodName} {P : Bool → σ → Prop} (hM : am_C rep l y (ws_ y bytes maxL rt) rm mc1 ms1 (am_R b :: as) S (am_qz P)) (hd : decode cc pc = .ok (.invokevirtual index, 3)) (hcw : am_CU R own C owner index x y bytes maxL rt rm mc1 ms1 n) (hn : as.length = n) (hst : st = as.reverse ++ am_R b :: rest) (hroom : (rest.map am_cat).sum ≤ 8) (hf : cells + mc1 ≤ R.cells ∧ slots + ms1 ≤ R.slots) (hrecv : am_recv rep S C b) 
    (k : ∀ (b : Bool) (S1 : σ), P b S1 → am_V rep l own cc nL ret nm R E (pc + 3) lv (am_I (am_b b) :: rest) S1 (cells + mc1) (slots + ms1)) : am_V rep l own cc nL ret nm R E pc lv st S cells slots :=
  am_runU hM hd hcw hn hst hroom hf hrecv (fun v S1 hq => by obtain ⟨b, rfl, h2⟩ := hq; exact k b S1 h2)
theorem am_rUo {y : MethodName} {bytes : ByteArray} {maxL mc1 ms1 n index : Nat} {rt : Option FieldType} {rm : Room} {as rest : List am_W} {b : Nat} {C owner : String} {x : MethodName} {P : Option Nat → σ → Prop} (hM : am_C rep l y (ws_ y bytes maxL rt) rm mc1 ms1 (am_R b :: as) S (am_qo P)) (hd : decode cc pc = .ok (.invokevirtual index, 3)) (hcw : am_CU R own C owner index x y bytes maxL rt rm mc1 ms1 n) (hn : as.length = n) (hst : st = as.reverse ++ am_R b :: rest) (hroom : (rest.map am_cat).sum ≤ 8) (hf : cells + mc1 ≤ R.cells ∧ slots + ms1 ≤ R.slots) (hrecv : am_recv rep S C b) 
    (k : ∀ (a : Option Nat) (S1 : σ), P a S1 → am_V rep l own cc nL ret nm R E (pc + 3) lv (am_O a :: rest) S1 (cells + mc1) (slots + ms1)) : am_V rep l own cc nL ret nm R E pc lv st S cells slots :=
  am_runU hM hd hcw hn hst hroom hf hrecv (fun v S1 hq => by obtain ⟨a, rfl, h2⟩ := hq; exact k a S1 h2)
theorem am_rUv {y : MethodName} {bytes : ByteArray} {maxL mc1 ms1 n index : Nat} {rt : Option FieldType} {rm : Room} {as rest : List am_W} {b : Nat} {C owner : String} {x : MethodName} {P : σ → Prop} (hM : am_C rep l y (ws_ y bytes maxL rt) rm mc1 ms1 (am_R b :: as) S (am_qv P)) (hd : decode cc pc = .ok (.invokevirtual index, 3)) (hcw : am_CU R own C owner index x y bytes maxL rt rm mc1 ms1 n) (hn : as.length = n) (hst : st = as.reverse ++ am_R b :: rest) (hroom : (rest.map am_cat).sum ≤ 8) (hf : cells + mc1 ≤ R.cells ∧ slots + ms1 ≤ R.slots) (hrecv : am_recv rep S C b) 
    (k : ∀ (S1 : σ), P S1 → am_V rep l own cc nL ret nm R E (pc + 3) lv (rest) S1 (cells + mc1) (slots + ms1)) : am_V rep l own cc nL ret nm R E pc lv st S cells slots :=
  am_runU hM hd hcw hn hst hroom hf hrecv (fun v S1 hq => by obtain ⟨rfl, h2⟩ := hq; exact k S1 h2)
theorem am_runF {y : MethodName} {bytes : ByteArray} {maxL mc1 ms1 n index : Nat} {rt : Option FieldType} {rm : Room} {as rest : List am_W} {b : Nat} {count : Nat} {C : String} {T : u_T} {N ci : Nat} {x : MethodName} {Q1 : Option am_W → σ → Prop} (hM : am_C rep l y (ws_ y bytes maxL rt) rm mc1 ms1 (am_R b :: as) S Q1) (hd : decode cc pc = .ok (.invokeinterface index count, 5)) (hcl : am_cl[ci]? = some (C, T, N)) (hF : am_Fw C x y) (hl : Cond.methodLink own index x ∈ lw_all) (hsel : Cond.selects C x y ∈ lw_all) (hin : Cond.instanceMethod y ∈ lw_all) (hini : Cond.initialized y.cls ∈ lw_all) (hcode : Cond.code y bytes maxL rt ∈ lw_all) (hxd : x.cls ≠ "java/lang/invoke/MethodHandle" ∧ x.cls ≠ "java/lang/invoke/VarHandle" ∧ (parseMethodDescriptor x.desc).map (fun d => d.parameters.length) = some n) (hfr : rm.frames + 1 ≤ R.frames ∧ 8 + (maxL + 11) + rm.locals ≤ R.locals) (hrm : rm.cells = mc1 ∧ rm.slots = ms1) (hn : as.length = n) (hst : st = as.reverse ++ am_R b :: rest) (hroom : (rest.map am_cat).sum ≤ 8) (hf : cells + mc1 ≤ R.cells ∧ slots + ms1 ≤ R.slots) (hrecv : am_recv rep S C b) 
    (k : ∀ (v : Option am_W) (S1 : σ), Q1 v S1 → am_V rep l own cc nL ret nm R E (pc + 5) lv (v.toList ++ rest) S1 (cells + mc1) (slots + ms1)) : am_V rep l own cc nL ret nm R E pc lv st S cells slots := by
  intro G p e s m args below meth c H locs ls F hr hS hl'
  obtain ⟨f1, f2, f3, f4, f5, f6, f7, f8, f9, f10⟩ := F
  have F : am_F own cc nL ret nm G p s m args meth c := ⟨f1, f2, f3, f4, f5, f6, f7, f8, f9, f10⟩
  refine am_back5 F hS hl' (va_runF (As := as.map (am_c G.2.2.1)) (b := G.2.2.1 b) (rest := rest.map (am_c G.2.2.1)) (f9.1.1 ci _ hcl).2 ⟨f1, f2, f3, f7, f8⟩ (hM G) (va_cwF n f8 (lw_app (fun w hw => by rcases List.mem_cons.mp hw with rfl | hw; exact hl; rcases List.mem_cons.mp hw with rfl | hw; exact hsel; rcases List.mem_cons.mp hw with rfl | hw; exact hin; rcases List.mem_cons.mp hw with rfl | hw; exact hini; cases hw) (lw_meth hcode)) rfl hrm.1 hrm.2 (am_fw ⟨hxd.1, hxd.2.1⟩ f9 hF) hxd hfr) ⟨am_P_blind, hrecv G H s f9 hr, fun U hU hW => ⟨rfl, f9.warm hW, by rw [hU]; exact hr, fun q hq => f10 q (Nat.le_trans hS.1 (by rw [← hU]; exact hq))⟩⟩ rfl ?_ hl'.1 ?_ (lv_room (am_room hroom)) hd hf) k
  · rw [List.length_map]; exact hn
  · rw [hst]
    simp only [List.map_append, List.map_reverse, List.map_cons]
    rfl
theorem am_rFi {y : MethodName} {bytes : ByteArray} {maxL mc1 ms1 n index : Nat} {rt : Option FieldType} {rm : Room} {as rest : List am_W} {b : Nat} {count : Nat} {C : String} {T : u_T} {N ci : Nat} {x : MethodName} {P : Int → σ → Prop} (hM : am_C rep l y (ws_ y bytes maxL rt) rm mc1 ms1 (am_R b :: as) S (am_qi P)) (hd : decode cc pc = .ok (.invokeinterface index count, 5)) (hcl : am_cl[ci]? = some (C, T, N)) (hF : am_Fw C x y) (hl : Cond.methodLink own index x ∈ lw_all) (hsel : Cond.selects C x y ∈ lw_all) (hin : Cond.instanceMethod y ∈ lw_all) (hini : Cond.initialized y.cls ∈ lw_all) (hcode : Cond.code y bytes maxL rt ∈ lw_all) (hxd : x.cls ≠ "java/lang/invoke/MethodHandle" ∧ x.cls ≠ "java/lang/invoke/VarHandle" ∧ (parseMethodDescriptor x.desc).map (fun d => d.parameters.length) = some n) (hfr : rm.frames + 1 ≤ R.frames ∧ 8 + (maxL + 11) + rm.locals ≤ R.locals) (hrm : rm.cells = mc1 ∧ rm.slots = ms1) (hn : as.length = n) (hst : st = as.reverse ++ am_R b :: rest) (hroom : (rest.map am_cat).sum ≤ 8) (hf : cells + mc1 ≤ R.cells ∧ slots + ms1 ≤ R.slots) (hrecv : am_recv rep S C b) 
    (k : ∀ (r : Int) (S1 : σ), am_r r → P r S1 → am_V rep l own cc nL ret nm R E (pc + 5) lv (am_I r :: rest) S1 (cells + mc1) (slots + ms1)) : am_V rep l own cc nL ret nm R E pc lv st S cells slots :=
  am_runF hM hd hcl hF hl hsel hin hini hcode hxd hfr hrm hn hst hroom hf hrecv (fun v S1 hq => by obtain ⟨r, rfl, h1, h2⟩ := hq; exact k r S1 h1 h2)
theorem am_rFl {y : MethodName} {bytes : ByteArray} {maxL mc1 ms1 n index : Nat} {rt : Option FieldType} {rm : Room} {as rest : List am_W} {b : Nat} {count : Nat} {C : String} {T : u_T} {N ci : Nat} {x : MethodName} {P : Int → σ → Prop} (hM : am_C rep l y (ws_ y bytes maxL rt) rm mc1 ms1 (am_R b :: as) S (am_ql P)) (hd : decode cc pc = .ok (.invokeinterface index count, 5)) (hcl : am_cl[ci]? = some (C, T, N)) (hF : am_Fw C x y) (hl : Cond.methodLink own index x ∈ lw_all) (hsel : Cond.selects C x y ∈ lw_all) (hin : Cond.instanceMethod y ∈ lw_all) (hini : Cond.initialized y.cls ∈ lw_all) (hcode : Cond.code y bytes maxL rt ∈ lw_all) (hxd : x.cls ≠ "java/lang/invoke/MethodHandle" ∧ x.cls ≠ "java/lang/invoke/VarHandle" ∧ (parseMethodDescriptor x.desc).map (fun d => d.parameters.length) = some n) (hfr : rm.frames + 1 ≤ R.frames ∧ 8 + (maxL + 11) + rm.locals ≤ R.locals) (hrm : rm.cells = mc1 ∧ rm.slots = ms1) (hn : as.length = n) (hst : st = as.reverse ++ am_R b :: rest) (hroom : (rest.map am_cat).sum ≤ 8) (hf : cells + mc1 ≤ R.cells ∧ slots + ms1 ≤ R.slots) (hrecv : am_recv rep S C b) 
    (k : ∀ (r : Int) (S1 : σ), am_r64 r → P r S1 → am_V rep l own cc nL ret nm R E (pc + 5) lv (am_J r :: rest) S1 (cells + mc1) (slots + ms1)) : am_V rep l own cc nL ret nm R E pc lv st S cells slots :=
  am_runF hM hd hcl hF hl hsel hin hini hcode hxd hfr hrm hn hst hroom hf hrecv (fun v S1 hq => by obtain ⟨r, rfl, h1, h2⟩ := hq; exact k r S1 h1 h2)
theorem am_rFz {y : MethodName} {bytes : ByteArray} {maxL mc1 ms1 n index : Nat} {rt : Option FieldType} {rm : Room} {as rest : List am_W} {b : Nat} {count : Nat} {C : String} {T : u_T} {N ci : Nat} {x : MethodName} {P : Bool → σ → Prop} (hM : am_C rep l y (ws_ y bytes maxL rt) rm mc1 ms1 (am_R b :: as) S (am_qz P)) (hd : decode cc pc = .ok (.invokeinterface index count, 5)) (hcl : am_cl[ci]? = some (C, T, N)) (hF : am_Fw C x y) (hl : Cond.methodLink own index x ∈ lw_all) (hsel : Cond.selects C x y ∈ lw_all) (hin : Cond.instanceMethod y ∈ lw_all) (hini : Cond.initialized y.cls ∈ lw_all) (hcode : Cond.code y bytes maxL rt ∈ lw_all) (hxd : x.cls ≠ "java/lang/invoke/MethodHandle" ∧ x.cls ≠ "java/lang/invoke/VarHandle" ∧ (parseMethodDescriptor x.desc).map (fun d => d.parameters.length) = some n) (hfr : rm.frames + 1 ≤ R.frames ∧ 8 + (maxL + 11) + rm.locals ≤ R.locals) (hrm : rm.cells = mc1 ∧ rm.slots = ms1) (hn : as.length = n) (hst : st = as.reverse ++ am_R b :: rest) (hroom : (rest.map am_cat).sum ≤ 8) (hf : cells + mc1 ≤ R.cells ∧ slots + ms1 ≤ R.slots) (hrecv : am_recv rep S C b) 
    (k : ∀ (b : Bool) (S1 : σ), P b S1 → am_V rep l own cc nL ret nm R E (pc + 5) lv (am_I (am_b b) :: rest) S1 (cells + mc1) (slots + ms1)) : am_V rep l own cc nL ret nm R E pc lv st S cells slots :=
  am_runF hM hd hcl hF hl hsel hin hini hcode hxd hfr hrm hn hst hroom hf hrecv (fun v S1 hq => by obtain ⟨b, rfl, h2⟩ := hq; exact k b S1 h2)
theorem am_rFo {y : MethodName} {bytes : ByteArray} {maxL mc1 ms1 n index : Nat} {rt : Option FieldType} {rm : Room} {as rest : List am_W} {b : Nat} {count : Nat} {C : String} {T : u_T} {N ci : Nat} {x : MethodName} {P : Option Nat → σ → Prop} (hM : am_C rep l y (ws_ y bytes maxL rt) rm mc1 ms1 (am_R b :: as) S (am_qo P)) (hd : decode cc pc = .ok (.invokeinterface index count, 5)) (hcl : am_cl[ci]? = some (C, T, N)) (hF : am_Fw C x y) (hl : Cond.methodLink own index x ∈ lw_all) (hsel : Cond.selects C x y ∈ lw_all) (hin : Cond.instanceMethod y ∈ lw_all) (hini : Cond.initialized y.cls ∈ lw_all) (hcode : Cond.code y bytes maxL rt ∈ lw_all) (hxd : x.cls ≠ "java/lang/invoke/MethodHandle" ∧ x.cls ≠ "java/lang/invoke/VarHandle" ∧ (parseMethodDescriptor x.desc).map (fun d => d.parameters.length) = some n) (hfr : rm.frames + 1 ≤ R.frames ∧ 8 + (maxL + 11) + rm.locals ≤ R.locals) (hrm : rm.cells = mc1 ∧ rm.slots = ms1) (hn : as.length = n) (hst : st = as.reverse ++ am_R b :: rest) (hroom : (rest.map am_cat).sum ≤ 8) (hf : cells + mc1 ≤ R.cells ∧ slots + ms1 ≤ R.slots) (hrecv : am_recv rep S C b) 
    (k : ∀ (a : Option Nat) (S1 : σ), P a S1 → am_V rep l own cc nL ret nm R E (pc + 5) lv (am_O a :: rest) S1 (cells + mc1) (slots + ms1)) : am_V rep l own cc nL ret nm R E pc lv st S cells slots :=
  am_runF hM hd hcl hF hl hsel hin hini hcode hxd hfr hrm hn hst hroom hf hrecv (fun v S1 hq => by obtain ⟨a, rfl, h2⟩ := hq; exact k a S1 h2)
theorem am_rFv {y : MethodName} {bytes : ByteArray} {maxL mc1 ms1 n index : Nat} {rt : Option FieldType} {rm : Room} {as rest : List am_W} {b : Nat} {count : Nat} {C : String} {T : u_T} {N ci : Nat} {x : MethodName} {P : σ → Prop} (hM : am_C rep l y (ws_ y bytes maxL rt) rm mc1 ms1 (am_R b :: as) S (am_qv P)) (hd : decode cc pc = .ok (.invokeinterface index count, 5)) (hcl : am_cl[ci]? = some (C, T, N)) (hF : am_Fw C x y) (hl : Cond.methodLink own index x ∈ lw_all) (hsel : Cond.selects C x y ∈ lw_all) (hin : Cond.instanceMethod y ∈ lw_all) (hini : Cond.initialized y.cls ∈ lw_all) (hcode : Cond.code y bytes maxL rt ∈ lw_all) (hxd : x.cls ≠ "java/lang/invoke/MethodHandle" ∧ x.cls ≠ "java/lang/invoke/VarHandle" ∧ (parseMethodDescriptor x.desc).map (fun d => d.parameters.length) = some n) (hfr : rm.frames + 1 ≤ R.frames ∧ 8 + (maxL + 11) + rm.locals ≤ R.locals) (hrm : rm.cells = mc1 ∧ rm.slots = ms1) (hn : as.length = n) (hst : st = as.reverse ++ am_R b :: rest) (hroom : (rest.map am_cat).sum ≤ 8) (hf : cells + mc1 ≤ R.cells ∧ slots + ms1 ≤ R.slots) (hrecv : am_recv rep S C b) 
    (k : ∀ (S1 : σ), P S1 → am_V rep l own cc nL ret nm R E (pc + 5) lv (rest) S1 (cells + mc1) (slots + ms1)) : am_V rep l own cc nL ret nm R E pc lv st S cells slots :=
  am_runF hM hd hcl hF hl hsel hin hini hcode hxd hfr hrm hn hst hroom hf hrecv (fun v S1 hq => by obtain ⟨rfl, h2⟩ := hq; exact k S1 h2)
end AMD
section AHT
variable {l : Launch} {cc : ByteArray} {nL : Nat} {ret : Option FieldType} {nm own : String} {R : Room} {E : am_Et} {pc : Nat} {lv : List (Nat × am_W)} {st : List am_W} {S : ah_H} {cells slots : Nat}
theorem ah_old {G : am_X} {h : ah_H} {H : Heap} {s : State} {C n d : String} {v : Value} (hr : ah_r G h H) (hK : am_K G s) (hZ : va_Z C n d v G.2.2.2.1 G.2.2.2.2.1 G.2.2.2.2.1.heap) : va_Z C n d v G.2.2.2.1 s H := by
  obtain ⟨cf, kf, fi, f, a, cell, h1, h2, h3, h4, h5, h6, h7, h8⟩ := va_Z.moved hK.2.2.2.1.alike hZ
  exact ⟨cf, kf, fi, f, a, cell, h1, h2, h3, h4, (hr.2.2.2.2.1 a (Array.getElem?_eq_some_iff.mp h5).1).trans h5, h6, h7, h8⟩
theorem ah_gets {ix : Nat} {C n d : String} {v : am_W} (hq : (C, n, d, v) ∈ ah_sta) (hl : Cond.fieldLink own ix C n d ∈ lw_all) (hd : decode cc pc = .ok (.getstatic ix, 3)) (kk : am_V ah_r l own cc nL ret nm R E (pc + 3) lv (v :: st) S cells slots) : am_V ah_r l own cc nL ret nm R E pc lv st S cells slots := by
  intro G p e s m args below meth c H locs ls F hr hS hl'
  obtain ⟨f1, f2, f3, f4, f5, f6, f7, f8, f9, f10⟩ := F
  obtain ⟨cf, kf, fi, f, a, cell, h1, h2, h3, h4, h5, h6, h7, h8⟩ := ah_old hr f9 (hr.2.2.2.2.2.2.1 _ hq)
  exact W.gets f1 f2 f7 (f8 _ hl) h1 h2 h3 h4 h5 (fun z => by rw [z] at h6; cases h6) h7 rfl hd (kk G p e s m args below meth c H locs ls ⟨f1, f2, f3, f4, f5, f6, f7, f8, f9, f10⟩ hr hS hl')
theorem ah_getsN {ix : Nat} {C n d host : String} {v : am_W} (hq : (C, n, d, v) ∈ ah_sta) (hl : Cond.fieldLinkNest own ix C n d host ∈ am_nw) (hd : decode cc pc = .ok (.getstatic ix, 3)) (kk : am_V ah_r l own cc nL ret nm R E (pc + 3) lv (v :: st) S cells slots) : am_V ah_r l own cc nL ret nm R E pc lv st S cells slots := by
  intro G p e s m args below meth c H locs ls F hr hS hl'
  obtain ⟨f1, f2, f3, f4, f5, f6, f7, f8, f9, f10⟩ := F
  obtain ⟨cf, kf, fi, f, a, cell, h1, h2, h3, h4, h5, h6, h7, h8⟩ := ah_old hr f9 (hr.2.2.2.2.2.2.1 _ hq)
  exact va_WgetsN f1 f2 f7 (va_Nw.use rfl (f9.2.1 _ hl)) h1 h2 h3 h4 h5 (fun z => by rw [z] at h6; cases h6) h7 rfl hd (kk G p e s m args below meth c H locs ls ⟨f1, f2, f3, f4, f5, f6, f7, f8, f9, f10⟩ hr hS hl')
theorem ah_getsq {ix : Nat} {C n d : String} (hq : (C, n, d) ∈ ah_stq) (hl : Cond.fieldLink own ix C n d ∈ lw_all) (hd : decode cc pc = .ok (.getstatic ix, 3)) (kk : ∀ x : Option Nat, am_V ah_r l own cc nL ret nm R E (pc + 3) lv (am_O x :: st) S cells slots) : am_V ah_r l own cc nL ret nm R E pc lv st S cells slots := by
  intro G p e s m args below meth c H locs ls F hr hS hl'
  obtain ⟨f1, f2, f3, f4, f5, f6, f7, f8, f9, f10⟩ := F
  obtain ⟨x, hZ⟩ := hr.2.2.2.2.2.2.2.1 _ hq
  obtain ⟨cf, kf, fi, f, a, cell, h1, h2, h3, h4, h5, h6, h7, h8⟩ := ah_old hr f9 hZ
  exact W.gets f1 f2 f7 (f8 _ hl) h1 h2 h3 h4 h5 (fun z => by rw [z] at h6; cases h6) h7 rfl hd (kk x G p e s m args below meth c H locs ls ⟨f1, f2, f3, f4, f5, f6, f7, f8, f9, f10⟩ hr hS hl')
theorem ah_ldcS {ix a : Nat} {tx : String} (hq : (own, ix, tx, a) ∈ am_str) (hd : decode cc pc = .ok (.ldc ix, 2)) (kk : am_V ah_r l own cc nL ret nm R E (pc + 2) lv (am_R a :: st) S cells slots) : am_V ah_r l own cc nL ret nm R E pc lv st S cells slots := by
  intro G p e s m args below meth c H locs ls F hr hS hl'
  obtain ⟨f1, f2, f3, f4, f5, f6, f7, f8, f9, f10⟩ := F
  exact va_ldcS f1 f2 f7 (f9.2.2.2.2 _ hq) hd (kk G p e s m args below meth c H locs ls ⟨f1, f2, f3, f4, f5, f6, f7, f8, f9, f10⟩ hr hS hl')
/-- two references that may be told apart by their numbers -/
def ah_q (x y : Option Nat) : Prop := ∀ i j, x = some i → y = some j → ah_X ≤ i ∨ ah_X ≤ j ∨ (4 ≤ i ∧ i < 15 ∧ 4 ≤ j ∧ j < 15) ∨ i = j
theorem ah_q_eq {G : am_X} {h : ah_H} {H : Heap} {x y : Option Nat} (hr : ah_r G h H) (hq : ah_q x y) : x.map G.2.2.1 = y.map G.2.2.1 ↔ x = y := by
  refine ⟨fun he => ?_, fun he => by rw [he]⟩
  cases x with
  | none => cases y with
    | none => rfl
    | some j => cases he
  | some i => cases y with
    | none => cases he
    | some j =>
      have he2 : G.2.2.1 i = G.2.2.1 j := Option.some.inj he
      rcases hq i j rfl rfl with g | g | ⟨g1, g2, g3, g4⟩ | g
      · rw [hr.2.2.1 i j g he2]
      · rw [hr.2.2.1 j i g he2.symm]
      · rw [hr.2.2.2.2.2.2.2.2.1 i j g1 g2 g3 g4 he2]
      · rw [g]
theorem am_c_O (ad : Nat → Nat) (x : Option Nat) : am_c ad (am_O x) = va_rf (x.map ad) := by cases x <;> rfl
theorem ah_acmp_eq {x y : Option Nat} {off : Int} {tgt : Nat} (hd : decode cc pc = .ok (.if_acmp .eq off, 3)) (ht : (pc : Int) + off = (tgt : Int)) (hq : ah_q x y) (kt : x = y → am_V ah_r l own cc nL ret nm R E tgt lv st S cells slots) (kf : ¬ x = y → am_V ah_r l own cc nL ret nm R E (pc + 3) lv st S cells slots) : am_V ah_r l own cc nL ret nm R E pc lv (am_O y :: am_O x :: st) S cells slots := by
  intro G p e s m args below meth c H locs ls F hr hS hl'
  have he := ah_q_eq hr hq
  rw [List.map_cons, List.map_cons, am_c_O, am_c_O]
  exact lv_acmp_eq F.1 F.2.1 hd ht (fun h => kt (he.mp h) G p e s m args below meth c H locs ls F hr hS hl') (fun h => kf (fun q => h (he.mpr q)) G p e s m args below meth c H locs ls F hr hS hl')
theorem ah_acmp_ne {x y : Option Nat} {off : Int} {tgt : Nat} (hd : decode cc pc = .ok (.if_acmp .ne off, 3)) (ht : (pc : Int) + off = (tgt : Int)) (hq : ah_q x y) (kt : ¬ x = y → am_V ah_r l own cc nL ret nm R E tgt lv st S cells slots) (kf : x = y → am_V ah_r l own cc nL ret nm R E (pc + 3) lv st S cells slots) : am_V ah_r l own cc nL ret nm R E pc lv (am_O y :: am_O x :: st) S cells slots := by
  intro G p e s m args below meth c H locs ls F hr hS hl'
  have he := ah_q_eq hr hq
  rw [List.map_cons, List.map_cons, am_c_O, am_c_O]
  exact lv_acmp_ne F.1 F.2.1 hd ht (fun h => kt (fun q => h (he.mpr q)) G p e s m args below meth c H locs ls F hr hS hl') (fun h => kf (he.mp h) G p e s m args below meth c H locs ls F hr hS hl')
/-- x is null, or an object of a class that is K's or may be cast to it -/
def ah_is (S : ah_H) (x : Option Nat) (K : String) : Prop := ∀ y, x = some y → ∃ (ci : Nat) (fs : List am_W) (q : vw_C), S.1 y = some (.inl (ci, fs)) ∧ am_cl[ci]? = some q ∧ (q.1 = K ∨ Cond.castable q.1 K ∈ am_nw)
theorem ah_cast {ix : Nat} {x : Option Nat} {K : String} (hl : Cond.classLink own ix K ∈ lw_all) (hx : ah_is S x K) (hd : decode cc pc = .ok (.checkcast ix, 3)) (kk : am_V ah_r l own cc nL ret nm R E (pc + 3) lv (am_O x :: st) S cells slots) : am_V ah_r l own cc nL ret nm R E pc lv (am_O x :: st) S cells slots := by
  intro G p e s m args below meth c H locs ls F hr hS hl'
  obtain ⟨f1, f2, f3, f4, f5, f6, f7, f8, f9, f10⟩ := F
  have K9 := kk G p e s m args below meth c H locs ls ⟨f1, f2, f3, f4, f5, f6, f7, f8, f9, f10⟩ hr hS hl'
  cases x with
  | none => exact lv_castN f1 f2 hd K9
  | some y =>
    obtain ⟨ci, fs, q, y1, y2, y3⟩ := hx y rfl
    have hre := ah_recv (S := S) y1 y2 G H s f9 hr
    rcases y3 with h | h
    · have hca := (f9.1.1 ci q y2).2
      rw [h] at hre hca
      exact va_castS f1 f2 f7 (f8 _ hl) hca hre hd K9
    · exact va_castY f1 f2 f7 (f8 _ hl) (f9.2.1 _ h) hre hd K9
theorem ah_inst {ix y ci : Nat} {fs : List am_W} {q : vw_C} {K : String} (hl : Cond.classLink own ix K ∈ lw_all) (y1 : S.1 y = some (.inl (ci, fs))) (y2 : am_cl[ci]? = some q) (y3 : q.1 = K) (hd : decode cc pc = .ok (.instanceof ix, 3)) (kk : am_V ah_r l own cc nL ret nm R E (pc + 3) lv (am_I 1 :: st) S cells slots) : am_V ah_r l own cc nL ret nm R E pc lv (am_R y :: st) S cells slots := by
  intro G p e s m args below meth c H locs ls F hr hS hl'
  obtain ⟨f1, f2, f3, f4, f5, f6, f7, f8, f9, f10⟩ := F
  have K9 := kk G p e s m args below meth c H locs ls ⟨f1, f2, f3, f4, f5, f6, f7, f8, f9, f10⟩ hr hS hl'
  have hre := ah_recv (S := S) y1 y2 G H s f9 hr
  have hca := (f9.1.1 ci q y2).2
  rw [y3] at hre hca
  exact va_instS f1 f2 f7 (f8 _ hl) hca hre hd K9
end AHT
section AMO
variable {σ : Type} {rep : am_X → σ → Heap → Prop} {l : Launch} {cc : ByteArray} {nL : Nat} {ret : Option FieldType} {nm own : String} {R : Room} {E : am_Et} {pc : Nat} {lv : List (Nat × am_W)} {st : List am_W} {S : σ} {cells slots : Nat}
theorem am_objInit {ix a : Nat} (hl : Cond.methodLink own ix Lib.objectInit ∈ lw_all) (hin : Cond.instanceMethod Lib.objectInit ∈ lw_all) (hco : Cond.code Lib.objectInit ⟨#[0xb1]⟩ 1 none ∈ lw_all) (hd : decode cc pc = .ok (.invokespecial ix, 3)) (hf : 1 ≤ R.frames) (hlo : (st.map am_cat).sum + 12 ≤ R.locals) (kk : am_V rep l own cc nL ret nm R E (pc + 3) lv st S cells slots) : am_V rep l own cc nL ret nm R E pc lv (am_R a :: st) S cells slots := by
  intro G p e s m args below meth c H locs ls F hr hS hl'
  obtain ⟨f1, f2, f3, f4, f5, f6, f7, f8, f9, f10⟩ := F
  have hsum : ((st.map (am_c G.2.2.1)).map fun v => v.category).sum = (st.map am_cat).sum := by
    rw [List.map_map]
    have : ((fun v : Value => v.category) ∘ am_c G.2.2.1) = am_cat := by funext v; exact am_cat_c G.2.2.1 v
    rw [this]
  refine W.objInit f1 f2 f7 (f8 _ hl) (f8 _ hin) (f8 _ hco) rfl (by rw [f3]; exact hl'.1) rfl hd hf ?_ (kk G p e s m args below meth c H locs ls ⟨f1, f2, f3, f4, f5, f6, f7, f8, f9, f10⟩ hr hS hl')
  show 2 * 0 + ((st.map (am_c G.2.2.1)).map fun v => v.category).sum + 12 ≤ R.locals
  rw [hsum]
  omega
end AMO
def am_abs (x : Int) : Int := if 0 ≤ x then x else -x
def am_min (x y : Int) : Int := if y < x then y else x
def am_max (x y : Int) : Int := if x < y then y else x
theorem am_r_min {x y : Int} (hx : am_r x) (hy : am_r y) : am_r (am_min x y) := by unfold am_min; split <;> assumption
theorem am_r_max {x y : Int} (hx : am_r x) (hy : am_r y) : am_r (am_max x y) := by unfold am_max; split <;> assumption
section AMMA
variable {σ : Type} {rep : am_X → σ → Heap → Prop} {l : Launch} {cc : ByteArray} {nL : Nat} {ret : Option FieldType} {nm own : String} {R : Room} {E : am_Et} {pc : Nat} {lv : List (Nat × am_W)} {st : List am_W} {S : σ} {cells slots : Nat}
theorem am_catsum (ad : Nat → Nat) (st : List am_W) : ((st.map (am_c ad)).map fun v => v.category).sum = (st.map am_cat).sum := by
  rw [List.map_map]
  have : ((fun v : Value => v.category) ∘ am_c ad) = am_cat := by funext v; exact am_cat_c ad v
  rw [this]
theorem am_mabs {x : Int} {ix : Nat} (hx : am_r x) (hl : Cond.methodLink own ix Lib.Math.abs.name ∈ lw_all) (hst : Cond.static Lib.Math.abs.name ∈ lw_all) (hini : Cond.initialized "java/lang/Math" ∈ lw_all) (hco : Cond.code Lib.Math.abs.name Lib.Math.abs.code 1 (some .int) ∈ lw_all) (hf : 1 ≤ R.frames) (hlo : (st.map am_cat).sum + 13 ≤ R.locals) (hc : cells ≤ R.cells) (hs : slots ≤ R.slots) (hd : decode cc pc = .ok (.invokestatic ix, 3)) (kk : am_V rep l own cc nL ret nm R E (pc + 3) lv (am_I (am_abs x) :: st) S cells slots) : am_V rep l own cc nL ret nm R E pc lv (am_I x :: st) S cells slots := by
  intro G p e' s m args below meth c H locs ls F hr hS hl'
  obtain ⟨f1, f2, f3, f4, f5, f6, f7, f8, f9, f10⟩ := F
  have K := kk G p e' s m args below meth c H locs ls ⟨f1, f2, f3, f4, f5, f6, f7, f8, f9, f10⟩ hr hS hl'
  have e : (if 0 ≤ Int32.ofInt x then Int32.ofInt x else 0 - Int32.ofInt x) = Int32.ofInt (am_abs x) := by
    unfold am_abs
    by_cases h : 0 ≤ x
    · rw [am_z0, if_pos ((am_le am_r0 hx).mpr h), if_pos h]
    · rw [am_z0, if_neg (fun q => h ((am_le am_r0 hx).mp q)), if_neg h, ← Int32.ofInt_sub, Int.zero_sub]
  refine va_mabs f1 f2 (by rw [f3]; exact hl'.1.symm) f7 (f8 _ hl) (f8 _ hst) (f8 _ hini) (f8 _ hco) hf (by rw [am_catsum]; exact hlo) hc hs hd ?_
  rw [e]
  exact K
theorem am_mmin {x y : Int} {ix : Nat} (hx : am_r x) (hy : am_r y) (hl : Cond.methodLink own ix Lib.Math.min.name ∈ lw_all) (hst : Cond.static Lib.Math.min.name ∈ lw_all) (hini : Cond.initialized "java/lang/Math" ∈ lw_all) (hco : Cond.code Lib.Math.min.name Lib.Math.min.code 2 (some .int) ∈ lw_all) (hf : 1 ≤ R.frames) (hlo : (st.map am_cat).sum + 13 ≤ R.locals) (hc : cells ≤ R.cells) (hs : slots ≤ R.slots) (hd : decode cc pc = .ok (.invokestatic ix, 3)) (kk : am_V rep l own cc nL ret nm R E (pc + 3) lv (am_I (am_min x y) :: st) S cells slots) : am_V rep l own cc nL ret nm R E pc lv (am_I y :: am_I x :: st) S cells slots := by
  intro G p e' s m args below meth c H locs ls F hr hS hl'
  obtain ⟨f1, f2, f3, f4, f5, f6, f7, f8, f9, f10⟩ := F
  have K := kk G p e' s m args below meth c H locs ls ⟨f1, f2, f3, f4, f5, f6, f7, f8, f9, f10⟩ hr hS hl'
  have e : (if Int32.ofInt y < Int32.ofInt x then Int32.ofInt y else Int32.ofInt x) = Int32.ofInt (am_min x y) := by
    unfold am_min
    by_cases h : y < x
    · rw [if_pos ((am_lt hy hx).mpr h), if_pos h]
    · rw [if_neg (fun q => h ((am_lt hy hx).mp q)), if_neg h]
  refine va_mmin f1 f2 (by rw [f3]; exact hl'.1.symm) f7 (f8 _ hl) (f8 _ hst) (f8 _ hini) (f8 _ hco) hf (by rw [am_catsum]; exact hlo) hc hs hd ?_
  rw [e]
  exact K
theorem am_mmax {x y : Int} {ix : Nat} (hx : am_r x) (hy : am_r y) (hl : Cond.methodLink own ix Lib.Math.max.name ∈ lw_all) (hst : Cond.static Lib.Math.max.name ∈ lw_all) (hini : Cond.initialized "java/lang/Math" ∈ lw_all) (hco : Cond.code Lib.Math.max.name Lib.Math.max.code 2 (some .int) ∈ lw_all) (hf : 1 ≤ R.frames) (hlo : (st.map am_cat).sum + 13 ≤ R.locals) (hc : cells ≤ R.cells) (hs : slots ≤ R.slots) (hd : decode cc pc = .ok (.invokestatic ix, 3)) (kk : am_V rep l own cc nL ret nm R E (pc + 3) lv (am_I (am_max x y) :: st) S cells slots) : am_V rep l own cc nL ret nm R E pc lv (am_I y :: am_I x :: st) S cells slots := by
  intro G p e' s m args below meth c H locs ls F hr hS hl'
  obtain ⟨f1, f2, f3, f4, f5, f6, f7, f8, f9, f10⟩ := F
  have K := kk G p e' s m args below meth c H locs ls ⟨f1, f2, f3, f4, f5, f6, f7, f8, f9, f10⟩ hr hS hl'
  have e : (if Int32.ofInt x < Int32.ofInt y then Int32.ofInt y else Int32.ofInt x) = Int32.ofInt (am_max x y) := by
    unfold am_max
    by_cases h : x < y
    · rw [if_pos ((am_lt hx hy).mpr h), if_pos h]
    · rw [if_neg (fun q => h ((am_lt hx hy).mp q)), if_neg h]
  refine va_mmax f1 f2 (by rw [f3]; exact hl'.1.symm) f7 (f8 _ hl) (f8 _ hst) (f8 _ hini) (f8 _ hco) hf (by rw [am_catsum]; exact hlo) hc hs hd ?_
  rw [e]
  exact K
end AMMA
/-- a private method that a subclass' object is asked: it is the method itself -/
theorem am_sel_priv {C : String} {y : MethodName} {s : State} {args : Array Value} {n : Nat} (hy : y.cls ≠ "java/lang/invoke/MethodHandle" ∧ y.cls ≠ "java/lang/invoke/VarHandle")
    (hins : (Cond.instantiable C n).before args s = true) (hpriv : (Cond.privateMethod y).before args s = true) (hinst : (Cond.instanceMethod y).before args s = true) {C2 : String} {z w : MethodName} (hz : (Cond.selects C2 z w).before args s = true) (hw : w.cls = y.cls) : (Cond.selects C y y).before args s = true := by
  obtain ⟨c2, r2, m2, q1, q2, q3, q4, kP, hkP, hkPi⟩ := Cond.selects_spec hz
  obtain ⟨c, k, hc, hk, -, hniab, -, -⟩ := Cond.instantiable_spec hins
  have hni : k.isInterface = false := (Bool.or_eq_false_iff.mp hniab).1
  obtain ⟨mk, methM, hnamed, hmethM, -, -⟩ := Cond.instanceMethod_spec hinst
  have hfound : s.methodFound? y.cls y.name y.desc = some mk := State.methodFound?_of_named hnamed hy
  have hsel : selectMethod {} s.vm c mk = .method mk := selectMethod_private hmethM (Cond.privateMethod_at hpriv mk methM hnamed hmethM)
  have hcl : mk.cls = m2.cls := by
    have e1 := findClass_of_methodNamed hnamed
    have e2 := findClass_of_methodNamed q3
    rw [hw] at e2
    exact Option.some.inj (e1.symm.trans e2)
  simp only [Cond.before, Cond.holds, Cond.value, hc, hfound, hnamed, hsel, hk]
  simp [hcl, hkP, hkPi]
theorem am_CU_P {R : Room} {own C : String} {index : Nat} {y : MethodName} {bytes : ByteArray} {maxL : Nat} {rt : Option FieldType} {rm : Room} {mc1 ms1 n n0 : Nat} {C2 : String} {z w : MethodName} (h1 : Cond.methodLink own index y ∈ lw_all) (h2 : Cond.sameMethod y.cls y.cls y.name y.desc ∈ lw_all) (hins : Cond.instantiable C n0 ∈ lw_all) (hpriv : Cond.privateMethod y ∈ am_nw) (hz : Cond.selects C2 z w ∈ lw_all) (hw : w.cls = y.cls) (h4 : Cond.instanceMethod y ∈ lw_all) (h5 : Cond.initialized y.cls ∈ lw_all) (h6 : Cond.code y bytes maxL rt ∈ lw_all) (hrm : rm.cells = mc1 ∧ rm.slots = ms1)
    (hd : y.cls ≠ "java/lang/invoke/MethodHandle" ∧ y.cls ≠ "java/lang/invoke/VarHandle" ∧ (parseMethodDescriptor y.desc).map (fun d => d.parameters.length) = some n) (hR : rm.frames + 1 ≤ R.frames ∧ 8 + (maxL + 11) + rm.locals ≤ R.locals) : am_CU R own C y.cls index y y bytes maxL rt rm mc1 ms1 n := fun s args hts hN => by
  have hG : GoodIn lw_all (ws_ y bytes maxL rt) := lw_meth h6
  refine ⟨⟨hrm.1, hrm.2, hR.1, hR.2, pay_in hts hG, List.mem_cons_self⟩, hts _ h6, hts _ h5, ⟨hd.1, hd.2.1⟩, fun sig h => ?_, hts _ h1, hts _ h2, va_Decl.of (hts _ h4) (hts _ h6), am_sel_priv ⟨hd.1, hd.2.1⟩ (hts _ hins) (va_Nw.use rfl (hN _ hpriv)) (hts _ h4) (hts _ hz) hw, hts _ h4⟩
  have h2 := hd.2.2
  rw [h] at h2
  exact (Option.some.inj h2).symm
section AHCP
variable {l : Launch} {cc : ByteArray} {nL : Nat} {ret : Option FieldType} {nm own : String} {R : Room} {E : am_Et} {pc : Nat} {lv : List (Nat × am_W)} {st : List am_W} {S : ah_H} {cells slots : Nat}
/-- the heap behind a copying of numbers -/
def ah_cp (S : ah_H) (a k n1 : Nat) (f g : Nat → Int32) (sp dp n : Int) : ah_H := (va_up S.1 a (some (.inr (k, n1, .inl (va_cpy f g sp.toNat dp.toNat n.toNat)))), S.2)
theorem ah_copy {ix a0 a k n0 n1 : Nat} {f g : Nat → Int32} {sp dp n : Int} (hc0 : S.1 a0 = some (.inr (k, n0, .inl f))) (hX0 : ah_X ≤ a0) (hc1 : S.1 a = some (.inr (k, n1, .inl g))) (hX : ah_X ≤ a) (hk : k < 3) (h1 : 0 ≤ sp) (h2 : 0 ≤ dp) (h3 : 0 ≤ n) (h4 : sp + n ≤ n0) (h5 : dp + n ≤ n1) (hfit : ∀ i : Nat, i < n → fits (am_ty k) (.int (f (sp.toNat + i))) = true)
    (hl : Cond.methodLink own ix arraycopyName ∈ lw_all) (hnat : Cond.native arraycopyName ∈ lw_all) (hsta : Cond.static arraycopyName ∈ lw_all) (hini : Cond.initialized "java/lang/System" ∈ lw_all) (hf : 1 ≤ R.frames) (hlo : (st.map am_cat).sum + (nativeFrameWords "java/lang/System" "arraycopy" 5 + 11) ≤ R.locals) (hd : decode cc pc = .ok (.invokestatic ix, 3))
    (kk : am_V ah_r l own cc nL ret nm R E (pc + 3) lv st (ah_cp S a k n1 f g sp dp n) cells slots) : am_V ah_r l own cc nL ret nm R E pc lv (am_I n :: am_I dp :: am_R a :: am_I sp :: am_R a0 :: st) S cells slots := by
  intro G p e s m args below meth c H locs ls F hr hS hl'
  obtain ⟨f1, f2, f3, f4, f5, f6, f7, f8, f9, f10⟩ := F
  have F : am_F own cc nL ret nm G p s m args meth c := ⟨f1, f2, f3, f4, f5, f6, f7, f8, f9, f10⟩
  have hsum : ((st.map (am_c G.2.2.1)).map fun v => v.category).sum = (st.map am_cat).sum := by
    rw [List.map_map]
    have : ((fun v : Value => v.category) ∘ am_c G.2.2.1) = am_cat := by funext v; exact am_cat_c G.2.2.1 v
    rw [this]
  have hb0 : n0 < 2147483648 := (hr.1 a0 _ hc0).2.2.1.2
  have hb1 : n1 < 2147483648 := (hr.1 a _ hc1).2.2.1.2
  have hbn := (hr.1 a _ hc1).2.2.1
  have h44 := (hr.1 a _ hc1).2.2.2
  have nn : ∀ z : Int, 0 ≤ z → z < 2147483648 → ¬ Int32.ofInt z < 0 ∧ (Int32.ofInt z).toNatClampNeg = z.toNat ∧ (Int32.ofInt z).toInt = z := fun z g1 g2 => by
    have hz : am_r z := ⟨by omega, g2⟩
    refine ⟨fun q => ?_, ?_, am_ti hz⟩
    · have := (am_lt hz am_r0).mp q
      omega
    · show (Int32.ofInt z).toInt.toNat = z.toNat
      rw [am_ti hz]
  intro T hT X
  have c0 : H[G.2.2.1 a0]? = some (arrV (G.2.1 k) n0 (fun j => .int (f j))) := ah_strong hr hc0 hX0
  have c1 : H[G.2.2.1 a]? = some (arrV (G.2.1 k) n1 (fun j => .int (g j))) := ah_strong hr hc1 hX
  have ht := f9.1.2 k _ (am_tys_at G.2.1 (by omega))
  obtain ⟨-, k0, hk0, cm0, hkk0⟩ := ht.1 n0 (fun j => .int (f j))
  obtain ⟨-, k1, hk1, cm1, hkk1⟩ := ht.1 n1 (fun j => .int (g j))
  have hprim : refKind (am_ty k) = false := by
    have h : k = 0 ∨ k = 1 ∨ k = 2 := by omega
    rcases h with rfl | rfl | rfl <;> rfl
  obtain ⟨s1, s2, s3⟩ := nn sp h1 (by omega)
  obtain ⟨d1, d2, d3⟩ := nn dp h2 (by omega)
  obtain ⟨m1, m2, m3⟩ := nn n h3 (by omega)
  obtain ⟨vm', X', step⟩ := X.arraycopy f1 f7 (f8 _ hl) (f8 _ hnat) (f8 _ hsta) (f8 _ hini) (src := G.2.2.1 a0) (dst := G.2.2.1 a) (cs := arrV (G.2.1 k) n0 (fun j => .int (f j))) (cd := arrV (G.2.1 k) n1 (fun j => .int (g j))) (srcPos := Int32.ofInt sp) (destPos := Int32.ofInt dp) (n := Int32.ofInt n) (by rw [hT]; exact c0) (by rw [hT]; exact c1)
    (fun _ h => by cases h) (fun _ h => by cases h) (fun h => by cases h) (fun h => by cases h) hk0 hk1 hkk0 hkk1 (by simp [hprim]) s1 d1 m1
    (by rw [s3, m3, arrV_size]; omega)
    (by rw [d3, m3, arrV_size]; omega)
    (fun vm₁ _ i hi => by
      rw [m2] at hi
      have e : (arrV (G.2.1 k) n0 (fun j => .int (f j))).slots.getD ((Int32.ofInt sp).toNatClampNeg + i) .null = .int (f (sp.toNat + i)) := by
        rw [Array.getD_eq_getD_getElem?, s2, arrV_read _ _ (by omega)]
        rfl
      refine ⟨?_, ?_⟩
      · rw [e]
        exact hfit i (by omega)
      · rw [e]
        exact trivial)
    (g := F0 m pc ls (.int (Int32.ofInt n) :: .int (Int32.ofInt dp) :: .ref (G.2.2.1 a) :: .int (Int32.ofInt sp) :: .ref (G.2.2.1 a0) :: st.map (am_c G.2.2.1))) rfl (by rw [f3]; exact hl'.1) (rest := st.map (am_c G.2.2.1)) rfl (by rw [f2]; exact hd) hf (by show 2 * 0 + _ + _ ≤ _; rw [hsum]; omega)
  have e1 : copied (arrV (G.2.1 k) n0 (fun j => .int (f j))) (arrV (G.2.1 k) n1 (fun j => .int (g j))) (Int32.ofInt sp) (Int32.ofInt dp) (Int32.ofInt n) = arrV (G.2.1 k) n1 (fun j => .int (va_cpy f g sp.toNat dp.toNat n.toNat j)) := by
    rw [← s2, ← d2, ← m2]
    exact va_copied (fun z => .int z) (G.2.1 k) (G.2.1 k) f g (by rw [s2, m2]; omega)
  rw [e1] at X' step
  have hlt : G.2.2.1 a < H.size := (Array.getElem?_eq_some_iff.mp c1).1
  have hheap : ((T.setVm vm').setCell (G.2.2.1 a) (arrV (G.2.1 k) n1 (fun j => .int (va_cpy f g sp.toNat dp.toNat n.toNat j)))).heap = H.setIfInBounds (G.2.2.1 a) (arrV (G.2.1 k) n1 (fun j => .int (va_cpy f g sp.toNat dp.toNat n.toNat j))) := by rw [← hT]; rfl
  have oq : ∀ q : Nat, q ≠ G.2.2.1 a → (H.setIfInBounds (G.2.2.1 a) (arrV (G.2.1 k) n1 (fun j => .int (va_cpy f g sp.toNat dp.toNat n.toNat j))))[q]? = H[q]? := fun q hq => by simp [Array.getElem?_setIfInBounds, Ne.symm hq]
  have hat : va_at G.1 am_cl (G.2.2.1 a, ah_e G (.inr (k, n1, .inl (va_cpy f g sp.toNat dp.toNat n.toNat)))) (H.setIfInBounds (G.2.2.1 a) (arrV (G.2.1 k) n1 (fun j => .int (va_cpy f g sp.toNat dp.toNat n.toNat j)))) := by
    show (H.setIfInBounds (G.2.2.1 a) _)[G.2.2.1 a]? = some _
    simp [Array.getElem?_setIfInBounds, hlt]
    rfl
  obtain ⟨t, a1, b1⟩ := kk G p e s m args below meth c _ _ ls F (hr.set hc1 hX hat hbn (by simp) oq) ⟨by simp; exact hS.1, fun q g1 g2 => by
      rw [oq q (fun z => g2 (by rw [z]; exact h44 hX))]
      exact hS.2.1 q g1 g2, fun q hq => by
      rcases List.mem_append.mp hq with h | h
      · exact hS.2.2 q h
      · obtain ⟨z, -, hz⟩ := List.mem_map.mp h
        rw [← hz]
        exact h44 hX⟩ hl' _ hheap X'
  exact ⟨t, step t a1, b1⟩
end AHCP
