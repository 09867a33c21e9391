abbrev am_gc : MethodName := ⟨"java/lang/Object", "getClass", "()Ljava/lang/Class;"⟩
section AYD
variable {l : Launch} {cc : ByteArray} {nL : Nat} {ret : Option FieldType} {nm own : String} {R : Room} {E : am_Et} {pc : Nat} {lv : List (Nat × am_W)} {st : List am_W} {S : ah_H} {cells slots : Nat}
/-- the class of arrays of objects, as an object: the number 15 -/
theorem ah_mir {G : am_X} {h : ah_H} {H : Heap} {s : State} (hr : ah_r G h H) (hK : am_K G s) : va_Mi "[Ljava/lang/Object;" (G.2.2.1 15) s := va_Mi.moved hK.2.2.2.1.alike hr.2.2.2.2.2.2.2.2.2
theorem ah_ldcM {ix : Nat} (hl : Cond.classLink own ix "[Ljava/lang/Object;" ∈ lw_all) (hd : decode cc pc = .ok (.ldc ix, 2)) (kk : am_V ah_r l own cc nL ret nm R E (pc + 2) lv (am_R 15 :: st) S cells slots) : am_V ah_r l own cc nL ret nm R E pc lv st S cells slots := by
  intro G p e s m args below meth c H locs ls F hr hS hl'
  obtain ⟨f1, f2, f3, f4, f5, f6, f7, f8, f9, f10⟩ := F
  exact va_ldcM f1 f2 f7 (f8 _ hl) (ah_mir hr f9) hd (kk G p e s m args below meth c H locs ls ⟨f1, f2, f3, f4, f5, f6, f7, f8, f9, f10⟩ hr hS hl')
theorem ah_getC {ix a n : Nat} {f : Nat → Option Nat} (hc : S.1 a = some (.inr (5, n, .inr f))) (hX : ah_X ≤ a) (hl : Cond.methodLink own ix am_gc ∈ lw_all) (hdecl : Cond.declares am_gc ∈ am_nw) (hsel : Cond.selects "[Ljava/lang/Object;" am_gc am_gc ∈ lw_all) (hin : Cond.instanceMethod am_gc ∈ lw_all) (hnat : Cond.native am_gc ∈ lw_all) (hf : 1 ≤ R.frames) (hlo : (st.map am_cat).sum + 14 ≤ R.locals) (hd : decode cc pc = .ok (.invokevirtual ix, 3)) (kk : am_V ah_r l own cc nL ret nm R E (pc + 3) lv (am_R 15 :: st) S cells slots) : am_V ah_r l own cc nL ret nm R E pc lv (am_R a :: st) S cells slots := by
  intro G p e s m args below meth c H locs ls F hr hS hl'
  obtain ⟨f1, f2, f3, f4, f5, f6, f7, f8, f9, f10⟩ := F
  have h5 := ah_strong hr hc hX
  have hra := (f9.1.2 5 _ (am_tys_at G.2.1 (by decide))).2
  exact va_getC f1 f2 (by rw [f3]; exact hl'.1.symm) f7 (f8 _ hl) (va_Nw.use rfl (f9.2.1 _ hdecl)) (f8 _ hsel) (f8 _ hin) (f8 _ hnat) (ah_mir hr f9) ⟨_, h5, rfl, va_nmO hra rfl⟩ hf (by rw [am_catsum]; exact hlo) hd (kk G p e s m args below meth c H locs ls ⟨f1, f2, f3, f4, f5, f6, f7, f8, f9, f10⟩ hr hS hl')
/-- the heap behind a copying of references -/
def ah_cq (S : ah_H) (a k n1 : Nat) (f g : Nat → Option Nat) (sp dp n : Int) : ah_H := (va_up S.1 a (some (.inr (k, n1, .inr (va_cpy f g sp.toNat dp.toNat n.toNat)))), S.2)
theorem ah_copyq {ix a0 a n0 n1 : Nat} {f g : Nat → Option Nat} {sp dp n : Int} (hc0 : S.1 a0 = some (.inr (5, n0, .inr f))) (hX0 : ah_X ≤ a0) (hc1 : S.1 a = some (.inr (5, n1, .inr g))) (hX : ah_X ≤ a) (h1 : 0 ≤ sp) (h2 : 0 ≤ dp) (h3 : 0 ≤ n) (h4 : sp + n ≤ n0) (h5 : dp + n ≤ n1) (hfit : ∀ i : Nat, i < n → ah_is S (f (sp.toNat + i)) "java/lang/Object")
    (hl : Cond.methodLink own ix arraycopyName ∈ lw_all) (hnat : Cond.native arraycopyName ∈ lw_all) (hsta : Cond.static arraycopyName ∈ lw_all) (hini : Cond.initialized "java/lang/System" ∈ lw_all) (hf : 1 ≤ R.frames) (hlo : (st.map am_cat).sum + (nativeFrameWords "java/lang/System" "arraycopy" 5 + 11) ≤ R.locals) (hd : decode cc pc = .ok (.invokestatic ix, 3))
    (kk : am_V ah_r l own cc nL ret nm R E (pc + 3) lv st (ah_cq S a 5 n1 f g sp dp n) cells slots) : am_V ah_r l own cc nL ret nm R E pc lv (am_I n :: am_I dp :: am_R a :: am_I sp :: am_R a0 :: st) S cells slots := by
  intro G p e s m args below meth c H locs ls F hr hS hl'
  obtain ⟨f1, f2, f3, f4, f5, f6, f7, f8, f9, f10⟩ := F
  have F : am_F own cc nL ret nm G p s m args meth c := ⟨f1, f2, f3, f4, f5, f6, f7, f8, f9, f10⟩
  have hsum := am_catsum G.2.2.1 st
  have hb0 : n0 < 2147483648 := (hr.1 a0 _ hc0).2.2.1.2
  have hb1 : n1 < 2147483648 := (hr.1 a _ hc1).2.2.1.2
  have hbn := (hr.1 a _ hc1).2.2.1
  have h44 := (hr.1 a _ hc1).2.2.2
  have nn : ∀ z : Int, 0 ≤ z → z < 2147483648 → ¬ Int32.ofInt z < 0 ∧ (Int32.ofInt z).toNatClampNeg = z.toNat ∧ (Int32.ofInt z).toInt = z := fun z g1 g2 => by
    have hz : am_r z := ⟨by omega, g2⟩
    refine ⟨fun q => ?_, ?_, am_ti hz⟩
    · have := (am_lt hz am_r0).mp q
      omega
    · show (Int32.ofInt z).toInt.toNat = z.toNat
      rw [am_ti hz]
  intro T hT X
  have c0 : H[G.2.2.1 a0]? = some (arrV (G.2.1 5) n0 (fun j => va_rf ((f j).map G.2.2.1))) := ah_strong hr hc0 hX0
  have c1 : H[G.2.2.1 a]? = some (arrV (G.2.1 5) n1 (fun j => va_rf ((g j).map G.2.2.1))) := ah_strong hr hc1 hX
  have ht := f9.1.2 5 _ (am_tys_at G.2.1 (by decide))
  obtain ⟨-, k0, hk0, cm0, hkk0⟩ := ht.1 n0 (fun j => va_rf ((f j).map G.2.2.1))
  obtain ⟨-, k1, hk1, cm1, hkk1⟩ := ht.1 n1 (fun j => va_rf ((g j).map G.2.2.1))
  obtain ⟨s1, s2, s3⟩ := nn sp h1 (by omega)
  obtain ⟨d1, d2, d3⟩ := nn dp h2 (by omega)
  obtain ⟨m1, m2, m3⟩ := nn n h3 (by omega)
  obtain ⟨vm', X', step⟩ := X.arraycopy f1 f7 (f8 _ hl) (f8 _ hnat) (f8 _ hsta) (f8 _ hini) (src := G.2.2.1 a0) (dst := G.2.2.1 a) (cs := arrV (G.2.1 5) n0 (fun j => va_rf ((f j).map G.2.2.1))) (cd := arrV (G.2.1 5) n1 (fun j => va_rf ((g j).map G.2.2.1))) (srcPos := Int32.ofInt sp) (destPos := Int32.ofInt dp) (n := Int32.ofInt n) (by rw [hT]; exact c0) (by rw [hT]; exact c1)
    (fun _ h => by cases h) (fun _ h => by cases h) (fun h => by cases h) (fun h => by cases h) hk0 hk1 hkk0 hkk1 rfl s1 d1 m1
    (by rw [s3, m3, arrV_size]; omega)
    (by rw [d3, m3, arrV_size]; omega)
    (fun vm₁ hal i hi => by
      rw [m2] at hi
      have e : (arrV (G.2.1 5) n0 (fun j => va_rf ((f j).map G.2.2.1))).slots.getD ((Int32.ofInt sp).toNatClampNeg + i) .null = va_rf ((f (sp.toNat + i)).map G.2.2.1) := by
        rw [Array.getD_eq_getD_getElem?, s2, arrV_read _ _ (by omega)]
        rfl
      rw [e]
      cases hy : f (sp.toNat + i) with
      | none => exact ⟨rfl, trivial⟩
      | some y =>
        obtain ⟨ci, fs, q, y1, y2, y3⟩ := hfit i (by omega) y hy
        obtain ⟨cellV, g1, g2, g3⟩ := ah_recv (S := S) y1 y2 G H s f9 hr
        have hty : am_ty 5 = .object "java/lang/Object" := rfl
        have ht2 := ht.2
        rw [hty] at ht2
        obtain ⟨kA, comp, r1, r2, r3, -⟩ := ht2
        cases hk1.symm.trans r1
        cases hkk1.symm.trans r2
        obtain ⟨kC, hkC, -⟩ := Vm.findClass_spec g3
        obtain ⟨kE, hkE, -⟩ := Vm.findClass_spec r3
        obtain ⟨kC', hkC', -⟩ := hal.2.2 _ _ hkC
        obtain ⟨kE', hkE', -⟩ := hal.2.2 _ _ hkE
        have has : s.vm.assignable cellV.cls cm1 = true := by
          rcases y3 with h | h
          · have hca := (f9.1.1 ci q y2).2
            rw [← h] at r3
            have e1 : cellV.cls = G.1.1 ci := Option.some.inj (g3.symm.trans hca.1)
            have e2 : cm1 = G.1.1 ci := Option.some.inj (r3.symm.trans hca.1)
            rw [e1, e2]
            exact va_assign hca
          · obtain ⟨c0, t1, q1, q2, q3⟩ := Cond.castable_spec (va_Nw.use (A := args) rfl (f9.2.1 _ h))
            cases g3.symm.trans q1
            cases r3.symm.trans q2
            exact q3
        refine ⟨rfl, cellV, (show T.heap[G.2.2.1 y]? = some cellV by rw [hT]; exact g1), (fun q h => by rw [h] at g2; cases g2), ⟨kC', hkC'⟩, ⟨kE', hkE'⟩, ?_⟩
        show vm₁.assignable _ _ = true
        rw [hal.assignable]
        exact has)
    (g := F0 m pc ls (.int (Int32.ofInt n) :: .int (Int32.ofInt dp) :: .ref (G.2.2.1 a) :: .int (Int32.ofInt sp) :: .ref (G.2.2.1 a0) :: st.map (am_c G.2.2.1))) rfl (by rw [f3]; exact hl'.1) (rest := st.map (am_c G.2.2.1)) rfl (by rw [f2]; exact hd) hf (by show 2 * 0 + _ + _ ≤ _; rw [hsum]; omega)
  have e1 : copied (arrV (G.2.1 5) n0 (fun j => va_rf ((f j).map G.2.2.1))) (arrV (G.2.1 5) n1 (fun j => va_rf ((g j).map G.2.2.1))) (Int32.ofInt sp) (Int32.ofInt dp) (Int32.ofInt n) = arrV (G.2.1 5) n1 (fun j => va_rf ((va_cpy f g sp.toNat dp.toNat n.toNat j).map G.2.2.1)) := by
    have hle : (Int32.ofInt sp).toNatClampNeg + (Int32.ofInt n).toNatClampNeg ≤ n0 := by rw [s2, m2]; omega
    rw [← s2, ← d2, ← m2]
    exact va_copied (fun z : Option Nat => va_rf (z.map G.2.2.1)) (G.2.1 5) (G.2.1 5) f g hle
  rw [e1] at X' step
  have hlt : G.2.2.1 a < H.size := (Array.getElem?_eq_some_iff.mp c1).1
  have hheap : ((T.setVm vm').setCell (G.2.2.1 a) (arrV (G.2.1 5) n1 (fun j => va_rf ((va_cpy f g sp.toNat dp.toNat n.toNat j).map G.2.2.1)))).heap = H.setIfInBounds (G.2.2.1 a) (arrV (G.2.1 5) n1 (fun j => va_rf ((va_cpy f g sp.toNat dp.toNat n.toNat j).map G.2.2.1))) := by rw [← hT]; rfl
  have oq : ∀ q : Nat, q ≠ G.2.2.1 a → (H.setIfInBounds (G.2.2.1 a) (arrV (G.2.1 5) n1 (fun j => va_rf ((va_cpy f g sp.toNat dp.toNat n.toNat j).map G.2.2.1))))[q]? = H[q]? := fun q hq => by simp [Array.getElem?_setIfInBounds, Ne.symm hq]
  have hat : va_at G.1 am_cl (G.2.2.1 a, ah_e G (.inr (5, n1, .inr (va_cpy f g sp.toNat dp.toNat n.toNat)))) (H.setIfInBounds (G.2.2.1 a) (arrV (G.2.1 5) n1 (fun j => va_rf ((va_cpy f g sp.toNat dp.toNat n.toNat j).map G.2.2.1)))) := by
    show (H.setIfInBounds (G.2.2.1 a) _)[G.2.2.1 a]? = some _
    simp [Array.getElem?_setIfInBounds, hlt]
    rfl
  obtain ⟨t, a1, b1⟩ := kk G p e s m args below meth c _ _ ls F (hr.set hc1 hX hat hbn (by simp) oq) ⟨by simp; exact hS.1, fun q g1 g2 => by
      rw [oq q (fun z => g2 (by rw [z]; exact h44 hX))]
      exact hS.2.1 q g1 g2, fun q hq => by
      rcases List.mem_append.mp hq with h | h
      · exact hS.2.2 q h
      · obtain ⟨z, -, hz⟩ := List.mem_map.mp h
        rw [← hz]
        exact h44 hX⟩ hl' _ hheap X'
  exact ⟨t, step t a1, b1⟩
end AYD

/-! arrays of bytes, cloned -/
abbrev am_cl_ : MethodName := ⟨"[B", "clone", "()Ljava/lang/Object;"⟩
abbrev am_clo : MethodName := ⟨"java/lang/Object", "clone", "()Ljava/lang/Object;"⟩
section AYC
variable {l : Launch} {cc : ByteArray} {nL : Nat} {ret : Option FieldType} {nm own : String} {R : Room} {E : am_Et} {pc : Nat} {lv : List (Nat × am_W)} {st : List am_W} {S : ah_H} {cells slots : Nat}
theorem ah_cloneB {ix a n : Nat} {f : Nat → Int32} (hc : S.1 a = some (.inr (2, n, .inl f))) (hX : ah_X ≤ a) (hfit : ∀ i : Nat, i < n → fits (am_ty 2) (.int (f i)) = true) (hl : Cond.methodLink own ix am_cl_ ∈ lw_all) (hsame : Cond.sameMethod "[B" "java/lang/Object" "clone" "()Ljava/lang/Object;" ∈ lw_all) (hnat : Cond.native am_clo ∈ lw_all) (hin : Cond.instanceMethod am_clo ∈ lw_all) (hsel : Cond.selects "[B" am_cl_ am_clo ∈ lw_all) (hcast : Cond.castable "[B" "java/lang/Cloneable" ∈ am_nw) (hf : 1 ≤ R.frames) (hlo : (st.map am_cat).sum + 14 ≤ R.locals) (hcs : cells + 1 ≤ R.cells) (hss : slots + n ≤ R.slots) (hd : decode cc pc = .ok (.invokevirtual ix, 3))
    (kk : am_V ah_r l own cc nL ret nm R E (pc + 3) lv (am_R S.2 :: st) (ah_mk S (.inr (2, n, .inl f))) (cells + 1) (slots + n)) : am_V ah_r l own cc nL ret nm R E pc lv (am_R a :: st) S cells slots := by
  intro G p e s m args below meth c H locs ls F hr hS hl'
  obtain ⟨f1, f2, f3, f4, f5, f6, f7, f8, f9, f10⟩ := F
  have hb1 := (hr.1 a _ hc).2.2.1
  intro T hT X
  have c0 : H[G.2.2.1 a]? = some (arrV (G.2.1 2) n (fun j => .int (f j))) := ah_strong hr hc hX
  have hcellT : T.heap[G.2.2.1 a]? = some (arrV (G.2.1 2) n (fun j => .int (f j))) := by rw [hT]; exact c0
  have ht := f9.1.2 2 _ (am_tys_at G.2.1 (by decide))
  have hnm : s.vm.findClass "[B" = some (G.2.1 2) := ht.2
  obtain ⟨k0, t0, g1, g2, g3⟩ := Cond.castable_spec (va_Nw.use (A := args) rfl (f9.2.1 _ hcast))
  cases hnm.symm.trans g1
  obtain ⟨-, kA, hkA, comp, hkind⟩ := State.isArrayOf_alike X.warmed.alike (ht.1 0 (fun _ => .null))
  obtain ⟨-, kS, hkS, compS, hkindS⟩ := ht.1 0 (fun _ => .null)
  have hsz : (arrV (G.2.1 2) n (fun j => .int (f j))).slots.size = n := arrV_size _ _ _
  obtain ⟨vm', X', stp⟩ := X.cloneArray f1 f7 (f8 _ hl) (f8 _ hsame) (f8 _ hnat) (f8 _ hin) (f8 _ hsel) (a := G.2.2.1 a) (cell := arrV (G.2.1 2) n (fun j => .int (f j))) hcellT (fun k h => by cases h) (fun h => by cases h) hnm g2 g3
    (fun i v hv => by
      have hk' : T.vm.classes[G.2.1 2]? = some kA := hkA
      have hi : i < n := by
        have := (Array.getElem?_eq_some_iff.mp hv).1
        rw [hsz] at this
        exact this
      rw [arrV_read _ _ hi] at hv
      cases hv
      rw [show (arrV (G.2.1 2) n (fun j => Value.int (f j))).cls = G.2.1 2 from rfl]
      simpa [State.fitsSlot, State.slotType?, hk', hkind] using hfit i hi)
    (g := F0 m pc ls (.ref (G.2.2.1 a) :: st.map (am_c G.2.2.1))) rfl (by rw [f3]; exact hl'.1) rfl (by rw [f2]; exact hd) hf (by show 2 * 0 + _ + 14 ≤ _; rw [am_catsum]; omega) hcs (by rw [hsz]; exact hss) (hloader := Vm.clonesLoader_of_array hkS hkindS)
  rw [hsz] at X'
  generalize hH1 : H.push (arrV (G.2.1 2) n (fun j => .int (f j))) = H1
  have z1 : H1.size = H.size + 1 := by rw [← hH1, Array.size_push]
  have e1 : H1[H.size]? = some (arrV (G.2.1 2) n (fun j => .int (f j))) := by rw [← hH1, Array.getElem?_push_size]
  have oq : ∀ q : Nat, q < H.size → H1[q]? = H[q]? := fun q hq => by rw [← hH1, Array.getElem?_push, if_neg (Nat.ne_of_lt hq)]
  have hA : G.2.2.2.1 H.size := f10 _ hS.1
  have hat : va_at G.1 am_cl (H.size, ah_e G (.inr (2, n, .inl f))) H1 := e1
  have K := kk G p e s m args below meth c _ locs ls ⟨f1, f2, f3, f4, f5, f6, f7, f8, f9, f10⟩ (hr.push hat hb1 z1 oq hA) ⟨Nat.le_trans hS.1 (by rw [z1]; omega), fun x h1 h2 => (oq x (Nat.lt_of_lt_of_le h1 hS.1)).trans (hS.2.1 x h1 h2), hS.2.2⟩ hl'
  rw [List.map_cons, show am_c G.2.2.1 (am_R S.2) = Value.ref H.size from congrArg Value.ref (hr.2.1 0)] at K
  obtain ⟨t, b1, b2⟩ := K ((T.setVm vm').pushCell (arrV (G.2.1 2) n (fun j => .int (f j)))) (by rw [← hH1, ← hT]; rfl) X'
  refine ⟨t, stp t ?_, b2⟩
  rw [hT]
  exact b1
theorem ah_castB {ix a n : Nat} {f : Nat → Int32} (hc : S.1 a = some (.inr (2, n, .inl f))) (hX : ah_X ≤ a) (hl : Cond.classLink own ix "[B" ∈ lw_all) (hd : decode cc pc = .ok (.checkcast ix, 3)) (kk : am_V ah_r l own cc nL ret nm R E (pc + 3) lv (am_R a :: st) S cells slots) : am_V ah_r l own cc nL ret nm R E pc lv (am_R a :: st) S cells slots := by
  intro G p e s m args below meth c H locs ls F hr hS hl'
  obtain ⟨f1, f2, f3, f4, f5, f6, f7, f8, f9, f10⟩ := F
  intro T hT X
  have c0 : H[G.2.2.1 a]? = some (arrV (G.2.1 2) n (fun j => .int (f j))) := ah_strong hr hc hX
  have ht := f9.1.2 2 _ (am_tys_at G.2.1 (by decide))
  obtain ⟨vm', X', stp⟩ := X.checkcastYes f1 f7 (f8 _ hl) (by rw [hT]; exact c0) rfl ht.2 (va_asg _ _) (g := F0 m pc ls (.ref (G.2.2.1 a) :: st.map (am_c G.2.2.1))) rfl rfl (by rw [f2]; exact hd)
  obtain ⟨t, a1, b1⟩ := kk G p e s m args below meth c H locs ls ⟨f1, f2, f3, f4, f5, f6, f7, f8, f9, f10⟩ hr hS hl' (T.setVm vm') hT X'
  exact ⟨t, stp t a1, b1⟩
end AYC
/-- the whole of an array of bytes: it is cloned -/
theorem bJ11_copyOfRange_C {l : Launch} {mc ms : Nat} {Q : Option am_W → ah_H → Prop} {S : ah_H} (v0 : Nat) (v2 : Int) (h2 : am_r v2)
    (hh : ∃ (n : Nat) (f : Nat → Int32), S.1 v0 = some (.inr (2, n, .inl f)) ∧ v2 = (n : Int) ∧ ah_X ≤ v0 ∧ ah_X ≤ S.2 ∧ (∀ i : Nat, i < n → fits (am_ty 2) (.int (f i)) = true) ∧ 1 ≤ mc ∧ n ≤ ms ∧ Q (some (am_R S.2)) (ah_mk S (.inr (2, n, .inl f)))) : kJ11_copyOfRange l mc ms [am_R v0, am_I 0, am_I v2] S Q := by
  obtain ⟨n, f, ha, rfl, hX, hX2, hfit, hmc, hms, hQ⟩ := hh
  refine am_entry (lv := [(0, am_R v0), (1, am_I 0), (2, am_I (n : Int))]) rfl rfl rfl (fun _ => rfl) (fun _ => Nat.le_of_ble_eq_true rfl) ?_
  refine am_iload_n dJ11_copyOfRange_0 rfl 1 rfl ?_
  refine am_if_ne (tgt := 10) dJ11_copyOfRange_1 (by decide) ⟨by decide, by decide⟩ (fun hc3 => absurd rfl hc3) (fun hc3 => ?_)
  refine am_iload_n dJ11_copyOfRange_4 rfl 2 rfl ?_
  refine am_aload_n dJ11_copyOfRange_5 rfl 0 rfl ?_
  refine ah_alen ha dJ11_copyOfRange_6 (fun hn14 => ?_)
  refine am_icmp_eq (tgt := 17) dJ11_copyOfRange_7 (by decide) h2 hn14 (fun hc17 => ?_) (fun hc17 => absurd rfl hc17)
  refine am_aload_n dJ11_copyOfRange_17 rfl 0 rfl ?_
  refine ah_cloneB ha hX hfit q921 q922 q923 q924 q925 (List.mem_filter.mpr ⟨q926, rfl⟩) (Nat.le_of_ble_eq_true rfl) (Nat.le_of_ble_eq_true rfl) (by show 0 + 1 ≤ mc; omega) (by show 0 + n ≤ ms; omega) dJ11_copyOfRange_18 ?_
  refine ah_castB (n := n) (f := f) (if_pos rfl) hX2 q927 dJ11_copyOfRange_21 ?_
  exact am_aret rfl (by first | exact Or.inl ⟨_, rfl⟩ | exact Or.inr ⟨_, rfl⟩) dJ11_copyOfRange_24 (by show 0 + 1 ≤ mc; omega) (by show 0 + n ≤ ms; omega) hQ
