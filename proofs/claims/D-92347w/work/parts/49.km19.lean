def z_byte (w : Int) (k : Nat) : Nat := (am_l2i (am_landL (am_lshr w (8 * (k : Int))) 255)).toNat
def z_putb (Z : sp_Z) (b : Nat) : sp_Z := z_G Z (zP Z + 1, va_up (zPf Z) (zP Z) b)
def z_feed (w : Int) : Nat → sp_Z → sp_Z
  | 0, Z => Z
  | m + 1, Z => z_feed w m (z_putb Z (z_byte w m))
def zo_feed (Z : sp_Z) (w n : Int) : Int × sp_Z := if 1 ≤ n ∧ n ≤ 8 then if 300 < (zP Z : Int) + n then (-1000003, Z) else ((zP Z : Int) + n, z_feed w n.toNat Z) else (-1000001, Z)
/-! THE WORDS OF A TEXT -/
def sp_scan (g : Nat → Bool) (L : Nat) : Nat → Nat
  | 0 => L
  | m + 1 => if g (L - (m + 1)) = true then sp_scan g L m else L - (m + 1)
theorem sp_scan_yes {g : Nat → Bool} {L p : Nat} (h : p < L) (hg : g p = true) : sp_scan g L (L - p) = sp_scan g L (L - (p + 1)) := by
  obtain ⟨m, hm⟩ : ∃ m, L - p = m + 1 := ⟨L - p - 1, by omega⟩
  rw [hm, sp_scan, show L - (m + 1) = p by omega, if_pos hg, show L - (p + 1) = m by omega]
theorem sp_scan_no {g : Nat → Bool} {L p : Nat} (h : p < L) (hg : g p = false) : sp_scan g L (L - p) = p := by
  obtain ⟨m, hm⟩ : ∃ m, L - p = m + 1 := ⟨L - p - 1, by omega⟩
  rw [hm, sp_scan, show L - (m + 1) = p by omega, if_neg (by rw [hg]; decide)]
theorem sp_scan_end {g : Nat → Bool} {L : Nat} : sp_scan g L (L - L) = L := by
  rw [Nat.sub_self, sp_scan]
theorem sp_scan_all {g : Nat → Bool} {L : Nat} (m : Nat) (hm : m ≤ L) : L - m ≤ sp_scan g L m ∧ sp_scan g L m ≤ L ∧ ∀ i, L - m ≤ i → i < sp_scan g L m → g i = true := by
  induction m with
  | zero => exact ⟨Nat.le_refl _, Nat.le_refl _, fun i h1 h2 => absurd h2 (by rw [sp_scan]; omega)⟩
  | succ m ih =>
    obtain ⟨i1, i2, i3⟩ := ih (by omega)
    rw [sp_scan]
    split
    · rename_i hg
      refine ⟨by omega, i2, fun i h1 h2 => ?_⟩
      by_cases e : i = L - (m + 1)
      · rw [e]; exact hg
      · exact i3 i (by omega) h2
    · exact ⟨Nat.le_refl _, by omega, fun i h1 h2 => by omega⟩
def z_sp (b : Nat) : Bool := b == 32 || b == 10
def z_let1 (b : Nat) : Bool := decide (97 ≤ b ∧ b ≤ 122)
def z_fig (b : Nat) : Bool := decide (48 ≤ b ∧ b ≤ 57)
/-- the word that begins at q, where no space is: its kind, where it begins, where it ends -/
def z_tok2 (f : Nat → Nat) (L q : Nat) : Nat × Nat × Nat := if L ≤ q then (1, q, q) else if z_let1 (f q) = true then (2, q, sp_scan (fun i => z_let1 (f i)) L (L - q)) else if z_fig (f q) = true then (if sp_scan (fun i => z_fig (f i)) L (L - q) - q ≤ 3 then 3 else 0, q, sp_scan (fun i => z_fig (f i)) L (L - q)) else (if f q = 59 then 4 else 0, q, q + 1)
def z_tok (f : Nat → Nat) (L p : Nat) : Nat × Nat × Nat := z_tok2 f L (sp_scan (fun i => z_sp (f i)) L (L - p))
theorem z_tok_ok {f : Nat → Nat} {L p : Nat} (hp : p ≤ L) : (z_tok f L p).1 ≤ 4 ∧ p ≤ (z_tok f L p).2.1 ∧ (z_tok f L p).2.1 ≤ (z_tok f L p).2.2 ∧ (z_tok f L p).2.2 ≤ L ∧ ((z_tok f L p).1 = 2 → ∀ i, (z_tok f L p).2.1 ≤ i → i < (z_tok f L p).2.2 → z_let1 (f i) = true) ∧ ((z_tok f L p).1 = 3 → (z_tok f L p).2.2 ≤ (z_tok f L p).2.1 + 3 ∧ ∀ i, (z_tok f L p).2.1 ≤ i → i < (z_tok f L p).2.2 → z_fig (f i) = true) := by
  obtain ⟨s1, s2, s3⟩ := sp_scan_all (g := fun i => z_sp (f i)) (L := L) (L - p) (by omega)
  unfold z_tok
  generalize sp_scan (fun i => z_sp (f i)) L (L - p) = q at *
  unfold z_tok2
  split
  · exact ⟨show (1 : Nat) ≤ 4 by decide, by show p ≤ q; omega, Nat.le_refl q, s2, fun h => absurd h (show ¬ (1 : Nat) = 2 by decide), fun h => absurd h (show ¬ (1 : Nat) = 3 by decide)⟩
  · split
    · obtain ⟨a1, a2, a3⟩ := sp_scan_all (g := fun i => z_let1 (f i)) (L := L) (L - q) (by omega)
      exact ⟨show (2 : Nat) ≤ 4 by decide, by show p ≤ q; omega, by show q ≤ sp_scan _ L (L - q); omega, a2, fun _ i h1 h2 => a3 i (by have h1 : q ≤ i := h1; omega) h2, fun h => absurd h (show ¬ (2 : Nat) = 3 by decide)⟩
    · split
      · obtain ⟨a1, a2, a3⟩ := sp_scan_all (g := fun i => z_fig (f i)) (L := L) (L - q) (by omega)
        refine ⟨?_, by show p ≤ q; omega, by show q ≤ sp_scan _ L (L - q); omega, a2, fun h => ?_, fun h => ⟨?_, fun i h1 h2 => a3 i (by have h1 : q ≤ i := h1; omega) h2⟩⟩
        · show (if _ then 3 else 0) ≤ 4
          split <;> decide
        · have h : (if sp_scan (fun i => z_fig (f i)) L (L - q) - q ≤ 3 then 3 else 0) = 2 := h
          split at h <;> exact absurd h (by decide)
        · have h : (if sp_scan (fun i => z_fig (f i)) L (L - q) - q ≤ 3 then 3 else 0) = 3 := h
          show sp_scan (fun i => z_fig (f i)) L (L - q) ≤ q + 3
          split at h
          · omega
          · exact absurd h (by decide)
      · refine ⟨?_, by show p ≤ q; omega, by show q ≤ q + 1; omega, by show q + 1 ≤ L; omega, fun h => ?_, fun h => ?_⟩
        · show (if _ then 4 else 0) ≤ 4
          split <;> decide
        · have h : (if f q = 59 then 4 else 0) = 2 := h
          split at h <;> exact absurd h (by decide)
        · have h : (if f q = 59 then 4 else 0) = 3 := h
          split at h <;> exact absurd h (by decide)
section KM19
variable {l : Launch} {S : am_M} {Z : sp_Z} {f : Nat → Nat} {L : Nat}
theorem z_byte_le (w : Int) (k : Nat) : z_byte w k ≤ 255 := by
  have := bl_and (am_lshr w (8 * (k : Int)))
  unfold z_byte
  omega
theorem mr.putb (h : mr S Z) (hp : zP Z < 300) {b : Nat} {x : Int} (hb : b ≤ 255) (hx : x = b) : mr (am_sv (am_sa S 13 (zP Z) x) 7 ((zP Z : Int) + 1)) (z_putb Z b) := by
  obtain ⟨z, za, zb, zc, zd, ze, zf, zg, zj, zy⟩ := h
  refine ⟨⟨z.1, z.2.1, z.2.2.1, z.2.2.2.1, z.2.2.2.2.1, z.2.2.2.2.2.1, ⟨by show zP Z + 1 ≤ 300; omega, fun i hi => ?_⟩, z.2.2.2.2.2.2.2⟩, za, zb, zc, zd, ze, zf, ⟨?_, fun i hi => ?_⟩, zj, zy⟩
  · show va_up (zPf Z) (zP Z) b i ≤ 255
    have hi : i < zP Z + 1 := hi
    rw [up_if]
    split
    · exact hb
    · exact z.2.2.2.2.2.2.1.2 i (by omega)
  · show (va_up S.1 7 (Int32.ofInt ((zP Z : Int) + 1)) 7).toInt = (zP Z + 1 : Nat)
    rw [up_at, am_ti ⟨by omega, by omega⟩]
    omega
  · show (va_up (S.2 13) (zP Z : Int).toNat (Int32.ofInt x) i).toInt = (va_up (zPf Z) (zP Z) b i : Nat)
    have hi : i < zP Z + 1 := hi
    rw [Int.toNat_natCast, up_if, up_if, hx]
    split
    · exact am_ti (am_rN (by omega))
    · exact zg.2 i (by omega)
theorem mr.eP (h : mr S Z) : (S.1 7).toInt = zP Z := h.2.2.2.2.2.2.2.1.1
theorem z_feed_P (w : Int) (m : Nat) (Z : sp_Z) : zP (z_feed w m Z) = zP Z + m := by
  induction m generalizing Z with
  | zero => rfl
  | succ m ih =>
    rw [z_feed, ih]
    show zP Z + 1 + m = _
    omega
theorem km_feed_40 {w : Int} {m : Nat} {P : Int → am_M → Prop} (h : mr S Z) (hw : am_r64 w) (hm : m ≤ 8) (hp : zP Z + m ≤ 300) (hP : ∀ S', mr S' (z_feed w m Z) → P ((zP Z + m : Nat) : Int) S') :
    VX3_feed l (am_qi P) 40 [(0, am_R 0), (1, am_J w), (4, am_I ((m : Int) - 1))] [] S := by
  induction m generalizing S Z with
  | zero =>
    have e := h.eP
    refine bX3_feed_40 _ hw _ ⟨by omega, by omega⟩ ⟨fun _ => ?_, fun z => absurd z (by omega)⟩
    rw [e]
    exact am_qi_mk (am_rN (by omega)) (hP S h)
  | succ m ih =>
    have e := h.eP
    refine bX3_feed_40 _ hw _ ⟨by omega, by omega⟩ ⟨fun z => absurd z (by omega), fun _ => ⟨by omega, ?_⟩⟩
    rw [e, show (((m + 1 : Nat) : Int) - 1 + -1) = (m : Int) - 1 by omega, show (((m + 1 : Nat) : Int) - 1) = (m : Int) by omega]
    have hb := bl_and (am_lshr w (8 * (m : Int)))
    refine ih (h.putb (by omega) (z_byte_le w m) ?_) (by omega) (by show zP Z + 1 + m ≤ 300; omega) (fun S' m' => ?_)
    · unfold z_byte
      omega
    · have := hP S' m'
      rw [show zP Z + (m + 1) = zP (z_putb Z (z_byte w m)) + m by show _ = zP Z + 1 + m; omega] at this
      exact this
theorem km_feed {w n : Int} {P : Int → am_M → Prop} (h : mr S Z) (hw : am_r64 w) (hn : am_r n) (hP : ∀ S', mr S' (zo_feed Z w n).2 → P (zo_feed Z w n).1 S') : kX3_feed l [am_R 0, am_J w, am_I n] S (am_qi P) := by
  have P3 := h.1.2.2.2.2.2.2.1.1
  have e := h.eP
  have n1 := hn.1
  have n2 := hn.2
  unfold zo_feed at hP
  refine bX3_feed _ hw _ hn (km_in ⟨fun h1 => ⟨?_, fun h2 => ?_, fun h2 => ?_⟩, fun h1 => ?_⟩)
  · have h1 := of_decide_eq_true h1
    show am_r ((S.1 7).toInt + n)
    rw [e]
    exact ⟨by omega, by omega⟩
  · have h1 := of_decide_eq_true h1
    have h2 : (S.1 7).toInt + n ≤ 300 := h2
    rw [e] at h2
    rw [if_pos h1, if_neg (by omega)] at hP
    obtain ⟨n, rfl⟩ : ∃ q : Nat, n = q := ⟨n.toNat, by omega⟩
    rw [Int.toNat_natCast] at hP
    exact km_feed_40 h.th hw (by omega) (by omega) (fun S' m' => by have := hP S' m'; rw [show ((zP Z + n : Nat) : Int) = (zP Z : Int) + n by omega]; exact this)
  · have h1 := of_decide_eq_true h1
    have h2 : ¬ (S.1 7).toInt + n ≤ 300 := h2
    rw [e] at h2
    rw [if_pos h1, if_pos (by omega)] at hP
    exact am_qi_mk ⟨by decide, by decide⟩ (hP _ h.th)
  · rw [if_neg (of_decide_eq_false h1)] at hP
    exact am_qi_mk ⟨by decide, by decide⟩ (hP _ h.th)
/-! the reader of the model -/
def mp_b (S : am_M) (f : Nat → Nat) (L : Nat) : Prop := (S.1 9).toInt = L ∧ L ≤ 300 ∧ ∀ i, i < L → (S.2 13 i).toInt = f i ∧ f i ≤ 255
def mp_fr (S S' : am_M) : Prop := S'.2 = S.2 ∧ ∀ j, j < 10 ∨ 13 < j → S'.1 j = S.1 j
def mp_t (S : am_M) (tk : Nat × Nat × Nat) : Prop := (S.1 11).toInt = tk.1 ∧ (S.1 12).toInt = tk.2.1 ∧ (S.1 13).toInt = tk.2.2 ∧ (S.1 10).toInt = tk.2.2
theorem mp_fr.refl (S : am_M) : mp_fr S S := ⟨rfl, fun _ _ => rfl⟩
theorem mp_fr.trans {S S1 S2 : am_M} (h : mp_fr S S1) (k : mp_fr S1 S2) : mp_fr S S2 := ⟨k.1.trans h.1, fun j hj => (k.2 j hj).trans (h.2 j hj)⟩
theorem mp_fr.sv (S : am_M) {i : Nat} (x : Int) (h1 : 10 ≤ i) (h2 : i ≤ 13) : mp_fr S (am_sv S i x) := ⟨rfl, fun j hj => up_ne _ _ (by omega)⟩
theorem mp_fr.b {S' : am_M} (h : mp_fr S S') (b : mp_b S f L) : mp_b S' f L := by
  unfold mp_b
  rw [h.1, h.2 9 (by omega)]
  exact b
theorem sv_at (S : am_M) (j : Nat) {x : Int} (hx : am_r x) : ((am_sv S j x).1 j).toInt = x := by
  show (va_up S.1 j (Int32.ofInt x) j).toInt = x
  rw [up_at]
  exact am_ti hx
theorem sv_ne (S : am_M) {i j : Nat} (x : Int) (h : i ≠ j) : (am_sv S j x).1 i = S.1 i := up_ne _ _ h
theorem km_byteAt {k : Nat} {P : Int → am_M → Prop} (b : mp_b S f L) (hk : k ≤ L) (hP : P (if k < L then (f k : Int) else -1000000) S) : kX3_byteAt l [am_R 0, am_I k] S (am_qi P) := by
  obtain ⟨b1, b2, b3⟩ := b
  refine bX3_byteAt _ (by first | exact am_rN (by omega) | exact ⟨by omega, by omega⟩ | assumption) ⟨fun h => ?_, fun h => ⟨by omega, ?_⟩⟩
  · rw [if_neg (by omega)] at hP
    exact am_qi_mk ⟨by decide, by decide⟩ hP
  · obtain ⟨c1, c2⟩ := b3 k (by omega)
    rw [if_pos (by omega)] at hP
    rw [Int.toNat_natCast, c1]
    exact am_qi_mk (am_rN (by omega)) hP
theorem km_isLetter {v : Int} {P : Bool → am_M → Prop} (hv : am_r v) (hP : P (decide (97 ≤ v ∧ v ≤ 122)) S) : kX3_isLetter l [am_I v] S (am_qz P) := by
  refine bX3_isLetter _ (by first | exact am_rN (by omega) | exact ⟨by omega, by omega⟩ | assumption) ⟨fun h => ?_, fun h => ⟨fun h2 => ?_, fun h2 => ?_⟩⟩
  · rw [decide_eq_false (by omega)] at hP
    exact am_qz_mk hP
  · rw [decide_eq_false (by omega)] at hP
    exact am_qz_mk hP
  · rw [decide_eq_true (by omega)] at hP
    exact am_qz_mk hP
theorem km_isFigure {v : Int} {P : Bool → am_M → Prop} (hv : am_r v) (hP : P (decide (48 ≤ v ∧ v ≤ 57)) S) : kX3_isFigure l [am_I v] S (am_qz P) := by
  refine bX3_isFigure _ (by first | exact am_rN (by omega) | exact ⟨by omega, by omega⟩ | assumption) ⟨fun h => ?_, fun h => ⟨fun h2 => ?_, fun h2 => ?_⟩⟩
  · rw [decide_eq_false (by omega)] at hP
    exact am_qz_mk hP
  · rw [decide_eq_false (by omega)] at hP
    exact am_qz_mk hP
  · rw [decide_eq_true (by omega)] at hP
    exact am_qz_mk hP
theorem km_step_77 {p q : Nat} {S0 : am_M} {P : am_M → Prop} (b : mp_b S f L) (hf : mp_fr S0 S) (hc : (S.1 10).toInt = p) (h12 : (S.1 12).toInt = q) (hp : p ≤ L) (hP : ∀ S', mp_fr S0 S' → mp_t S' (2, q, sp_scan (fun i => z_let1 (f i)) L (L - p)) → P S') :
    VX3_step l (am_qv P) 77 [(0, am_R 0)] [] S := by
  have hL := b.2.1
  generalize hm : L - p = m at hP
  induction m generalizing p S with
  | zero =>
    refine bX3_step_77 ?_
    rw [hc]
    refine km_byteAt b hp ?_
    rw [if_neg (by omega)]
    refine km_isLetter ⟨by decide, by decide⟩ ⟨fun _ => ?_, fun z => absurd z (by decide)⟩
    have ep : p = L := by omega
    rw [hc]
    refine am_qv_mk (hP _ (hf.trans ((mp_fr.sv S 2 (by decide) (by decide)).trans (mp_fr.sv _ _ (by decide) (by decide)))) ⟨?_, ?_, ?_, ?_⟩)
    · rw [sv_ne _ _ (by decide)]
      exact sv_at _ _ ⟨by decide, by decide⟩
    · exact h12
    · rw [sv_at _ _ (am_rN (by omega)), ep]
      rfl
    · show (S.1 10).toInt = _
      rw [hc, ep]
      rfl
  | succ m ih =>
    obtain ⟨c1, c2⟩ := b.2.2 p (by omega)
    refine bX3_step_77 ?_
    rw [hc]
    refine km_byteAt b hp ?_
    rw [if_pos (by omega)]
    refine km_isLetter (am_rN (by omega)) ⟨fun h1 => ?_, fun h1 => ?_⟩
    · have h1 := of_decide_eq_false h1
      have e : z_let1 (f p) = false := decide_eq_false (by omega)
      have es : sp_scan (fun i => z_let1 (f i)) L (m + 1) = p := by
        rw [← hm]
        exact sp_scan_no (by omega) e
      rw [es] at hP
      rw [hc]
      refine am_qv_mk (hP _ (hf.trans ((mp_fr.sv S 2 (by decide) (by decide)).trans (mp_fr.sv _ _ (by decide) (by decide)))) ⟨?_, ?_, ?_, ?_⟩)
      · rw [sv_ne _ _ (by decide)]
        exact sv_at _ _ ⟨by decide, by decide⟩
      · exact h12
      · exact sv_at _ _ (am_rN (by omega))
      · exact hc
    · have h1 := of_decide_eq_true h1
      have e : z_let1 (f p) = true := decide_eq_true (by omega)
      have es : sp_scan (fun i => z_let1 (f i)) L (m + 1) = sp_scan (fun i => z_let1 (f i)) L m := by
        rw [← hm, show m = L - (p + 1) by omega]
        exact sp_scan_yes (by omega) e
      rw [es] at hP
      rw [hc]
      refine ih (p := p + 1) ((mp_fr.sv S _ (by decide) (by decide)).b b) (hf.trans (mp_fr.sv S _ (by decide) (by decide))) ?_ h12 (by omega) (by omega) hP
      rw [sv_at _ _ ⟨by omega, by omega⟩]
      omega
theorem km_step_119 {p q : Nat} {S0 : am_M} {P : am_M → Prop} (b : mp_b S f L) (hf : mp_fr S0 S) (hc : (S.1 10).toInt = p) (h12 : (S.1 12).toInt = q) (hp : p ≤ L) (hq : q ≤ p) (hP : ∀ S', mp_fr S0 S' → mp_t S' (if sp_scan (fun i => z_fig (f i)) L (L - p) - q ≤ 3 then 3 else 0, q, sp_scan (fun i => z_fig (f i)) L (L - p)) → P S') :
    VX3_step l (am_qv P) 119 [(0, am_R 0)] [] S := by
  have hL := b.2.1
  have fin : ∀ (S : am_M) (p : Nat), mp_fr S0 S → (S.1 10).toInt = p → (S.1 12).toInt = q → q ≤ p → p ≤ 300 → (∀ S', mp_fr S0 S' → mp_t S' (if p - q ≤ 3 then 3 else 0, q, p) → P S') →
      (am_r ((S.1 10).toInt - (S.1 12).toInt)) ∧ ((((S.1 10).toInt - (S.1 12).toInt) ≤ 3) → am_qv P none (am_sv (am_sv S 11 3) 13 ((S.1 10).toInt))) ∧ ((¬ ((S.1 10).toInt - (S.1 12).toInt) ≤ 3) → am_qv P none (am_sv (am_sv S 11 0) 13 ((S.1 10).toInt))) := by
    intro S p hf hc h12 hq hp hP
    rw [hc, h12]
    have key : ∀ x : Int, am_r x → x = ((if p - q ≤ 3 then 3 else 0 : Nat) : Int) → am_qv P none (am_sv (am_sv S 11 x) 13 p) := by
      intro x hx ex
      refine am_qv_mk (hP _ (hf.trans ((mp_fr.sv S x (by decide) (by decide)).trans (mp_fr.sv _ _ (by decide) (by decide)))) ⟨?_, h12, sv_at _ _ (am_rN (by omega)), hc⟩)
      rw [sv_ne _ _ (by decide), sv_at _ _ hx]
      exact ex
    refine ⟨⟨by omega, by omega⟩, fun h1 => key 3 ⟨by decide, by decide⟩ ?_, fun h1 => key 0 ⟨by decide, by decide⟩ ?_⟩
    · rw [if_pos (by omega)]
      rfl
    · rw [if_neg (by omega)]
      rfl
  generalize hm : L - p = m at hP
  induction m generalizing p S with
  | zero =>
    refine bX3_step_119 ?_
    rw [hc]
    refine km_byteAt b hp ?_
    rw [if_neg (by omega)]
    refine km_isFigure ⟨by decide, by decide⟩ ⟨fun _ => fin S p hf hc h12 hq (by omega) ?_, fun z => absurd z (by decide)⟩
    have ep : p = L := by omega
    rw [ep]
    exact hP
  | succ m ih =>
    obtain ⟨c1, c2⟩ := b.2.2 p (by omega)
    refine bX3_step_119 ?_
    rw [hc]
    refine km_byteAt b hp ?_
    rw [if_pos (by omega)]
    refine km_isFigure (am_rN (by omega)) ⟨fun h1 => ?_, fun h1 => ?_⟩
    · have h1 := of_decide_eq_false h1
      have e : z_fig (f p) = false := decide_eq_false (by omega)
      have es : sp_scan (fun i => z_fig (f i)) L (m + 1) = p := by
        rw [← hm]
        exact sp_scan_no (by omega) e
      rw [es] at hP
      exact fin S p hf hc h12 hq (by omega) hP
    · have h1 := of_decide_eq_true h1
      have e : z_fig (f p) = true := decide_eq_true (by omega)
      have es : sp_scan (fun i => z_fig (f i)) L (m + 1) = sp_scan (fun i => z_fig (f i)) L m := by
        rw [← hm, show m = L - (p + 1) by omega]
        exact sp_scan_yes (by omega) e
      rw [es] at hP
      rw [hc]
      refine ih (p := p + 1) ((mp_fr.sv S _ (by decide) (by decide)).b b) (hf.trans (mp_fr.sv S _ (by decide) (by decide))) ?_ h12 (by omega) (by omega) (by omega) hP
      rw [sv_at _ _ ⟨by omega, by omega⟩]
      omega
theorem km_step_0 {p : Nat} {S0 : am_M} {P : am_M → Prop} (b : mp_b S f L) (hf : mp_fr S0 S) (hc : (S.1 10).toInt = p) (hp : p ≤ L) (hP : ∀ S', mp_fr S0 S' → mp_t S' (z_tok f L p) → P S') :
    VX3_step l (am_qv P) 0 [(0, am_R 0)] [] S := by
  have hL := b.2.1
  generalize hm : L - p = m
  induction m generalizing p S with
  | zero =>
    have ep : p = L := by omega
    subst ep
    have et : z_tok f p p = (1, p, p) := by
      unfold z_tok
      rw [sp_scan_end]
      unfold z_tok2
      rw [if_pos (Nat.le_refl _)]
    rw [et] at hP
    refine bX3_step_0 ?_
    rw [hc]
    refine km_byteAt b hp ?_
    rw [if_neg (by omega)]
    refine ⟨fun z => absurd z (by decide), fun _ => ?_⟩
    rw [hc]
    refine km_byteAt b hp ?_
    rw [if_neg (by omega)]
    refine ⟨fun _ => ?_, fun z => absurd z (by decide)⟩
    rw [hc]
    refine km_byteAt ((mp_fr.sv S _ (by decide) (by decide)).b b) hp ?_
    rw [if_neg (by omega)]
    refine ⟨fun z => absurd rfl z, fun _ => ?_⟩
    have e10 : ((am_sv S 12 (p : Int)).1 10).toInt = p := hc
    rw [e10]
    refine am_qv_mk (hP _ (hf.trans ((mp_fr.sv S p (by decide) (by decide)).trans ((mp_fr.sv _ 1 (by decide) (by decide)).trans (mp_fr.sv _ _ (by decide) (by decide))))) ⟨?_, ?_, ?_, hc⟩)
    · rw [sv_ne _ _ (by decide)]
      exact sv_at _ _ ⟨by decide, by decide⟩
    · rw [sv_ne _ _ (by decide), sv_ne _ _ (by decide)]
      exact sv_at _ _ (am_rN (by omega))
    · exact sv_at _ _ (am_rN (by omega))
  | succ m ih =>
    obtain ⟨c1, c2⟩ := b.2.2 p (by omega)
    have space : z_sp (f p) = true → VX3_step l (am_qv P) 0 [(0, am_R 0)] [] (am_sv S 10 ((p : Int) + 1)) := by
      intro hs
      have et : z_tok f L p = z_tok f L (p + 1) := by
        unfold z_tok
        rw [sp_scan_yes (g := fun i => z_sp (f i)) (p := p) (by omega) hs]
      rw [et] at hP
      refine ih (p := p + 1) ((mp_fr.sv S _ (by decide) (by decide)).b b) (hf.trans (mp_fr.sv S _ (by decide) (by decide))) ?_ (by omega) hP (by omega)
      rw [sv_at _ _ ⟨by omega, by omega⟩]
      omega
    refine bX3_step_0 ?_
    rw [hc]
    refine km_byteAt b hp ?_
    rw [if_pos (by omega)]
    refine ⟨fun h1 => ?_, fun h1 => ?_⟩
    · rw [hc]
      refine space ?_
      unfold z_sp
      simp
      omega
    rw [hc]
    refine km_byteAt b hp ?_
    rw [if_pos (by omega)]
    refine ⟨fun h2 => ?_, fun h2 => ?_⟩
    · rw [hc]
      have et : z_tok f L p = z_tok2 f L p := by
        unfold z_tok
        rw [sp_scan_no (by omega)]
        unfold z_sp
        simp
        omega
      rw [et] at hP
      unfold z_tok2 at hP
      rw [if_neg (by omega)] at hP
      have b2 := (mp_fr.sv S p (by decide) (by decide) : mp_fr S (am_sv S 12 p)).b b
      have f2 := hf.trans (mp_fr.sv S p (by decide) (by decide) : mp_fr S (am_sv S 12 p))
      have h12 : ((am_sv S 12 (p : Int)).1 12).toInt = p := sv_at _ _ (am_rN (by omega))
      have e10 : ((am_sv S 12 (p : Int)).1 10).toInt = p := hc
      refine km_byteAt b2 hp ?_
      rw [if_pos (by omega)]
      refine ⟨fun _ => km_isLetter (am_rN (by omega)) ⟨fun h3 => km_isFigure (am_rN (by omega)) ⟨fun h4 => ?_, fun h4 => ?_⟩, fun h3 => ?_⟩, fun z => absurd z (by omega)⟩
      · have h3 := of_decide_eq_false h3
        have h4 := of_decide_eq_false h4
        rw [if_neg (by rw [show z_let1 (f p) = false from decide_eq_false (by omega)]; decide), if_neg (by rw [show z_fig (f p) = false from decide_eq_false (by omega)]; decide)] at hP
        rw [e10, show (p : Int) + 1 = ((p + 1 : Nat) : Int) by omega, am_ti (am_rN (by omega))]
        have key : ∀ x : Int, am_r x → x = ((if f p = 59 then 4 else 0 : Nat) : Int) → am_qv P none (am_sv (am_sv (am_sv (am_sv S 12 p) 10 ((p + 1 : Nat) : Int)) 11 x) 13 ((p + 1 : Nat) : Int)) := by
          intro x hx ex
          refine am_qv_mk (hP _ (f2.trans ((mp_fr.sv _ _ (by decide) (by decide)).trans ((mp_fr.sv _ x (by decide) (by decide)).trans (mp_fr.sv _ _ (by decide) (by decide))))) ⟨?_, h12, sv_at _ _ (am_rN (by omega)), ?_⟩)
          · rw [sv_ne _ _ (by decide), sv_at _ _ hx]
            exact ex
          · rw [sv_ne _ _ (by decide), sv_ne _ _ (by decide)]
            exact sv_at _ _ (am_rN (by omega))
        refine ⟨fun h5 => key 0 ⟨by decide, by decide⟩ ?_, fun h5 => key 4 ⟨by decide, by decide⟩ ?_⟩
        · rw [if_neg (by omega)]
          rfl
        · rw [if_pos (by omega)]
          rfl
      · have h3 := of_decide_eq_false h3
        have h4 := of_decide_eq_true h4
        rw [if_neg (by rw [show z_let1 (f p) = false from decide_eq_false (by omega)]; decide), if_pos (show z_fig (f p) = true from decide_eq_true (by omega))] at hP
        exact km_step_119 b2 f2 e10 h12 hp (Nat.le_refl _) hP
      · have h3 := of_decide_eq_true h3
        rw [if_pos (show z_let1 (f p) = true from decide_eq_true (by omega))] at hP
        exact km_step_77 b2 f2 e10 h12 hp hP
    · rw [hc]
      refine space ?_
      unfold z_sp
      simp
      omega
theorem km_step {p : Nat} {P : am_M → Prop} (b : mp_b S f L) (hc : (S.1 10).toInt = p) (hp : p ≤ L) (hP : ∀ S', mp_fr S S' → mp_t S' (z_tok f L p) → P S') : kX3_step l [am_R 0] S (am_qv P) :=
  bX3_step (km_step_0 b (mp_fr.refl S) hc hp hP)
end KM19
