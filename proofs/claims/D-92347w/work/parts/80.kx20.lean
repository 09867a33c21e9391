section KX20
variable {l : Launch} {S : ah_H} {w : Nat → Nat} {Z : sp_Z} {tr : Nat}
abbrev xob (k : Nat) : List am_W := [am_I (k : Int), am_R 32, am_R 32]
abbrev xob4 (k : Nat) : List am_W := [am_I (k : Int), am_R 32, am_R 32, am_R 32]
/-- the object that a thing's kind makes -/
def xoc (Z : sp_Z) (k : Nat) : ah_C := .inl (9 + z_kind Z k, if z_kind Z k = 4 then xob4 k else xob k)
theorem xr_.obj (h : xr_ S w tr Z) (c : ah_C) (t : Nat) : xr_ (va_up S.1 S.2 (Option.some c), S.2 + 1) (xtg w S.2 (S.2 + 1) t) tr Z ∧ xtg w S.2 (S.2 + 1) t S.2 = t := by
  have b0 := h.2.1.1
  refine ⟨h.new ⟨⟨Nat.le_succ _, fun q hq => ?_⟩, fun q hq _ => ?_⟩ (fun q hq => (xtg_out (Or.inl (by omega))).trans (h.X.1 q hq)), xtg_in (Nat.le_refl _) (Nat.lt_succ_self _)⟩
  · have hq : S.2 + 1 ≤ q := hq
    exact (up_ne _ _ (by omega)).trans (h.2.1.2 q (by omega))
  · have := h.some hq
    exact ⟨up_ne _ _ (by omega), xtg_out (Or.inl this)⟩
theorem kx_asked {mc ms k : Nat} {P : Option Nat → ah_H → Prop} (h : xr_ S w tr Z) (hk : k < zn Z) (hmc : 1 ≤ mc) (hms : 4 ≤ ms) (hP : ∀ S' w' a, xr_ S' w' tr Z → 647 ≤ a → w' a = 14 → S'.1 a = some (xoc Z k) → P (some a) S') : kX0_asked l mc ms [am_R 32, am_I k] S (am_qo P) := by
  have n6 := h.n6
  have b0 := h.2.1.1
  have hX : ah_X ≤ S.2 := Nat.le_trans (show 32 ≤ 647 by decide) b0
  obtain ⟨-, f, g, a1, a2, a3⟩ := h.A
  have es : (f (k : Int).toNat).toInt = zs Z k := (a3 k hk).1
  have s4 := (h.1.1.2 k hk).1
  have fin : ∀ c, c = xoc Z k → am_qo P (some (am_R S.2)) (va_up S.1 S.2 (some c), S.2 + 1) := fun c e => by
    obtain ⟨r1, r2⟩ := h.obj c 14
    exact am_qo_mk (hP _ _ S.2 r1 b0 r2 (by rw [← e]; exact up_at S.1 S.2 _))
  unfold xoc z_kind at fin
  refine bX0_asked _ _ (by first | exact am_rN (by omega) | exact ⟨by omega, by omega⟩ | assumption) ⟨_, h.I.2, _, rfl, _, _, a1, ⟨by omega, by omega⟩, fun e => ⟨by omega, by omega, ?_⟩, fun e => ⟨by omega, by omega, ?_⟩, fun e => kx_isShut h hk ⟨fun hs => ⟨by omega, by omega, ?_⟩, fun hs => ⟨by omega, by omega, ?_⟩⟩, fun e => ⟨by omega, by omega, ?_⟩⟩
  · rw [es] at e
    rintro _ rfl
    refine bX11_init _ _ _ (by first | exact am_rN (by omega) | exact ⟨by omega, by omega⟩ | assumption) ⟨_, up_at S.1 S.2 _, hX, (show 2 < 3 by decide), ?_⟩
    rintro _ rfl
    refine bX10_init_X11 _ _ _ (by first | exact am_rN (by omega) | exact ⟨by omega, by omega⟩ | assumption) ⟨_, up_at (ah_mk S _).1 S.2 _, hX, (show 1 < 3 by decide), ?_⟩
    rintro _ rfl
    refine ⟨_, up_at (ah_sf (ah_mk S _) _ _ _ _ _).1 S.2 _, (show 0 < 3 by decide), ?_⟩
    rintro _ rfl
    refine am_qv_mk (am_qv_mk ?_)
    simp only [ah_sf, ah_mk, up_up]
    exact fin _ (by rw [if_neg (by omega), if_pos (by omega)]; rfl)
  · rw [es] at e
    rintro _ rfl
    refine bX12_init _ _ _ (by first | exact am_rN (by omega) | exact ⟨by omega, by omega⟩ | assumption) ⟨_, up_at S.1 S.2 _, hX, (show 2 < 3 by decide), ?_⟩
    rintro _ rfl
    refine bX10_init_X12 _ _ _ (by first | exact am_rN (by omega) | exact ⟨by omega, by omega⟩ | assumption) ⟨_, up_at (ah_mk S _).1 S.2 _, hX, (show 1 < 3 by decide), ?_⟩
    rintro _ rfl
    refine ⟨_, up_at (ah_sf (ah_mk S _) _ _ _ _ _).1 S.2 _, (show 0 < 3 by decide), ?_⟩
    rintro _ rfl
    refine am_qv_mk (am_qv_mk ?_)
    simp only [ah_sf, ah_mk, up_up]
    exact fin _ (by rw [if_neg (by omega), if_neg (by omega), if_pos (by omega)]; rfl)
  · rw [es] at e
    have hs := of_decide_eq_false hs
    unfold z_kind at hs
    rintro _ rfl
    refine bX13_init_X13 _ _ _ (by first | exact am_rN (by omega) | exact ⟨by omega, by omega⟩ | assumption) ⟨_, up_at S.1 S.2 _, hX, (show 2 < 3 by decide), ?_⟩
    rintro _ rfl
    refine bX10_init_X13 _ _ _ (by first | exact am_rN (by omega) | exact ⟨by omega, by omega⟩ | assumption) ⟨_, up_at (ah_mk S _).1 S.2 _, hX, (show 1 < 3 by decide), ?_⟩
    rintro _ rfl
    refine ⟨_, up_at (ah_sf (ah_mk S _) _ _ _ _ _).1 S.2 _, (show 0 < 3 by decide), ?_⟩
    rintro _ rfl
    refine am_qv_mk (am_qv_mk ?_)
    simp only [ah_sf, ah_mk, up_up]
    rw [if_pos (by omega)] at fin hs
    refine fin _ ?_
    by_cases q : z_isShut Z k = true
    · rw [if_pos q] at hs
      exact absurd rfl hs
    · rw [if_neg q]
      rfl
  · rw [es] at e
    have hs := of_decide_eq_true hs
    unfold z_kind at hs
    rintro _ rfl
    refine bX14_init _ _ _ (by first | exact am_rN (by omega) | exact ⟨by omega, by omega⟩ | assumption) ⟨_, up_at S.1 S.2 _, hX, (show 3 < 4 by decide), ?_⟩
    rintro _ rfl
    refine bX13_init_X14 _ _ _ (by first | exact am_rN (by omega) | exact ⟨by omega, by omega⟩ | assumption) ⟨_, up_at (ah_mk S _).1 S.2 _, hX, (show 2 < 4 by decide), ?_⟩
    rintro _ rfl
    refine bX10_init_X14 _ _ _ (by first | exact am_rN (by omega) | exact ⟨by omega, by omega⟩ | assumption) ⟨_, up_at (ah_sf (ah_mk S _) _ _ _ _ _).1 S.2 _, hX, (show 1 < 4 by decide), ?_⟩
    rintro _ rfl
    refine ⟨_, up_at (ah_sf (ah_sf (ah_mk S _) _ _ _ _ _) _ _ _ _ _).1 S.2 _, (show 0 < 4 by decide), ?_⟩
    rintro _ rfl
    refine am_qv_mk (am_qv_mk (am_qv_mk ?_))
    simp only [ah_sf, ah_mk, up_up]
    rw [if_pos (by omega)] at fin hs
    refine fin _ ?_
    by_cases q : z_isShut Z k = true
    · rw [if_pos q]
      rfl
    · rw [if_neg q] at hs
      exact absurd hs (by decide)
  · rw [es] at e
    rintro _ rfl
    refine bX15_init _ _ _ (by first | exact am_rN (by omega) | exact ⟨by omega, by omega⟩ | assumption) ⟨_, up_at S.1 S.2 _, hX, (show 2 < 3 by decide), ?_⟩
    rintro _ rfl
    refine bX10_init_X15 _ _ _ (by first | exact am_rN (by omega) | exact ⟨by omega, by omega⟩ | assumption) ⟨_, up_at (ah_mk S _).1 S.2 _, hX, (show 1 < 3 by decide), ?_⟩
    rintro _ rfl
    refine ⟨_, up_at (ah_sf (ah_mk S _) _ _ _ _ _).1 S.2 _, (show 0 < 3 by decide), ?_⟩
    rintro _ rfl
    refine am_qv_mk (am_qv_mk ?_)
    simp only [ah_sf, ah_mk, up_up]
    exact fin _ (by rw [if_neg (by omega), if_neg (by omega), if_neg (by omega)]; rfl)
theorem kx_kind {mc ms : Nat} {k : Int} {P : Int → ah_H → Prop} (h0 : xr S Z) (hk : am_r k) (hmc : 1 ≤ mc) (hms : 4 ≤ ms) (hP : ∀ S', xr S' (zo_kind Z k).2 → P (zo_kind Z k).1 S') : kX0_kind l mc ms [am_R 32, am_I k] S (am_qi P) := by
  obtain ⟨w, tr, h⟩ := h0
  have n6 := h.n6
  unfold zo_kind at hP
  refine bX0_kind _ _ (by first | exact am_rN (by omega) | exact ⟨by omega, by omega⟩ | assumption) ⟨_, h.I.2, kx_isThing h hk ⟨fun h1 => ?_, fun h1 => ?_⟩⟩
  · rw [if_neg (of_decide_eq_false h1)] at hP
    exact am_qi_mk ⟨by decide, by decide⟩ (hP S ⟨w, tr, h⟩)
  · have h1 := of_decide_eq_true h1
    rw [if_pos h1] at hP
    obtain ⟨k, rfl⟩ : ∃ o : Nat, k = o := ⟨k.toNat, by omega⟩
    rw [Int.toNat_natCast] at hP
    refine ⟨mc, ms, by omega, _, h.I.2, kx_asked h (by omega) hmc hms (fun S' w' a r ha hw hc => ⟨a, rfl, ?_⟩)⟩
    have hp := hP S' ⟨w', tr, r⟩
    obtain ⟨z1, z2⟩ := z_kind_le Z k
    unfold xoc at hc
    have hkk : z_kind Z k = 1 ∨ z_kind Z k = 2 ∨ z_kind Z k = 3 ∨ z_kind Z k = 4 ∨ z_kind Z k = 5 := by omega
    rcases hkk with e | e | e | e | e <;> rw [e] at hc hp
    · exact Or.inl ⟨_, hc, bX11_kind _ (am_qi_mk ⟨by decide, by decide⟩ (am_qi_mk ⟨by decide, by decide⟩ hp))⟩
    · exact Or.inr (Or.inl ⟨_, hc, bX12_kind _ (am_qi_mk ⟨by decide, by decide⟩ (am_qi_mk ⟨by decide, by decide⟩ hp))⟩)
    · exact Or.inr (Or.inr (Or.inl ⟨_, hc, bX13_kind _ (am_qi_mk ⟨by decide, by decide⟩ (am_qi_mk ⟨by decide, by decide⟩ hp))⟩))
    · exact Or.inr (Or.inr (Or.inr (Or.inl ⟨_, hc, bX14_kind _ (am_qi_mk ⟨by decide, by decide⟩ (am_qi_mk ⟨by decide, by decide⟩ hp))⟩)))
    · exact Or.inr (Or.inr (Or.inr (Or.inr ⟨_, hc, bX15_kind _ (am_qi_mk ⟨by decide, by decide⟩ (am_qi_mk ⟨by decide, by decide⟩ hp))⟩)))
end KX20
