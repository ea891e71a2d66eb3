/-! S3: places, units, calls -/
set_option maxRecDepth 100000
theorem c_isPlace {σ : St} {h k : Nat} {m : Nat → Int32} (hw : WF m) (hc : HC (σ h) m) (hk : k < 2147483648) : F_X3_isPlace h (nI k) σ = some (if k < cn (m 0) then 1 else 0) := by
  unfold F_X3_isPlace
  simp only [in_eqC, some_b, zro_ite, hc.1.1, in_cntN hw.1.1 (by decide) hk]
theorem m_isPlace {σ : St} {k : Nat} (hw : WF (σ 20 1)) (hk : k < 2147483648) : F_X12_isPlace (nI k) σ = some (if k < cn (σ 20 1 0) then 1 else 0) := by
  unfold F_X12_isPlace
  rw [show (0 : Int32) = nI 0 from rfl, m_rd (by decide), some_b, in_eq, some_b, zro_ite, show nI 0 = (0 : Int32) from rfl]
  simp only [in_cntN hw.1.1 (by decide) hk, some_b]
theorem c_isUnit {σ : St} {h k : Nat} {m : Nat → Int32} (hw : WF m) (hc : HC (σ h) m) (hk : k < 2147483648) : F_X3_isUnit h (nI k) σ = some (if k < cn (m 2) then 1 else 0) := by
  unfold F_X3_isUnit
  simp only [in_eqC, some_b, zro_ite, hc.1.2.2.1, in_cntN hw.2.2.1 (by decide) hk]
theorem m_isUnit {σ : St} {k : Nat} (hw : WF (σ 20 1)) (hk : k < 2147483648) : F_X12_isUnit (nI k) σ = some (if k < cn (σ 20 1 2) then 1 else 0) := by
  unfold F_X12_isUnit
  rw [show (2 : Int32) = nI 2 from rfl, m_rd (by decide), some_b, in_eq, some_b, zro_ite]
  simp only [in_cntN hw.2.2.1 (by decide) hk, some_b]
/-- an open call -/
abbrev opC (m : Nat → Int32) (q : Nat) : Prop := q < cn (m 3) ∧ m (160 + 6 * q + 3) = 1
theorem c_isOpen {σ : St} {h k : Nat} {m : Nat → Int32} (hw : WF m) (hc : HC (σ h) m) (hk : k < 2147483648) : F_X3_isOpen h (nI k) σ = some (if opC m k then 1 else 0) := by
  unfold F_X3_isOpen
  simp only [in_eqC, some_b, hc.1.2.2.2.1, in_cntN hw.2.2.2.1 (by decide) hk]
  by_cases hq : k < cn (m 3)
  · have h3 := hw.2.2.2.1.2
    obtain ⟨-, -, -, ho⟩ := hw.2.2.2.2.2.2.2.2.2.2 k hq
    obtain ⟨-, -, -, c27, -, -⟩ := hc.2.2.2 k hq
    rw [rdo_nI (by omega) (by decide), some_b, c27]
    rcases ho with e | e <;> simp [hq, e, opC]
  · simp [hq, opC]
theorem m_isOpenCall {σ : St} {k : Nat} (hw : WF (σ 20 1)) (hk : k < 2147483648) : F_X12_isOpenCall (nI k) σ = some (if opC (σ 20 1) k then 1 else 0) := by
  unfold F_X12_isOpenCall
  rw [show (3 : Int32) = nI 3 from rfl, m_rd (by decide), some_b, in_eq, some_b]
  simp only [in_cntN hw.2.2.2.1 (by decide) hk]
  by_cases hq : k < cn (σ 20 1 3)
  · have h3 := hw.2.2.2.1.2
    rw [m_call (by omega) (by decide), some_b]
    by_cases e : σ 20 1 (160 + 6 * k + 3) = 1 <;> simp [hq, e, opC]
  · simp [hq, opC]
/-- a free unit -/
abbrev frU (m : Nat → Int32) (u : Nat) : Prop := ¬ 1 < m (110 + 8 * u + 5) ∧ ¬ 3600 < m (110 + 8 * u + 4) ∧ (m 4 < m (380 + 2 * u) ∨ ¬ m 4 < m (380 + 2 * u + 1))
theorem m_isFree {σ : St} {u : Nat} (hu : u < 6) : F_X12_isFree (nI u) σ = some (if frU (σ 20 1) u then 1 else 0) := by
  unfold F_X12_isFree F_X12_isAway
  generalize e : σ 20 1 = m
  simp (disch := omega) only [i32_lit, nI_mul', nI_add, m_rd, m_unit, some_b, e]
  unfold frU
  simp only [i32_lit]
  grind
theorem lt_pred {x y : Int32} {n : Nat} (hy : bd y n) (hn : n < 1073741824) (hx : ¬ x < 0) : y - 1 < x ↔ ¬ x < y := by
  obtain ⟨k, hk, rfl⟩ := nI_of hx
  have h2 := hy.2
  rw [hy.1]
  by_cases hz : cn y = 0
  · rw [hz]
    constructor
    · intro _
      exact nI_nlt (Nat.zero_le _) hk
    · intro _
      rw [show nI 0 - 1 = -nI 1 from rfl, Int32.lt_iff_toInt_lt, sb_negT (by decide), nI_toInt hk]
      omega
  · rw [i32_lit, nI_sub (by omega), nI_ltI (by omega) hk, nI_ltI hk (by omega)]
    omega
theorem c_isFree {σ : St} {h u : Nat} {m : Nat → Int32} (hw : WF m) (hc : HC (σ h) m) (hu : u < cn (m 2)) : F_X3_isFree h (nI u) σ = some (if frU m u then 1 else 0) := by
  have hU := hw.2.2.1.2
  obtain ⟨-, -, -, -, -, -, -, ht, -⟩ := hw.2.2.2.2.2.2.2.2.1 u hu
  obtain ⟨-, -, -, -, c19, c20, c8, c9, -⟩ := hc.2.2.1 u hu
  have c32 := hc.1.2.2.2.2.1
  have h4 := hw.2.2.2.2.1
  have h40 : ¬ m 4 < 0 := by rw [h4.1]; exact nI_pos (by have := h4.2; omega)
  unfold F_X3_isFree
  simp (disch := omega) only [rdo_nI, some_b, in_eqC, c19, c20, c8, c9, c32, lt_pred ht (by decide) h40]
  unfold frU
  grind
/-- the unit that serves a call -/
def srv (m : Nat → Int32) (q u : Nat) : Prop := u < cn (m 2) ∧ busy m u ∧ m (110 + 8 * u + 6) = nI q
noncomputable def srvI (m : Nat → Int32) (q : Nat) : Int32 := @dite _ (∃ u, srv m q u) (Classical.propDecidable _) (fun h => nI (Classical.choose h)) (fun _ => -1)
theorem srvI_of {m : Nat → Int32} {q u : Nat} (hw : WF m) (h : srv m q u) : srvI m q = nI u := by
  have hx : ∃ u, srv m q u := ⟨u, h⟩
  unfold srvI
  rw [dif_pos hx]
  have hs := Classical.choose_spec hx
  rw [hw.2.2.2.2.2.2.2.2.2.1 _ u hs.1 h.1 hs.2.1 h.2.1 (by rw [hs.2.2, h.2.2])]
theorem srvI_none {m : Nat → Int32} {q : Nat} (h : ∀ u, ¬ srv m q u) : srvI m q = -1 := by
  unfold srvI
  rw [dif_neg (fun ⟨u, hu⟩ => h u hu)]
theorem c_serves {σ : St} {h q : Nat} {m : Nat → Int32} (hw : WF m) (hc : HC (σ h) m) (hq : q < 2147483648) : F_X3_serves h (nI q) σ = some (srvI m q) := by
  have hU := hw.2.2.1
  have hU2 := hU.2
  have key : Ret (iter (fun z => B_X3_serves_2 h (nI q) z σ) (nI 0)) (SumP (fun _ => ∀ u, ¬ srv m q u) (fun r => r = srvI m q)) := by
    refine iter_inv (f := fun z => B_X3_serves_2 h (nI q) z σ) (fun k a => a = nI k ∧ ∀ u, u < k → ¬ srv m q u) _ (cn (m 2)) ?_ ?_ 0 (nI 0) (Nat.zero_le _) ⟨rfl, fun u hu => by omega⟩
    · rintro k a hk ⟨rfl, hI⟩
      obtain ⟨-, -, -, -, -, c20, -, -, c21⟩ := hc.2.2.1 k hk
      show Ret (B_X3_serves_2 h (nI q) (nI k) σ) _
      unfold B_X3_serves_2
      rw [hc.1.2.2.1, if_pos ((bd_lt hU (by decide) (by omega)).mpr hk)]
      simp (disch := omega) only [rdo_nI, some_b, c20]
      by_cases hb : busy m k
      · rw [c21 hb]
        by_cases hs : m (110 + 8 * k + 6) = nI q
        · have e := srvI_of hw (⟨hk, hb, hs⟩ : srv m q k)
          rcases hb with hb | hb
          · rw [if_pos hb, bindL_inl, if_pos hs]
            exact Ret.some (show nI k = srvI m q from e.symm)
          · rw [if_neg (by rw [hb]; decide), if_pos hb, bindL_inl, if_pos hs]
            exact Ret.some (show nI k = srvI m q from e.symm)
        · have hI2 : ∀ u, u < k + 1 → ¬ srv m q u := by
            intro u hu hsu
            by_cases e : u = k
            · subst e; exact hs hsu.2.2
            · exact hI u (by omega) hsu
          rcases hb with hb | hb
          · rw [if_pos hb, bindL_inl, if_neg hs]
            exact Ret.some ⟨by rw [i32_lit, nI_add], hI2⟩
          · rw [if_neg (by rw [hb]; decide), if_pos hb, bindL_inl, if_neg hs]
            exact Ret.some ⟨by rw [i32_lit, nI_add], hI2⟩
      · have hI2 : ∀ u, u < k + 1 → ¬ srv m q u := by
          intro u hu hsu
          by_cases e : u = k
          · subst e; exact hb hsu.2.1
          · exact hI u (by omega) hsu
        rw [if_neg (fun z => hb (Or.inl z)), if_neg (fun z => hb (Or.inr z)), bindL_inr]
        exact Ret.some ⟨by rw [i32_lit, nI_add], hI2⟩
    · rintro a ⟨rfl, hI⟩
      refine ⟨.inl (), ?_, fun u hu => hI u hu.1 hu⟩
      show B_X3_serves_2 h (nI q) (nI (cn (m 2))) σ = _
      unfold B_X3_serves_2
      rw [hc.1.2.2.1, if_neg]
      rw [bd_lt hU (by decide) (by omega)]
      omega
  unfold F_X3_serves
  obtain ⟨z, e, hz⟩ := key
  rw [show (0 : Int32) = nI 0 from rfl, e]
  cases z with
  | inl _ => rw [bindL_inl, srvI_none hz]
  | inr r => rw [bindL_inr, hz]
