/-! S5: the model's second of a unit; the row of money -/
set_option maxRecDepth 100000
theorem mvU_Q {m : Nat → Int32} {u : Nat} (h0 : ¬ m (110 + 8 * u + 5) = 0) (h4 : ¬ m (110 + 8 * u + 5) = 4) (h3 : ¬ m (110 + 8 * u + 5) = 3) : mvU m u = mvQ m u := by
  unfold mvU mvQ
  rw [if_neg (fun z => z.elim h0 h4), if_neg h3]
theorem mvU_A {m : Nat → Int32} {u : Nat} (h : m (110 + 8 * u + 5) = 3) : mvU m u = mvA m u := by
  unfold mvU
  rw [if_neg (by rw [h]; decide), if_pos h]
theorem mvU_H {m : Nat → Int32} {u : Nat} (h : m (110 + 8 * u + 5) = 0 ∨ m (110 + 8 * u + 5) = 4) : mvU m u = mvH m u := by
  unfold mvU
  rw [if_pos h]
theorem m_secondH {σ : St} {m : Nat → Int32} {u : Nat} (hu : u < 6) : ((F_X12_unit (nI u) (4 : Int32) (putr σ m)).bind (fun r25 => Option.bind ((if (2 : Int32) < r25 then (F_X12_unit (nI u) (4 : Int32) (putr σ m)).bind (fun r26 => some ((r26 - (2 : Int32)))) else some ((0 : Int32))) : Option (Int32)) (fun z41 => (F_X12_setUnit (nI u) (4 : Int32) z41 (putr σ m)).bind (fun s27 => some s27)))) = some (putr σ (mvH m u)) := by
  rw [m_unit4 (by omega), some_b, some_b, ite_bind, show (4 : Int32) = nI 4 from rfl, m_setUnit (by omega) (by decide), some_b, putr_row]
  rfl
theorem m_second {σ : St} {m : Nat → Int32} {u : Nat} (hw : WF m) (hT : TabR σ m) (hu : u < cn (m 2)) (hwk : cn (m (110 + 8 * u + 4)) < 1003600) : F_X12_second (nI u) (putr σ m) = some (putr σ (mvU m u)) := by
  have hU := hw.2.2.1.2
  have h3 := hw.2.2.2.1.2
  obtain ⟨-, -, -, -, -, -, -, -, hb⟩ := hw.2.2.2.2.2.2.2.2.1 u hu
  unfold F_X12_second
  rw [m_unit5 (by omega), some_b, putr_row]
  by_cases e0 : m (110 + 8 * u + 5) = 0
  · rw [if_pos e0, bindL_inl, m_secondH (by omega), mvU_H (Or.inl e0)]
  by_cases e4 : m (110 + 8 * u + 5) = 4
  · rw [if_neg e0, if_pos e4, bindL_inl, m_secondH (by omega), mvU_H (Or.inr e4)]
  rw [if_neg e0, if_neg e4, m_unit6 (by omega), some_b, putr_row]
  by_cases e3 : m (110 + 8 * u + 5) = 3
  · obtain ⟨t1, t2, -⟩ := hb (Or.inr e3)
    rw [if_pos e3, m_unit4 (by omega), some_b, putr_row, show (4 : Int32) = nI 4 from rfl, m_setUnit (by omega) (by decide), some_b, m_rd6, some_b, putr_row, show (6 : Int32) = nI 6 from rfl, m_wr (by decide), some_b, t1.1, show (5 : Int32) = nI 5 from rfl, m_call (by omega) (by decide), some_b, m_setCall (by omega) (by decide), some_b, bindL_inr, mvU_A e3, putr_row]
    unfold mvA mv4
    rw [setm_ne (show 160 + 6 * cn (m (110 + 8 * u + 6)) + 5 ≠ 6 by omega), setm_ne (show 160 + 6 * cn (m (110 + 8 * u + 6)) + 5 ≠ 110 + 8 * u + 4 by omega), setm_ne (show 6 ≠ 110 + 8 * u + 4 by omega)]
  rw [if_neg e3, m_unit3 (by omega), some_b, putr_row, mvU_Q e0 e4 e3]
  have key : ∀ τ, τ = putr σ (mv1 m u) → ¬ stuck m u → (F_X12_unit (nI u) (3 : Int32) τ).bind (fun r7 => (F_X12_setUnit (nI u) (3 : Int32) (r7 - (1 : Int32)) τ).bind (fun s8 => (F_X12_unit (nI u) (4 : Int32) s8).bind (fun r9 => (F_X12_setUnit (nI u) (4 : Int32) (r9 + (1 : Int32)) s8).bind (fun s10 => (rdo s10 20 1 1532 (5 : Int32)).bind (fun r11 => (wro s10 20 1 1532 (5 : Int32) (r11 + (1 : Int32))).bind (fun s12 => Option.bind ((if m (110 + 8 * u + 5) = (2 : Int32) then (F_X12_call (m (110 + 8 * u + 6)) (4 : Int32) s12).bind (fun r13 => (F_X12_setCall (m (110 + 8 * u + 6)) (4 : Int32) (r13 + (1 : Int32)) s12).bind (fun s14 => some (s14))) else some (s12)) : Option (St)) (fun z173 => (F_X12_unit (nI u) (3 : Int32) z173).bind (fun r15 => (if r15 = 0 then (F_X12_unit (nI u) (2 : Int32) z173).bind (fun r16 => (F_X12_targetOf (nI u) z173).bind (fun r17 => (if r16 = r17 then Option.bind ((if m (110 + 8 * u + 5) = (2 : Int32) then some ((3 : Int32)) else some ((0 : Int32))) : Option (Int32)) (fun z209 => (F_X12_setUnit (nI u) (5 : Int32) z209 z173).bind (fun s18 => some (Sum.inr s18 : Unit ⊕ St))) else some (Sum.inr z173 : Unit ⊕ St)))) else some (Sum.inr z173 : Unit ⊕ St)))))))))) = some (Sum.inr (putr σ (mv7 m u))) := by
    rintro τ rfl hs
    have w6 := hw.wmv6 hu hs hwk
    obtain ⟨a, b, e2, e3', -⟩ := mv6_st (m := m) (show u < 6 by omega)
    rw [m_unit3 (by omega), some_b, putr_row, show (3 : Int32) = nI 3 from rfl, m_setUnit (by omega) (by decide), some_b, m_unit4 (by omega), some_b, putr_row, show (4 : Int32) = nI 4 from rfl, m_setUnit (by omega) (by decide), some_b, m_rd5, some_b, putr_row, show (5 : Int32) = nI 5 from rfl, m_wr (by decide), some_b]
    have e6 : (if m (110 + 8 * u + 5) = (2 : Int32) then (F_X12_call (m (110 + 8 * u + 6)) (nI 4) (putr σ (mv5 m u))).bind (fun r13 => (F_X12_setCall (m (110 + 8 * u + 6)) (nI 4) (r13 + (1 : Int32)) (putr σ (mv5 m u))).bind (fun s14 => some (s14))) else some (putr σ (mv5 m u))) = some (putr σ (mv6 m u)) := by
      by_cases e : m (110 + 8 * u + 5) = 2
      · obtain ⟨t1, t2, -⟩ := hb (Or.inl e)
        rw [if_pos e, t1.1, m_call (by omega) (by decide), some_b, m_setCall (by omega) (by decide), some_b, putr_row]
        unfold mv6
        rw [if_pos e]
        rfl
      · rw [if_neg e]
        unfold mv6
        rw [if_neg e]
    have e5 : setm (setm (setm (mv1 m u) (110 + 8 * u + 3) (mv1 m u (110 + 8 * u + 3) - 1)) (110 + 8 * u + 4) (setm (mv1 m u) (110 + 8 * u + 3) (mv1 m u (110 + 8 * u + 3) - 1) (110 + 8 * u + 4) + 1)) 5 (setm (setm (mv1 m u) (110 + 8 * u + 3) (mv1 m u (110 + 8 * u + 3) - 1)) (110 + 8 * u + 4) (setm (mv1 m u) (110 + 8 * u + 3) (mv1 m u (110 + 8 * u + 3) - 1) (110 + 8 * u + 4) + 1) 5 + 1) = mv5 m u := rfl
    rw [e5, e6, some_b, m_unit (by omega) (by decide), some_b, putr_row]
    unfold mv7 mvE
    by_cases z1 : mv6 m u (110 + 8 * u + 3) = 0
    · rw [if_pos z1, m_unit2 (by omega), some_b, m_targetOf w6 putr_row (by rw [e2]; exact hu), some_b, putr_row, mv6_tgt (by omega)]
      by_cases z2 : mv6 m u (110 + 8 * u + 2) = tgt m u
      · have zz : mv6 m u (110 + 8 * u + 3) = 0 ∧ mv6 m u (110 + 8 * u + 2) = tgt m u := ⟨z1, z2⟩
        rw [if_pos z2, if_pos zz]
        by_cases e : m (110 + 8 * u + 5) = 2
        · rw [if_pos e, if_pos e, some_b, m_setUnit (by omega) (by decide), some_b]; rfl
        · rw [if_neg e, if_neg e, some_b, m_setUnit (by omega) (by decide), some_b]
      · rw [if_neg z2, if_neg (fun y => z2 y.2)]
    · rw [if_neg z1, if_neg (fun y => z1 y.1)]
  by_cases er : m (110 + 8 * u + 3) = 0
  · rw [if_pos er, m_takesStep hw hT hu rfl rfl]
    by_cases hn : nxI m (cn (m (110 + 8 * u + 2))) (cn (tgt m u)) < 0
    · rw [if_pos hn, some_b, if_pos rfl, bindL_inr, bindL_inr, mvQ_pos ⟨er, hn⟩]
    · rw [if_neg hn, some_b, if_neg (show ¬ (1 : Int32) = 0 by decide), bindL_inl, key _ (by unfold mv1; rw [if_pos er]) (fun z => hn z.2), bindL_inr, mvQ_neg (fun z => hn z.2)]
  · rw [if_neg er, bindL_inl, key _ (by unfold mv1; rw [if_neg er]) (fun z => er z.1), bindL_inr, mvQ_neg (fun z => er z.1)]
/-- the component's second of a unit -/
theorem c_secondU {σ : St} {h u : Nat} {m : Nat → Int32} (hw : WF m) (hc : HC (σ h) m) (hk : KnC (σ h) m) (hu : u < cn (m 2)) (hwk : cn (m (110 + 8 * u + 4)) < 1003600) : Ret (B_X3_second_2 h (nI u) σ) (SumP (fun z => ∃ τ, z = (nI (u + 1), τ) ∧ Hs σ τ h (mvU m u)) (fun _ => False)) := by
  have hU := hw.2.2.1
  have hU2 := hU.2
  have h3 := hw.2.2.2.1.2
  obtain ⟨-, -, -, -, b4, -, -, -, hb⟩ := hw.2.2.2.2.2.2.2.2.1 u hu
  obtain ⟨-, -, -, -, c19, c20, -, -, c21⟩ := hc.2.2.1 u hu
  have H : Hs σ σ h m := ⟨hc, hk, FrW.rf _ _⟩
  unfold B_X3_second_2
  rw [hc.1.2.2.1, if_pos ((bd_lt hU (by decide) (by omega)).mpr hu), rdo_nI (by omega) (by decide), some_b, c20, nI_1]
  have eH : imax (m (110 + 8 * u + 4) - 2) 0 = if 2 < m (110 + 8 * u + 4) then m (110 + 8 * u + 4) - 2 else 0 := by
    have b := b4.2
    rw [b4.1]
    by_cases z : 2 < cn (m (110 + 8 * u + 4))
    · rw [if_pos (show (2 : Int32) < nI (cn (m (110 + 8 * u + 4))) from nI_lt (a := 2) z (by omega)), show (2 : Int32) = nI 2 from rfl, nI_sub (by omega)]
      unfold imax
      have : ¬ nI (cn (m (110 + 8 * u + 4)) - 2) < 0 := nI_pos (by omega)
      grind
    · rw [if_neg (show ¬ (2 : Int32) < nI (cn (m (110 + 8 * u + 4))) from nI_nlt (a := 2) (by omega) (by decide))]
      have : cn (m (110 + 8 * u + 4)) = 0 ∨ cn (m (110 + 8 * u + 4)) = 1 ∨ cn (m (110 + 8 * u + 4)) = 2 := by omega
      rcases this with e | e | e <;> rw [e] <;> decide
  by_cases e0 : m (110 + 8 * u + 5) = 0
  · rw [if_pos e0, bindL_inl, rdo_nI (by omega) (by decide), some_b, wro_nI (by omega) (by decide), some_b, c19, eH, mvU_H (Or.inl e0)]
    exact Ret.some ⟨_, rfl, H.un4 hw hu⟩
  by_cases e4 : m (110 + 8 * u + 5) = 4
  · rw [if_neg e0, some_b, if_pos e4, bindL_inl, rdo_nI (by omega) (by decide), some_b, wro_nI (by omega) (by decide), some_b, c19, eH, mvU_H (Or.inr e4)]
    exact Ret.some ⟨_, rfl, H.un4 hw hu⟩
  rw [if_neg e0, some_b, if_neg e4, some_b]
  by_cases e3 : m (110 + 8 * u + 5) = 3
  · obtain ⟨t1, t2, -⟩ := hb (Or.inr e3)
    rw [if_pos e3, rdo_nI (by omega) (by decide), some_b, wro_nI (by omega) (by decide), some_b, nst_b, c19]
    have w4 : WF (mv4 m u) := by
      unfold mv4
      refine hw.un4 hu ?_
      rw [b4.1, show (1 : Int32) = nI 1 from rfl, nI_add]
      exact bd_nI (by omega) (by decide)
    have H4 : Hs σ _ h (mv4 m u) := H.un4 hw hu
    have H6 := H4.sc6 (v := mv4 m u 6 + 2) w4
    have w6 : WF (setm (mv4 m u) 6 (mv4 m u 6 + 2)) := w4.sc6
    rw [H4.1.1.2.2.2.2.2.2.1]
    have u6 : u < cn (setm (mv4 m u) 6 (mv4 m u 6 + 2) 2) := by unfold mv4; rw [setm_ne (by omega), setm_ne (by omega)]; exact hu
    have t6 : cn (m (110 + 8 * u + 6)) < cn (setm (mv4 m u) 6 (mv4 m u 6 + 2) 3) := by unfold mv4; rw [setm_ne (by omega), setm_ne (by omega)]; exact t2
    have eb : busy (setm (mv4 m u) 6 (mv4 m u 6 + 2)) u := Or.inr (by unfold mv4; rw [setm_ne (by omega), setm_ne (by omega)]; exact e3)
    have et : setm (mv4 m u) 6 (mv4 m u 6 + 2) (110 + 8 * u + 6) = nI (cn (m (110 + 8 * u + 6))) := by unfold mv4; rw [setm_ne (by omega), setm_ne (by omega)]; exact t1.1
    rw [rdo_nI (by omega) (by decide), some_b, (H6.1.2.2.1 u u6).2.2.2.2.2.2.2.2 eb, et, rdo_nI (by omega) (by decide), some_b, wro_nI (by omega) (by decide), some_b, bindL_inr, (H6.1.2.2.2 _ t6).2.2.2.2.2, mvU_A e3]
    refine Ret.some ⟨_, rfl, ?_⟩
    have H7 := H6.ca5 (v := setm (mv4 m u) 6 (mv4 m u 6 + 2) (160 + 6 * cn (m (110 + 8 * u + 6)) + 5) + 2) w6 t6
    have e6 : mv4 m u 6 = m 6 := by unfold mv4; rw [setm_ne (by omega)]
    have e7 : setm (mv4 m u) 6 (mv4 m u 6 + 2) (160 + 6 * cn (m (110 + 8 * u + 6)) + 5) = m (160 + 6 * cn (m (110 + 8 * u + 6)) + 5) := by unfold mv4; rw [setm_ne (by omega), setm_ne (by omega)]
    unfold mvA
    rw [← e6, ← e7]
    rw [e7]
    rw [e7] at H7
    exact H7
  · rw [if_neg e3, mvU_Q e0 e4 e3]
    refine Ret.bindL (Q := fun _ => False) (Ret.bind (c_moves hw hc hk hu hwk) (fun τ hτ => Ret.some ?_)) (fun b hb => absurd hb (fun z => z))
    exact ⟨_, rfl, hτ⟩
