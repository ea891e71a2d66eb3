/-! S11: audit, counts -/
set_option maxRecDepth 100000
theorem sumN_s (f : Nat → Nat) (n : Nat) : sumN f (n + 1) = sumN f n + f n := rfl
theorem sumN_mono {f : Nat → Nat} : ∀ {n k : Nat}, k ≤ n → sumN f k ≤ sumN f n := by
  intro n
  induction n with
  | zero => intro k hk; have : k = 0 := by omega
            subst this; exact Nat.le_refl _
  | succ n ih =>
    intro k hk
    by_cases e : k = n + 1
    · subst e; exact Nat.le_refl _
    · have := ih (k := k) (by omega)
      rw [sumN_s]; omega
theorem c_isSound {σ : St} {m : Nat → Int32} (R : Rok m) (H : HH (σ 3) m) : F_X3_isSound 3 σ = some 1 := by
  have hw := R.1
  obtain ⟨-, w5, w6, wc, ws4, ws5, wf, -⟩ := R.2.1
  have w4 := R.2.2.2
  have b5 := w5.2
  have b6 := w6.2
  have b2 := hw.2.2.1
  have b2' := b2.2
  have b3 := hw.2.2.2.1
  have b3' := b3.2
  obtain ⟨-, -, h30, h31, -, h33, h34, -⟩ := H.1.1
  unfold F_X3_isSound
  have k1 := iter_row (f := fun z => B_X3_isSound_6 3 z.1 z.2.1 z.2.2 σ) (fun j => (nI (sumN (fun q => cn (m (160 + 6 * q + 4))) j), nI (sumN (fun q => cn (m (160 + 6 * q + 5))) j), nI j)) (cn (m 3)) (nI (sumN (fun q => cn (m (160 + 6 * q + 4))) (cn (m 3))), nI (sumN (fun q => cn (m (160 + 6 * q + 5))) (cn (m 3)))) ?_ ?_ 0 (Nat.zero_le _)
  · rw [show ((0 : Int32), (0 : Int32), (0 : Int32)) = (nI (sumN (fun q => cn (m (160 + 6 * q + 4))) 0), nI (sumN (fun q => cn (m (160 + 6 * q + 5))) 0), nI 0) from rfl, k1, some_b]
    dsimp only
    rw [h34, if_pos (show nI (sumN (fun q => cn (m (160 + 6 * q + 5))) (cn (m 3))) = m 6 by rw [ws5]; exact w6.1.symm), h33, if_neg (show ¬ m 5 < nI (sumN (fun q => cn (m (160 + 6 * q + 4))) (cn (m 3))) by rw [w5.1]; exact nI_nlt ws4 (by omega)), some_b]
    have k2 := iter_row (f := fun z => B_X3_isSound_63 3 z.1 z.2 σ) (fun j => ((1 : Int32), nI j)) (cn (m 2)) (1 : Int32) ?_ ?_ 0 (Nat.zero_le _)
    · rw [show ((1 : Int32), (0 : Int32)) = ((1 : Int32), nI 0) from rfl, k2, some_b, zro_1, some_b]
    · intro j hj
      obtain ⟨-, -, u2, u3, u4, u5, -, -, ub⟩ := hw.2.2.2.2.2.2.2.2.1 j hj
      obtain ⟨h15, -, h17, h18, h19, h20, -, -, h21⟩ := H.1.2.2.1 j hj
      show B_X3_isSound_63 3 1 (nI j) σ = _
      unfold B_X3_isSound_63
      rw [h30, b2.1, if_pos (nI_lt hj (by omega)), rdo_nI (by omega) (by decide), some_b, h20]
      have in2 : ∀ v5 : Int32, (v5 = 0 ∨ busy m j) → iter (fun z => B_X3_isSound_149 3 v5 (nI j) z.1 z.2 σ) ((1 : Int32), (0 : Int32)) = some 1 := by
        intro v5 hv
        rcases hv with hv | hv
        · rw [iter_inr (b := (1 : Int32))]
          show B_X3_isSound_149 3 v5 (nI j) 1 0 σ = _
          unfold B_X3_isSound_149
          by_cases q : (0 : Int32) < nI j
          · rw [if_pos q, if_pos hv]
          · rw [if_neg q]
        · by_cases hv0 : v5 = 0
          · rw [iter_inr (b := (1 : Int32))]
            show B_X3_isSound_149 3 v5 (nI j) 1 0 σ = _
            unfold B_X3_isSound_149
            by_cases q : (0 : Int32) < nI j
            · rw [if_pos q, if_pos hv0]
            · rw [if_neg q]
          · have := iter_row (f := fun z => B_X3_isSound_149 3 v5 (nI j) z.1 z.2 σ) (fun i => ((1 : Int32), nI i)) j (1 : Int32) ?_ ?_ 0 (Nat.zero_le _)
            · exact this
            · intro i hi
              obtain ⟨-, -, -, -, -, g20, -, -, g21⟩ := H.1.2.2.1 i (by omega)
              show B_X3_isSound_149 3 v5 (nI j) 1 (nI i) σ = _
              unfold B_X3_isSound_149
              rw [if_pos (nI_lt hi (by omega)), if_neg hv0, if_neg (show ¬ (1 : Int32) = 0 by decide), rdo_nI (by omega) (by decide), some_b, g20]
              have fin : busy m i → (rdo σ 3 21 6 (nI i)).bind (fun r3013 => (rdo σ 3 21 6 (nI j)).bind (fun r3014 => (if r3013 = r3014 then some ((0 : Int32)) else some ((1 : Int32))))) = some 1 := by
                intro hb
                rw [rdo_nI (by omega) (by decide), some_b, rdo_nI (by omega) (by decide), some_b, g21 hb, h21 hv, if_neg]
                intro e
                have := hw.2.2.2.2.2.2.2.2.2.1 i j (by omega) hj hb hv e
                omega
              by_cases q2 : m (110 + 8 * i + 5) = 2
              · rw [if_pos q2, bindL_inl, fin (Or.inl q2), some_b, nI_1]
              · by_cases q3 : m (110 + 8 * i + 5) = 3
                · rw [if_neg q2, some_b, if_pos q3, bindL_inl, fin (Or.inr q3), some_b, nI_1]
                · rw [if_neg q2, some_b, if_neg q3, bindL_inr, some_b, nI_1]
            · show B_X3_isSound_149 3 v5 (nI j) 1 (nI j) σ = _
              unfold B_X3_isSound_149
              rw [if_neg (nI_nlt (Nat.le_refl _) (by omega))]
      have bz : busy m j → Option.bind (if (1 : Int32) = 0 then some ((0 : Int32)) else (rdo σ 3 21 6 (nI j)).bind (fun r2007 => (F_X3_isOpen 3 r2007 σ).bind (fun r2008 => (if r2008 = 0 then some ((0 : Int32)) else (rdo σ 3 21 6 (nI j)).bind (fun r2009 => (F_X3_serves 3 r2009 σ).bind (fun r2010 => (if r2010 = nI j then some ((1 : Int32)) else some ((0 : Int32))))))))) (fun z145 => some z145) = some 1 := by
        intro hb
        obtain ⟨ub1, ub2, ub3⟩ := ub hb
        have ub1' := ub1.2
        rw [if_neg (show ¬ (1 : Int32) = 0 by decide), rdo_nI (by omega) (by decide), some_b, h21 hb, ub1.1, c_isOpen hw H.1 (by omega), some_b, if_pos (show opC m (cn (m (110 + 8 * j + 6))) from ⟨ub2, ub3⟩), if_neg (show ¬ (1 : Int32) = 0 by decide), some_b, c_serves hw H.1 (by omega), some_b, srvI_of hw (u := j) ⟨hj, hb, ub1.1⟩, if_pos rfl, some_b]
      by_cases q2 : m (110 + 8 * j + 5) = 2
      · have hb : busy m j := Or.inl q2
        rw [if_pos q2, some_b, if_neg (show ¬ (1 : Int32) = 0 by decide), bz hb, some_b, in2 1 (Or.inr hb), some_b, some_b, if_neg (show ¬ m (110 + 8 * j + 5) = 0 by rw [q2]; decide), some_b, if_neg (show ¬ m (110 + 8 * j + 5) = 4 by rw [q2]; decide), bindL_inr, nI_1]
      · by_cases q3 : m (110 + 8 * j + 5) = 3
        · have hb : busy m j := Or.inr q3
          rw [if_neg q2, some_b, if_pos q3, some_b, if_neg (show ¬ (1 : Int32) = 0 by decide), bz hb, some_b, in2 1 (Or.inr hb), some_b, some_b, if_neg (show ¬ m (110 + 8 * j + 5) = 0 by rw [q3]; decide), some_b, if_neg (show ¬ m (110 + 8 * j + 5) = 4 by rw [q3]; decide), bindL_inr, nI_1]
        · rw [if_neg q2, some_b, if_neg q3, some_b, if_pos rfl, some_b, in2 0 (Or.inl rfl), some_b, some_b]
          have fin : (m (110 + 8 * j + 5) = 0 ∨ m (110 + 8 * j + 5) = 4) → Option.bind (if (1 : Int32) = 0 then some ((0 : Int32)) else (rdo σ 3 18 6 (nI j)).bind (fun r3017 => (if r3017 = 0 then (rdo σ 3 17 6 (nI j)).bind (fun r3018 => (rdo σ 3 15 6 (nI j)).bind (fun r3019 => (if r3018 = r3019 then some ((1 : Int32)) else some ((0 : Int32))))) else some ((0 : Int32))))) (fun z273 => (some (.inl (z273, (nI j + (1 : Int32)))) : Option ((Int32 × Int32) ⊕ Int32))) = some (.inl (1, nI (j + 1))) := by
            intro hq
            obtain ⟨f1, f2⟩ := wf j hj hq
            rw [if_neg (show ¬ (1 : Int32) = 0 by decide), rdo_nI (by omega) (by decide), some_b, h18, if_pos f1, rdo_nI (by omega) (by decide), some_b, rdo_nI (by omega) (by decide), some_b, h17, h15, if_pos f2, some_b, nI_1]
          by_cases q0 : m (110 + 8 * j + 5) = 0
          · rw [if_pos q0, bindL_inl]
            exact fin (Or.inl q0)
          · by_cases q4 : m (110 + 8 * j + 5) = 4
            · rw [if_neg q0, some_b, if_pos q4, bindL_inl]
              exact fin (Or.inr q4)
            · rw [if_neg q0, some_b, if_neg q4, bindL_inr, nI_1]
    · show B_X3_isSound_63 3 1 (nI (cn (m 2))) σ = _
      unfold B_X3_isSound_63
      rw [h30, b2.1, cn_nI (by omega), if_neg (nI_nlt (Nat.le_refl _) (by omega))]
  · intro j hj
    obtain ⟨e4, e5⟩ := wc j hj
    obtain ⟨-, -, -, -, h25, h26⟩ := H.1.2.2.2 j hj
    show B_X3_isSound_6 3 _ _ (nI j) σ = _
    unfold B_X3_isSound_6
    rw [h31, b3.1, if_pos (nI_lt hj (by omega)), rdo_nI (by omega) (by decide), some_b, nmo_b, rdo_nI (by omega) (by decide), some_b, nmo_b, h25, h26]
    conv => lhs; rw [e4, e5, nI_add, nI_add, nI_1]
    rfl
  · show B_X3_isSound_6 3 _ _ (nI (cn (m 3))) σ = _
    unfold B_X3_isSound_6
    rw [h31, b3.1, cn_nI (by omega), if_neg (nI_nlt (Nat.le_refl _) (by omega))]
theorem m_isUnitSound {σ : St} {m : Nat → Int32} {u : Nat} (R : Rok m) (hm : σ 20 1 = m) (hu : u < cn (m 2)) : F_X12_isUnitSound (nI u) σ = some 1 := by
  have hw := R.1
  obtain ⟨-, -, -, -, -, -, wf, -⟩ := R.2.1
  have b2 := hw.2.2.1
  have b2' := b2.2
  obtain ⟨-, -, u2, u3, u4, u5, -, -, ub⟩ := hw.2.2.2.2.2.2.2.2.1 u hu
  have e : ∀ w, w < 8 → F_X12_unit (nI u) (nI w) σ = some (m (110 + 8 * u + w)) := fun w h => by rw [m_unit (by omega) h, hm]
  unfold F_X12_isUnitSound
  have e5 : F_X12_unit (nI u) 5 σ = _ := e 5 (by decide)
  have e6 : F_X12_unit (nI u) 6 σ = _ := e 6 (by decide)
  have e2 : F_X12_unit (nI u) 2 σ = _ := e 2 (by decide)
  have e0 : F_X12_unit (nI u) 0 σ = _ := e 0 (by decide)
  have e3 : F_X12_unit (nI u) 3 σ = _ := e 3 (by decide)
  rw [e5, some_b]
  have fin : (m (110 + 8 * u + 5) = 0 ∨ m (110 + 8 * u + 5) = 4) → (F_X12_unit (nI u) 2 σ).bind (fun r1009 => (F_X12_unit (nI u) 0 σ).bind (fun r1010 => (if r1009 = r1010 then (F_X12_unit (nI u) 3 σ).bind (fun r1011 => (if r1011 = 0 then some (1 : Int32) else some (0 : Int32))) else some (0 : Int32)))) = some 1 := by
    intro hq
    obtain ⟨f1, f2⟩ := wf u hu hq
    rw [e2, some_b, e0, some_b, if_pos (show m (110 + 8 * u + 2) = m (110 + 8 * u + 0) from f2), e3, some_b, if_pos f1]
  by_cases q0 : m (110 + 8 * u + 5) = 0
  · rw [if_pos q0, bindL_inl]; exact fin (Or.inl q0)
  · by_cases q4 : m (110 + 8 * u + 5) = 4
    · rw [if_neg q0, if_pos q4, bindL_inl]; exact fin (Or.inr q4)
    · by_cases q1 : m (110 + 8 * u + 5) = 1
      · rw [if_neg q0, if_neg q4, if_pos q1, bindL_inr]
      · have hb : busy m u := by
          have h4 := u5.2
          have e := u5.1
          generalize cn (m (110 + 8 * u + 5)) = x at h4 e
          have hx : x = 0 ∨ x = 1 ∨ x = 2 ∨ x = 3 ∨ x = 4 := by omega
          rcases hx with z | z | z | z | z <;> subst z
          · exact absurd e q0
          · exact absurd e q1
          · exact Or.inl e
          · exact Or.inr e
          · exact absurd e q4
        obtain ⟨ub1, ub2, ub3⟩ := ub hb
        have ub1' := ub1.2
        have op : F_X12_isOpenCall (m (110 + 8 * u + 6)) σ = some 1 := by
          rw [ub1.1, m_isOpenCall (by rw [hm]; exact hw) (by omega), hm, if_pos ⟨ub2, ub3⟩]
        rw [if_neg q0, if_neg q4, if_neg q1, e6, some_b, op, some_b]
        have key := iter_row (f := fun z => B_X12_isUnitSound_68 (nI u) z.1 z.2 σ) (fun i => ((1 : Int32), nI i)) (cn (m 2)) (1 : Int32) ?_ ?_ 0 (Nat.zero_le _)
        · rw [show ((1 : Int32), (0 : Int32)) = ((1 : Int32), nI 0) from rfl, key, some_b, zro_1, some_b, bindL_inr]
        · intro i hi
          have g : ∀ w, w < 8 → F_X12_unit (nI i) (nI w) σ = some (m (110 + 8 * i + w)) := fun w h => by rw [m_unit (by omega) h, hm]
          have g5 : F_X12_unit (nI i) 5 σ = _ := g 5 (by decide)
          have g6 : F_X12_unit (nI i) 6 σ = _ := g 6 (by decide)
          have i5 := (hw.2.2.2.2.2.2.2.2.1 i hi).2.2.2.2.2.1
          have i5' := i5.2
          have hin : F_X12_in (m (110 + 8 * i + 5)) 2 3 σ = some (if 2 ≤ cn (m (110 + 8 * i + 5)) ∧ cn (m (110 + 8 * i + 5)) ≤ 3 then 1 else 0) := by
            conv => lhs; rw [i5.1]
            exact inM_nI (lo := 2) (hi := 3) (by omega) (by decide) (by decide)
          show B_X12_isUnitSound_68 (nI u) 1 (nI i) σ = _
          unfold B_X12_isUnitSound_68
          rw [m_rd2, some_b, hm, b2.1, if_pos (nI_lt hi (by omega)), if_neg (show ¬ (1 : Int32) = 0 by decide)]
          by_cases q : i = u
          · rw [if_pos (by rw [q]), some_b, nI_1]
          · rw [if_neg (show ¬ nI i = nI u by rw [nI_eq (by omega) (by omega)]; exact q), g5, some_b, hin, some_b]
            by_cases z : 2 ≤ cn (m (110 + 8 * i + 5)) ∧ cn (m (110 + 8 * i + 5)) ≤ 3
            · have hbi : busy m i := by
                have : cn (m (110 + 8 * i + 5)) = 2 ∨ cn (m (110 + 8 * i + 5)) = 3 := by omega
                rcases this with y | y
                · left; rw [i5.1, y]; rfl
                · right; rw [i5.1, y]; rfl
              have hne : ¬ m (110 + 8 * i + 6) = m (110 + 8 * u + 6) := fun e => q (hw.2.2.2.2.2.2.2.2.2.1 i u hi hu hbi hb e)
              rw [if_pos z, if_neg (show ¬ (1 : Int32) = 0 by decide), g6, some_b, e6, some_b, if_neg hne, some_b, nI_1]
            · rw [if_neg z, if_pos rfl, some_b, nI_1]
        · show B_X12_isUnitSound_68 (nI u) 1 (nI (cn (m 2))) σ = _
          unfold B_X12_isUnitSound_68
          rw [m_rd2, some_b, hm, b2.1, cn_nI (by omega), if_neg (nI_nlt (Nat.le_refl _) (by omega))]
theorem m_audit {σ : St} {m : Nat → Int32} {k : Nat} (R : Rok m) (hm : σ 20 1 = m) (hS : StatM σ) (hs : szM σ k) (hk : k ≤ 100) : F_X12_audit σ = some (appM σ (aTx 43)) := by
  have hw := R.1
  obtain ⟨-, w5, w6, wc, ws4, ws5, wf, -⟩ := R.2.1
  have w4 := R.2.2.2
  have b5 := w5.2
  have b6 := w6.2
  have b2 := hw.2.2.1
  have b2' := b2.2
  have b3 := hw.2.2.2.1
  have b3' := b3.2
  unfold F_X12_audit
  have k2 := iter_row (f := fun z => B_X12_audit_4 z.1 z.2 σ) (fun j => ((1 : Int32), nI j)) (cn (m 2)) (1 : Int32) ?_ ?_ 0 (Nat.zero_le _)
  · rw [show ((1 : Int32), (0 : Int32)) = ((1 : Int32), nI 0) from rfl, k2, some_b]
    have k1 := iter_row (f := fun z => B_X12_audit_45 1 z.1 z.2.1 z.2.2 σ) (fun j => (nI (sumN (fun q => cn (m (160 + 6 * q + 4))) j), nI (sumN (fun q => cn (m (160 + 6 * q + 5))) j), nI j)) (cn (m 3)) (nI (sumN (fun q => cn (m (160 + 6 * q + 4))) (cn (m 3))), nI (sumN (fun q => cn (m (160 + 6 * q + 5))) (cn (m 3)))) ?_ ?_ 0 (Nat.zero_le _)
    · rw [show ((0 : Int32), (0 : Int32), (0 : Int32)) = (nI (sumN (fun q => cn (m (160 + 6 * q + 4))) 0), nI (sumN (fun q => cn (m (160 + 6 * q + 5))) 0), nI 0) from rfl, k1, some_b, if_neg (show ¬ (1 : Int32) = 0 by decide), m_rd6, some_b, hm]
      have sy := m_sayA (σ := σ) (L := []) (w := 43) (by decide) hS hs (by rw [List.length_nil]; omega)
      rw [appM_nil, List.nil_append] at sy
      rw [if_pos (show nI (sumN (fun q => cn (m (160 + 6 * q + 5))) (cn (m 3))) = m 6 by rw [ws5]; exact w6.1.symm), m_rd5, some_b, hm, if_neg (show ¬ m 5 < nI (sumN (fun q => cn (m (160 + 6 * q + 4))) (cn (m 3))) by rw [w5.1]; exact nI_nlt ws4 (by omega)), some_b, show (43 : Int32) = nI 43 from rfl, sy, some_b]
    · intro j hj
      obtain ⟨e4, e5⟩ := wc j hj
      show B_X12_audit_45 1 _ _ (nI j) σ = _
      unfold B_X12_audit_45
      rw [m_rd3, some_b, hm, b3.1, if_pos (nI_lt hj (by omega)), show (4 : Int32) = nI 4 from rfl, m_call (by omega) (by decide), some_b, nmo_b, show (5 : Int32) = nI 5 from rfl, m_call (by omega) (by decide), some_b, nmo_b, hm]
      conv => lhs; rw [e4, e5, nI_add, nI_add, nI_1]
      rfl
    · show B_X12_audit_45 1 _ _ (nI (cn (m 3))) σ = _
      unfold B_X12_audit_45
      rw [m_rd3, some_b, hm, b3.1, cn_nI (by omega), if_neg (nI_nlt (Nat.le_refl _) (by omega))]
  · intro j hj
    show B_X12_audit_4 1 (nI j) σ = _
    unfold B_X12_audit_4
    rw [m_rd2, some_b, hm, b2.1, if_pos (nI_lt hj (by omega)), if_neg (show ¬ (1 : Int32) = 0 by decide), m_isUnitSound R hm hj, some_b, if_neg (show ¬ (1 : Int32) = 0 by decide), some_b, nI_1]
  · show B_X12_audit_4 1 (nI (cn (m 2))) σ = _
    unfold B_X12_audit_4
    rw [m_rd2, some_b, hm, b2.1, cn_nI (by omega), if_neg (nI_nlt (Nat.le_refl _) (by omega))]
