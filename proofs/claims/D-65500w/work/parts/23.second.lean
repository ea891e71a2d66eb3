/-! S5: a unit that moves -/
set_option maxRecDepth 100000
theorem mv1_ne {m : Nat → Int32} {u i : Nat} (h2 : i ≠ 110 + 8 * u + 2) (h3 : i ≠ 110 + 8 * u + 3) : mv1 m u i = m i := by
  unfold mv1 stepR
  by_cases e : m (110 + 8 * u + 3) = 0
  · rw [if_pos e, setm_ne h3, setm_ne h2]
  · rw [if_neg e]
theorem mv5_ne {m : Nat → Int32} {u i : Nat} (h2 : i ≠ 110 + 8 * u + 2) (h3 : i ≠ 110 + 8 * u + 3) (h4 : i ≠ 110 + 8 * u + 4) (h5 : i ≠ 5) : mv5 m u i = m i := by
  unfold mv5 mvF mv4 mv3
  rw [setm_ne h5, setm_ne h4, setm_ne h3, mv1_ne h2 h3]
theorem mv6_ne {m : Nat → Int32} {u i : Nat} (h2 : i ≠ 110 + 8 * u + 2) (h3 : i ≠ 110 + 8 * u + 3) (h4 : i ≠ 110 + 8 * u + 4) (h5 : i ≠ 5) (h6 : i ≠ 160 + 6 * cn (m (110 + 8 * u + 6)) + 4) : mv6 m u i = m i := by
  unfold mv6 mvG
  by_cases e : m (110 + 8 * u + 5) = 2
  · rw [if_pos e, setm_ne h6, mv5_ne h2 h3 h4 h5]
  · rw [if_neg e, mv5_ne h2 h3 h4 h5]
/-- the next step's row is sound -/
theorem WF.wmv1 {m : Nat → Int32} (hw : WF m) {u : Nat} (hu : u < cn (m 2)) (hs : ¬ stuck m u) : WF (mv1 m u) ∧ ∃ r, 1 ≤ r ∧ r ≤ 999 ∧ mv1 m u (110 + 8 * u + 3) = nI r := by
  have hU := hw.2.2.1.2
  have hP2 := hw.1.1.2
  obtain ⟨-, -, -, b3, -⟩ := hw.2.2.2.2.2.2.2.2.1 u hu
  unfold mv1
  by_cases e : m (110 + 8 * u + 3) = 0
  · rw [if_pos e]
    unfold stepR
    rcases nxI_cases hw (cn (m (110 + 8 * u + 2))) (cn (tgt m u)) with ⟨q, hq, hx, eq, hlt, h999⟩ | e2
    · rw [eq, cn_nI (by omega)]
      have hw1 : WF (setm m (110 + 8 * u + 2) (nI q)) := hw.un2 hu (by rw [cn_nI (by omega)]; exact ⟨bd_nI (by omega) (by decide), hq⟩)
      exact ⟨hw1.un3 (by rw [setm_ne (by omega)]; exact hu) (bd_nI (by omega) (by decide)), _, by omega, h999, setm_eq⟩
    · exact absurd ⟨e, by rw [e2]; decide⟩ hs
  · rw [if_neg e]
    refine ⟨hw, cn (m (110 + 8 * u + 3)), ?_, b3.2, b3.1⟩
    rcases Nat.eq_zero_or_pos (cn (m (110 + 8 * u + 3))) with z | z
    · exact absurd (by rw [b3.1, z]; rfl) e
    · exact z
theorem WF.wmv5 {m : Nat → Int32} (hw : WF m) {u : Nat} (hu : u < cn (m 2)) (hs : ¬ stuck m u) (hk : cn (m (110 + 8 * u + 4)) < 1003600) : WF (mv3 (mv1 m u) u) ∧ WF (mv4 (mv3 (mv1 m u) u) u) ∧ WF (mv5 m u) := by
  have hU := hw.2.2.1.2
  obtain ⟨-, -, -, -, b4, -⟩ := hw.2.2.2.2.2.2.2.2.1 u hu
  obtain ⟨w1, r, r1, r2, er⟩ := hw.wmv1 hu hs
  have e1 : mv1 m u 2 = m 2 := mv1_ne (by omega) (by omega)
  have w2 : WF (mv3 (mv1 m u) u) := by
    unfold mv3
    refine w1.un3 (by rw [e1]; exact hu) ?_
    rw [er, show (1 : Int32) = nI 1 from rfl, nI_sub r1]
    exact bd_nI (by omega) (by decide)
  have e2 : mv3 (mv1 m u) u 2 = m 2 := by unfold mv3; rw [setm_ne (by omega), e1]
  have e4 : mv3 (mv1 m u) u (110 + 8 * u + 4) = m (110 + 8 * u + 4) := by unfold mv3; rw [setm_ne (by omega), mv1_ne (by omega) (by omega)]
  have w3 : WF (mv4 (mv3 (mv1 m u) u) u) := by
    unfold mv4
    refine w2.un4 (by rw [e2]; exact hu) ?_
    rw [e4, b4.1, show (1 : Int32) = nI 1 from rfl, nI_add]
    exact bd_nI (by omega) (by decide)
  exact ⟨w2, w3, w3.sc5⟩
theorem WF.wmv6 {m : Nat → Int32} (hw : WF m) {u : Nat} (hu : u < cn (m 2)) (hs : ¬ stuck m u) (hk : cn (m (110 + 8 * u + 4)) < 1003600) : WF (mv6 m u) := by
  have hU := hw.2.2.1.2
  obtain ⟨-, -, -, -, -, -, -, -, hb⟩ := hw.2.2.2.2.2.2.2.2.1 u hu
  have w5 := (hw.wmv5 hu hs hk).2.2
  unfold mv6 mvG
  by_cases e : m (110 + 8 * u + 5) = 2
  · rw [if_pos e]
    exact w5.ca4 (by rw [mv5_ne (by omega) (by omega) (by omega) (by omega)]; exact (hb (Or.inl e)).2.1)
  · rw [if_neg e]
    exact w5
/-- cells that a unit's second leaves, of this unit -/
theorem mv6_st {m : Nat → Int32} {u : Nat} (hu : u < 6) : mv6 m u (110 + 8 * u + 5) = m (110 + 8 * u + 5) ∧ mv6 m u (110 + 8 * u + 6) = m (110 + 8 * u + 6) ∧ mv6 m u 2 = m 2 ∧ mv6 m u 3 = m 3 ∧ mv6 m u (110 + 8 * u) = m (110 + 8 * u) := by
  refine ⟨?_, ?_, ?_, ?_, ?_⟩ <;> exact mv6_ne (by omega) (by omega) (by omega) (by omega) (by omega)
theorem mv6_tgt {m : Nat → Int32} {u : Nat} (hu : u < 6) : tgt (mv6 m u) u = tgt m u := by
  obtain ⟨a, b, -, -, c⟩ := mv6_st (m := m) hu
  unfold tgt
  rw [a, b, c, mv6_ne (by omega) (by omega) (by omega) (by omega) (by omega)]
theorem WF.wmv7 {m : Nat → Int32} (hw : WF m) {u : Nat} (hu : u < cn (m 2)) (hs : ¬ stuck m u) (hk : cn (m (110 + 8 * u + 4)) < 1003600) : WF (mv7 m u) := by
  have hU := hw.2.2.1.2
  have w6 := hw.wmv6 hu hs hk
  obtain ⟨a, b, e2, e3, -⟩ := mv6_st (m := m) (show u < 6 by omega)
  unfold mv7 mvE
  by_cases z : mv6 m u (110 + 8 * u + 3) = 0 ∧ mv6 m u (110 + 8 * u + 2) = tgt m u
  · rw [if_pos z]
    by_cases e : m (110 + 8 * u + 5) = 2
    · rw [if_pos e]
      have hb : busy (mv6 m u) u := Or.inl (by rw [a]; exact e)
      refine w6.un5 (by rw [e2]; exact hu) (bd_nI (k := 3) (by decide) (by decide)) (fun _ => ⟨?_, fun v hv hbv he => ?_⟩)
      · obtain ⟨-, -, -, -, -, -, -, -, q⟩ := w6.2.2.2.2.2.2.2.2.1 u (by rw [e2]; exact hu)
        exact q hb
      · exact w6.2.2.2.2.2.2.2.2.2.1 v u hv (by rw [e2]; exact hu) hbv hb he
    · rw [if_neg e]
      exact w6.un5 (by rw [e2]; exact hu) (bd_nI (k := 0) (by decide) (by decide)) (fun y => by rcases y with y | y <;> exact absurd y (by decide))
  · rw [if_neg z]
    exact w6
noncomputable def mvQ (m : Nat → Int32) (u : Nat) : Nat → Int32 := @ite _ (stuck m u) (Classical.propDecidable _) m (mv7 m u)
theorem mvQ_pos {m : Nat → Int32} {u : Nat} (h : stuck m u) : mvQ m u = m := by unfold mvQ; rw [if_pos h]
theorem mvQ_neg {m : Nat → Int32} {u : Nat} (h : ¬ stuck m u) : mvQ m u = mv7 m u := by unfold mvQ; rw [if_neg h]
theorem c_moves {σ : St} {h u : Nat} {m : Nat → Int32} (hw : WF m) (hc : HC (σ h) m) (hk : KnC (σ h) m) (hu : u < cn (m 2)) (hwk : cn (m (110 + 8 * u + 4)) < 1003600) : Ret (F_X3_moves h (nI u) σ) (fun σ' => Hs σ σ' h (mvQ m u)) := by
  have hU := hw.2.2.1.2
  have h3 := hw.2.2.2.1.2
  obtain ⟨-, -, ⟨p1, p2⟩, b3, -, b5, -, -, hb⟩ := hw.2.2.2.2.2.2.2.2.1 u hu
  obtain ⟨c15, c16, c17, c18, c19, c20, -, -, c21⟩ := hc.2.2.1 u hu
  obtain ⟨g1, g2⟩ := tgt_lt hw hu
  have eg : tgt m u = nI (cn (tgt m u)) := g1.1
  unfold F_X3_moves
  rw [rdo_nI (by omega) (by decide), some_b, c20, ite_bind]
  have hz40 : (if (if m (110 + 8 * u + 5) = 2 then (1 : Int32) else 0) = 0 then (rdo σ h 15 6 (nI u)).bind (fun r2 => some (r2)) else (rdo σ h 21 6 (nI u)).bind (fun r3 => (rdo σ h 22 30 r3).bind (fun r4 => some (r4)))) = some (tgt m u) := by
    by_cases e : m (110 + 8 * u + 5) = 2
    · obtain ⟨t1, t2, -⟩ := hb (Or.inl e)
      rw [if_pos e, if_neg (by decide), rdo_nI (by omega) (by decide), some_b, c21 (Or.inl e), t1.1, rdo_nI (by omega) (by decide), some_b, (hc.2.2.2 _ t2).1]
      unfold tgt
      rw [if_pos e]
    · rw [if_neg e, if_pos rfl, rdo_nI (by omega) (by decide), some_b, c15]
      unfold tgt
      rw [if_neg e]
  rw [hz40, some_b, rdo_nI (by omega) (by decide), some_b, c18]
  refine Ret.bindL (Q := fun τ => ¬ stuck m u ∧ Hs σ τ h (mv1 m u)) ?_ ?_
  · by_cases e : m (110 + 8 * u + 3) = 0
    · rw [if_pos e, eg]
      refine Ret.bind (c_steps hw hc hk hu rfl g2) (fun r hr => ?_)
      rcases hr with ⟨hn, r1, H⟩ | ⟨hn, r1, H⟩
      · rw [r1, if_pos rfl]
        refine Ret.some (show Hs σ r.2 h (mvQ m u) from ?_)
        rw [mvQ_pos ⟨e, hn⟩]
        exact H
      · rw [r1, if_neg (by decide)]
        refine Ret.some ⟨fun z => hn z.2, ?_⟩
        unfold mv1
        rw [if_pos e]
        exact H
    · rw [if_neg e]
      refine Ret.some ⟨fun z => e z.1, ?_⟩
      unfold mv1
      rw [if_neg e]
      exact ⟨hc, hk, FrW.rf _ _⟩
  · rintro τ ⟨hs, H1⟩
    obtain ⟨w1, r, r1, r2, er⟩ := hw.wmv1 hu hs
    obtain ⟨w2, w3, w5⟩ := hw.wmv5 hu hs hwk
    have u1 : u < cn (mv1 m u 2) := by rw [mv1_ne (by omega) (by omega)]; exact hu
    have u2 : u < cn (mv3 (mv1 m u) u 2) := by unfold mv3; rw [setm_ne (by omega)]; exact u1
    have u3 : u < cn (mv4 (mv3 (mv1 m u) u) u 2) := by unfold mv4; rw [setm_ne (by omega)]; exact u2
    have u5 : u < cn (mv5 m u 2) := by rw [mv5_ne (by omega) (by omega) (by omega) (by omega)]; exact hu
    rw [rdo_nI (by omega) (by decide), some_b, (H1.1.2.2.1 u u1).2.2.2.1, wro_nI (by omega) (by decide), some_b]
    have H2 : Hs σ _ h (mv3 (mv1 m u) u) := H1.un3 w1 u1
    rw [rdo_nI (by omega) (by decide), some_b, (H2.1.2.2.1 u u2).2.2.2.2.1, wro_nI (by omega) (by decide), some_b]
    have H3 : Hs σ _ h (mv4 (mv3 (mv1 m u) u) u) := H2.un4 w2 u2
    rw [nst_b, H3.1.1.2.2.2.2.2.1]
    have H5 : Hs σ _ h (mv5 m u) := H3.sc5 w3
    refine Ret.bind (Q := fun τ6 => Hs σ τ6 h (mv6 m u)) ?_ (fun τ6 H6 => ?_)
    · by_cases e : m (110 + 8 * u + 5) = 2
      · obtain ⟨t1, t2, -⟩ := hb (Or.inl e)
        have eb : busy (mv5 m u) u := Or.inl (by rw [mv5_ne (by omega) (by omega) (by omega) (by omega)]; exact e)
        have t5 : cn (m (110 + 8 * u + 6)) < cn (mv5 m u 3) := by rw [mv5_ne (by omega) (by omega) (by omega) (by omega)]; exact t2
        rw [if_pos e, if_neg (by decide), rdo_nI (by omega) (by decide), some_b, (H5.1.2.2.1 u u5).2.2.2.2.2.2.2.2 eb, mv5_ne (by omega) (by omega) (by omega) (by omega), t1.1, rdo_nI (by omega) (by decide), some_b, wro_nI (by omega) (by decide), some_b]
        refine Ret.some ?_
        rw [(H5.1.2.2.2 _ t5).2.2.2.2.1]
        unfold mv6
        rw [if_pos e]
        exact H5.ca4 w5 t5
      · rw [if_neg e, if_pos rfl]
        unfold mv6
        rw [if_neg e]
        exact Ret.some H5
    · have w6 := hw.wmv6 hu hs hwk
      obtain ⟨a, b, e2, e3, -⟩ := mv6_st (m := m) (show u < 6 by omega)
      have u6 : u < cn (mv6 m u 2) := by rw [e2]; exact hu
      obtain ⟨-, -, d17, d18, -, d20, -, -, d21⟩ := H6.1.2.2.1 u u6
      rw [rdo_nI (by omega) (by decide), some_b, d18, mvQ_neg hs]
      unfold mv7 mvE
      by_cases z1 : mv6 m u (110 + 8 * u + 3) = 0
      · rw [if_pos z1, rdo_nI (by omega) (by decide), some_b, d17]
        by_cases z2 : mv6 m u (110 + 8 * u + 2) = tgt m u
        · have zz : mv6 m u (110 + 8 * u + 3) = 0 ∧ mv6 m u (110 + 8 * u + 2) = tgt m u := ⟨z1, z2⟩
          rw [if_pos z2, if_pos zz]
          by_cases e : m (110 + 8 * u + 5) = 2
          · rw [if_pos e, if_pos e, if_neg (by decide), some_b, wro_nI (by omega) (by decide), some_b]
            exact Ret.some (H6.un5 w6 u6 (fun _ => d21 (Or.inl (by rw [a]; exact e))))
          · rw [if_neg e, if_neg e, if_pos rfl, some_b, wro_nI (by omega) (by decide), some_b]
            exact Ret.some (H6.un5 w6 u6 (fun y => by rcases y with y | y <;> exact absurd y (by decide)))
        · rw [if_neg z2, if_neg (fun y => z2 y.2)]
          exact Ret.some H6
      · rw [if_neg z1, if_neg (fun y => z1 y.1)]
        exact Ret.some H6
