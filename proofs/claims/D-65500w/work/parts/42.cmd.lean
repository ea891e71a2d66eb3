/-! S6: shifts, whole -/
set_option maxRecDepth 100000
theorem m_shift {σ : St} {m : Nat → Int32} {x y : Int32} (hk : σ 20 0 20 = 18) (h8 : bd (m 8) 4) : F_X12_tellMore x y (putr σ m) = some (putr σ (shR m)) := by
  unfold F_X12_tellMore
  rw [putr_j (by decide), hk, if_neg (by decide), if_neg (by decide), if_neg (by decide), show ((11 : Int32), putr σ m) = (nI 11, putr σ m) from rfl, lp_shM, some_b]
  have key := iter_row (f := fun z => B_X12_tellMore_196 z.1 z.2) (fun k => (nI k, putr σ (fun i => if 496 ≤ i ∧ i < 496 + k then m (i - 492) else if 499 ≤ i ∧ i < 508 then m (i - 3) else m i))) 3 (putr σ (fun i => if 496 ≤ i ∧ i < 499 then m (i - 492) else if 499 ≤ i ∧ i < 508 then m (i - 3) else m i)) ?_ ?_ 0 (Nat.zero_le _)
  · have e : (fun i => if 496 ≤ i ∧ i < 496 + 0 then m (i - 492) else if 499 ≤ i ∧ i < 508 then m (i - 3) else m i) = (fun i => if 499 ≤ i ∧ i < 508 then m (i - 3) else m i) := by
      funext i
      rw [if_neg (by omega)]
    rw [e] at key
    have h82 := h8.2
    rw [show ((0 : Int32), putr σ (fun i => if 499 ≤ i ∧ i < 508 then m (i - 3) else m i)) = (nI 0, putr σ (fun i => if 499 ≤ i ∧ i < 508 then m (i - 3) else m i)) from rfl, key, some_b, m_rd8, some_b, putr_row]
    have e8 : (if 496 ≤ 8 ∧ 8 < 499 then m (8 - 492) else if 499 ≤ 8 ∧ 8 < 508 then m (8 - 3) else m 8) = m 8 := by rw [if_neg (by omega), if_neg (by omega)]
    simp only [e8, some_b]
    by_cases z : cn (m 8) < 4
    · rw [if_pos (show m 8 < (4 : Int32) from (bd_gt (k := 4) h8 (by decide) (by decide)).mpr z), show (8 : Int32) = nI 8 from rfl, m_wr (by decide), some_b]
      congr 2
      funext i
      unfold setm shR
      by_cases e : i = 8
      · rw [if_pos e, if_pos e, Nat.min_eq_left (by omega), ← nI_1, ← h8.1]
      · rw [if_neg e, if_neg e]
    · rw [if_neg (show ¬ m 8 < (4 : Int32) from fun y => z ((bd_gt (k := 4) h8 (by decide) (by decide)).mp y))]
      congr 2
      funext i
      unfold shR
      by_cases e : i = 8
      · subst e
        rw [if_pos rfl, if_neg (by omega), if_neg (by omega), Nat.min_eq_right (by omega), h8.1, show cn (m 8) = 4 by omega]
      · rw [if_neg e]
  · intro k hk'
    show B_X12_tellMore_196 (nI k) (putr σ (fun i => if 496 ≤ i ∧ i < 496 + k then m (i - 492) else if 499 ≤ i ∧ i < 508 then m (i - 3) else m i)) = _
    unfold B_X12_tellMore_196
    rw [if_pos (show nI k < (3 : Int32) from nI_lt (b := 3) hk' (by decide)), show (4 : Int32) = nI 4 from rfl, show (496 : Int32) = nI 496 from rfl, nI_add, nI_add, m_rd (by omega), some_b, m_wr (by omega), some_b, putr_row, nI_1]
    congr 4
    funext i
    unfold setm
    by_cases e : i = 496 + k
    · rw [if_pos e, if_neg (by omega), if_neg (by omega), if_pos (by omega)]
      congr 1
      omega
    · rw [if_neg e]
      show (if 496 ≤ i ∧ i < 496 + k then m (i - 492) else if 499 ≤ i ∧ i < 508 then m (i - 3) else m i) = _
      by_cases e2 : 496 ≤ i ∧ i < 496 + k
      · rw [if_pos e2, if_pos (by omega)]
      · rw [if_neg e2, if_neg (show ¬ (496 ≤ i ∧ i < 496 + (k + 1)) by omega)]
  · show B_X12_tellMore_196 (nI 3) _ = _
    unfold B_X12_tellMore_196
    rw [if_neg (by decide)]
theorem shR_cells {m : Nat → Int32} : shR m 8 = nI (min (cn (m 8) + 1) 4) ∧ (∀ i, i ≠ 8 → (i < 496 ∨ 508 ≤ i) → shR m i = m i) ∧ (∀ k, k < 3 → shR m (496 + k) = m (4 + k)) ∧ ∀ k, 3 ≤ k → k < 12 → shR m (496 + k) = m (496 + (k - 3)) := by
  unfold shR
  refine ⟨by rw [if_pos rfl], fun i h1 h2 => ?_, fun k hk => ?_, fun k h1 h2 => ?_⟩
  · rw [if_neg h1, if_neg (by omega), if_neg (by omega)]
  · rw [if_neg (by omega), if_pos (by omega)]
    congr 1
    omega
  · rw [if_neg (by omega), if_neg (by omega), if_pos (by omega)]
    congr 1
    omega
theorem Rok.sh {m : Nat → Int32} (h : Rok m) : Rok (shR m) := by
  obtain ⟨hw, hg, hww, h4⟩ := h
  have b1 := hw.2.1.2
  have b2 := hw.2.2.1.2
  have b3 := hw.2.2.2.1.2
  have b7 := hw.2.2.2.2.2.1.2
  have b8' := hw.2.2.2.2.2.2.1
  obtain ⟨e8, ei, ea, eb⟩ := shR_cells (m := m)
  generalize shR m = m' at *
  have n8 : cn (m' 8) = min (cn (m 8) + 1) 4 := by rw [e8, cn_nI (by omega)]
  have w : WF m' := by
    obtain ⟨q0, q1, q2, q3, q4, q7, q8, qs, qu, quv, qq⟩ := hw
    have e0 := ei 0 (by decide) (by omega)
    have e1 := ei 1 (by decide) (by omega)
    have e2 := ei 2 (by decide) (by omega)
    have e3 := ei 3 (by decide) (by omega)
    refine ⟨by rw [e0]; exact q0, by rw [e1]; exact q1, by rw [e2]; exact q2, by rw [e3]; exact q3, by rw [ei 4 (by decide) (by omega)]; exact q4, by rw [ei 7 (by decide) (by omega)]; exact q7, by rw [e8]; exact bd_nI (by omega) (by decide), fun k hk' => ?_, fun u hu => ?_, fun u v hu hv => ?_, fun q hq => ?_⟩
    · rw [e1] at hk'
      rw [e0, ei (10 + 5 * k) (by omega) (by omega), ei (10 + 5 * k + 1) (by omega) (by omega), ei (10 + 5 * k + 2) (by omega) (by omega), ei (10 + 5 * k + 3) (by omega) (by omega), ei (10 + 5 * k + 4) (by omega) (by omega), ei (340 + 2 * k) (by omega) (by omega), ei (340 + 2 * k + 1) (by omega) (by omega)]
      exact qs k hk'
    · rw [e2] at hu
      obtain ⟨x0, x1, x2, x3, x4, x5, x6, x7, x8⟩ := qu u hu
      unfold busy at x8 ⊢
      rw [e0, e3, ei (110 + 8 * u) (by omega) (by omega), ei (110 + 8 * u + 1) (by omega) (by omega), ei (110 + 8 * u + 2) (by omega) (by omega), ei (110 + 8 * u + 3) (by omega) (by omega), ei (110 + 8 * u + 4) (by omega) (by omega), ei (110 + 8 * u + 5) (by omega) (by omega), ei (110 + 8 * u + 6) (by omega) (by omega), ei (380 + 2 * u) (by omega) (by omega), ei (380 + 2 * u + 1) (by omega) (by omega)]
      refine ⟨x0, x1, x2, x3, x4, x5, x6, x7, fun y => ?_⟩
      obtain ⟨y1, y2, y3⟩ := x8 y
      refine ⟨y1, by omega, ?_⟩
      rw [ei _ (by omega) (by omega)]
      exact y3
    · rw [e2] at hu hv
      unfold busy
      rw [ei (110 + 8 * u + 5) (by omega) (by omega), ei (110 + 8 * v + 5) (by omega) (by omega), ei (110 + 8 * u + 6) (by omega) (by omega), ei (110 + 8 * v + 6) (by omega) (by omega)]
      exact quv u v hu hv
    · rw [e3] at hq
      rw [e0, ei (160 + 6 * q) (by omega) (by omega), ei (160 + 6 * q + 1) (by omega) (by omega), ei (160 + 6 * q + 2) (by omega) (by omega), ei (160 + 6 * q + 3) (by omega) (by omega)]
      exact qq q hq
  refine ⟨w, hg.same hw (ei 2 (by decide) (by omega)) (ei 3 (by decide) (by omega)) (ei 4 (by decide) (by omega)) (ei 5 (by decide) (by omega)) (ei 6 (by decide) (by omega)) (fun u hu => ei _ (by omega) (by omega)) (fun q w hq h1 h2 => ei _ (by omega) (by omega)) (fun u hu => ?_) ?_, ⟨fun p hp => ?_, fun k hk => ?_, fun k hk => ?_, fun k h1 h2 => ?_, fun u h1 h2 => ?_, fun i hi => ?_⟩, by rw [ei 4 (by decide) (by omega)]; exact h4⟩
  · rw [ei _ (by omega) (by omega), ei _ (by omega) (by omega), ei _ (by omega) (by omega), ei _ (by omega) (by omega)]
    exact hg.2.2.2.2.2.2.1 u hu
  · rw [sumN_congr (g := fun q => cn (m (160 + 6 * q + 3))) (fun q hq => by rw [ei _ (by omega) (by omega)])]
    exact hg.2.2.2.2.2.2.2
  · have hx := hww.1 p hp
    have hx1 := hx.1.2
    rw [ei _ (by omega) (by omega)]
    refine ⟨hx.1, fun i hi => ?_⟩
    rw [ei _ (by omega) (by omega)]
    exact hx.2 i hi
  · have g2 := hg.2.1
    have g3 := hg.2.2.1
    have h44 := hw.2.2.2.2.1
    rw [n8] at hk
    by_cases e : k < 3
    · rw [ea k e]
      have : k = 0 ∨ k = 1 ∨ k = 2 := by omega
      rcases this with rfl | rfl | rfl
      · exact ⟨h44.1, by have := h44.2; show cn (m 4) ≤ _; omega⟩
      · exact ⟨g2.1, by have := g2.2; show cn (m 5) ≤ _; omega⟩
      · exact ⟨g3.1, by have := g3.2; show cn (m 6) ≤ _; omega⟩
    · rw [eb k (by omega) (by omega)]
      exact hww.2.1 (k - 3) (by omega)
  · rw [ei 7 (by decide) (by omega)] at hk
    have hm : ∀ i, 508 ≤ i → m' i = m i := fun i hi => ei i (by omega) (by omega)
    have o : ∀ b n, 508 ≤ b → offN m' b n = offN m b n := by
      intro b n hb
      induction n with
      | zero => rfl
      | succ n ih => rw [offN, offN, ih, hm _ (by omega)]
    have d : ∀ b n, 508 ≤ b → dueN m' b n = dueN m b n := by
      intro b n hb
      induction n with
      | zero => rfl
      | succ n ih => rw [dueN, dueN, ih, hm _ (by omega)]
    rw [hm (508 + 128 * k) (by omega), o _ _ (by omega), d _ _ (by omega)]
    obtain ⟨q1, q2, q3, q4, q5⟩ := hww.2.2.1 k hk
    refine ⟨q1, q2, fun i hi => ?_, fun i hi => ?_, q5⟩
    · rw [hm _ (by omega)]
      exact q3 i hi
    · rw [d _ _ (by omega)]
      exact q4 i hi
  · rw [ei 1 (by decide) (by omega)] at h1
    rw [ei _ (by omega) (by omega), ei _ (by omega) (by omega)]
    exact hww.2.2.2.1 k h1 h2
  · rw [ei 2 (by decide) (by omega)] at h1
    rw [ei _ (by omega) (by omega), ei _ (by omega) (by omega)]
    exact hww.2.2.2.2.1 u h1 h2
  · rw [ei i (by omega) (by omega)]
    exact hww.2.2.2.2.2 i hi
