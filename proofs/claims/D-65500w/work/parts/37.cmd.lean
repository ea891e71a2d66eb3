/-! S6: a call more; a call's rank -/
set_option maxRecDepth 100000
def acR (m : Nat → Int32) (p d r : Nat) : Nat → Int32 := fun i => if i = 3 then nI (cn (m 3) + 1) else if i = 160 + 6 * cn (m 3) then nI p else if i = 160 + 6 * cn (m 3) + 1 then nI d else if i = 160 + 6 * cn (m 3) + 2 then nI r else if i = 160 + 6 * cn (m 3) + 3 then 1 else if 160 + 6 * cn (m 3) + 4 ≤ i ∧ i < 160 + 6 * cn (m 3) + 6 then 0 else m i
theorem acR_cells {m : Nat → Int32} {p d r : Nat} (hu : cn (m 3) < 30) : acR m p d r 3 = nI (cn (m 3) + 1) ∧ (∀ i, i ≠ 3 → (i < 160 + 6 * cn (m 3) ∨ 160 + 6 * cn (m 3) + 5 < i) → acR m p d r i = m i) ∧ acR m p d r (160 + 6 * cn (m 3)) = nI p ∧ acR m p d r (160 + 6 * cn (m 3) + 1) = nI d ∧ acR m p d r (160 + 6 * cn (m 3) + 2) = nI r ∧ acR m p d r (160 + 6 * cn (m 3) + 3) = 1 ∧ acR m p d r (160 + 6 * cn (m 3) + 4) = 0 ∧ acR m p d r (160 + 6 * cn (m 3) + 5) = 0 := by
  unfold acR
  refine ⟨?_, fun i h1 h2 => ?_, ?_, ?_, ?_, ?_, ?_, ?_⟩ <;> grind
theorem lp_ac66 {σ : St} {m : Nat → Int32} {u : Nat} {x y z : Int32} (hu : u < 30) : iter (fun c => B_X12_addCall_66 (nI u) x y z c.1 c.2) (nI 0, putr σ m) = some (putr σ (fun i => if 160 + 6 * u ≤ i ∧ i < 160 + 6 * u + 6 then 0 else m i)) := by
  have e : (fun i => if 160 + 6 * u ≤ i ∧ i < 160 + 6 * u + 0 then 0 else m i) = m := by
    funext i
    rw [if_neg (by omega)]
  have z := iter_row (f := fun c => B_X12_addCall_66 (nI u) x y z c.1 c.2) (fun k => (nI k, putr σ (fun i => if 160 + 6 * u ≤ i ∧ i < 160 + 6 * u + k then 0 else m i))) 6 (putr σ (fun i => if 160 + 6 * u ≤ i ∧ i < 160 + 6 * u + 6 then 0 else m i)) ?_ ?_ 0 (Nat.zero_le _)
  · rw [e] at z
    exact z
  · intro k hk
    show B_X12_addCall_66 (nI u) x y z (nI k) _ = _
    unfold B_X12_addCall_66
    rw [if_pos (show nI k < (6 : Int32) from nI_lt (b := 6) hk (by decide)), m_setCall (by omega) (by omega), some_b, nI_1]
    congr 4
    funext i
    unfold setm
    by_cases e : i = 160 + 6 * u + k
    · rw [if_pos e, if_pos (by omega)]
    · rw [if_neg e]
      show (if 160 + 6 * u ≤ i ∧ i < 160 + 6 * u + k then 0 else m i) = _
      by_cases e2 : 160 + 6 * u ≤ i ∧ i < 160 + 6 * u + k
      · rw [if_pos e2, if_pos (by omega)]
      · rw [if_neg e2, if_neg (by omega)]
  · show B_X12_addCall_66 (nI u) x y z (nI 6) _ = _
    unfold B_X12_addCall_66
    rw [if_neg (by decide)]
theorem Rok.ac {m : Nat → Int32} (h : Rok m) {p d r : Nat} (hk : cn (m 3) < 30) (ho : sumN (fun q => cn (m (160 + 6 * q + 3))) (cn (m 3)) < 6) (hp : p < cn (m 0)) (hd : d ≤ 2) (hr1 : 1 ≤ r) (hr2 : r ≤ 9) : Rok (acR m p d r) := by
  obtain ⟨hw, hg, hww, h4⟩ := h
  have b0 := hw.1.1.2
  have b1 := hw.2.1.2
  have b2 := hw.2.2.1.2
  obtain ⟨e3, ei, c0, c1, c2, c3, c4, c5⟩ := acR_cells (m := m) (p := p) (d := d) (r := r) hk
  generalize acR m p d r = m' at *
  have n3 : cn (m' 3) = cn (m 3) + 1 := by rw [e3, cn_nI (by omega)]
  have e0 := ei 0 (by decide) (by omega)
  have e1 := ei 1 (by decide) (by omega)
  have e2 := ei 2 (by decide) (by omega)
  have e4 := ei 4 (by decide) (by omega)
  have w : WF m' := by
    obtain ⟨q0, q1, q2, q3, q4, q7, q8, qs, qu, quv, qq⟩ := hw
    refine ⟨by rw [e0]; exact q0, by rw [e1]; exact q1, by rw [e2]; exact q2, by rw [e3]; exact bd_nI (by omega) (by decide), by rw [e4]; exact q4, by rw [ei 7 (by decide) (by omega)]; exact q7, by rw [ei 8 (by decide) (by omega)]; exact q8, fun k hk' => ?_, fun u hu => ?_, fun u v hu hv => ?_, fun q hq => ?_⟩
    · rw [e1] at hk'
      rw [e0, ei (10 + 5 * k) (by omega) (by omega), ei (10 + 5 * k + 1) (by omega) (by omega), ei (10 + 5 * k + 2) (by omega) (by omega), ei (10 + 5 * k + 3) (by omega) (by omega), ei (10 + 5 * k + 4) (by omega) (by omega), ei (340 + 2 * k) (by omega) (by omega), ei (340 + 2 * k + 1) (by omega) (by omega)]
      exact qs k hk'
    · rw [e2] at hu
      obtain ⟨x0, x1, x2, x3, x4, x5, x6, x7, x8⟩ := qu u hu
      unfold busy at x8 ⊢
      rw [e0, n3, ei (110 + 8 * u) (by omega) (by omega), ei (110 + 8 * u + 1) (by omega) (by omega), ei (110 + 8 * u + 2) (by omega) (by omega), ei (110 + 8 * u + 3) (by omega) (by omega), ei (110 + 8 * u + 4) (by omega) (by omega), ei (110 + 8 * u + 5) (by omega) (by omega), ei (110 + 8 * u + 6) (by omega) (by omega), ei (380 + 2 * u) (by omega) (by omega), ei (380 + 2 * u + 1) (by omega) (by omega)]
      refine ⟨x0, x1, x2, x3, x4, x5, x6, x7, fun y => ?_⟩
      obtain ⟨y1, y2, y3⟩ := x8 y
      refine ⟨y1, by omega, ?_⟩
      rw [ei _ (by omega) (by omega)]
      exact y3
    · rw [e2] at hu hv
      unfold busy
      rw [ei (110 + 8 * u + 5) (by omega) (by omega), ei (110 + 8 * v + 5) (by omega) (by omega), ei (110 + 8 * u + 6) (by omega) (by omega), ei (110 + 8 * v + 6) (by omega) (by omega)]
      exact quv u v hu hv
    · rw [n3] at hq
      by_cases e : q = cn (m 3)
      · subst e
        rw [e0, c0, c1, c2, c3, cn_nI (by omega), cn_nI (by omega)]
        exact ⟨⟨bd_nI (by omega) (by decide), hp⟩, bd_nI hd (by decide), ⟨bd_nI hr2 (by decide), hr1⟩, Or.inr rfl⟩
      · rw [e0, ei (160 + 6 * q) (by omega) (by omega), ei (160 + 6 * q + 1) (by omega) (by omega), ei (160 + 6 * q + 2) (by omega) (by omega), ei (160 + 6 * q + 3) (by omega) (by omega)]
        exact qq q (by omega)
  have hg' : WG m' 0 := by
    obtain ⟨g1, g2, g3, g4, g5, g6, g7, g8⟩ := hg
    have e5 := ei 5 (by decide) (by omega)
    have e6 := ei 6 (by decide) (by omega)
    have hsum : ∀ w, sumN (fun q => cn (m' (160 + 6 * q + w))) (cn (m 3)) = sumN (fun q => cn (m (160 + 6 * q + w))) (cn (m 3)) ∨ 6 ≤ w := by
      intro w
      by_cases hw' : 6 ≤ w
      · exact Or.inr hw'
      · exact Or.inl (sumN_congr (fun q hq => by rw [ei _ (by omega) (by omega)]))
    refine ⟨fun u hu => ?_, by rw [e5, e4]; exact g2, by rw [e6, e4]; exact g3, fun q hq => ?_, ?_, ?_, fun u hu => ?_, ?_⟩
    · rw [e2] at hu
      rw [ei _ (by omega) (by omega), e4]
      exact g1 u hu
    · rw [n3] at hq
      by_cases e : q = cn (m 3)
      · subst e
        rw [c4, c5]
        exact ⟨rfl, rfl⟩
      · rw [ei _ (by omega) (by omega), ei _ (by omega) (by omega)]
        exact g4 q (by omega)
    · rw [n3, e5, sumN, (hsum 4).resolve_right (by decide), c4]
      have : cn 0 = 0 := rfl
      omega
    · rw [n3, e6, sumN, (hsum 5).resolve_right (by decide), c5]
      have : cn 0 = 0 := rfl
      omega
    · rw [e2] at hu
      rw [ei _ (by omega) (by omega), ei _ (by omega) (by omega), ei _ (by omega) (by omega), ei _ (by omega) (by omega)]
      exact g7 u hu
    · rw [n3, sumN, (hsum 3).resolve_right (by decide), c3]
      have : cn 1 = 1 := rfl
      omega
  refine ⟨w, hg', hww.same (fun i hi => ei i (by omega) (by omega)) e1 e2 (ei 7 (by decide) (by omega)) (ei 8 (by decide) (by omega)), by rw [e4]; exact h4⟩
theorem c_addCall {σ : St} {h p d r : Nat} {m : Nat → Int32} (hw : WF m) (H : HH (σ h) m) (hk : cn (m 3) < 30) : Ret (F_X3_addCall h (nI p) (nI d) (nI r) σ) (fun z => z.1 = nI (cn (m 3)) ∧ (∀ a, a ≠ h → z.2 a = σ a) ∧ HH (z.2 h) (acR m p d r)) := by
  have b1 := hw.2.1.2
  have b2 := hw.2.2.1.2
  obtain ⟨e3, ei, c0, c1, c2, c3, c4, c5⟩ := acR_cells (m := m) (p := p) (d := d) (r := r) hk
  have hS : SameW m (acR m p d r) := by
    refine ⟨ei 0 (by decide) (by omega), ei 1 (by decide) (by omega), ?_, fun i hi => ei i (by omega) (by omega)⟩
    unfold hrs
    rw [ei 4 (by decide) (by omega)]
  generalize acR m p d r = m' at *
  have n3 : cn (m' 3) = cn (m 3) + 1 := by rw [e3, cn_nI (by omega)]
  obtain ⟨⟨z28, z29, z30, z31, z32, z33, z34, z35, z36⟩, hcs, hcu, hcq⟩ := H.1
  have hs : σ h 0 31 = nI (cn (m 3)) := z31.trans hw.2.2.2.1.1
  have hK := H.2.1
  generalize cn (m 3) = k at *
  unfold F_X3_addCall
  simp (disch := first | omega | decide | exact Or.inl rfl) only [hs, wro_nI, wrz_nI, some_b, up3_j, nst_b, zro_0]
  rw [nI_1]
  refine Ret.some ⟨rfl, fun x hx => by simp only [up3_g hx], ⟨⟨?_, ?_, ?_, ?_, ?_, ?_, ?_, ?_, ?_⟩, fun j hj => ?_, fun u hu => ?_, fun q hq => ?_⟩, ?_, ?_, ?_⟩
  · simp (disch := decide) only [up3_i, up3_j]; rw [ei 0 (by decide) (by omega)]; exact z28
  · simp (disch := decide) only [up3_i, up3_j]; rw [ei 1 (by decide) (by omega)]; exact z29
  · simp (disch := decide) only [up3_i, up3_j]; rw [ei 2 (by decide) (by omega)]; exact z30
  · simp (disch := decide) only [up3_i, up3_j, up3_same]; exact e3.symm
  · simp (disch := decide) only [up3_i, up3_j]; rw [ei 4 (by decide) (by omega)]; exact z32
  · simp (disch := decide) only [up3_i, up3_j]; rw [ei 5 (by decide) (by omega)]; exact z33
  · simp (disch := decide) only [up3_i, up3_j]; rw [ei 6 (by decide) (by omega)]; exact z34
  · simp (disch := decide) only [up3_i, up3_j]; rw [ei 7 (by decide) (by omega)]; exact z35
  · simp (disch := decide) only [up3_i, up3_j]; rw [ei 8 (by decide) (by omega)]; exact z36
  · rw [hS.2.1] at hj
    simp (disch := decide) only [up3_j]
    rw [ei (10 + 5 * j) (by omega) (by omega), ei (10 + 5 * j + 1) (by omega) (by omega), ei (10 + 5 * j + 2) (by omega) (by omega), ei (10 + 5 * j + 3) (by omega) (by omega), ei (10 + 5 * j + 4) (by omega) (by omega), ei (340 + 2 * j) (by omega) (by omega), ei (340 + 2 * j + 1) (by omega) (by omega)]
    exact hcs j hj
  · rw [ei 2 (by decide) (by omega)] at hu
    simp (disch := omega) only [up3_j, up3_i]
    have hx := hcu u (by omega)
    unfold busy at hx ⊢
    rw [ei (110 + 8 * u) (by omega) (by omega), ei (110 + 8 * u + 1) (by omega) (by omega), ei (110 + 8 * u + 2) (by omega) (by omega), ei (110 + 8 * u + 3) (by omega) (by omega), ei (110 + 8 * u + 4) (by omega) (by omega), ei (110 + 8 * u + 5) (by omega) (by omega), ei (110 + 8 * u + 6) (by omega) (by omega), ei (380 + 2 * u) (by omega) (by omega), ei (380 + 2 * u + 1) (by omega) (by omega)]
    exact hx
  · rw [n3] at hq
    by_cases e : q = k
    · subst e
      simp (disch := decide) only [up3_j, up3_same]
      rw [c0, c1, c2, c3, c4, c5]
      exact ⟨rfl, rfl, rfl, rfl, rfl, rfl⟩
    · simp (disch := omega) only [up3_j, up3_i]
      rw [ei (160 + 6 * q) (by omega) (by omega), ei (160 + 6 * q + 1) (by omega) (by omega), ei (160 + 6 * q + 2) (by omega) (by omega), ei (160 + 6 * q + 3) (by omega) (by omega), ei (160 + 6 * q + 4) (by omega) (by omega), ei (160 + 6 * q + 5) (by omega) (by omega)]
      exact hcq q (by omega)
  · have hK2 := hK.same hS hw
    unfold KnC at hK2 ⊢
    simp (disch := decide) only [up3_i, up3_j]
    exact hK2
  · exact H.2.2.1.same (fun i hi => ei i (by omega) (by omega)) (ei 7 (by decide) (by omega)) (ei 8 (by decide) (by omega)) (fun j h1 h2 => by simp (disch := omega) only [up3_j])
  · exact H.2.2.2.same (fun j h1 h2 => by simp (disch := omega) only [up3_j])
