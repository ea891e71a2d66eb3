/-! S6: a unit more -/
set_option maxRecDepth 100000
theorem auR_cells {m : Nat → Int32} {p d : Nat} (hu : cn (m 2) < 6) : auR m p d 2 = nI (cn (m 2) + 1) ∧ (∀ i, i ≠ 2 → (i < 110 + 8 * cn (m 2) ∨ 110 + 8 * cn (m 2) + 7 < i) → auR m p d i = m i) ∧ auR m p d (110 + 8 * cn (m 2)) = nI p ∧ auR m p d (110 + 8 * cn (m 2) + 1) = nI d ∧ auR m p d (110 + 8 * cn (m 2) + 2) = nI p ∧ ∀ w, 3 ≤ w → w < 8 → auR m p d (110 + 8 * cn (m 2) + w) = 0 := by
  unfold auR
  refine ⟨?_, fun i h1 h2 => ?_, ?_, ?_, ?_, fun w h1 h2 => ?_⟩ <;> grind
theorem Rok.au {m : Nat → Int32} (h : Rok m) {p d : Nat} (hk : cn (m 2) < 6) (hp : p < cn (m 0)) (hd : d ≤ 7) : Rok (auR m p d) := by
  obtain ⟨hw, hg, hww, h4⟩ := h
  have b0 := hw.1.1.2
  have b1 := hw.2.1.2
  have b3 := hw.2.2.2.1.2
  obtain ⟨e2, ei, c0, c1, c2, cz⟩ := auR_cells (m := m) (p := p) (d := d) hk
  have z := hww.2.2.2.2.1 (cn (m 2)) (Nat.le_refl _) hk
  generalize auR m p d = m' at *
  have n2 : cn (m' 2) = cn (m 2) + 1 := by rw [e2, cn_nI (by omega)]
  have e0 := ei 0 (by decide) (by omega)
  have e1 := ei 1 (by decide) (by omega)
  have e3 := ei 3 (by decide) (by omega)
  have e4 := ei 4 (by decide) (by omega)
  have c3 := cz 3 (by decide) (by decide)
  have c4 := cz 4 (by decide) (by decide)
  have c5 := cz 5 (by decide) (by decide)
  have c6 := cz 6 (by decide) (by decide)
  have hnb : ¬ busy m' (cn (m 2)) := by unfold busy; rw [c5]; decide
  have w : WF m' := by
    obtain ⟨q0, q1, q2, q3, q4, q7, q8, qs, qu, quv, qq⟩ := hw
    refine ⟨by rw [e0]; exact q0, by rw [e1]; exact q1, by rw [e2]; exact bd_nI (by omega) (by decide), by rw [e3]; exact q3, by rw [e4]; exact q4, by rw [ei 7 (by decide) (by omega)]; exact q7, by rw [ei 8 (by decide) (by omega)]; exact q8, fun k hk' => ?_, fun u hu => ?_, fun u v hu hv hbu hbv => ?_, fun q hq => ?_⟩
    · rw [e1] at hk'
      rw [e0, ei (10 + 5 * k) (by omega) (by omega), ei (10 + 5 * k + 1) (by omega) (by omega), ei (10 + 5 * k + 2) (by omega) (by omega), ei (10 + 5 * k + 3) (by omega) (by omega), ei (10 + 5 * k + 4) (by omega) (by omega), ei (340 + 2 * k) (by omega) (by omega), ei (340 + 2 * k + 1) (by omega) (by omega)]
      exact qs k hk'
    · rw [n2] at hu
      by_cases e : u = cn (m 2)
      · subst e
        rw [e0, c0, c1, c2, c3, c4, c5, ei _ (by omega) (by omega), ei _ (by omega) (by omega), z.1, z.2, cn_nI (by omega)]
        exact ⟨⟨bd_nI (by omega) (by decide), hp⟩, bd_nI hd (by decide), ⟨bd_nI (by omega) (by decide), hp⟩, bd_nI (k := 0) (by decide) (by decide), bd_nI (k := 0) (by decide) (by decide), bd_nI (k := 0) (by decide) (by decide), bd_nI (k := 0) (by decide) (by decide), bd_nI (k := 0) (by decide) (by decide), fun y => absurd y hnb⟩
      · have hx := qu u (by omega)
        unfold busy at hx ⊢
        rw [e0, e3, ei (110 + 8 * u) (by omega) (by omega), ei (110 + 8 * u + 1) (by omega) (by omega), ei (110 + 8 * u + 2) (by omega) (by omega), ei (110 + 8 * u + 3) (by omega) (by omega), ei (110 + 8 * u + 4) (by omega) (by omega), ei (110 + 8 * u + 5) (by omega) (by omega), ei (110 + 8 * u + 6) (by omega) (by omega), ei (380 + 2 * u) (by omega) (by omega), ei (380 + 2 * u + 1) (by omega) (by omega), ei (160 + 6 * cn (m (110 + 8 * u + 6)) + 3) (by omega) (by omega)]
        exact hx
    · rw [n2] at hu hv
      have hu' : u < cn (m 2) := by
        by_cases e : u = cn (m 2)
        · subst e; exact absurd hbu hnb
        · omega
      have hv' : v < cn (m 2) := by
        by_cases e : v = cn (m 2)
        · subst e; exact absurd hbv hnb
        · omega
      unfold busy at hbu hbv
      rw [ei (110 + 8 * u + 5) (by omega) (by omega)] at hbu
      rw [ei (110 + 8 * v + 5) (by omega) (by omega)] at hbv
      rw [ei (110 + 8 * u + 6) (by omega) (by omega), ei (110 + 8 * v + 6) (by omega) (by omega)]
      exact quv u v hu' hv' hbu hbv
    · rw [e3] at hq
      rw [e0, ei (160 + 6 * q) (by omega) (by omega), ei (160 + 6 * q + 1) (by omega) (by omega), ei (160 + 6 * q + 2) (by omega) (by omega), ei (160 + 6 * q + 3) (by omega) (by omega)]
      exact qq q hq
  have hg' : WG m' 0 := by
    obtain ⟨g1, g2, g3, g4, g5, g6, g7, g8⟩ := hg
    have e5 := ei 5 (by decide) (by omega)
    have e6 := ei 6 (by decide) (by omega)
    refine ⟨fun u hu => ?_, by rw [e5, e4]; exact g2, by rw [e6, e4]; exact g3, fun q hq => ?_, ?_, ?_, fun u hu => ?_, ?_⟩
    · rw [n2] at hu
      by_cases e : u = cn (m 2)
      · subst e
        rw [c4]
        exact Nat.zero_le _
      · rw [ei _ (by omega) (by omega), e4]
        exact g1 u (by omega)
    · rw [e3] at hq
      rw [ei _ (by omega) (by omega), ei _ (by omega) (by omega)]
      exact g4 q hq
    · rw [e3, e5, sumN_congr (g := fun q => cn (m (160 + 6 * q + 4))) (fun q hq => by rw [ei _ (by omega) (by omega)])]
      exact g5
    · rw [e3, e6, sumN_congr (g := fun q => cn (m (160 + 6 * q + 5))) (fun q hq => by rw [ei _ (by omega) (by omega)])]
      exact g6
    · rw [n2] at hu
      by_cases e : u = cn (m 2)
      · subst e
        rw [c3, c2, c0]
        exact fun _ => ⟨rfl, rfl⟩
      · rw [ei _ (by omega) (by omega), ei _ (by omega) (by omega), ei _ (by omega) (by omega), ei _ (by omega) (by omega)]
        exact g7 u (by omega)
    · rw [e3, sumN_congr (g := fun q => cn (m (160 + 6 * q + 3))) (fun q hq => by rw [ei _ (by omega) (by omega)])]
      exact g8
  refine ⟨w, hg', hww.mid (fun i hi => ei i (by omega) (by omega)) (ei 7 (by decide) (by omega)) (ei 8 (by decide) (by omega)) (fun k h1 h2 => ?_) (fun u h1 h2 => ?_), by rw [e4]; exact h4⟩
  · rw [e1] at h1
    rw [ei _ (by omega) (by omega), ei _ (by omega) (by omega)]
    exact hww.2.2.2.1 k h1 h2
  · rw [n2] at h1
    rw [ei _ (by omega) (by omega), ei _ (by omega) (by omega)]
    exact hww.2.2.2.2.1 u (by omega) h2
theorem c_addUnit {σ : St} {h p d : Nat} {m : Nat → Int32} (hw : WF m) (hww : WW m) (H : HH (σ h) m) (hk : cn (m 2) < 6) : Ret (F_X3_addUnit h (nI p) (nI d) σ) (fun τ => (∀ a, a ≠ h → τ a = σ a) ∧ HH (τ h) (auR m p d)) := by
  have b1 := hw.2.1.2
  have b3 := hw.2.2.2.1.2
  obtain ⟨e2, ei, c0, c1, c2, cz⟩ := auR_cells (m := m) (p := p) (d := d) hk
  have z := hww.2.2.2.2.1 (cn (m 2)) (Nat.le_refl _) hk
  have hS : SameW m (auR m p d) := by
    refine ⟨ei 0 (by decide) (by omega), ei 1 (by decide) (by omega), ?_, fun i hi => ei i (by omega) (by omega)⟩
    unfold hrs
    rw [ei 4 (by decide) (by omega)]
  generalize auR m p d = m' at *
  have n2 : cn (m' 2) = cn (m 2) + 1 := by rw [e2, cn_nI (by omega)]
  have c3 := cz 3 (by decide) (by decide)
  have c4 := cz 4 (by decide) (by decide)
  have c5 := cz 5 (by decide) (by decide)
  obtain ⟨⟨z28, z29, z30, z31, z32, z33, z34, z35, z36⟩, hcs, hcu, hcq⟩ := H.1
  have hs : σ h 0 30 = nI (cn (m 2)) := z30.trans hw.2.2.1.1
  have hK := H.2.1
  generalize cn (m 2) = k at *
  unfold F_X3_addUnit
  simp (disch := first | omega | decide | assumption) only [hs, wro_nI, wrz_nI, some_b, up3_j, nst_b, zro_0]
  rw [nI_1]
  refine Ret.some ⟨fun x hx => by simp only [up3_g hx], ⟨⟨?_, ?_, ?_, ?_, ?_, ?_, ?_, ?_, ?_⟩, fun j hj => ?_, fun u hu => ?_, fun q hq => ?_⟩, ?_, ?_, ?_⟩
  · simp (disch := decide) only [up3_i, up3_j]; rw [ei 0 (by decide) (by omega)]; exact z28
  · simp (disch := decide) only [up3_i, up3_j]; rw [ei 1 (by decide) (by omega)]; exact z29
  · simp (disch := decide) only [up3_i, up3_j, up3_same]; exact e2.symm
  · simp (disch := decide) only [up3_i, up3_j]; rw [ei 3 (by decide) (by omega)]; exact z31
  · simp (disch := decide) only [up3_i, up3_j]; rw [ei 4 (by decide) (by omega)]; exact z32
  · simp (disch := decide) only [up3_i, up3_j]; rw [ei 5 (by decide) (by omega)]; exact z33
  · simp (disch := decide) only [up3_i, up3_j]; rw [ei 6 (by decide) (by omega)]; exact z34
  · simp (disch := decide) only [up3_i, up3_j]; rw [ei 7 (by decide) (by omega)]; exact z35
  · simp (disch := decide) only [up3_i, up3_j]; rw [ei 8 (by decide) (by omega)]; exact z36
  · rw [hS.2.1] at hj
    simp (disch := decide) only [up3_j]
    rw [ei (10 + 5 * j) (by omega) (by omega), ei (10 + 5 * j + 1) (by omega) (by omega), ei (10 + 5 * j + 2) (by omega) (by omega), ei (10 + 5 * j + 3) (by omega) (by omega), ei (10 + 5 * j + 4) (by omega) (by omega), ei (340 + 2 * j) (by omega) (by omega), ei (340 + 2 * j + 1) (by omega) (by omega)]
    exact hcs j hj
  · rw [n2] at hu
    by_cases e : u = k
    · subst e
      simp (disch := decide) only [up3_j, up3_same]
      rw [c0, c1, c2, c3, c4, c5, ei _ (by omega) (by omega), ei _ (by omega) (by omega), z.1, z.2]
      refine ⟨rfl, rfl, rfl, rfl, rfl, rfl, rfl, rfl, fun y => ?_⟩
      unfold busy at y
      rw [c5] at y
      exact absurd y (by decide)
    · simp (disch := omega) only [up3_j, up3_i]
      have hx := hcu u (by omega)
      unfold busy at hx ⊢
      rw [ei (110 + 8 * u) (by omega) (by omega), ei (110 + 8 * u + 1) (by omega) (by omega), ei (110 + 8 * u + 2) (by omega) (by omega), ei (110 + 8 * u + 3) (by omega) (by omega), ei (110 + 8 * u + 4) (by omega) (by omega), ei (110 + 8 * u + 5) (by omega) (by omega), ei (110 + 8 * u + 6) (by omega) (by omega), ei (380 + 2 * u) (by omega) (by omega), ei (380 + 2 * u + 1) (by omega) (by omega)]
      exact hx
  · rw [ei 3 (by decide) (by omega)] at hq
    simp (disch := decide) only [up3_j]
    rw [ei (160 + 6 * q) (by omega) (by omega), ei (160 + 6 * q + 1) (by omega) (by omega), ei (160 + 6 * q + 2) (by omega) (by omega), ei (160 + 6 * q + 3) (by omega) (by omega), ei (160 + 6 * q + 4) (by omega) (by omega), ei (160 + 6 * q + 5) (by omega) (by omega)]
    exact hcq q hq
  · have hK2 := hK.same hS hw
    unfold KnC at hK2 ⊢
    simp (disch := decide) only [up3_i, up3_j]
    exact hK2
  · exact H.2.2.1.same (fun i hi => ei i (by omega) (by omega)) (ei 7 (by decide) (by omega)) (ei 8 (by decide) (by omega)) (fun j h1 h2 => by simp (disch := omega) only [up3_j])
  · exact H.2.2.2.same (fun j h1 h2 => by simp (disch := omega) only [up3_j])
