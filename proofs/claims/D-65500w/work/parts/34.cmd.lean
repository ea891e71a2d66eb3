/-! S6: a street more -/
set_option maxRecDepth 100000
def asR (m : Nat → Int32) (a b s : Nat) (l : Int32) : Nat → Int32 := setm (setm (setm (setm (setm (setm m (10 + 5 * cn (m 1)) (nI a)) (10 + 5 * cn (m 1) + 1) (nI b)) (10 + 5 * cn (m 1) + 2) (nI s)) (10 + 5 * cn (m 1) + 3) l) (10 + 5 * cn (m 1) + 4) 1) 1 (m 1 + 1)
theorem asR_cells {m : Nat → Int32} {a b s : Nat} {l : Int32} (hk : bd (m 1) 19) : asR m a b s l 1 = nI (cn (m 1) + 1) ∧ (∀ i, i ≠ 1 → (i < 10 + 5 * cn (m 1) ∨ 10 + 5 * cn (m 1) + 4 < i) → asR m a b s l i = m i) ∧ asR m a b s l (10 + 5 * cn (m 1)) = nI a ∧ asR m a b s l (10 + 5 * cn (m 1) + 1) = nI b ∧ asR m a b s l (10 + 5 * cn (m 1) + 2) = nI s ∧ asR m a b s l (10 + 5 * cn (m 1) + 3) = l ∧ asR m a b s l (10 + 5 * cn (m 1) + 4) = 1 := by
  unfold asR
  refine ⟨?_, fun i h1 h2 => ?_, ?_, ?_, ?_, ?_, ?_⟩
  · rw [setm_eq, ← nI_1, ← hk.1]
  all_goals simp (disch := omega) only [setm_ne, setm_eq]
theorem Rok.as {m : Nat → Int32} (h : Rok m) {a b s : Nat} {l : Int32} (hk : cn (m 1) < 20) (ha : a < cn (m 0)) (hb : b < cn (m 0)) (hab : a ≠ b) (hs1 : 1 ≤ s) (hs2 : s ≤ 999) (hl : l = 0 ∨ l = 1) : Rok (asR m a b s l) := by
  obtain ⟨hw, hg, hww, h4⟩ := h
  have b0 := hw.1.1.2
  have b2 := hw.2.2.1.2
  have b3 := hw.2.2.2.1.2
  obtain ⟨e1, ei, c0, c1, c2, c3, c4⟩ := asR_cells (m := m) (a := a) (b := b) (s := s) (l := l) ⟨hw.2.1.1, by omega⟩
  have z := hww.2.2.2.1 (cn (m 1)) (Nat.le_refl _) hk
  generalize asR m a b s l = m' at *
  have n1 : cn (m' 1) = cn (m 1) + 1 := by rw [e1, cn_nI (by omega)]
  have e0 := ei 0 (by decide) (by omega)
  have e2 := ei 2 (by decide) (by omega)
  have e3 := ei 3 (by decide) (by omega)
  have e4 := ei 4 (by decide) (by omega)
  have w : WF m' := by
    obtain ⟨q0, q1, q2, q3, q4, q7, q8, qs, qu, quv, qq⟩ := hw
    refine ⟨by rw [e0]; exact q0, by rw [e1]; exact bd_nI (by omega) (by decide), by rw [e2]; exact q2, by rw [e3]; exact q3, by rw [e4]; exact q4, by rw [ei 7 (by decide) (by omega)]; exact q7, by rw [ei 8 (by decide) (by omega)]; exact q8, fun k hk' => ?_, fun u hu => ?_, fun u v hu hv => ?_, fun q hq => ?_⟩
    · rw [n1] at hk'
      rw [e0]
      by_cases e : k = cn (m 1)
      · rw [e, c0, c1, c2, c3, c4, ei _ (by omega) (by omega), ei _ (by omega) (by omega), z.1, z.2, cn_nI (by omega), cn_nI (by omega), cn_nI (by omega)]
        exact ⟨⟨bd_nI (by omega) (by decide), ha⟩, ⟨bd_nI (by omega) (by decide), hb⟩, fun y => hab ((nI_eq (by omega) (by omega)).mp y), ⟨bd_nI hs2 (by decide), hs1⟩, hl, Or.inr rfl, bd_nI (k := 0) (by decide) (by decide), bd_nI (k := 0) (by decide) (by decide)⟩
      · rw [ei (10 + 5 * k) (by omega) (by omega), ei (10 + 5 * k + 1) (by omega) (by omega), ei (10 + 5 * k + 2) (by omega) (by omega), ei (10 + 5 * k + 3) (by omega) (by omega), ei (10 + 5 * k + 4) (by omega) (by omega), ei (340 + 2 * k) (by omega) (by omega), ei (340 + 2 * k + 1) (by omega) (by omega)]
        exact qs k (by omega)
    · rw [e2] at hu
      unfold busy
      rw [e0, e3, ei (110 + 8 * u) (by omega) (by omega), ei (110 + 8 * u + 1) (by omega) (by omega), ei (110 + 8 * u + 2) (by omega) (by omega), ei (110 + 8 * u + 3) (by omega) (by omega), ei (110 + 8 * u + 4) (by omega) (by omega), ei (110 + 8 * u + 5) (by omega) (by omega), ei (110 + 8 * u + 6) (by omega) (by omega), ei (380 + 2 * u) (by omega) (by omega), ei (380 + 2 * u + 1) (by omega) (by omega), ei (160 + 6 * cn (m (110 + 8 * u + 6)) + 3) (by omega) (by omega)]
      exact qu u hu
    · rw [e2] at hu hv
      unfold busy
      rw [ei (110 + 8 * u + 5) (by omega) (by omega), ei (110 + 8 * v + 5) (by omega) (by omega), ei (110 + 8 * u + 6) (by omega) (by omega), ei (110 + 8 * v + 6) (by omega) (by omega)]
      exact quv u v hu hv
    · rw [e3] at hq
      rw [e0, ei (160 + 6 * q) (by omega) (by omega), ei (160 + 6 * q + 1) (by omega) (by omega), ei (160 + 6 * q + 2) (by omega) (by omega), ei (160 + 6 * q + 3) (by omega) (by omega)]
      exact qq q hq
  refine ⟨w, hg.same hw e2 e3 e4 (ei 5 (by decide) (by omega)) (ei 6 (by decide) (by omega)) (fun u hu => ei _ (by omega) (by omega)) (fun q w hq h1 h2 => ei _ (by omega) (by omega)) (fun u hu => ?_) ?_, hww.mid (fun i hi => ei i (by omega) (by omega)) (ei 7 (by decide) (by omega)) (ei 8 (by decide) (by omega)) (fun k h1 h2 => ?_) (fun u h1 h2 => ?_), by rw [e4]; exact h4⟩
  · rw [ei _ (by omega) (by omega), ei _ (by omega) (by omega), ei _ (by omega) (by omega), ei _ (by omega) (by omega)]
    exact hg.2.2.2.2.2.2.1 u hu
  · rw [sumN_congr (g := fun q => cn (m (160 + 6 * q + 3))) (fun q hq => by rw [ei _ (by omega) (by omega)])]
    exact hg.2.2.2.2.2.2.2
  · rw [n1] at h1
    rw [ei _ (by omega) (by omega), ei _ (by omega) (by omega)]
    exact hww.2.2.2.1 k (by omega) h2
  · rw [e2] at h1
    rw [ei _ (by omega) (by omega), ei _ (by omega) (by omega)]
    exact hww.2.2.2.2.1 u h1 h2
theorem c_addStreet {σ : St} {h a b s : Nat} {l : Int32} {m : Nat → Int32} (hw : WF m) (hww : WW m) (H : HH (σ h) m) (hk : cn (m 1) < 20) (hl : l = 0 ∨ l = 1) : Ret (F_X3_addStreet h (nI a) (nI b) (nI s) l σ) (fun τ => (∀ a, a ≠ h → τ a = σ a) ∧ HH (τ h) (asR m a b s l)) := by
  have b2 := hw.2.2.1.2
  have b3 := hw.2.2.2.1.2
  obtain ⟨e1, ei, c0, c1, c2, c3, c4⟩ := asR_cells (m := m) (a := a) (b := b) (s := s) (l := l) ⟨hw.2.1.1, by omega⟩
  have z := hww.2.2.2.1 (cn (m 1)) (Nat.le_refl _) hk
  generalize asR m a b s l = m' at *
  have n1 : cn (m' 1) = cn (m 1) + 1 := by rw [e1, cn_nI (by omega)]
  obtain ⟨⟨z28, z29, z30, z31, z32, z33, z34, z35, z36⟩, hcs, hcu, hcq⟩ := H.1
  have hs : σ h 0 29 = nI (cn (m 1)) := z29.trans hw.2.1.1
  generalize cn (m 1) = k at *
  unfold F_X3_addStreet
  simp (disch := first | omega | decide | assumption) only [hs, wro_nI, wrz_nI, some_b, up3_j, nst_b, zro_0]
  rw [nI_1]
  refine Ret.some ⟨fun x hx => by simp only [up3_g hx], ⟨⟨?_, ?_, ?_, ?_, ?_, ?_, ?_, ?_, ?_⟩, fun j hj => ?_, fun u hu => ?_, fun q hq => ?_⟩, ⟨?_, ?_⟩, ?_, ?_⟩
  · simp (disch := decide) only [up3_i, up3_j]; rw [ei 0 (by decide) (by omega)]; exact z28
  · simp (disch := decide) only [up3_i, up3_j, up3_same]; exact e1.symm
  · simp (disch := decide) only [up3_i, up3_j]; rw [ei 2 (by decide) (by omega)]; exact z30
  · simp (disch := decide) only [up3_i, up3_j]; rw [ei 3 (by decide) (by omega)]; exact z31
  · simp (disch := decide) only [up3_i, up3_j]; rw [ei 4 (by decide) (by omega)]; exact z32
  · simp (disch := decide) only [up3_i, up3_j]; rw [ei 5 (by decide) (by omega)]; exact z33
  · simp (disch := decide) only [up3_i, up3_j]; rw [ei 6 (by decide) (by omega)]; exact z34
  · simp (disch := decide) only [up3_i, up3_j]; rw [ei 7 (by decide) (by omega)]; exact z35
  · simp (disch := decide) only [up3_i, up3_j]; rw [ei 8 (by decide) (by omega)]; exact z36
  · rw [n1] at hj
    by_cases e : j = k
    · subst e
      simp (disch := decide) only [up3_j, up3_same]
      rw [c0, c1, c2, c3, c4, ei _ (by omega) (by omega), ei _ (by omega) (by omega), z.1, z.2]
      exact ⟨rfl, rfl, rfl, rfl, rfl, rfl, rfl⟩
    · simp (disch := omega) only [up3_j, up3_i]
      rw [ei (10 + 5 * j) (by omega) (by omega), ei (10 + 5 * j + 1) (by omega) (by omega), ei (10 + 5 * j + 2) (by omega) (by omega), ei (10 + 5 * j + 3) (by omega) (by omega), ei (10 + 5 * j + 4) (by omega) (by omega), ei (340 + 2 * j) (by omega) (by omega), ei (340 + 2 * j + 1) (by omega) (by omega)]
      exact hcs j (by omega)
  · rw [ei 2 (by decide) (by omega)] at hu
    simp (disch := decide) only [up3_j]
    unfold busy
    rw [ei (110 + 8 * u) (by omega) (by omega), ei (110 + 8 * u + 1) (by omega) (by omega), ei (110 + 8 * u + 2) (by omega) (by omega), ei (110 + 8 * u + 3) (by omega) (by omega), ei (110 + 8 * u + 4) (by omega) (by omega), ei (110 + 8 * u + 5) (by omega) (by omega), ei (110 + 8 * u + 6) (by omega) (by omega), ei (380 + 2 * u) (by omega) (by omega), ei (380 + 2 * u + 1) (by omega) (by omega)]
    exact hcu u hu
  · rw [ei 3 (by decide) (by omega)] at hq
    simp (disch := decide) only [up3_j]
    rw [ei (160 + 6 * q) (by omega) (by omega), ei (160 + 6 * q + 1) (by omega) (by omega), ei (160 + 6 * q + 2) (by omega) (by omega), ei (160 + 6 * q + 3) (by omega) (by omega), ei (160 + 6 * q + 4) (by omega) (by omega), ei (160 + 6 * q + 5) (by omega) (by omega)]
    exact hcq q hq
  · rw [up3_same]; exact Or.inl rfl
  · intro y; rw [up3_same] at y; exact absurd y (by decide)
  · exact H.2.2.1.same (fun i hi => ei i (by omega) (by omega)) (ei 7 (by decide) (by omega)) (ei 8 (by decide) (by omega)) (fun j h1 h2 => by simp (disch := omega) only [up3_j])
  · exact H.2.2.2.same (fun j h1 h2 => by simp (disch := omega) only [up3_j])
