/-! S6: shifts, the component -/
set_option maxRecDepth 100000
theorem HC.agree {c : Nat → Nat → Int32} {m m' : Nat → Int32} (hw : WF m) (h : HC c m) (hm : ∀ i, i < 392 → m' i = m i) : HC c m' := by
  have b1 := hw.2.1.2
  have b2 := hw.2.2.1.2
  have b3 := hw.2.2.2.1.2
  obtain ⟨hz, hs, hu, hq⟩ := h
  refine ⟨?_, fun k hk => ?_, fun u hk => ?_, fun q hk => ?_⟩
  · rw [hm 0 (by decide), hm 1 (by decide), hm 2 (by decide), hm 3 (by decide), hm 4 (by decide), hm 5 (by decide), hm 6 (by decide), hm 7 (by decide), hm 8 (by decide)]
    exact hz
  · rw [hm 1 (by decide)] at hk
    simp (disch := omega) only [hm]
    exact hs k hk
  · rw [hm 2 (by decide)] at hk
    unfold busy
    simp (disch := omega) only [hm]
    exact hu u hk
  · rw [hm 3 (by decide)] at hk
    simp (disch := omega) only [hm]
    exact hq q hk
theorem c_shift {σ : St} {h : Nat} {m : Nat → Int32} (hw : WF m) (hww : WW m) (H : HH (σ h) m) : Ret (F_X3_shift h σ) (fun τ => (∀ a, a ≠ h → τ a = σ a) ∧ HH (τ h) (shR m)) := by
  have b7 := hw.2.2.2.2.2.1.2
  have b8' := hw.2.2.2.2.2.2.1
  have b82 := b8'.2
  obtain ⟨e8, ei, ea, eb⟩ := shR_cells (m := m)
  obtain ⟨z28, z29, z30, z31, z32, z33, z34, z35, z36⟩ := H.1.1
  unfold F_X3_shift
  rw [show ((11 : Int32), σ) = (nI 11, σ) from rfl, lp_shift, some_b]
  rw [show (wro (putj σ h 14 (shF (σ h 14) 9)) h 14 12 (0 : Int32) (putj σ h 14 (shF (σ h 14) 9) h 0 32)) = some (up3 (putj σ h 14 (shF (σ h 14) 9)) h 14 0 (putj σ h 14 (shF (σ h 14) 9) h 0 32)) from wro_nI (k := 0) (by decide) (by decide), some_b]
  rw [show (1 : Int32) = nI 1 from rfl, wro_nI (by decide) (by decide), some_b, show (2 : Int32) = nI 2 from rfl, wro_nI (by decide) (by decide), some_b, nst_b]
  have e36 : imin (nI (cn (m 8)) + nI 1) 4 = nI (min (cn (m 8) + 1) 4) := by
    rw [nI_add, show (4 : Int32) = nI 4 from rfl, imin_nI (by omega) (by decide)]
  simp only [putj_up]
  simp (disch := decide) only [up3_j, putj_j]
  rw [z32, z33, z34, z36, b8'.1, e36]
  generalize hf : setm (setm (setm (shF (σ h 14) 9) 0 (m 4)) 1 (m 5)) 2 (m 6) = f
  have f0 : ∀ k, k < 3 → f k = m (4 + k) := by
    intro k hk
    rw [← hf]
    have : k = 0 ∨ k = 1 ∨ k = 2 := by omega
    rcases this with rfl | rfl | rfl
    · rw [setm_ne (by decide), setm_ne (by decide), setm_eq]
    · rw [setm_ne (by decide), setm_eq]
    · rw [setm_eq]
  have f3 : ∀ k, 3 ≤ k → k < 12 → f k = σ h 14 (k - 3) := by
    intro k h1 h2
    rw [← hf, setm_ne (by omega), setm_ne (by omega), setm_ne (by omega)]
    unfold shF
    rw [if_pos (by omega)]
  have hS : SameW m (shR m) := by
    refine ⟨ei 0 (by decide) (by omega), ei 1 (by decide) (by omega), ?_, fun i hi => ei i (by omega) (by omega)⟩
    unfold hrs
    rw [ei 4 (by decide) (by omega)]
  have hC : ∀ j, j ≠ 14 → putj σ h 14 f h j = σ h j := fun j hj => putj_j hj
  refine Ret.some ⟨fun a ha => by rw [up3_g ha, putj_g ha], ?_, ?_, ⟨fun p hp => ?_, fun k hk => ?_, fun k hk => ?_⟩, ?_⟩
  · rw [up3_cells]
    have h1 : HC (putj σ h 14 f h) m := by
      obtain ⟨hz, hs, hu, hq⟩ := H.1
      refine ⟨?_, fun k hk => ?_, fun u hk => ?_, fun q hk => ?_⟩
      · simp (disch := decide) only [hC]; exact hz
      · simp (disch := decide) only [hC]; exact hs k hk
      · simp (disch := decide) only [hC]; exact hu u hk
      · simp (disch := decide) only [hC]; exact hq q hk
    refine HC.agree (hw.sc8 (v := nI (min (cn (m 8) + 1) 4)) (bd_nI (by omega) (by decide))) h1.sc8 (fun i hi => ?_)
    by_cases e : i = 8
    · rw [e, e8, setm_eq]
    · rw [ei i e (by omega), setm_ne e]
  · have hK := H.2.1.same hS hw
    unfold KnC at hK ⊢
    rw [up3_i (by decide), up3_j (by decide), hC 0 (by decide), hC 28 (by decide)]
    exact hK
  · rw [up3_j (by decide), up3_j (by decide), hC 13 (by decide), hC 11 (by decide), ei _ (by omega) (by omega)]
    refine ⟨(H.2.2.1.1 p hp).1, fun i hi => ?_⟩
    have hx1 := (hww.1 p hp).1.2
    rw [ei _ (by omega) (by omega)]
    exact (H.2.2.1.1 p hp).2 i hi
  · rw [e8, cn_nI (by omega)] at hk
    rw [up3_j (by decide), putj_row]
    by_cases e : k < 3
    · rw [f0 k e, ea k e]
    · rw [f3 k (by omega) (by omega), eb k (by omega) (by omega)]
      exact H.2.2.1.2.1 (k - 3) (by omega)
  · have hm : ∀ i, 508 ≤ i → shR m i = m i := fun i hi => ei i (by omega) (by omega)
    have o : ∀ b n, 508 ≤ b → offN (shR m) b n = offN m b n := by
      intro b n hb
      induction n with
      | zero => rfl
      | succ n ih => rw [offN, offN, ih, hm _ (by omega)]
    rw [ei 7 (by decide) (by omega)] at hk
    rw [up3_j (by decide), up3_j (by decide), hC 12 (by decide), hC 10 (by decide), hm (508 + 128 * k) (by omega), o _ _ (by omega)]
    refine ⟨(H.2.2.1.2.2 k hk).1, fun i hi => ?_⟩
    rw [hm _ (by omega), o _ _ (by omega)]
    exact (H.2.2.1.2.2 k hk).2 i hi
  · have hB := H.2.2.2
    unfold HB at hB ⊢
    rw [up3_j (by decide), up3_j (by decide), hC 10 (by decide), hC 11 (by decide)]
    exact hB
