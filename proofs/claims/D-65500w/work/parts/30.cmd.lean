/-! S6: sound rows and what a command leaves -/
set_option maxRecDepth 100000
theorem offN_same {m m' : Nat → Int32} {b : Nat} (h : ∀ i, 392 ≤ i → m' i = m i) (hb : 392 ≤ b) : ∀ n, offN m' b n = offN m b n := by
  intro n
  induction n with
  | zero => rfl
  | succ n ih => rw [offN, offN, ih, h _ (by omega)]
theorem dueN_same {m m' : Nat → Int32} {b : Nat} (h : ∀ i, 392 ≤ i → m' i = m i) (hb : 392 ≤ b) : ∀ n, dueN m' b n = dueN m b n := by
  intro n
  induction n with
  | zero => rfl
  | succ n ih => rw [dueN, dueN, ih, h _ (by omega)]
theorem HW.same {c c' : Nat → Nat → Int32} {m m' : Nat → Int32} (h : HW c m) (hm : ∀ i, 392 ≤ i → m' i = m i) (h7 : m' 7 = m 7) (h8 : m' 8 = m 8) (hc : ∀ j, 10 ≤ j → j ≤ 14 → c' j = c j) : HW c' m' := by
  obtain ⟨a1, a2, a3⟩ := h
  refine ⟨fun p hp => ?_, fun k hk => ?_, fun k hk => ?_⟩
  · rw [hc 13 (by decide) (by decide), hc 11 (by decide) (by decide), hm _ (by omega)]
    refine ⟨(a1 p hp).1, fun i hi => ?_⟩
    rw [hm _ (by omega)]
    exact (a1 p hp).2 i hi
  · rw [h8] at hk
    rw [hc 14 (by decide) (by decide), hm _ (by omega)]
    exact a2 k hk
  · rw [h7] at hk
    rw [hc 12 (by decide) (by decide), hc 10 (by decide) (by decide), hm (508 + 128 * k) (by omega), offN_same hm (by omega)]
    refine ⟨(a3 k hk).1, fun i hi => ?_⟩
    rw [hm _ (by omega), offN_same hm (by omega)]
    exact (a3 k hk).2 i hi
theorem HB.same {c c' : Nat → Nat → Int32} (h : HB c) (hc : ∀ j, 10 ≤ j → j ≤ 14 → c' j = c j) : HB c' := by
  unfold HB
  rw [hc 10 (by decide) (by decide), hc 11 (by decide) (by decide)]
  exact h
theorem WW.same {m m' : Nat → Int32} (h : WW m) (hm : ∀ i, 340 ≤ i → m' i = m i) (h1 : m' 1 = m 1) (h2 : m' 2 = m 2) (h7 : m' 7 = m 7) (h8 : m' 8 = m 8) : WW m' := by
  have hm2 : ∀ i, 392 ≤ i → m' i = m i := fun i hi => hm i (by omega)
  obtain ⟨a1, a2, a3, a4, a5, a6⟩ := h
  refine ⟨fun p hp => ?_, fun k hk => ?_, fun k hk => ?_, fun k hk hk2 => ?_, fun u hu hu2 => ?_, fun i hi => ?_⟩
  · rw [hm _ (by omega)]
    refine ⟨(a1 p hp).1, fun i hi => ?_⟩
    rw [hm _ (by omega)]
    exact (a1 p hp).2 i hi
  · rw [h8] at hk
    rw [hm _ (by omega)]
    exact a2 k hk
  · rw [h7] at hk
    rw [hm (508 + 128 * k) (by omega), offN_same hm2 (by omega), dueN_same hm2 (by omega)]
    obtain ⟨q1, q2, q3, q4, q5⟩ := a3 k hk
    refine ⟨q1, q2, fun i hi => ?_, fun i hi => ?_, q5⟩
    · rw [hm _ (by omega)]
      exact q3 i hi
    · rw [dueN_same hm2 (by omega)]
      exact q4 i hi
  · rw [h1] at hk
    rw [hm _ (by omega), hm _ (by omega)]
    exact a4 k hk hk2
  · rw [h2] at hu
    rw [hm _ (by omega), hm _ (by omega)]
    exact a5 u hu hu2
  · rw [hm i (by omega)]
    exact a6 i hi
theorem WG.same {m m' : Nat → Int32} (h : WG m 0) (hw : WF m) (e2 : m' 2 = m 2) (e3 : m' 3 = m 3) (e4 : m' 4 = m 4) (e5 : m' 5 = m 5) (e6 : m' 6 = m 6) (ew : ∀ u, u < 6 → m' (110 + 8 * u + 4) = m (110 + 8 * u + 4)) (eq : ∀ q w, q < 30 → 4 ≤ w → w ≤ 5 → m' (160 + 6 * q + w) = m (160 + 6 * q + w)) (g7 : ∀ u, u < cn (m 2) → m' (110 + 8 * u + 5) = 0 ∨ m' (110 + 8 * u + 5) = 4 → m' (110 + 8 * u + 3) = 0 ∧ m' (110 + 8 * u + 2) = m' (110 + 8 * u)) (g8 : sumN (fun q => cn (m' (160 + 6 * q + 3))) (cn (m 3)) ≤ 6) : WG m' 0 := by
  have b2 := hw.2.2.1.2
  have b3 := hw.2.2.2.1.2
  obtain ⟨a1, a2, a3, a4, a5, a6, a7, a8⟩ := h
  refine ⟨fun u hu => ?_, by rw [e5, e4]; exact a2, by rw [e6, e4]; exact a3, fun q hq => ?_, ?_, ?_, fun u hu => ?_, by rw [e3]; exact g8⟩
  · rw [e2] at hu
    rw [e4, ew u (by omega)]
    exact a1 u hu
  · rw [e3] at hq
    rw [eq q 4 (by omega) (by decide) (by decide), eq q 5 (by omega) (by decide) (by decide)]
    exact a4 q hq
  · rw [e3, e5, sumN_congr (g := fun q => cn (m (160 + 6 * q + 4))) (fun q hq => by rw [eq q 4 (by omega) (by decide) (by decide)])]
    exact a5
  · rw [e3, e6, sumN_congr (g := fun q => cn (m (160 + 6 * q + 5))) (fun q hq => by rw [eq q 5 (by omega) (by decide) (by decide)])]
    exact a6
  · rw [e2] at hu
    exact g7 u hu
/-- a sound row -/
def RokB (m : Nat → Int32) (B : Nat) : Prop := WF m ∧ WG m 0 ∧ WW m ∧ cn (m 4) ≤ B
abbrev Rok (m : Nat → Int32) : Prop := RokB m 1000000
/-- streets: shut, opened, hours -/
theorem Rok.st4 {m : Nat → Int32} (h : Rok m) {k : Nat} {v : Int32} (hk : k < cn (m 1)) (hv : v = 0 ∨ v = 1) : Rok (setm m (10 + 5 * k + 4) v) := by
  have b1 := h.1.2.1.2
  have b2 := h.1.2.2.1.2
  have b3 := h.1.2.2.2.1.2
  refine ⟨h.1.st4 hk hv, h.2.1.same h.1 (setm_ne (by omega)) (setm_ne (by omega)) (setm_ne (by omega)) (setm_ne (by omega)) (setm_ne (by omega)) (fun u hu => setm_ne (by omega)) (fun q w hq h1 h2 => setm_ne (by omega)) (fun u hu => ?_) ?_, h.2.2.1.same (fun i hi => setm_ne (by omega)) (setm_ne (by omega)) (setm_ne (by omega)) (setm_ne (by omega)) (setm_ne (by omega)), by rw [setm_ne (by omega)]; exact h.2.2.2⟩
  · simp (disch := omega) only [setm_ne]
    exact h.2.1.2.2.2.2.2.2.1 u hu
  · rw [sumN_congr (g := fun q => cn (m (160 + 6 * q + 3))) (fun q hq => by rw [setm_ne (by omega)])]
    exact h.2.1.2.2.2.2.2.2.2
theorem c_shut {σ : St} {h k : Nat} {m : Nat → Int32} {v : Int32} (hw : WF m) (H : HH (σ h) m) (hk : k < cn (m 1)) (hv : v = 0 ∨ v = 1) : Ret (F_X3_shut h (nI k) (1 - v) σ) (fun τ => (∀ a, a ≠ h → τ a = σ a) ∧ HH (τ h) (setm m (10 + 5 * k + 4) v)) := by
  have b1 := hw.2.1.2
  unfold F_X3_shut
  rw [wrz_nI (by omega) (by decide) (by rcases hv with e | e <;> rw [e] <;> decide), some_b, zro_0, some_b, nst_b]
  refine Ret.some ⟨fun a ha => by rw [up3_g ha, up3_g ha], ?_, ?_, ?_, ?_⟩
  · rw [up3_cells, up3_cells]
    exact (H.1.st4 hw hk).known
  · rw [up3_cells]
    exact ⟨Or.inl setc_eq, fun z => absurd (setc_eq.symm.trans z) (by decide)⟩
  · exact H.2.2.1.same (fun i hi => setm_ne (by omega)) (setm_ne (by omega)) (setm_ne (by omega)) (fun j h1 h2 => by rw [up3_j (by omega), up3_j (by omega)])
  · exact H.2.2.2.same (fun j h1 h2 => by rw [up3_j (by omega), up3_j (by omega)])
