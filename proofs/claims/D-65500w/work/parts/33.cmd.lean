/-! S6: posts, units off and on, hours, times away -/
set_option maxRecDepth 100000
theorem WW.mid {m m' : Nat → Int32} (h : WW m) (hm : ∀ i, 392 ≤ i → m' i = m i) (h7 : m' 7 = m 7) (h8 : m' 8 = m 8) (z1 : ∀ k, cn (m' 1) ≤ k → k < 20 → m' (340 + 2 * k) = 0 ∧ m' (340 + 2 * k + 1) = 0) (z2 : ∀ u, cn (m' 2) ≤ u → u < 6 → m' (380 + 2 * u) = 0 ∧ m' (380 + 2 * u + 1) = 0) : WW m' := by
  obtain ⟨a1, a2, a3, a4, a5, a6⟩ := h
  refine ⟨fun p hp => ?_, fun k hk => ?_, fun k hk => ?_, z1, z2, fun i hi => ?_⟩
  · rw [hm _ (by omega)]
    refine ⟨(a1 p hp).1, fun i hi => ?_⟩
    rw [hm _ (by omega)]
    exact (a1 p hp).2 i hi
  · rw [h8] at hk
    rw [hm _ (by omega)]
    exact a2 k hk
  · rw [h7] at hk
    rw [hm (508 + 128 * k) (by omega), offN_same hm (by omega), dueN_same hm (by omega)]
    obtain ⟨q1, q2, q3, q4, q5⟩ := a3 k hk
    refine ⟨q1, q2, fun i hi => ?_, fun i hi => ?_, q5⟩
    · rw [hm _ (by omega)]
      exact q3 i hi
    · rw [dueN_same hm (by omega)]
      exact q4 i hi
  · rw [hm i (by omega)]
    exact a6 i hi
/-- a row where only hours and times away have changed -/
theorem Rok.times {m m' : Nat → Int32} (h : Rok m) (hw : WF m') (hi : ∀ i, (i < 340 ∨ 392 ≤ i) → m' i = m i) (z1 : ∀ k, cn (m 1) ≤ k → k < 20 → m' (340 + 2 * k) = 0 ∧ m' (340 + 2 * k + 1) = 0) (z2 : ∀ u, cn (m 2) ≤ u → u < 6 → m' (380 + 2 * u) = 0 ∧ m' (380 + 2 * u + 1) = 0) : Rok m' := by
  have b2 := h.1.2.2.1.2
  have b3 := h.1.2.2.2.1.2
  refine ⟨hw, h.2.1.same h.1 (hi 2 (by omega)) (hi 3 (by omega)) (hi 4 (by omega)) (hi 5 (by omega)) (hi 6 (by omega)) (fun u hu => hi _ (by omega)) (fun q w hq h1 h2 => hi _ (by omega)) (fun u hu => ?_) ?_, h.2.2.1.mid (fun i hi' => hi i (by omega)) (hi 7 (by omega)) (hi 8 (by omega)) (by rw [hi 1 (by omega)]; exact z1) (by rw [hi 2 (by omega)]; exact z2), by rw [hi 4 (by omega)]; exact h.2.2.2⟩
  · rw [hi _ (by omega), hi _ (by omega), hi _ (by omega), hi _ (by omega)]
    exact h.2.1.2.2.2.2.2.2.1 u hu
  · rw [sumN_congr (g := fun q => cn (m (160 + 6 * q + 3))) (fun q hq => by rw [hi _ (by omega)])]
    exact h.2.1.2.2.2.2.2.2.2
/-- hours of a street -/
def hoR (m : Nat → Int32) (k a b : Nat) : Nat → Int32 := setm (setm m (340 + 2 * k) (nI a)) (340 + 2 * k + 1) (nI b)
theorem WF.ho {m : Nat → Int32} (hw : WF m) {k a b : Nat} (hk : k < cn (m 1)) (ha : a ≤ 23) (hb : b ≤ 23) : WF (setm m (340 + 2 * k) (nI a)) ∧ WF (hoR m k a b) := by
  have b1 := hw.2.1.2
  have w1 := hw.st5 hk (bd_nI ha (by decide))
  exact ⟨w1, w1.st6 (by rw [setm_ne (by omega)]; exact hk) (bd_nI hb (by decide))⟩
theorem Rok.ho {m : Nat → Int32} (h : Rok m) {k a b : Nat} (hk : k < cn (m 1)) (ha : a ≤ 23) (hb : b ≤ 23) : Rok (hoR m k a b) := by
  have b1 := h.1.2.1.2
  have w := (h.1.ho hk ha hb).2
  unfold hoR at w ⊢
  refine h.times w (fun i hi => by rw [setm_ne (by omega), setm_ne (by omega)]) (fun j h1 h2 => ?_) (fun u h1 h2 => ?_)
  · simp (disch := omega) only [setm_ne]
    exact h.2.2.1.2.2.2.1 j h1 h2
  · simp (disch := omega) only [setm_ne]
    exact h.2.2.1.2.2.2.2.1 u h1 h2
theorem c_keepHours {σ : St} {h k a b : Nat} {m : Nat → Int32} (hw : WF m) (H : HH (σ h) m) (hk : k < cn (m 1)) (ha : a ≤ 23) (hb : b ≤ 23) : Ret (F_X3_keepHours h (nI k) (nI a) (nI b) σ) (fun τ => (∀ a, a ≠ h → τ a = σ a) ∧ HH (τ h) (hoR m k a b)) := by
  have b1 := hw.2.1.2
  obtain ⟨w1, w2⟩ := hw.ho hk ha hb
  unfold F_X3_keepHours
  rw [wro_nI (by omega) (by decide), some_b, wro_nI (by omega) (by decide), some_b, zro_0, some_b, nst_b]
  refine Ret.some ⟨fun a ha => by rw [up3_g ha, up3_g ha, up3_g ha], ?_, ?_, ?_, ?_⟩
  · rw [up3_cells, up3_cells, up3_cells]
    exact (HC.st6 w1 (H.1.st5 hw hk) (by rw [setm_ne (by omega)]; exact hk)).known
  · rw [up3_cells]
    exact ⟨Or.inl setc_eq, fun z => absurd (setc_eq.symm.trans z) (by decide)⟩
  · exact H.2.2.1.same (fun i hi => by unfold hoR; rw [setm_ne (by omega), setm_ne (by omega)]) (by unfold hoR; rw [setm_ne (by omega), setm_ne (by omega)]) (by unfold hoR; rw [setm_ne (by omega), setm_ne (by omega)]) (fun j h1 h2 => by rw [up3_j (by omega), up3_j (by omega), up3_j (by omega)])
  · exact H.2.2.2.same (fun j h1 h2 => by rw [up3_j (by omega), up3_j (by omega), up3_j (by omega)])
/-- times of a unit that is away -/
def awR (m : Nat → Int32) (u a b : Nat) : Nat → Int32 := setm (setm m (380 + 2 * u) (nI a)) (380 + 2 * u + 1) (nI b)
theorem WF.aw {m : Nat → Int32} (hw : WF m) {u a b : Nat} (hu : u < cn (m 2)) (ha : a ≤ 99999999) (hb : b ≤ 99999999) : WF (setm m (380 + 2 * u) (nI a)) ∧ WF (awR m u a b) := by
  have b1 := hw.2.2.1.2
  have w1 := hw.un6 hu (bd_nI ha (by decide))
  exact ⟨w1, w1.un7 (by rw [setm_ne (by omega)]; exact hu) (bd_nI hb (by decide))⟩
theorem Rok.aw {m : Nat → Int32} (h : Rok m) {u a b : Nat} (hu : u < cn (m 2)) (ha : a ≤ 99999999) (hb : b ≤ 99999999) : Rok (awR m u a b) := by
  have b1 := h.1.2.2.1.2
  have w := (h.1.aw hu ha hb).2
  unfold awR at w ⊢
  refine h.times w (fun i hi => by rw [setm_ne (by omega), setm_ne (by omega)]) (fun j h1 h2 => ?_) (fun v h1 h2 => ?_)
  · simp (disch := omega) only [setm_ne]
    exact h.2.2.1.2.2.2.1 j h1 h2
  · simp (disch := omega) only [setm_ne]
    exact h.2.2.1.2.2.2.2.1 v h1 h2
theorem HH.aw {σ : St} {h u a b : Nat} {m : Nat → Int32} (hw : WF m) (H : HH (σ h) m) (hu : u < cn (m 2)) (ha : a ≤ 99999999) (hb : b ≤ 99999999) : HH (up3 (up3 σ h 8 u (nI a)) h 9 u (nI b) h) (awR m u a b) := by
  have b1 := hw.2.2.1.2
  obtain ⟨w1, w2⟩ := hw.aw hu ha hb
  have H1 : HH (up3 σ h 8 u (nI a) h) (setm m (380 + 2 * u) (nI a)) := H.upd hw (SameW.set (by omega)) (fun i hi => setm_ne (by omega)) (setm_ne (by omega)) (setm_ne (by omega)) (H.1.un6 hw hu) (by omega) (by omega)
  exact H1.upd w1 (SameW.set (by omega)) (fun i hi => setm_ne (by omega)) (setm_ne (by omega)) (setm_ne (by omega)) (H1.1.un7 w1 (by rw [setm_ne (by omega)]; exact hu)) (by omega) (by omega)
/-- a unit goes off or on -/
theorem Rok.oo {m : Nat → Int32} (h : Rok m) {u : Nat} {v : Int32} (hu : u < cn (m 2)) (hs : m (110 + 8 * u + 5) = 0 ∨ m (110 + 8 * u + 5) = 4) (hv : v = 0 ∨ v = 4) : Rok (setm m (110 + 8 * u + 5) v) := by
  have b1 := h.1.2.2.1.2
  have w : WF (setm m (110 + 8 * u + 5) v) := h.1.un5 hu (by rcases hv with e | e <;> rw [e]; exact bd_nI (k := 0) (by decide) (by decide); exact bd_nI (k := 4) (by decide) (by decide)) (fun z => by rcases hv with e | e <;> rw [e] at z <;> rcases z with z | z <;> exact absurd z (by decide))
  refine h.units w (fun i hi => setm_ne (by omega)) (fun a ha => setm_ne (by omega)) (fun a ha => ?_)
  by_cases e : a = u
  · subst e
    simp (disch := omega) only [setm_ne, setm_eq]
    intro _
    exact h.2.1.2.2.2.2.2.2.1 a ha hs
  · simp (disch := omega) only [setm_ne]
    exact h.2.1.2.2.2.2.2.2.1 a ha
theorem HH.oo {σ : St} {h u : Nat} {m : Nat → Int32} {v : Int32} (hw : WF m) (H : HH (σ h) m) (hu : u < cn (m 2)) (hv : v = 0 ∨ v = 4) : HH (up3 σ h 20 u v h) (setm m (110 + 8 * u + 5) v) := by
  have b1 := hw.2.2.1.2
  exact H.upd hw (SameW.set (by omega)) (fun i hi => setm_ne (by omega)) (setm_ne (by omega)) (setm_ne (by omega)) (H.1.un5 hw hu (fun z => by rcases hv with e | e <;> rw [e] at z <;> rcases z with z | z <;> exact absurd z (by decide))) (by omega) (by omega)
/-- a unit's post -/
def ptR (m : Nat → Int32) (u p : Nat) : Nat → Int32 := if 1 < m (110 + 8 * u + 5) then setm m (110 + 8 * u) (nI p) else lgR (setm m (110 + 8 * u) (nI p)) u
theorem Rok.pt {m : Nat → Int32} (h : Rok m) {u p : Nat} (hu : u < cn (m 2)) (hp : p < cn (m 0)) (hs : ¬ m (110 + 8 * u + 5) = 4) : Rok (ptR m u p) := by
  have b1 := h.1.2.2.1.2
  have b0 := h.1.1.1.2
  have w1 : WF (setm m (110 + 8 * u) (nI p)) := h.1.un0 hu (by rw [cn_nI (by omega)]; exact ⟨bd_nI (by omega) (by decide), hp⟩)
  have hu1 : u < cn (setm m (110 + 8 * u) (nI p) 2) := by rw [setm_ne (by omega)]; exact hu
  unfold ptR
  by_cases e : 1 < m (110 + 8 * u + 5)
  · rw [if_pos e]
    refine h.units w1 (fun i hi => setm_ne (by omega)) (fun a ha => setm_ne (by omega)) (fun a ha => ?_)
    by_cases ea : a = u
    · subst ea
      simp (disch := omega) only [setm_ne, setm_eq]
      intro z
      rcases z with z | z
      · rw [z] at e; exact absurd e (by decide)
      · exact absurd z hs
    · simp (disch := omega) only [setm_ne]
      exact h.2.1.2.2.2.2.2.2.1 a ha
  · rw [if_neg e]
    have w2 := (w1.lg hu1).2
    unfold lgR at w2 ⊢
    refine h.units w2 (fun i hi => by rw [setm_ne (by omega), setm_ne (by omega), setm_ne (by omega)]) (fun a ha => by rw [setm_ne (by omega), setm_ne (by omega), setm_ne (by omega)]) (fun a ha => ?_)
    by_cases ea : a = u
    · subst ea
      simp (disch := omega) only [setm_ne, setm_eq]
      intro z
      unfold lgV at z
      simp (disch := omega) only [setm_ne, setm_eq] at z
      by_cases y : m (110 + 8 * a + 3) = 0 ∧ m (110 + 8 * a + 2) = nI p
      · exact y
      · rw [if_neg y] at z
        rcases z with z | z <;> exact absurd z (by decide)
    · simp (disch := omega) only [setm_ne]
      exact h.2.1.2.2.2.2.2.2.1 a ha
theorem c_post {σ : St} {u p : Nat} {m : Nat → Int32} (hw : WF m) (H : HH (σ 3) m) (hu : u < cn (m 2)) (hp : p < cn (m 0)) : Ret (F_X0_post (nI u) (nI p) σ) (fun τ => (∀ a, a ≠ 3 → τ a = σ a) ∧ HH (τ 3) (ptR m u p)) := by
  have b1 := hw.2.2.1.2
  have b0 := hw.1.1.2
  have w1 : WF (setm m (110 + 8 * u) (nI p)) := hw.un0 hu (by rw [cn_nI (by omega)]; exact ⟨bd_nI (by omega) (by decide), hp⟩)
  have hu1 : u < cn (setm m (110 + 8 * u) (nI p) 2) := by rw [setm_ne (by omega)]; exact hu
  have H1 : HH (up3 σ 3 15 u (nI p) 3) (setm m (110 + 8 * u) (nI p)) := H.upd hw (SameW.set (by omega)) (fun i hi => setm_ne (by omega)) (setm_ne (by omega)) (setm_ne (by omega)) (H.1.un0 hw hu) (by omega) (by omega)
  obtain ⟨-, -, -, -, -, c20, -⟩ := H.1.2.2.1 u hu
  unfold F_X0_post ptR
  rw [wro_nI (by omega) (by decide), some_b, rdo_nI (by omega) (by decide), some_b, up3_j (by decide), c20]
  by_cases e : 1 < m (110 + 8 * u + 5)
  · rw [if_pos e, if_pos e]
    exact Ret.some ⟨fun a ha => up3_g ha, H1⟩
  · rw [if_neg e, if_neg e]
    refine Ret.bind (c_letGo w1 H1 hu1) (fun τ hτ => Ret.some ⟨fun a ha => ?_, hτ.2⟩)
    rw [hτ.1 a ha, up3_g ha]
