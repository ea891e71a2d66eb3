/-! S6: sent units, posts, units off and on, hours, times away -/
set_option maxRecDepth 100000
/-- a row where only cells of units (not their work) have changed -/
theorem Rok.units {m m' : Nat → Int32} (h : Rok m) (hw : WF m') (hi : ∀ i, (i < 110 ∨ 160 ≤ i) → m' i = m i) (ew : ∀ u, u < 6 → m' (110 + 8 * u + 4) = m (110 + 8 * u + 4)) (g7 : ∀ u, u < cn (m 2) → m' (110 + 8 * u + 5) = 0 ∨ m' (110 + 8 * u + 5) = 4 → m' (110 + 8 * u + 3) = 0 ∧ m' (110 + 8 * u + 2) = m' (110 + 8 * u)) : Rok m' := by
  have b3 := h.1.2.2.2.1.2
  refine ⟨hw, h.2.1.same h.1 (hi 2 (by omega)) (hi 3 (by omega)) (hi 4 (by omega)) (hi 5 (by omega)) (hi 6 (by omega)) ew (fun q w hq h1 h2 => hi _ (by omega)) g7 ?_, h.2.2.1.same (fun i hi' => hi i (by omega)) (hi 1 (by omega)) (hi 2 (by omega)) (hi 7 (by omega)) (hi 8 (by omega)), by rw [hi 4 (by omega)]; exact h.2.2.2⟩
  rw [sumN_congr (g := fun q => cn (m (160 + 6 * q + 3))) (fun q hq => by rw [hi _ (by omega)])]
  exact h.2.1.2.2.2.2.2.2.2
theorem Rok.lg {m : Nat → Int32} (h : Rok m) {u : Nat} (hu : u < cn (m 2)) : Rok (lgR m u) := by
  have hU := h.1.2.2.1.2
  unfold lgR
  refine h.units (h.1.lg hu).2 (fun i hi => by rw [setm_ne (by omega), setm_ne (by omega)]) (fun v hv => by rw [setm_ne (by omega), setm_ne (by omega)]) (fun v hv => ?_)
  by_cases e : v = u
  · subst e
    simp (disch := omega) only [setm_ne, setm_eq]
    intro z
    unfold lgV at z
    by_cases y : m (110 + 8 * v + 3) = 0 ∧ m (110 + 8 * v + 2) = m (110 + 8 * v)
    · exact y
    · rw [if_neg y] at z
      rcases z with z | z <;> exact absurd z (by decide)
  · simp (disch := omega) only [setm_ne]
    exact h.2.1.2.2.2.2.2.2.1 v hv
/-- a unit is sent to a call -/
def sdV (m : Nat → Int32) (u q : Nat) : Int32 := if m (110 + 8 * u + 3) = 0 ∧ m (110 + 8 * u + 2) = m (160 + 6 * q) then 3 else 2
def sdR (m : Nat → Int32) (u q : Nat) : Nat → Int32 := setm (setm m (110 + 8 * u + 6) (nI q)) (110 + 8 * u + 5) (sdV m u q)
theorem sdV_23 (m : Nat → Int32) (u q : Nat) : sdV m u q = 2 ∨ sdV m u q = 3 := by
  unfold sdV
  by_cases e : m (110 + 8 * u + 3) = 0 ∧ m (110 + 8 * u + 2) = m (160 + 6 * q)
  · rw [if_pos e]; exact Or.inr rfl
  · rw [if_neg e]; exact Or.inl rfl
theorem fr_nb {m : Nat → Int32} {u : Nat} (h : ¬ 1 < m (110 + 8 * u + 5)) : ¬ busy m u := by
  rintro (e | e) <;> rw [e] at h <;> exact h (by decide)
theorem WF.sd {m : Nat → Int32} (hw : WF m) {u q : Nat} (hu : u < cn (m 2)) (hf : ¬ busy m u) (hq : wtC m q) : WF (setm m (110 + 8 * u + 6) (nI q)) ∧ WF (sdR m u q) := by
  have hU := hw.2.2.1.2
  have h3 := hw.2.2.2.1.2
  have hq1 := hq.1.1
  have w1 : WF (setm m (110 + 8 * u + 6) (nI q)) := hw.unT hu hf
  refine ⟨w1, ?_⟩
  unfold sdR
  refine w1.un5 (by rw [setm_ne (by omega)]; exact hu) (by rcases sdV_23 m u q with e | e <;> rw [e]; exact bd_nI (k := 2) (by decide) (by decide); exact bd_nI (k := 3) (by decide) (by decide)) (fun _ => ⟨?_, fun a ha hb he => ?_⟩)
  · rw [setm_eq, cn_nI (by omega), setm_ne (by omega), setm_ne (by omega)]
    exact ⟨bd_nI (by omega) (by decide), hq1, hq.1.2⟩
  · by_cases e : a = u
    · exact e
    · exfalso
      rw [setm_ne (by omega)] at ha
      unfold busy at hb
      rw [setm_ne (by omega)] at hb
      rw [setm_eq, setm_ne (by omega)] at he
      exact hq.2 a ⟨ha, hb, he⟩
theorem Rok.sd {m : Nat → Int32} (h : Rok m) {u q : Nat} (hu : u < cn (m 2)) (hf : ¬ busy m u) (hq : wtC m q) : Rok (sdR m u q) := by
  have hU := h.1.2.2.1.2
  have w := (h.1.sd hu hf hq).2
  unfold sdR at w ⊢
  refine h.units w (fun i hi => by rw [setm_ne (by omega), setm_ne (by omega)]) (fun v hv => by rw [setm_ne (by omega), setm_ne (by omega)]) (fun v hv => ?_)
  by_cases e : v = u
  · subst e
    rw [setm_eq]
    intro z
    rcases sdV_23 m v q with y | y <;> rw [y] at z <;> rcases z with z | z <;> exact absurd z (by decide)
  · simp (disch := omega) only [setm_ne]
    exact h.2.1.2.2.2.2.2.2.1 v hv
theorem c_sends {σ : St} {h u q : Nat} {m : Nat → Int32} (hw : WF m) (H : HH (σ h) m) (hu : u < cn (m 2)) (hf : ¬ busy m u) (hq : wtC m q) : Ret (F_X3_sends h (nI u) (nI q) σ) (fun τ => (∀ a, a ≠ h → τ a = σ a) ∧ HH (τ h) (sdR m u q)) := by
  have hU := hw.2.2.1.2
  have h3 := hw.2.2.2.1.2
  have hq1 := hq.1.1
  obtain ⟨-, -, c17, c18, -⟩ := H.1.2.2.1 u hu
  obtain ⟨c22, -⟩ := H.1.2.2.2 q hq1
  unfold F_X3_sends
  rw [wro_nI (by omega) (by decide), some_b, rdo_nI (by omega) (by decide), some_b, rdo_nI (by omega) (by decide), some_b, rdo_nI (by omega) (by decide), some_b, up3_j (by decide), up3_j (by decide), up3_j (by decide), c17, c18, c22]
  have ez : (if m (110 + 8 * u + 3) = 0 then (if m (110 + 8 * u + 2) = m (160 + 6 * q) then some ((3 : Int32)) else some ((2 : Int32))) else some ((2 : Int32))) = some (sdV m u q) := by
    unfold sdV
    by_cases e : m (110 + 8 * u + 3) = 0
    · by_cases e2 : m (110 + 8 * u + 2) = m (160 + 6 * q)
      · rw [if_pos e, if_pos e2, if_pos ⟨e, e2⟩]
      · rw [if_pos e, if_neg e2, if_neg (fun z => e2 z.2)]
    · rw [if_neg e, if_neg (fun z => e z.1)]
  rw [ez, some_b, wro_nI (by omega) (by decide), some_b]
  refine Ret.some ⟨fun a ha => by rw [up3_g ha, up3_g ha], ?_⟩
  have w1 := (hw.sd hu hf hq).1
  have H1 : HH (up3 σ h 21 u (nI q) h) (setm m (110 + 8 * u + 6) (nI q)) := by
    refine H.upd hw (SameW.set (by omega)) (fun i hi => setm_ne (by omega)) (setm_ne (by omega)) (setm_ne (by omega)) ?_ (by omega) (by omega)
    exact HC.unTm hw (H.1.unTc hf) hu (fun _ => setc_eq)
  refine H1.upd w1 (SameW.set (by omega)) (fun i hi => setm_ne (by omega)) (setm_ne (by omega)) (setm_ne (by omega)) ?_ (by omega) (by omega)
  refine H1.1.un5 w1 (by rw [setm_ne (by omega)]; exact hu) (fun _ => ?_)
  rw [up3_same, setm_eq]
theorem m_sendTo {σ : St} {u q : Nat} {m : Nat → Int32} (hw : WF m) (hT : TabR σ m) (hu : u < cn (m 2)) (hq : q < cn (m 3)) : F_X12_sendTo (nI u) (nI q) (putr σ m) = some (putr σ (sdR m u q)) := by
  have hU := hw.2.2.1.2
  have h3 := hw.2.2.2.1.2
  obtain ⟨-, -, ⟨p1, p2⟩, b3, -⟩ := hw.2.2.2.2.2.2.2.2.1 u hu
  obtain ⟨⟨q1, q2⟩, -⟩ := hw.2.2.2.2.2.2.2.2.2.2 q hq
  have b := DD_bd hw p2 q2
  have b32 := b3.2
  have p12 := p1.2
  have q12 := q1.2
  unfold F_X12_sendTo
  rw [m_call0 (by omega), some_b, putr_row, q1.1, m_wayOf hw putr_row hT.put hu q2, some_b, ite_bind]
  have ez : (if dI (wyN m u (cn (m (160 + 6 * q)))) = 0 then (3 : Int32) else 2) = sdV m u q := by
    unfold sdV wyN
    by_cases e : DD m (cn (m (110 + 8 * u + 2))) (cn (m (160 + 6 * q))) < 1000000
    · have b2 := b.2 e
      rw [if_pos e, dI_fin (by omega)]
      have k : nI (cn (m (110 + 8 * u + 3)) + DD m (cn (m (110 + 8 * u + 2))) (cn (m (160 + 6 * q)))) = 0 ↔ (m (110 + 8 * u + 3) = 0 ∧ m (110 + 8 * u + 2) = m (160 + 6 * q)) := by
        rw [show (nI (cn (m (110 + 8 * u + 3)) + DD m (cn (m (110 + 8 * u + 2))) (cn (m (160 + 6 * q)))) = 0) = (nI (cn (m (110 + 8 * u + 3)) + DD m (cn (m (110 + 8 * u + 2))) (cn (m (160 + 6 * q)))) = nI 0) from rfl, nI_eq (by omega) (by decide)]
        constructor
        · intro z
          have z1 : cn (m (110 + 8 * u + 3)) = 0 := by omega
          have z2 := DD_zero hw (p := cn (m (110 + 8 * u + 2))) (q := cn (m (160 + 6 * q))) (by omega)
          exact ⟨by rw [b3.1, z1]; rfl, by rw [p1.1, q1.1, z2]⟩
        · rintro ⟨z1, z2⟩
          rw [z1, z2, DD_self]
          rfl
      by_cases y : m (110 + 8 * u + 3) = 0 ∧ m (110 + 8 * u + 2) = m (160 + 6 * q)
      · rw [if_pos (k.mpr y), if_pos y]
      · rw [if_neg (fun z => y (k.mp z)), if_neg y]
    · rw [if_neg e, dI_far, if_neg (by decide), if_neg]
      rintro ⟨-, z⟩
      rw [z, DD_self] at e
      omega
  rw [ez, show (5 : Int32) = nI 5 from rfl, show (6 : Int32) = nI 6 from rfl, m_setUnit (by omega) (by decide), some_b, m_setUnit (by omega) (by decide), some_b, setm_comm (by omega)]
  rfl
