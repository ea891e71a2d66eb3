/-! S6: ways of units; commands of units -/
set_option maxRecDepth 100000
theorem Wn_zero {m : Nat → Int32} (hw : WF m) : ∀ {n p q : Nat}, Wn m n p q 0 → p = q := by
  intro n
  induction n with
  | zero => intro p q h; exact h.1
  | succ n ih =>
    rintro p q ⟨r, w, e, h1, h2, h3⟩
    have := (h1.lt hw).2.2.2.1
    omega
theorem DD_self (m : Nat → Int32) (p : Nat) : DD m p p = 0 := DD_of (Walk.nil m p) (fun _ _ => Nat.zero_le _)
theorem DD_zero {m : Nat → Int32} (hw : WF m) {p q : Nat} (h : DD m p q = 0) : p = q := by
  unfold DD at h
  by_cases hx : ∃ d, Walk m p q d ∧ ∀ e, e < d → ¬ Walk m p q e
  · rw [dif_pos hx] at h
    obtain ⟨⟨n, h1⟩, -⟩ := Classical.choose_spec hx
    rw [h] at h1
    exact Wn_zero hw h1
  · rw [dif_neg hx] at h
    omega
/-- the way of a unit to a place -/
noncomputable def wyN (m : Nat → Int32) (u p : Nat) : Nat := if DD m (cn (m (110 + 8 * u + 2))) p < 1000000 then cn (m (110 + 8 * u + 3)) + DD m (cn (m (110 + 8 * u + 2))) p else 1000000
theorem wyN_bd {m : Nat → Int32} (hw : WF m) {u p : Nat} (hu : u < cn (m 2)) (hp : p < cn (m 0)) : wyN m u p ≤ 1000000 ∧ (wyN m u p < 1000000 → wyN m u p ≤ 7992) := by
  obtain ⟨-, -, ⟨-, p2⟩, b3, -⟩ := hw.2.2.2.2.2.2.2.2.1 u hu
  have b := (DD_bd hw p2 hp).2
  have b32 := b3.2
  unfold wyN
  by_cases e : DD m (cn (m (110 + 8 * u + 2))) p < 1000000
  · have := b e
    rw [if_pos e]
    omega
  · rw [if_neg e]
    omega
theorem c_way {σ : St} {h u p : Nat} {m : Nat → Int32} (hw : WF m) (hc : HC (σ h) m) (hk : KnC (σ h) m) (hu : u < cn (m 2)) (hp : p < cn (m 0)) : Ret (F_X3_way h (nI u) (nI p) σ) (fun r => r.1 = nI (wyN m u p) ∧ FrK σ r.2 h ∧ KnC (r.2 h) m) := by
  have hU := hw.2.2.1.2
  obtain ⟨-, -, ⟨p1, p2⟩, b3, -⟩ := hw.2.2.2.2.2.2.2.2.1 u hu
  obtain ⟨-, -, c17, c18, -⟩ := hc.2.2.1 u hu
  have b := DD_bd hw p2 hp
  have b32 := b3.2
  unfold F_X3_way
  rw [rdo_nI (by omega) (by decide), some_b, rdo_nI (by omega) (by decide), some_b, c17, c18, p1.1]
  refine Ret.bind (c_far hw hc hk p2 hp) (fun r hr => ?_)
  obtain ⟨r1, r2, r3, -⟩ := hr
  refine Ret.some ⟨?_, r2, r3⟩
  show imin 1000000 (m (110 + 8 * u + 3) + r.1) = _
  rw [r1, b3.1, nI_add, show (1000000 : Int32) = nI 1000000 from rfl, imin_nI (by decide) (by omega)]
  unfold wyN
  by_cases e : DD m (cn (m (110 + 8 * u + 2))) p < 1000000
  · have := b.2 e
    rw [if_pos e, Nat.min_eq_right (by omega)]
  · rw [if_neg e, Nat.min_eq_left (by omega)]
theorem m_wayOf {σ : St} {m : Nat → Int32} {u p : Nat} (hw : WF m) (hm : σ 20 1 = m) (hT : TabR σ m) (hu : u < cn (m 2)) (hp : p < cn (m 0)) : F_X12_wayOf (nI u) (nI p) σ = some (dI (wyN m u p)) := by
  have hU := hw.2.2.1.2
  have hP := hw.1.1.2
  obtain ⟨-, -, ⟨p1, p2⟩, b3, -⟩ := hw.2.2.2.2.2.2.2.2.1 u hu
  have b := DD_bd hw p2 hp
  have b32 := b3.2
  unfold F_X12_wayOf
  rw [m_unit2 (by omega), some_b, hm, p1.1, show (8 : Int32) = nI 8 from rfl, nI_mul', nI_add, rdo_nI (by omega) (by decide), some_b, hT _ _ p2 hp]
  unfold wyN
  by_cases e : DD m (cn (m (110 + 8 * u + 2))) p < 1000000
  · have := b.2 e
    rw [if_neg (fun z => (dI_neg b.1).mp z e), m_unit3 (by omega), some_b, hm, if_pos e, dI_fin e, dI_fin (by omega), ← nI_add, ← b3.1]
  · rw [if_pos ((dI_neg b.1).mpr e), if_neg e, dI_far]
theorem HH.upd {σ : St} {h j i : Nat} {v : Int32} {m m' : Nat → Int32} (H : HH (σ h) m) (hw : WF m) (hS : SameW m m') (hm : ∀ i, 392 ≤ i → m' i = m i) (h7 : m' 7 = m 7) (h8 : m' 8 = m 8) (hc : HC (setc (σ h) j i v) m') (hj : j < 10 ∨ (14 < j ∧ j ≠ 28)) (hz : j ≠ 0 ∨ i ≠ 37) : HH (up3 σ h j i v h) m' := by
  refine ⟨by rw [up3_cells]; exact hc, ?_, H.2.2.1.same hm h7 h8 (fun k h1 h2 => by rw [up3_j (by omega)]), H.2.2.2.same (fun k h1 h2 => by rw [up3_j (by omega)])⟩
  rw [up3_cells]
  exact (H.2.1.set (by omega) hz).same hS hw
theorem HH.row {c : Nat → Nat → Int32} {m m' : Nat → Int32} (H : HH c m) (hw : WF m) (hS : SameW m m') (hm : ∀ i, 392 ≤ i → m' i = m i) (h7 : m' 7 = m 7) (h8 : m' 8 = m 8) (hc : HC c m') : HH c m' := ⟨hc, H.2.1.same hS hw, H.2.2.1.same hm h7 h8 (fun _ _ _ => rfl), H.2.2.2⟩
theorem setm_comm {m : Nat → Int32} {i j : Nat} {v w : Int32} (h : i ≠ j) : setm (setm m i v) j w = setm (setm m j w) i v := by
  funext k
  unfold setm
  by_cases a : k = j
  · subst a
    rw [if_pos rfl, if_neg (fun z => h z.symm), if_pos rfl]
  · rw [if_neg a, if_neg a]
/-- a unit is let go -/
def lgV (m : Nat → Int32) (u : Nat) : Int32 := if m (110 + 8 * u + 3) = 0 ∧ m (110 + 8 * u + 2) = m (110 + 8 * u) then 0 else 1
def lgR (m : Nat → Int32) (u : Nat) : Nat → Int32 := setm (setm m (110 + 8 * u + 5) (lgV m u)) (110 + 8 * u + 6) 0
theorem lgV_01 (m : Nat → Int32) (u : Nat) : lgV m u = 0 ∨ lgV m u = 1 := by
  unfold lgV
  by_cases e : m (110 + 8 * u + 3) = 0 ∧ m (110 + 8 * u + 2) = m (110 + 8 * u)
  · rw [if_pos e]; exact Or.inl rfl
  · rw [if_neg e]; exact Or.inr rfl
theorem lgV_nb (m : Nat → Int32) (u : Nat) : ¬ (lgV m u = 2 ∨ lgV m u = 3) := by
  rcases lgV_01 m u with e | e <;> rw [e] <;> decide
theorem WF.lg {m : Nat → Int32} (hw : WF m) {u : Nat} (hu : u < cn (m 2)) : WF (setm m (110 + 8 * u + 5) (lgV m u)) ∧ WF (lgR m u) := by
  have hU := hw.2.2.1.2
  have w1 : WF (setm m (110 + 8 * u + 5) (lgV m u)) := hw.un5 hu (by rcases lgV_01 m u with e | e <;> rw [e]; exact bd_nI (k := 0) (by decide) (by decide); exact bd_nI (k := 1) (by decide) (by decide)) (fun z => absurd z (lgV_nb m u))
  refine ⟨w1, w1.unT (by rw [setm_ne (by omega)]; exact hu) ?_⟩
  unfold busy
  rw [setm_eq]
  exact lgV_nb m u
theorem c_letGo {σ : St} {h u : Nat} {m : Nat → Int32} (hw : WF m) (H : HH (σ h) m) (hu : u < cn (m 2)) : Ret (F_X3_letGo h (nI u) σ) (fun τ => (∀ a, a ≠ h → τ a = σ a) ∧ HH (τ h) (lgR m u)) := by
  have hU := hw.2.2.1.2
  obtain ⟨c15, -, c17, c18, -⟩ := H.1.2.2.1 u hu
  have ez : (if m (110 + 8 * u + 3) = 0 then (rdo σ h 17 6 (nI u)).bind (fun r2 => (rdo σ h 15 6 (nI u)).bind (fun r3 => (if r2 = r3 then some ((0 : Int32)) else some ((1 : Int32))))) else some ((1 : Int32))) = some (lgV m u) := by
    rw [rdo_nI (by omega) (by decide), some_b, rdo_nI (by omega) (by decide), some_b, c15, c17]
    unfold lgV
    by_cases e : m (110 + 8 * u + 3) = 0
    · by_cases e2 : m (110 + 8 * u + 2) = m (110 + 8 * u)
      · rw [if_pos e, if_pos e2, if_pos ⟨e, e2⟩]
      · rw [if_pos e, if_neg e2, if_neg (fun z => e2 z.2)]
    · rw [if_neg e, if_neg (fun z => e z.1)]
  unfold F_X3_letGo
  rw [rdo_nI (by omega) (by decide), some_b, c18, ez, some_b, wro_nI (by omega) (by decide), some_b]
  refine Ret.some ⟨fun a ha => up3_g ha, ?_⟩
  have w1 := (hw.lg hu).1
  have H1 : HH (up3 σ h 20 u (lgV m u) h) (setm m (110 + 8 * u + 5) (lgV m u)) := H.upd hw (SameW.set (by omega)) (fun i hi => setm_ne (by omega)) (setm_ne (by omega)) (setm_ne (by omega)) (H.1.un5 hw hu (fun z => absurd z (lgV_nb m u))) (by omega) (by omega)
  refine H1.row w1 (SameW.set (by omega)) (fun i hi => setm_ne (by omega)) (setm_ne (by omega)) (setm_ne (by omega)) (H1.1.unTm w1 (by rw [setm_ne (by omega)]; exact hu) (fun z => ?_))
  unfold busy at z
  rw [setm_eq] at z
  exact absurd z (lgV_nb m u)
theorem m_letGo {σ : St} {u : Nat} {m : Nat → Int32} (hu : u < 6) : F_X12_letGo (nI u) (putr σ m) = some (putr σ (lgR m u)) := by
  unfold F_X12_letGo
  rw [m_unit3 (by omega), some_b, m_unit2 (by omega), some_b, m_unit0 (by omega), some_b, putr_row]
  have e1 : ∀ K : Int32 → Option St, Option.bind (if m (110 + 8 * u + 3) = 0 then (if m (110 + 8 * u + 2) = m (110 + 8 * u) then some ((1 : Int32)) else some ((0 : Int32))) else some ((0 : Int32))) (fun z29 => Option.bind (if z29 = 0 then some ((1 : Int32)) else some ((0 : Int32))) K) = K (lgV m u) := by
    intro K
    unfold lgV
    by_cases e : m (110 + 8 * u + 3) = 0
    · by_cases e2 : m (110 + 8 * u + 2) = m (110 + 8 * u)
      · rw [if_pos e, if_pos e2, if_pos ⟨e, e2⟩, some_b, if_neg (by decide), some_b]
      · rw [if_pos e, if_neg e2, if_neg (fun z => e2 z.2), some_b, if_pos rfl, some_b]
    · rw [if_neg e, if_neg (fun z => e z.1), some_b, if_pos rfl, some_b]
  rw [e1, show (5 : Int32) = nI 5 from rfl, show (6 : Int32) = nI 6 from rfl, m_setUnit (by omega) (by decide), some_b, m_setUnit (by omega) (by decide), some_b]
  rfl
