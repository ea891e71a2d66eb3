/-! S6: a street more (the model), a unit more -/
set_option maxRecDepth 100000
theorem rd3 {σ : St} {k : Nat} (h : k < 3) : rdo σ 20 23 3 (nI k) = some (σ 20 23 k) := rdo_nI h (by decide)
theorem m_addStreet {σ : St} {m : Nat → Int32} {a b s : Nat} (hb : bd (m 1) 19) (e0 : σ 20 23 0 = nI a) (e1 : σ 20 23 1 = nI b) (e2 : σ 20 23 2 = nI s) : F_X12_addStreet (putr σ m) = some (putr σ (asR m a b s (if σ 20 0 20 = 2 then 1 else 0))) := by
  have h2 := hb.2
  have e := hb.1
  unfold asR
  generalize cn (m 1) = k at *
  unfold F_X12_addStreet
  rw [m_rd1, some_b, nmo_b, putr_row, e, show (10 : Int32) = nI 10 from rfl, show (5 : Int32) = nI 5 from rfl, nI_mul', nI_add, show (0 : Int32) = nI 0 from rfl, show (2 : Int32) = nI 2 from rfl, show (3 : Int32) = nI 3 from rfl, show (4 : Int32) = nI 4 from rfl]
  rw [rd3 (by decide), some_b, putr_j (by decide), e0, nI_add, m_wr (by omega), some_b]
  rw [show (1 : Int32) = nI 1 from rfl, rd3 (by decide), some_b, putr_j (by decide), e1, nI_add, m_wr (by omega), some_b]
  rw [rd3 (by decide), some_b, putr_j (by decide), e2, nI_add, m_wr (by omega), some_b]
  rw [putr_j (by decide), ite_bind, nI_add, m_wr (by omega), some_b, nI_add, m_wr (by omega), some_b, m_rd (by decide), some_b, putr_row, m_wr (by decide), some_b]
  simp (disch := omega) only [setm_ne]
  rw [e]
  rfl
def auR (m : Nat → Int32) (p d : Nat) : Nat → Int32 := fun i => if i = 2 then nI (cn (m 2) + 1) else if i = 110 + 8 * cn (m 2) then nI p else if i = 110 + 8 * cn (m 2) + 1 then nI d else if i = 110 + 8 * cn (m 2) + 2 then nI p else if 110 + 8 * cn (m 2) + 3 ≤ i ∧ i < 110 + 8 * cn (m 2) + 8 then 0 else m i
theorem lp_au20 {σ : St} {m : Nat → Int32} {u : Nat} {x y : Int32} (hu : u < 6) : iter (fun z => B_X12_addUnit_20 (nI u) x y z.1 z.2) (nI 0, putr σ m) = some (putr σ (fun i => if 110 + 8 * u ≤ i ∧ i < 110 + 8 * u + 8 then 0 else m i)) := by
  have e : (fun i => if 110 + 8 * u ≤ i ∧ i < 110 + 8 * u + 0 then 0 else m i) = m := by
    funext i
    rw [if_neg (by omega)]
  have z := iter_row (f := fun z => B_X12_addUnit_20 (nI u) x y z.1 z.2) (fun k => (nI k, putr σ (fun i => if 110 + 8 * u ≤ i ∧ i < 110 + 8 * u + k then 0 else m i))) 8 (putr σ (fun i => if 110 + 8 * u ≤ i ∧ i < 110 + 8 * u + 8 then 0 else m i)) ?_ ?_ 0 (Nat.zero_le _)
  · rw [e] at z
    exact z
  · intro k hk
    show B_X12_addUnit_20 (nI u) x y (nI k) _ = _
    unfold B_X12_addUnit_20
    rw [if_pos (show nI k < (8 : Int32) from nI_lt (b := 8) hk (by decide)), m_setUnit (by omega) hk, some_b, nI_1]
    congr 4
    funext i
    unfold setm
    by_cases e : i = 110 + 8 * u + k
    · rw [if_pos e, if_pos (by omega)]
    · rw [if_neg e]
      show (if 110 + 8 * u ≤ i ∧ i < 110 + 8 * u + k then 0 else m i) = _
      by_cases e2 : 110 + 8 * u ≤ i ∧ i < 110 + 8 * u + k
      · rw [if_pos e2, if_pos (by omega)]
      · rw [if_neg e2, if_neg (by omega)]
  · show B_X12_addUnit_20 (nI u) x y (nI 8) _ = _
    unfold B_X12_addUnit_20
    rw [if_neg (by decide)]
theorem m_addUnit {σ : St} {m : Nat → Int32} {p d : Nat} (hb : bd (m 2) 5) : F_X12_addUnit (nI p) (nI d) (putr σ m) = some (putr σ (auR m p d)) := by
  have h2 := hb.2
  have e := hb.1
  unfold auR
  generalize cn (m 2) = k at *
  unfold F_X12_addUnit
  rw [m_rd2, some_b, putr_row, e, some_b, show (2 : Int32) = nI 2 from rfl, m_wr (by decide), some_b, show ((0 : Int32), putr σ (setm m 2 (nI k + 1))) = (nI 0, putr σ (setm m 2 (nI k + 1))) from rfl, lp_au20 (by omega), some_b, show (0 : Int32) = nI 0 from rfl, m_setUnit (by omega) (by decide), some_b, show (1 : Int32) = nI 1 from rfl, m_setUnit (by omega) (by decide), some_b, m_setUnit (by omega) (by decide), some_b]
  rw [nI_add]
  congr 2
  funext i
  unfold setm
  grind
