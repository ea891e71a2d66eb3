/-! S6: shifts -/
set_option maxRecDepth 100000
/-- a state with one member set anew -/
def putj (σ : St) (h j : Nat) (f : Nat → Int32) : St := fun a b => if a = h ∧ b = j then f else σ a b
theorem putj_row {σ : St} {h j : Nat} {f : Nat → Int32} : putj σ h j f h j = f := by unfold putj; rw [if_pos ⟨rfl, rfl⟩]
theorem putj_j {σ : St} {h j a b : Nat} {f : Nat → Int32} (hb : b ≠ j) : putj σ h j f a b = σ a b := by unfold putj; rw [if_neg (fun z => hb z.2)]
theorem putj_g {σ : St} {h j a : Nat} {f : Nat → Int32} (ha : a ≠ h) : putj σ h j f a = σ a := by funext b; unfold putj; rw [if_neg (fun z => ha z.1)]
theorem putj_self (σ : St) (h j : Nat) : putj σ h j (σ h j) = σ := by
  funext a b
  unfold putj
  by_cases e : a = h ∧ b = j
  · rw [if_pos e, e.1, e.2]
  · rw [if_neg e]
theorem putj_up {σ : St} {h j i : Nat} {v : Int32} {f : Nat → Int32} : up3 (putj σ h j f) h j i v = putj σ h j (setm f i v) := by
  funext a b
  by_cases e : a = h ∧ b = j
  · obtain ⟨rfl, rfl⟩ := e
    rw [up3_row, putj_row, putj_row]
  · rw [up3_ne _ _ e]
    unfold putj
    rw [if_neg e, if_neg e]
theorem putr_putj {σ : St} {m : Nat → Int32} : putr σ m = putj σ 20 1 m := rfl
theorem nI_dec (a : Nat) : nI (a + 1) + -1 = nI a := by
  rw [← nI_1, Int32.add_assoc, show (1 : Int32) + -1 = 0 by decide, Int32.add_zero]
def shF (f : Nat → Int32) (k : Nat) : Nat → Int32 := fun i => if 12 ≤ i + k ∧ i < 12 then f (i - 3) else f i
theorem lp_shift {σ : St} {h : Nat} : iter (fun z => B_X3_shift_3 h z.1 z.2) (nI 11, σ) = some (putj σ h 14 (shF (σ h 14) 9)) := by
  have key := iter_row (f := fun z => B_X3_shift_3 h z.1 z.2) (fun k => (nI (11 - k), putj σ h 14 (shF (σ h 14) k))) 9 (putj σ h 14 (shF (σ h 14) 9)) ?_ ?_ 0 (Nat.zero_le _)
  · have e : shF (σ h 14) 0 = σ h 14 := by
      funext i
      unfold shF
      rw [if_neg (by omega)]
    rw [e, putj_self] at key
    exact key
  · intro k hk
    show B_X3_shift_3 h (nI (11 - k)) (putj σ h 14 (shF (σ h 14) k)) = _
    unfold B_X3_shift_3
    rw [if_neg (show ¬ nI (11 - k) < (3 : Int32) from nI_nlt (b := 3) (by omega) (by omega)), show (3 : Int32) = nI 3 from rfl, nI_sub (by omega), rdo_nI (by omega) (by decide), some_b, wro_nI (by omega) (by decide), some_b, putj_up, putj_row]
    rw [show nI (11 - k) + -1 = nI (11 - (k + 1)) by rw [show 11 - k = 11 - (k + 1) + 1 by omega, nI_dec]]
    congr 4
    funext i
    unfold setm shF
    by_cases e : i = 11 - k
    · rw [if_pos e, if_neg (by omega), if_pos (by omega), e]
    · rw [if_neg e]
      by_cases e2 : 12 ≤ i + k ∧ i < 12
      · rw [if_pos e2, if_pos (by omega)]
      · rw [if_neg e2, if_neg (by omega)]
  · show B_X3_shift_3 h (nI 2) _ = _
    unfold B_X3_shift_3
    rw [if_pos (by decide)]
def shR (m : Nat → Int32) : Nat → Int32 := fun i => if i = 8 then nI (min (cn (m 8) + 1) 4) else if 496 ≤ i ∧ i < 499 then m (i - 492) else if 499 ≤ i ∧ i < 508 then m (i - 3) else m i
theorem lp_shM {σ : St} {m : Nat → Int32} : iter (fun z => B_X12_tellMore_161 z.1 z.2) (nI 11, putr σ m) = some (putr σ (fun i => if 499 ≤ i ∧ i < 508 then m (i - 3) else m i)) := by
  have key := iter_row (f := fun z => B_X12_tellMore_161 z.1 z.2) (fun k => (nI (11 - k), putr σ (fun i => if 508 ≤ i + k ∧ i < 508 then m (i - 3) else m i))) 9 (putr σ (fun i => if 499 ≤ i ∧ i < 508 then m (i - 3) else m i)) ?_ ?_ 0 (Nat.zero_le _)
  · have e : (fun i => if 508 ≤ i + 0 ∧ i < 508 then m (i - 3) else m i) = m := by
      funext i
      rw [if_neg (by omega)]
    rw [e] at key
    exact key
  · intro k hk
    show B_X12_tellMore_161 (nI (11 - k)) (putr σ (fun i => if 508 ≤ i + k ∧ i < 508 then m (i - 3) else m i)) = _
    unfold B_X12_tellMore_161
    rw [if_neg (show ¬ nI (11 - k) < (3 : Int32) from nI_nlt (b := 3) (by omega) (by omega)), show (3 : Int32) = nI 3 from rfl, show (496 : Int32) = nI 496 from rfl, nI_add, nI_sub (by omega), m_rd (by omega), some_b, m_wr (by omega), some_b, putr_row]
    rw [show nI (11 - k) + -1 = nI (11 - (k + 1)) by rw [show 11 - k = 11 - (k + 1) + 1 by omega, nI_dec]]
    congr 4
    funext i
    unfold setm
    by_cases e : i = 496 + (11 - k)
    · rw [if_pos e, if_neg (by omega), if_pos (by omega), e]
    · rw [if_neg e]
      show (if 508 ≤ i + k ∧ i < 508 then m (i - 3) else m i) = _
      by_cases e2 : 508 ≤ i + k ∧ i < 508
      · rw [if_pos e2, if_pos (by omega)]
      · rw [if_neg e2, if_neg (by omega)]
  · show B_X12_tellMore_161 (nI 2) (putr σ (fun i => if 508 ≤ i + 9 ∧ i < 508 then m (i - 3) else m i)) = _
    unfold B_X12_tellMore_161
    rw [if_pos (by decide)]
    congr 3
    funext i
    by_cases e2 : 499 ≤ i ∧ i < 508
    · rw [if_pos e2, if_pos (by omega)]
    · rw [if_neg e2, if_neg (by omega)]
