/-! S6: the whole relation of a house and a row; take -/
set_option maxRecDepth 100000
/-- where a node's bytes begin -/
def offN (m : Nat → Int32) (b : Nat) : Nat → Nat
  | 0 => 0
  | i + 1 => offN m b i + (if m (b + 1 + i) < 0 then 1 else 3)
/-- how many trees are still to come -/
def dueN (m : Nat → Int32) (b : Nat) : Nat → Nat
  | 0 => 1
  | i + 1 => if m (b + 1 + i) < 0 then dueN m b i + 1 else dueN m b i - 1
/-- the bytes of a node -/
def TN (t : Nat → Int32) (a : Nat) (v : Int32) : Prop := (v < 0 ∧ t a = 63) ∨ (¬ v < 0 ∧ t a = 33 ∧ t (a + 1) = v / 10 + 48 ∧ t (a + 2) = (v - v / 10 * 10) + 48)
def HW (c : Nat → Nat → Int32) (m : Nat → Int32) : Prop :=
  (∀ p, p < 8 → c 13 p = m (392 + 13 * p) ∧ ∀ i, i < cn (m (392 + 13 * p)) → c 11 (12 * p + i) = m (392 + 13 * p + 1 + i)) ∧
  (∀ k, k < 3 * cn (m 8) → c 14 k = m (496 + k)) ∧
  (∀ k, k < cn (m 7) → c 12 k = nI (offN m (508 + 128 * k) (cn (m (508 + 128 * k)))) ∧ ∀ i, i < cn (m (508 + 128 * k)) → TN (fun j => c 10 (200 * k + j)) (offN m (508 + 128 * k) i) (m (508 + 128 * k + 1 + i)))
/-- a sound row: words, shifts, trees; what isn't used is 0 -/
def WW (m : Nat → Int32) : Prop :=
  (∀ p, p < 8 → bd (m (392 + 13 * p)) 12 ∧ ∀ i, i < cn (m (392 + 13 * p)) → ∃ l, 97 ≤ l ∧ l ≤ 122 ∧ m (392 + 13 * p + 1 + i) = nI l) ∧
  (∀ k, k < 3 * cn (m 8) → bd (m (496 + k)) 100000000) ∧
  (∀ k, k < cn (m 7) → bd (m (508 + 128 * k)) 127 ∧ offN m (508 + 128 * k) (cn (m (508 + 128 * k))) ≤ 200 ∧ (∀ i, i < cn (m (508 + 128 * k)) → m (508 + 128 * k + 1 + i) = -1 ∨ ∃ s r, s ≤ 2 ∧ 1 ≤ r ∧ r ≤ 9 ∧ m (508 + 128 * k + 1 + i) = nI (10 * s + r)) ∧ (∀ i, i < cn (m (508 + 128 * k)) → 1 ≤ dueN m (508 + 128 * k) i) ∧ dueN m (508 + 128 * k) (cn (m (508 + 128 * k))) = 0) ∧
  (∀ k, cn (m 1) ≤ k → k < 20 → m (340 + 2 * k) = 0 ∧ m (340 + 2 * k + 1) = 0) ∧
  (∀ u, cn (m 2) ≤ u → u < 6 → m (380 + 2 * u) = 0 ∧ m (380 + 2 * u + 1) = 0) ∧
  ∀ i, 1532 ≤ i → m i = 0
def HH (c : Nat → Nat → Int32) (m : Nat → Int32) : Prop := HC c m ∧ KnC c m ∧ HW c m ∧ HB c
theorem offN_step {m : Nat → Int32} {b n : Nat} : ∀ {i : Nat}, i < n → offN m b i + 1 ≤ offN m b n := by
  induction n with
  | zero => intro i h; omega
  | succ n ih =>
    intro i h
    rw [offN]
    have : 1 ≤ (if m (b + 1 + n) < 0 then 1 else 3) := by by_cases z : m (b + 1 + n) < 0 <;> simp [z]
    by_cases e : i = n
    · subst e; omega
    · have := ih (i := i) (by omega); omega
theorem offN_node {m : Nat → Int32} {b n i : Nat} (h : i < n) (hv : ¬ m (b + 1 + i) < 0) : offN m b i + 3 ≤ offN m b n := by
  have e : offN m b (i + 1) = offN m b i + 3 := by rw [offN, if_neg hv]
  by_cases z : i + 1 = n
  · subst z; omega
  · have := offN_step (m := m) (b := b) (n := n) (i := i + 1) (by omega)
    omega
theorem c_take {σ : St} {h o : Nat} {m : Nat → Int32} (ho : o ≠ h) (hw : WF m) (hww : WW m) (H : HH (σ o) m) (hbh : HB (σ h)) : Ret (F_X3_take h o σ) (fun τ => (∀ a, a ≠ h → τ a = σ a) ∧ HH (τ h) m) := by
  obtain ⟨hc, -, hh, hb⟩ := H
  obtain ⟨⟨z28, z29, z30, z31, z32, z33, z34, z35, z36⟩, hcs, hcu, hcq⟩ := hc
  obtain ⟨hn1, hn2, hn3⟩ := hh
  have b1 := hw.2.1
  have b2 := hw.2.2.1
  have b3 := hw.2.2.2.1
  have b7 := hw.2.2.2.2.2.1
  have b8' := hw.2.2.2.2.2.2.1
  unfold F_X3_take
  rw [nst_b, nst_b, nst_b, nst_b, nst_b, nst_b, nst_b, nst_b, nst_b]
  simp only [up3_g ho, z28, z29, z30, z31, z32, z33, z34, z35, z36]
  generalize es : up3 (up3 (up3 (up3 (up3 (up3 (up3 (up3 (up3 σ h 0 28 (m 0)) h 0 29 (m 1)) h 0 30 (m 2)) h 0 31 (m 3)) h 0 32 (m 4)) h 0 33 (m 5)) h 0 34 (m 6)) h 0 35 (m 7)) h 0 36 (m 8) = s9
  have g9 : ∀ a, a ≠ h → s9 a = σ a := by
    intro a ha
    rw [← es]
    simp only [up3_g ha]
  have j9 : ∀ b, b ≠ 0 → s9 h b = σ h b := by
    intro b hb
    rw [← es]
    simp only [up3_j hb]
  have v28 : s9 h 0 28 = m 0 := by rw [← es]; simp (disch := decide) only [up3_i, up3_same]
  have v29 : s9 h 0 29 = m 1 := by rw [← es]; simp (disch := decide) only [up3_i, up3_same]
  have v30 : s9 h 0 30 = m 2 := by rw [← es]; simp (disch := decide) only [up3_i, up3_same]
  have v31 : s9 h 0 31 = m 3 := by rw [← es]; simp (disch := decide) only [up3_i, up3_same]
  have v32 : s9 h 0 32 = m 4 := by rw [← es]; simp (disch := decide) only [up3_i, up3_same]
  have v33 : s9 h 0 33 = m 5 := by rw [← es]; simp (disch := decide) only [up3_i, up3_same]
  have v34 : s9 h 0 34 = m 6 := by rw [← es]; simp (disch := decide) only [up3_i, up3_same]
  have v35 : s9 h 0 35 = m 7 := by rw [← es]; simp (disch := decide) only [up3_i, up3_same]
  have v36 : s9 h 0 36 = m 8 := by rw [← es]; simp (disch := decide) only [up3_same]
  refine Ret.bind (c_takeWords (σ := s9) (K := cn (m 7)) ho b7.2 (by rw [v35]; exact b7.1) (fun k hk => ?_) (fun k hk => ?_) (by rw [g9 o ho]; exact hb)) (fun τ1 hτ1 => ?_)
  · rw [g9 o ho, (hn3 k hk).1]
    exact bd_nI (hww.2.2.1 k hk).2.1 (by decide)
  · rw [g9 o ho, (hn1 k hk).1]
    exact (hww.1 k hk).1
  obtain ⟨a1, a2, a3, a4, a5, a6⟩ := hτ1
  rw [zro_0, some_b, nst_b]
  have e0 : ∀ i, i ≠ 37 → up3 τ1 h 0 37 0 h 0 i = s9 h 0 i := fun i hi => by rw [up3_i hi, a2 0 (by omega)]
  refine Ret.bind (lp_take84 (σ := up3 τ1 h 0 37 0) (n := cn (m 1)) ho (by rw [e0 29 (by decide), v29]; exact b1.1) b1.2 (fun k hk => ?_)) (fun τ2 hτ2 => ?_)
  · obtain ⟨-, -, -, c4, c5, -, -⟩ := hcs k hk
    obtain ⟨-, -, -, -, d3, d4, -⟩ := hw.2.2.2.2.2.2.2.1 k hk
    rw [up3_g ho, a1 o ho, g9 o ho, c4, c5]
    refine ⟨d3, ?_⟩
    rcases d4 with d4 | d4 <;> rw [d4] <;> decide
  obtain ⟨p1, p2, p3⟩ := hτ2
  refine Ret.bind (lp_take184 (σ := τ2) (n := cn (m 2)) ho (by rw [p2 0 (by decide), e0 30 (by decide), v30]; exact b2.1) b2.2) (fun τ3 hτ3 => ?_)
  obtain ⟨q1, q2, q3⟩ := hτ3
  refine Ret.bind (lp_take308 (σ := τ3) (n := cn (m 3)) ho (by rw [q2 0 (by decide), p2 0 (by decide), e0 31 (by decide), v31]; exact b3.1) b3.2 (fun k hk => ?_)) (fun τ4 hτ4 => ?_)
  · obtain ⟨-, -, -, c27, -, -⟩ := hcq k hk
    obtain ⟨-, -, -, d3⟩ := hw.2.2.2.2.2.2.2.2.2.2 k hk
    rw [q1 o ho, p1 o ho, up3_g ho, a1 o ho, g9 o ho, c27]
    rcases d3 with d3 | d3 <;> rw [d3] <;> decide
  obtain ⟨r1, r2, r3⟩ := hτ4
  have gO : τ3 o = σ o := by rw [q1 o ho, p1 o ho, up3_g ho, a1 o ho, g9 o ho]
  have gO2 : τ2 o = σ o := by rw [p1 o ho, up3_g ho, a1 o ho, g9 o ho]
  have gO1 : (up3 τ1 h 0 37 0) o = σ o := by rw [up3_g ho, a1 o ho, g9 o ho]
  have w0 : ∀ i, τ4 h 0 i = up3 τ1 h 0 37 0 h 0 i := fun i => by rw [r2 0 (by decide), q2 0 (by decide), p2 0 (by decide)]
  have wS : ∀ b, b ∈ [1, 2, 3, 4, 5, 6, 7] → ∀ i, i < cn (m 1) → τ4 h b i = σ o b i := fun b hb i hi => by
    have n1 : b ∉ [22, 23, 24, 25, 26, 27] := by revert hb; simp; omega
    have n2 : b ∉ [15, 16, 17, 18, 19, 20, 21, 8, 9] := by revert hb; simp; omega
    rw [r2 b n1, q2 b n2, p3 b hb i hi, gO1]
  have wU : ∀ b, b ∈ [15, 16, 17, 18, 19, 20, 21, 8, 9] → ∀ i, i < cn (m 2) → τ4 h b i = σ o b i := fun b hb i hi => by
    have n1 : b ∉ [22, 23, 24, 25, 26, 27] := by revert hb; simp; omega
    rw [r2 b n1, q3 b hb i hi, gO2]
  have wQ : ∀ b, b ∈ [22, 23, 24, 25, 26, 27] → ∀ i, i < cn (m 3) → τ4 h b i = σ o b i := fun b hb i hi => by rw [r3 b hb i hi, gO]
  have wW : ∀ b, 10 ≤ b → b ≤ 14 → τ4 h b = τ1 h b := fun b hb1 hb2 => by
    have n1 : b ∉ [22, 23, 24, 25, 26, 27] := by simp; omega
    have n2 : b ∉ [15, 16, 17, 18, 19, 20, 21, 8, 9] := by simp; omega
    have n3 : b ∉ [1, 2, 3, 4, 5, 6, 7] := by simp; omega
    rw [r2 b n1, q2 b n2, p2 b n3, up3_j (by omega)]
  refine Ret.some ⟨fun a ha => by rw [r1 a ha, q1 a ha, p1 a ha, up3_g ha, a1 a ha, g9 a ha], ⟨⟨?_, ?_, ?_, ?_, ?_, ?_, ?_, ?_, ?_⟩, fun k hk => ?_, fun u hu => ?_, fun q hq => ?_⟩, ⟨?_, ?_⟩, ⟨fun p hp => ?_, fun k hk => ?_, fun k hk => ?_⟩, ?_⟩
  · rw [w0, e0 28 (by decide), v28]
  · rw [w0, e0 29 (by decide), v29]
  · rw [w0, e0 30 (by decide), v30]
  · rw [w0, e0 31 (by decide), v31]
  · rw [w0, e0 32 (by decide), v32]
  · rw [w0, e0 33 (by decide), v33]
  · rw [w0, e0 34 (by decide), v34]
  · rw [w0, e0 35 (by decide), v35]
  · rw [w0, e0 36 (by decide), v36]
  · rw [wS 1 (by decide) k hk, wS 2 (by decide) k hk, wS 3 (by decide) k hk, wS 4 (by decide) k hk, wS 5 (by decide) k hk, wS 6 (by decide) k hk, wS 7 (by decide) k hk]
    exact hcs k hk
  · rw [wU 15 (by decide) u hu, wU 16 (by decide) u hu, wU 17 (by decide) u hu, wU 18 (by decide) u hu, wU 19 (by decide) u hu, wU 20 (by decide) u hu, wU 8 (by decide) u hu, wU 9 (by decide) u hu, wU 21 (by decide) u hu]
    exact hcu u hu
  · rw [wQ 22 (by decide) q hq, wQ 23 (by decide) q hq, wQ 24 (by decide) q hq, wQ 25 (by decide) q hq, wQ 26 (by decide) q hq, wQ 27 (by decide) q hq]
    exact hcq q hq
  · rw [w0, up3_same]; exact Or.inl rfl
  · intro z; rw [w0, up3_same] at z; exact absurd z (by decide)
  · have := a5 p hp
    rw [g9 o ho] at this
    rw [wW 13 (by decide) (by decide), wW 11 (by decide) (by decide), this.1]
    refine ⟨(hn1 p hp).1, fun i hi => ?_⟩
    rw [this.2 i (by rw [(hn1 p hp).1]; exact hi)]
    exact (hn1 p hp).2 i hi
  · have h8 := b8'.2
    have := a6 k (by omega)
    rw [g9 o ho] at this
    rw [wW 14 (by decide) (by decide), this]
    exact hn2 k hk
  · have := a4 k hk
    rw [g9 o ho] at this
    rw [wW 12 (by decide) (by decide), wW 10 (by decide) (by decide), this.1]
    refine ⟨(hn3 k hk).1, fun i hi => ?_⟩
    have hsz := (hww.2.2.1 k hk).2.1
    have es : cn (σ o 12 k) = offN m (508 + 128 * k) (cn (m (508 + 128 * k))) := by rw [(hn3 k hk).1, cn_nI (by omega)]
    have l1 := offN_step (m := m) (b := 508 + 128 * k) hi
    rcases (hn3 k hk).2 i hi with ⟨t1, t2⟩ | ⟨t1, t2, t3, t4⟩
    · refine Or.inl ⟨t1, ?_⟩
      show τ1 h 10 _ = _
      rw [this.2 _ (by omega)]
      exact t2
    · have l3 := offN_node hi t1
      refine Or.inr ⟨t1, ?_, ?_, ?_⟩
      · show τ1 h 10 _ = _
        rw [this.2 _ (by omega)]
        exact t2
      · show τ1 h 10 _ = _
        rw [this.2 _ (by omega)]
        exact t3
      · show τ1 h 10 _ = _
        rw [this.2 _ (by omega)]
        exact t4
  · have := a3 (by unfold HB; rw [j9 10 (by decide), j9 11 (by decide)]; exact hbh)
    unfold HB
    rw [wW 10 (by decide) (by decide), wW 11 (by decide) (by decide)]
    exact this
