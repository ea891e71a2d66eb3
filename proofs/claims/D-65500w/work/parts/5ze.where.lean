/-! S11: where -/
set_option maxRecDepth 100000
def eD (a b : Nat → Int32) : Nat → Nat → Nat
  | 0, j => j
  | i + 1, 0 => i + 1
  | i + 1, j + 1 => min (eD a b i j + (if a i = b j then 0 else 1)) (min (eD a b (i + 1) j) (eD a b i (j + 1)) + 1)
termination_by i j => i + j
theorem eD_0 (a b : Nat → Int32) (j : Nat) : eD a b 0 j = j := by rw [eD]
theorem eD_i (a b : Nat → Int32) (i : Nat) : eD a b i 0 = i := by cases i <;> rw [eD]
theorem eD_s (a b : Nat → Int32) (i j : Nat) : eD a b (i + 1) (j + 1) = min (eD a b i j + (if a i = b j then 0 else 1)) (min (eD a b (i + 1) j) (eD a b i (j + 1)) + 1) := by rw [eD]
theorem eD_le (a b : Nat → Int32) : ∀ i j, eD a b i j ≤ i + j := by
  intro i
  induction i with
  | zero => intro j; rw [eD_0]; omega
  | succ i ih =>
    intro j
    induction j with
    | zero => rw [eD_i]; omega
    | succ j jh =>
      rw [eD_s]
      have := ih (j + 1)
      omega
abbrev nmF (m : Nat → Int32) (p : Nat) : Nat → Int32 := fun i => m (392 + 13 * p + 1 + i)
abbrev nmN (m : Nat → Int32) (p : Nat) : Nat := cn (m (392 + 13 * p))
def edN (m : Nat → Int32) (y : Nat → Int32) (K p : Nat) : Nat := eD (nmF m p) y (nmN m p) K
def FiC (σ τ : St) : Prop := ∀ a, a ≠ 7 → τ a = σ a
theorem FiC.up {σ τ : St} {j i : Nat} {v : Int32} (f : FiC σ τ) : FiC σ (up3 τ 7 j i v) := fun a ha => by rw [up3_g ha]; exact f a ha
theorem c_edits {σ : St} {m y : Nat → Int32} {p K j a : Nat} (hww : WW m) (H : HH (σ 3) m) (hp : p < 8) (hK : K ≤ 12) (hj : j = 1 ∨ j = 2 ∨ j = 3) (hl : a + K ≤ lenB j) (hy : ∀ i, i < K → σ 0 j (a + i) = y i) : Ret (F_X5_edits 3 (nI p) j (nI a) (nI K) σ) (fun r => r.1 = nI (edN m y K p) ∧ FiC σ r.2) := by
  obtain ⟨bL, -⟩ := hww.1 p hp
  have bL' : nmN m p ≤ 12 := bL.2
  have bL1 : m (392 + 13 * p) = nI (nmN m p) := bL.1
  obtain ⟨h13, h11⟩ := H.2.2.1.1 p hp
  have hlb : lenB j ≤ 4006 := by rcases hj with e | e | e <;> subst e <;> decide +kernel
  unfold F_X5_edits
  refine Ret.bind (Q := fun τ => FiC σ τ ∧ ∀ q, q ≤ K → τ 7 2 q = nI (eD (nmF m p) y 0 q)) ?_ ?_
  · refine iter_cnt (f := fun z => B_X5_edits_3 3 j (nI p) (nI a) (nI K) z.1 z.2) (fun k (τ : St) => (nI k, τ)) (fun k τ => FiC σ τ ∧ ∀ q, q < k → τ 7 2 q = nI q) (K + 1) ?_ ?_ σ ⟨fun _ _ => rfl, fun q hq => absurd hq (Nat.not_lt_zero q)⟩
    · rintro k τ hk ⟨t1, t2⟩
      show Ret (B_X5_edits_3 3 j (nI p) (nI a) (nI K) (nI k) τ) _
      unfold B_X5_edits_3
      rw [if_neg (nI_nlt (by omega) (by omega)), wro_nI (by omega) (by decide), some_b, nI_1]
      refine Ret.some ⟨_, rfl, t1.up, fun q hq => ?_⟩
      by_cases e : q = k
      · rw [e, up3_same]
      · rw [up3_i e]; exact t2 q (by omega)
    · rintro τ ⟨t1, t2⟩
      show Ret (B_X5_edits_3 3 j (nI p) (nI a) (nI K) (nI (K + 1)) τ) _
      unfold B_X5_edits_3
      rw [if_pos (nI_lt (by omega) (by omega))]
      exact Ret.some ⟨t1, fun q hq => by rw [eD_0]; exact t2 q (by omega)⟩
  rintro τ0 T0
  refine Ret.bind (Q := fun τ => FiC σ τ ∧ ∀ q, q ≤ K → τ 7 2 q = nI (eD (nmF m p) y (nmN m p) q)) ?_ ?_
  · refine iter_cnt (f := fun z => B_X5_edits_28 3 j (nI p) (nI a) (nI K) z.1 z.2) (fun k (τ : St) => (nI (k + 1), τ)) (fun k τ => FiC σ τ ∧ ∀ q, q ≤ K → τ 7 2 q = nI (eD (nmF m p) y k q)) (nmN m p) ?_ ?_ τ0 T0
    · rintro i τ hi ⟨t1, t2⟩
      show Ret (B_X5_edits_28 3 j (nI p) (nI a) (nI K) (nI (i + 1)) τ) _
      unfold B_X5_edits_28
      rw [rdo_nI (by omega) (by decide), some_b, t1 3 (by decide), h13, bL1, if_neg (nI_nlt (by omega) (by omega)), show (0 : Int32) = nI 0 from rfl, wro_nI (by omega) (by decide), some_b]
      refine Ret.bind (Q := fun υ => FiC σ υ ∧ (∀ q, q ≤ K → υ 7 2 q = nI (eD (nmF m p) y i q)) ∧ ∀ q, q ≤ K → υ 7 1 q = nI (eD (nmF m p) y (i + 1) q)) ?_ ?_
      · refine iter_cnt (f := fun z => B_X5_edits_50 3 j (nI p) (nI a) (nI K) (nI (i + 1)) z.1 z.2) (fun k (υ : St) => (nI (k + 1), υ)) (fun k υ => FiC σ υ ∧ (∀ q, q ≤ K → υ 7 2 q = nI (eD (nmF m p) y i q)) ∧ ∀ q, q ≤ k → υ 7 1 q = nI (eD (nmF m p) y (i + 1) q)) K ?_ ?_ (up3 τ 7 1 0 (nI (i + 1))) ⟨t1.up, fun q hq => by rw [up3_j (by decide)]; exact t2 q hq, fun q hq => ?_⟩
        · rintro k υ hk ⟨u1, u2, u3⟩
          have hd1 := eD_le (nmF m p) y i k
          have hd2 := eD_le (nmF m p) y (i + 1) k
          have hd3 := eD_le (nmF m p) y i (k + 1)
          show Ret (B_X5_edits_50 3 j (nI p) (nI a) (nI K) (nI (i + 1)) (nI (k + 1)) υ) _
          unfold B_X5_edits_50
          have s1 : nI (k + 1) - (1 : Int32) = nI k := nI_sub (a := k + 1) (b := 1) (by omega)
          have s2 : ((12 : Int32) * nI p + nI (i + 1)) - (1 : Int32) = nI (12 * p + i) := by
            rw [show (12 : Int32) * nI p + nI (i + 1) = nI (12 * p + (i + 1)) by rw [← nI_add (12 * p), ← nI_mulc]; rfl]
            exact nI_sub (a := 12 * p + (i + 1)) (b := 1) (by omega)
          have s3 : (nI a + nI (k + 1)) - (1 : Int32) = nI (a + k) := by
            rw [nI_add]
            exact nI_sub (a := a + (k + 1)) (b := 1) (by omega)
          rw [if_neg (nI_nlt (by omega) (by omega)), s1, s2, s3, rdo_nI (by omega) (by decide), some_b, rdo_nI (by omega) (by decide), some_b, rdo_nI (by omega) (by omega), some_b, u1 3 (by decide), u1 0 (by decide), h11 i hi, hy k hk, u2 k (by omega)]
          have e1 : (if m (392 + 13 * p + 1 + i) = y k then some ((0 : Int32)) else some ((1 : Int32))) = some (nI (if nmF m p i = y k then 0 else 1)) := by
            by_cases c : m (392 + 13 * p + 1 + i) = y k
            · rw [if_pos c, if_pos c]; rfl
            · rw [if_neg c, if_neg c]; rfl
          have hc : (if nmF m p i = y k then 0 else 1) ≤ 1 := by split <;> omega
          rw [e1, some_b, nmo_b, nI_add, rdo_nI (by omega) (by decide), some_b, rdo_nI (by omega) (by decide), some_b, u3 k (Nat.le_refl _), u2 (k + 1) (by omega), imin_nI (by omega) (by omega), nI_1, imin_nI (by omega) (by omega), wro_nI (by omega) (by decide), some_b, nI_1]
          refine Ret.some ⟨_, rfl, u1.up, fun q hq => by rw [up3_j (by decide)]; exact u2 q hq, fun q hq => ?_⟩
          by_cases e : q = k + 1
          · rw [e, up3_same, eD_s]
          · rw [up3_i e]; exact u3 q (by omega)
        · rintro υ ⟨u1, u2, u3⟩
          show Ret (B_X5_edits_50 3 j (nI p) (nI a) (nI K) (nI (i + 1)) (nI (K + 1)) υ) _
          unfold B_X5_edits_50
          rw [if_pos (nI_lt (by omega) (by omega))]
          exact Ret.some ⟨u1, u2, u3⟩
        · have : q = 0 := by omega
          rw [this, up3_same, eD_i]
      · rintro υ ⟨u1, u2, u3⟩
        refine Ret.bind (Q := fun ρ => FiC σ ρ ∧ ∀ q, q ≤ K → ρ 7 2 q = nI (eD (nmF m p) y (i + 1) q)) ?_ ?_
        · refine iter_cnt (f := fun z => B_X5_edits_142 3 j (nI p) (nI a) (nI K) (nI (i + 1)) z.1 z.2) (fun k (ρ : St) => (nI k, ρ)) (fun k ρ => FiC σ ρ ∧ (∀ q, q ≤ K → ρ 7 1 q = nI (eD (nmF m p) y (i + 1) q)) ∧ ∀ q, q < k → ρ 7 2 q = nI (eD (nmF m p) y (i + 1) q)) (K + 1) ?_ ?_ υ ⟨u1, u3, fun q hq => absurd hq (Nat.not_lt_zero q)⟩
          · rintro k ρ hk ⟨r1, r2, r3⟩
            show Ret (B_X5_edits_142 3 j (nI p) (nI a) (nI K) (nI (i + 1)) (nI k) ρ) _
            unfold B_X5_edits_142
            rw [if_neg (nI_nlt (by omega) (by omega)), rdo_nI (by omega) (by decide), some_b, wro_nI (by omega) (by decide), some_b, nI_1, r2 k (by omega)]
            refine Ret.some ⟨_, rfl, r1.up, fun q hq => by rw [up3_j (by decide)]; exact r2 q hq, fun q hq => ?_⟩
            by_cases e : q = k
            · rw [e, up3_same]
            · rw [up3_i e]; exact r3 q (by omega)
          · rintro ρ ⟨r1, r2, r3⟩
            show Ret (B_X5_edits_142 3 j (nI p) (nI a) (nI K) (nI (i + 1)) (nI (K + 1)) ρ) _
            unfold B_X5_edits_142
            rw [if_pos (nI_lt (by omega) (by omega))]
            exact Ret.some ⟨r1, fun q hq => r3 q (by omega)⟩
        · rintro ρ ⟨r1, r2⟩
          rw [nI_1]
          exact Ret.some ⟨ρ, rfl, r1, r2⟩
    · rintro τ ⟨t1, t2⟩
      show Ret (B_X5_edits_28 3 j (nI p) (nI a) (nI K) (nI (nmN m p + 1)) τ) _
      unfold B_X5_edits_28
      rw [rdo_nI (by omega) (by decide), some_b, t1 3 (by decide), h13, bL1, if_pos (nI_lt (by omega) (by omega))]
      exact Ret.some ⟨t1, t2⟩
  rintro τ ⟨t1, t2⟩
  rw [rdo_nI (by omega) (by decide), some_b, t2 K (Nat.le_refl _)]
  exact Ret.some ⟨rfl, t1⟩
/-- the model's letters -/
def FiM (σ τ : St) : Prop := ∀ a b, ¬ (a = 20 ∧ b = 49) → τ a b = σ a b
theorem FiM.up {σ τ : St} {i : Nat} {v : Int32} (f : FiM σ τ) : FiM σ (up3 τ 20 49 i v) := fun a b h => by
  rw [show up3 τ 20 49 i v a b = τ a b by
    by_cases e : a = 20
    · subst e; exact up3_j (fun z => h ⟨rfl, z⟩)
    · rw [up3_g e]]
  exact f a b h
theorem m_edits {σ : St} {m y : Nat → Int32} {p K : Nat} (hww : WW m) (hm : σ 20 1 = m) (hp : p < 8) (hK : K ≤ 3200) (h28 : σ 20 0 28 = nI K) (hy : ∀ i, i < K → σ 20 28 i = y i) : Ret (F_X12_edits (nI p) σ) (fun r => r.1 = nI (edN m y K p) ∧ FiM σ r.2) := by
  obtain ⟨bL, -⟩ := hww.1 p hp
  have bL' : nmN m p ≤ 12 := bL.2
  have bL1 : m (392 + 13 * p) = nI (nmN m p) := bL.1
  have er : (392 : Int32) + (13 : Int32) * nI p = nI (392 + 13 * p) := by rw [← nI_add, ← nI_mulc]; rfl
  unfold F_X12_edits
  rw [er, m_rd (by omega), some_b, hm, bL1]
  refine Ret.bind (Q := fun τ => FiM σ τ ∧ ∀ q, q ≤ nmN m p → τ 20 49 q = nI (eD (nmF m p) y q 0)) ?_ ?_
  · refine iter_cnt (f := fun z => B_X12_edits_16 (nI (nmN m p)) (nI p) z.1 z.2) (fun k (τ : St) => (nI k, τ)) (fun k τ => FiM σ τ ∧ ∀ q, q < k → τ 20 49 q = nI q) (nmN m p + 1) ?_ ?_ σ ⟨fun _ _ _ => rfl, fun q hq => absurd hq (Nat.not_lt_zero q)⟩
    · rintro k τ hk ⟨t1, t2⟩
      show Ret (B_X12_edits_16 (nI (nmN m p)) (nI p) (nI k) τ) _
      unfold B_X12_edits_16
      rw [if_neg (nI_nlt (by omega) (by omega)), wro_nI (by omega) (by decide), some_b, nI_1]
      refine Ret.some ⟨_, rfl, t1.up, fun q hq => ?_⟩
      by_cases e : q = k
      · rw [e, up3_same]
      · rw [up3_i e]; exact t2 q (by omega)
    · rintro τ ⟨t1, t2⟩
      show Ret (B_X12_edits_16 (nI (nmN m p)) (nI p) (nI (nmN m p + 1)) τ) _
      unfold B_X12_edits_16
      rw [if_pos (nI_lt (by omega) (by omega))]
      exact Ret.some ⟨t1, fun q hq => by rw [eD_i]; exact t2 q (by omega)⟩
  rintro τ0 T0
  refine Ret.bind (Q := fun τ => FiM σ τ ∧ ∀ q, q ≤ nmN m p → τ 20 49 q = nI (eD (nmF m p) y q K)) ?_ ?_
  · refine iter_cnt (f := fun z => B_X12_edits_36 (nI (nmN m p)) (nI p) z.1 z.2) (fun k (τ : St) => (nI (k + 1), τ)) (fun k τ => FiM σ τ ∧ ∀ q, q ≤ nmN m p → τ 20 49 q = nI (eD (nmF m p) y q k)) K ?_ ?_ τ0 T0
    · rintro i τ hi ⟨t1, t2⟩
      have f28 : τ 20 0 28 = nI K := by rw [t1 20 0 (by omega)]; exact h28
      show Ret (B_X12_edits_36 (nI (nmN m p)) (nI p) (nI (i + 1)) τ) _
      unfold B_X12_edits_36
      rw [f28, if_neg (nI_nlt (by omega) (by omega)), show (0 : Int32) = nI 0 from rfl, rdo_nI (by omega) (by decide), some_b, wro_nI (by omega) (by decide), some_b, t2 0 (Nat.zero_le _)]
      refine Ret.bind (Q := fun υ => FiM σ υ ∧ ∀ q, q ≤ nmN m p → υ 20 49 q = nI (eD (nmF m p) y q (i + 1))) ?_ ?_
      · refine iter_cnt (f := fun z => B_X12_edits_62 (nI (nmN m p)) (nI p) (nI (i + 1)) z.1 z.2.1 z.2.2) (fun k (υ : St) => (nI (eD (nmF m p) y k i), nI (k + 1), υ)) (fun k υ => FiM σ υ ∧ (∀ q, k < q → q ≤ nmN m p → υ 20 49 q = nI (eD (nmF m p) y q i)) ∧ ∀ q, q ≤ k → υ 20 49 q = nI (eD (nmF m p) y q (i + 1))) (nmN m p) ?_ ?_ (up3 τ 20 49 0 (nI (i + 1))) ⟨t1.up, fun q hq hq2 => by rw [up3_i (by omega)]; exact t2 q hq2, fun q hq => ?_⟩
        · rintro k υ hk ⟨u1, u2, u3⟩
          have hd1 := eD_le (nmF m p) y k i
          have hd2 := eD_le (nmF m p) y (k + 1) i
          have hd3 := eD_le (nmF m p) y k (i + 1)
          have v28 : υ 20 28 i = y i := by rw [u1 20 28 (by omega)]; exact hy i hi
          have v1 : υ 20 1 = m := by rw [u1 20 1 (by omega)]; exact hm
          show Ret (B_X12_edits_62 (nI (nmN m p)) (nI p) (nI (i + 1)) (nI (eD (nmF m p) y k i)) (nI (k + 1)) υ) _
          unfold B_X12_edits_62
          have s1 : nI (i + 1) - (1 : Int32) = nI i := nI_sub (a := i + 1) (b := 1) (by omega)
          have s2 : nI (k + 1) - (1 : Int32) = nI k := nI_sub (a := k + 1) (b := 1) (by omega)
          rw [if_neg (nI_nlt (by omega) (by omega)), s1, s2, er, nI_add, rdo_nI (by omega) (by decide), some_b, m_rd (by omega), some_b, v28, v1, show 392 + 13 * p + (k + 1) = 392 + 13 * p + 1 + k by omega]
          have e1 : (if y i = m (392 + 13 * p + 1 + k) then some ((0 : Int32)) else some ((1 : Int32))) = some (nI (if nmF m p k = y i then 0 else 1)) := by
            by_cases c : y i = m (392 + 13 * p + 1 + k)
            · rw [if_pos c, if_pos c.symm]; rfl
            · rw [if_neg c, if_neg (fun z => c z.symm)]; rfl
          have hc : (if nmF m p k = y i then 0 else 1) ≤ 1 := by split <;> omega
          rw [e1, some_b, nmo_b, nI_add, rdo_nI (by omega) (by decide), some_b, some_b, u2 (k + 1) (by omega) (by omega), some_b, nmo_b]
          simp only [nI_1]
          have z1 : (if nI (eD (nmF m p) y (k + 1) i + 1) < nI (eD (nmF m p) y k i + (if nmF m p k = y i then 0 else 1)) then some (nI (eD (nmF m p) y (k + 1) i + 1)) else some (nI (eD (nmF m p) y k i + (if nmF m p k = y i then 0 else 1)))) = some (nI (min (eD (nmF m p) y (k + 1) i + 1) (eD (nmF m p) y k i + (if nmF m p k = y i then 0 else 1)))) := by
            by_cases c : eD (nmF m p) y (k + 1) i + 1 < eD (nmF m p) y k i + (if nmF m p k = y i then 0 else 1)
            · rw [if_pos (nI_lt c (by omega)), Nat.min_eq_left (by omega)]
            · rw [if_neg (nI_nlt (by omega) (by omega)), Nat.min_eq_right (by omega)]
          have z2 : ∀ x y' : Nat, x < 10000 → y' < 10000 → (if nI x < nI y' then (some (nI x) : Option Int32) else some (nI y')) = some (nI (min x y')) := by
            intro x y' hx hy'
            by_cases c : x < y'
            · rw [if_pos (nI_lt c (by omega)), Nat.min_eq_left (by omega)]
            · rw [if_neg (nI_nlt (by omega) (by omega)), Nat.min_eq_right (by omega)]
          rw [z1, some_b, rdo_nI (by omega) (by decide), some_b, some_b, nmo_b, u3 k (Nat.le_refl _)]
          simp only [nI_1]
          rw [z2 _ _ (by omega) (by omega), some_b, wro_nI (by omega) (by decide), some_b]
          refine Ret.some ⟨_, rfl, u1.up, fun q hq hq2 => by rw [up3_i (by omega)]; exact u2 q (by omega) hq2, fun q hq => ?_⟩
          by_cases e : q = k + 1
          · rw [e, up3_same, eD_s]
            congr 1
            omega
          · rw [up3_i e]; exact u3 q (by omega)
        · rintro υ ⟨u1, u2, u3⟩
          show Ret (B_X12_edits_62 (nI (nmN m p)) (nI p) (nI (i + 1)) _ (nI (nmN m p + 1)) υ) _
          unfold B_X12_edits_62
          rw [if_pos (nI_lt (by omega) (by omega))]
          exact Ret.some ⟨u1, u3⟩
        · have : q = 0 := by omega
          rw [this, up3_same, eD_0]
      · rintro υ ⟨u1, u2⟩
        rw [nI_1]
        exact Ret.some ⟨υ, rfl, u1, u2⟩
    · rintro τ ⟨t1, t2⟩
      have f28 : τ 20 0 28 = nI K := by rw [t1 20 0 (by omega)]; exact h28
      show Ret (B_X12_edits_36 (nI (nmN m p)) (nI p) (nI (K + 1)) τ) _
      unfold B_X12_edits_36
      rw [f28, if_pos (nI_lt (by omega) (by omega))]
      exact Ret.some ⟨t1, t2⟩
  rintro τ ⟨t1, t2⟩
  rw [rdo_nI (by omega) (by decide), some_b, t2 _ (Nat.le_refl _)]
  exact Ret.some ⟨rfl, t1⟩
