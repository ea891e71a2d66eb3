/-! S2: the model's tree -/
set_option maxRecDepth 100000
theorem sub48 : ∀ c, c < 256 → (((¬ nI c - 48 < 0 ∧ ¬ 2 < nI c - 48) ↔ d02 (nI c)) ∧ ((¬ nI c - 48 < 1 ∧ ¬ 9 < nI c - 48) ↔ d19 (nI c))) := by decide +kernel
theorem sub48h {h : Nat → Int32} {n : Nat} (B : Byt h n) (x : Nat) : ((¬ h x - 48 < 0 ∧ ¬ 2 < h x - 48) ↔ d02 (h x)) ∧ ((¬ h x - 48 < 1 ∧ ¬ 9 < h x - 48) ↔ d19 (h x)) := by
  rcases Nat.lt_or_ge x n with q | q
  · obtain ⟨c, hc, e⟩ := B.1 x q
    rw [e]
    exact sub48 c hc
  · rw [B.2 x q]
    decide
theorem m_addNode {σ : St} {k : Nat} {v : Int32} (hk : σ 20 0 24 = nI k) (hb : k < 10000) : F_X12_addNode v σ = some (up3 (if k < 127 then up3 σ 20 24 k v else σ) 20 0 24 (nI (k + 1))) := by
  unfold F_X12_addNode
  rw [hk]
  by_cases q : k < 127
  · rw [if_pos (show nI k < (127 : Int32) from nI_lt (b := 127) q (by decide)), if_pos q, wro_nI q (by decide), some_b, some_b, nst_b, up3_j (by decide), hk, nI_1]
  · rw [if_neg (show ¬ nI k < (127 : Int32) from nI_nlt (b := 127) (by omega) (by omega)), if_neg q, some_b, nst_b, hk, nI_1]
def TrM (σ : St) (h : Nat → Int32) (n a k : Nat) (z : Int32 × St) : Prop := ∃ τ, z = (nI (tU h a k), τ) ∧ KpM σ τ ∧ τ 20 23 = σ 20 23 ∧ OkM τ (tP h a k) ∧ τ 20 0 24 = nI k ∧ (∀ m, m < k → m < 127 → τ 20 24 m = tV h a m) ∧ τ 20 0 25 = nI (tM h a k) ∧ ∀ m, m < tU h a k → τ 20 27 m = nI (tD h a k m)
theorem imx {a b : Nat} (ha : a < 2147483648) (hb : b < 2147483648) : (if nI a < nI b then some (nI b) else some (nI a)) = some (nI (max a b)) := by
  by_cases q : a < b
  · rw [if_pos (nI_lt q hb), Nat.max_eq_right (by omega)]
  · rw [if_neg (nI_nlt (by omega) ha), Nat.max_eq_left (by omega)]
theorem m_treeStep {σ : St} {n a k : Nat} {h : Nat → Int32} (S : SrcM σ n h) (hn : n ≤ 3200) (ha : a ≤ n) (hA : tAll h a k) (hk : tOk h (tP h a k)) (hU : 1 ≤ tU h a k) {z : Int32 × St} (I : TrM σ h n a k z) : ∃ z', B_X12_readTree_19 z.1 z.2 = some (.inl z') ∧ TrM σ h n a (k + 1) z' := by
  have hB := S.2.2.1
  obtain ⟨τ, rfl, k1, k2, k4, k7, k8, k5, k6⟩ := I
  have hx := tOk_lt hB hk
  have hg := tP_ge h a k
  have hu := tU_le h a k
  have hd := tD_le h a k (tU h a k - 1)
  have hc := tC_le h a k
  have S1 := k1.src S
  show ∃ z', B_X12_readTree_19 (nI (tU h a k)) τ = some (.inl z') ∧ _
  unfold B_X12_readTree_19
  rw [if_pos (by rw [k4.2]; decide), if_pos (show (0 : Int32) < nI (tU h a k) from nI_lt (a := 0) hU (by omega)), nI_c1 hU, rdo_nI (by omega) (by decide), some_b, k6 _ (by omega), m_here S1 k4.1 (by omega), some_b]
  by_cases q : h (tP h a k) = 63
  · have e24 : up3 τ 20 0 21 (τ 20 0 21 + 1) 20 0 24 = nI k := by rw [up3_i (by decide)]; exact k7
    rw [if_pos q, bindL_inl, nst_b, if_pos q, m_addNode e24 (by omega), some_b, wro_nI (by omega) (by decide), some_b, nI_1 (tD h a k (tU h a k - 1)), nI_1 (tU h a k - 1), show tU h a k - 1 + 1 = tU h a k by omega, wro_nI (by omega) (by decide), some_b, show (2 : Int32) = nI 2 from rfl, nI_add, show tU h a k - 1 + 2 = tU h a k + 1 by omega]
    have K2 : KpM σ (if k < 127 then up3 (up3 τ 20 0 21 (τ 20 0 21 + 1)) 20 24 k (-1) else up3 τ 20 0 21 (τ 20 0 21 + 1)) := by
      by_cases c : k < 127
      · rw [if_pos c]; exact (k1.u0 (by decide)).uj (by decide)
      · rw [if_neg c]; exact k1.u0 (by decide)
    have O2 : OkM (if k < 127 then up3 (up3 τ 20 0 21 (τ 20 0 21 + 1)) 20 24 k (-1) else up3 τ 20 0 21 (τ 20 0 21 + 1)) (tP h a (k + 1)) := by
      rw [tP, if_pos q, k4.1, nI_1]
      by_cases c : k < 127
      · rw [if_pos c]; exact k4.at.uj (by decide)
      · rw [if_neg c]; exact k4.at
    have T2 : (if k < 127 then up3 (up3 τ 20 0 21 (τ 20 0 21 + 1)) 20 24 k (-1) else up3 τ 20 0 21 (τ 20 0 21 + 1)) 20 23 = σ 20 23 ∧ (if k < 127 then up3 (up3 τ 20 0 21 (τ 20 0 21 + 1)) 20 24 k (-1) else up3 τ 20 0 21 (τ 20 0 21 + 1)) 20 0 25 = nI (tM h a k) ∧ (if k < 127 then up3 (up3 τ 20 0 21 (τ 20 0 21 + 1)) 20 24 k (-1) else up3 τ 20 0 21 (τ 20 0 21 + 1)) 20 27 = τ 20 27 ∧ ∀ m, m < k + 1 → m < 127 → (if k < 127 then up3 (up3 τ 20 0 21 (τ 20 0 21 + 1)) 20 24 k (-1) else up3 τ 20 0 21 (τ 20 0 21 + 1)) 20 24 m = tV h a m := by
      by_cases c : k < 127
      · rw [if_pos c]
        refine ⟨by rw [up3_j (by decide), up3_j (by decide), k2], by rw [up3_j (by decide), up3_i (by decide), k5], by rw [up3_j (by decide), up3_j (by decide)], ?_⟩
        intro m hm hm2
        by_cases e : m = k
        · rw [e, up3_same]
          unfold tV
          rw [if_pos q]
        · rw [up3_i e, up3_j (by decide)]
          exact k8 m (by omega) hm2
      · rw [if_neg c]
        refine ⟨by rw [up3_j (by decide), k2], by rw [up3_i (by decide), k5], by rw [up3_j (by decide)], ?_⟩
        intro m hm hm2
        rw [up3_j (by decide)]
        exact k8 m (by omega) hm2
    generalize (if k < 127 then up3 (up3 τ 20 0 21 (τ 20 0 21 + 1)) 20 24 k (-1) else up3 τ 20 0 21 (τ 20 0 21 + 1)) = ρ at K2 O2 T2
    obtain ⟨T3, T4, T5, T6⟩ := T2
    refine ⟨_, rfl, _, by rw [tU, if_pos q], ((K2.u0 (by decide)).uj (by decide)).uj (by decide), ?_, ((O2.u0 (by decide) (by decide)).uj (by decide)).uj (by decide), ?_, ?_, ?_, ?_⟩
    · rw [up3_j (by decide), up3_j (by decide), up3_j (by decide), T3]
    · rw [up3_j (by decide), up3_j (by decide), up3_same]
    · intro m hm hm2
      rw [up3_j (by decide), up3_j (by decide), up3_j (by decide)]
      exact T6 m hm hm2
    · rw [up3_j (by decide), up3_j (by decide), up3_i (by decide), T4, tM, if_pos q]
    · intro m hm
      rw [tU, if_pos q] at hm
      rw [tD, if_pos q]
      unfold updN
      by_cases e1 : m = tU h a k
      · rw [if_pos e1, e1, up3_same]
      · rw [if_neg e1, up3_i e1]
        by_cases e2 : m = tU h a k - 1
        · rw [if_pos e2, e2, up3_same]
        · rw [if_neg e2, up3_i e2, up3_j (by decide), T5, k6 m (by omega)]
  · rcases hk with hk | ⟨hk1, hk2, hk3⟩
    · exact absurd hk q
    · have hx2 := hx.2 q
      have e25 : up3 τ 20 0 21 (τ 20 0 21 + 1) 20 0 25 = nI (tM h a k) := by rw [up3_i (by decide)]; exact k5
      rw [if_neg q, if_pos hk1, bindL_inl, nst_b, if_neg q, e25, imx (by omega) (by omega), some_b, nst_b, k4.1, nI_1]
      have S2 : SrcM (up3 (up3 τ 20 0 21 (nI (tP h a k + 1))) 20 0 25 (nI (max (tM h a k) (tD h a k (tU h a k - 1))))) n h := (S1.u0 (by decide)).u0 (by decide)
      have O2 : OkM (up3 (up3 τ 20 0 21 (nI (tP h a k + 1))) 20 0 25 (nI (max (tM h a k) (tD h a k (tU h a k - 1))))) (tP h a k + 1) := k4.at.u0 (by decide) (by decide)
      have K2 : KpM σ (up3 (up3 τ 20 0 21 (nI (tP h a k + 1))) 20 0 25 (nI (max (tM h a k) (tD h a k (tU h a k - 1))))) := (k1.u0 (by decide)).u0 (by decide)
      have e24 : (up3 (up3 τ 20 0 21 (nI (tP h a k + 1))) 20 0 25 (nI (max (tM h a k) (tD h a k (tU h a k - 1))))) 20 0 24 = nI k := by rw [up3_i (by decide), up3_i (by decide)]; exact k7
      have e25' : (up3 (up3 τ 20 0 21 (nI (tP h a k + 1))) 20 0 25 (nI (max (tM h a k) (tD h a k (tU h a k - 1))))) 20 0 25 = nI (tM h a (k + 1)) := by rw [up3_same, tM, if_neg q]
      have e23 : (up3 (up3 τ 20 0 21 (nI (tP h a k + 1))) 20 0 25 (nI (max (tM h a k) (tD h a k (tU h a k - 1))))) 20 23 = σ 20 23 := by rw [up3_j (by decide), up3_j (by decide), k2]
      have e27 : (up3 (up3 τ 20 0 21 (nI (tP h a k + 1))) 20 0 25 (nI (max (tM h a k) (tD h a k (tU h a k - 1))))) 20 27 = τ 20 27 := by rw [up3_j (by decide), up3_j (by decide)]
      have e24' : (up3 (up3 τ 20 0 21 (nI (tP h a k + 1))) 20 0 25 (nI (max (tM h a k) (tD h a k (tU h a k - 1))))) 20 24 = τ 20 24 := by rw [up3_j (by decide), up3_j (by decide)]
      generalize (up3 (up3 τ 20 0 21 (nI (tP h a k + 1))) 20 0 25 (nI (max (tM h a k) (tD h a k (tU h a k - 1))))) = ρ at S2 O2 K2 e24 e25' e23 e27 e24'
      have hq2 := (sub48h hB (tP h a k + 1)).1.mpr hk2
      have hq3 := (sub48h hB (tP h a k + 2)).2.mpr hk3
      rw [m_here S2 O2.1 (by omega), some_b, nmo_b, in_eq, some_b, if_pos hq2, if_neg (by decide), nst_b, O2.1, nI_1, m_here (S2.u0 (by decide)) (O2.at (b := tP h a k + 1 + 1)).1 (by omega), some_b, nmo_b, in_eq, some_b, if_pos hq3, if_neg (by decide), nst_b, some_b, up3_same, nI_1, up3_up, show tP h a k + 1 + 1 + 1 = tP h a k + 3 by omega]
      have e24'' : up3 ρ 20 0 21 (nI (tP h a k + 3)) 20 0 24 = nI k := by rw [up3_i (by decide)]; exact e24
      rw [m_addNode e24'' (by omega), some_b]
      have K3 : KpM σ (if k < 127 then up3 (up3 ρ 20 0 21 (nI (tP h a k + 3))) 20 24 k (10 * (h (tP h a k + 1) - 48) + (h (tP h a k + 2) - 48)) else up3 ρ 20 0 21 (nI (tP h a k + 3))) := by
        by_cases c : k < 127
        · rw [if_pos c]; exact (K2.u0 (by decide)).uj (by decide)
        · rw [if_neg c]; exact K2.u0 (by decide)
      have O3 : OkM (if k < 127 then up3 (up3 ρ 20 0 21 (nI (tP h a k + 3))) 20 24 k (10 * (h (tP h a k + 1) - 48) + (h (tP h a k + 2) - 48)) else up3 ρ 20 0 21 (nI (tP h a k + 3))) (tP h a k + 3) := by
        by_cases c : k < 127
        · rw [if_pos c]; exact O2.at.uj (by decide)
        · rw [if_neg c]; exact O2.at
      have T2 : (if k < 127 then up3 (up3 ρ 20 0 21 (nI (tP h a k + 3))) 20 24 k (10 * (h (tP h a k + 1) - 48) + (h (tP h a k + 2) - 48)) else up3 ρ 20 0 21 (nI (tP h a k + 3))) 20 23 = σ 20 23 ∧ (if k < 127 then up3 (up3 ρ 20 0 21 (nI (tP h a k + 3))) 20 24 k (10 * (h (tP h a k + 1) - 48) + (h (tP h a k + 2) - 48)) else up3 ρ 20 0 21 (nI (tP h a k + 3))) 20 0 25 = nI (tM h a (k + 1)) ∧ (if k < 127 then up3 (up3 ρ 20 0 21 (nI (tP h a k + 3))) 20 24 k (10 * (h (tP h a k + 1) - 48) + (h (tP h a k + 2) - 48)) else up3 ρ 20 0 21 (nI (tP h a k + 3))) 20 27 = τ 20 27 ∧ ∀ m, m < k + 1 → m < 127 → (if k < 127 then up3 (up3 ρ 20 0 21 (nI (tP h a k + 3))) 20 24 k (10 * (h (tP h a k + 1) - 48) + (h (tP h a k + 2) - 48)) else up3 ρ 20 0 21 (nI (tP h a k + 3))) 20 24 m = tV h a m := by
        by_cases c : k < 127
        · rw [if_pos c]
          refine ⟨by rw [up3_j (by decide), up3_j (by decide), e23], by rw [up3_j (by decide), up3_i (by decide), e25'], by rw [up3_j (by decide), up3_j (by decide), e27], ?_⟩
          intro m hm hm2
          by_cases e : m = k
          · rw [e, up3_same]
            unfold tV
            rw [if_neg q]
          · rw [up3_i e, up3_j (by decide), e24']
            exact k8 m (by omega) hm2
        · rw [if_neg c]
          refine ⟨by rw [up3_j (by decide), e23], by rw [up3_i (by decide), e25'], by rw [up3_j (by decide), e27], ?_⟩
          intro m hm hm2
          rw [up3_j (by decide), e24']
          exact k8 m (by omega) hm2
      generalize (if k < 127 then up3 (up3 ρ 20 0 21 (nI (tP h a k + 3))) 20 24 k (10 * (h (tP h a k + 1) - 48) + (h (tP h a k + 2) - 48)) else up3 ρ 20 0 21 (nI (tP h a k + 3))) = ν at K3 O3 T2
      obtain ⟨T3, T4, T5, T6⟩ := T2
      refine ⟨_, rfl, _, by rw [tU, if_neg q], K3.u0 (by decide), ?_, ?_, up3_same _ _ _ _ _, ?_, ?_, ?_⟩
      · rw [up3_j (by decide), T3]
      · rw [tP, if_neg q]; exact O3.u0 (by decide) (by decide)
      · intro m hm hm2
        rw [up3_j (by decide)]
        exact T6 m hm hm2
      · rw [up3_i (by decide), T4]
      · intro m hm
        rw [tU, if_neg q] at hm
        rw [tD, if_neg q, up3_j (by decide), T5, k6 m (by omega)]
theorem m_treeBad {σ : St} {n a k : Nat} {h : Nat → Int32} (S : SrcM σ n h) (hn : n ≤ 3200) (ha : a ≤ n) (hA : tAll h a k) (hk : ¬ tOk h (tP h a k)) (hU : 1 ≤ tU h a k) {z : Int32 × St} (I : TrM σ h n a k z) : ∃ τ, iter (fun z => B_X12_readTree_19 z.1 z.2) z = some τ ∧ KpM σ τ ∧ τ 20 23 = σ 20 23 ∧ CuM τ n (.inr (tEr h (tP h a k))) := by
  have hB := S.2.2.1
  obtain ⟨τ, rfl, k1, k2, k4, k7, k8, k5, k6⟩ := I
  have hp := tP_le hB ha k hA
  have hg := tP_ge h a k
  have hu := tU_le h a k
  have hd := tD_le h a k (tU h a k - 1)
  have hc := tC_le h a k
  have q : ¬ h (tP h a k) = 63 := fun z => hk (Or.inl z)
  have S1 := k1.src S
  have step : ∃ τ', B_X12_readTree_19 (nI (tU h a k)) τ = some (.inl (nI (tU h a k - 1), τ')) ∧ KpM σ τ' ∧ τ' 20 23 = σ 20 23 ∧ CuM τ' n (.inr (tEr h (tP h a k))) := by
    unfold B_X12_readTree_19
    rw [if_pos (by rw [k4.2]; decide), if_pos (show (0 : Int32) < nI (tU h a k) from nI_lt (a := 0) hU (by omega)), nI_c1 hU, rdo_nI (by omega) (by decide), some_b, k6 _ (by omega), m_here S1 k4.1 (by omega), some_b, if_neg q]
    unfold tEr
    by_cases q1 : h (tP h a k) = 33
    · have hlt : tP h a k < n := hB.lt (by rw [q1]; decide)
      have e25 : up3 τ 20 0 21 (τ 20 0 21 + 1) 20 0 25 = nI (tM h a k) := by rw [up3_i (by decide)]; exact k5
      rw [if_pos q1, bindL_inl, nst_b, if_neg q, e25, imx (by omega) (by omega), some_b, nst_b, k4.1, nI_1, if_pos q1]
      have S2 : SrcM (up3 (up3 τ 20 0 21 (nI (tP h a k + 1))) 20 0 25 (nI (max (tM h a k) (tD h a k (tU h a k - 1))))) n h := (S1.u0 (by decide)).u0 (by decide)
      have O2 : OkM (up3 (up3 τ 20 0 21 (nI (tP h a k + 1))) 20 0 25 (nI (max (tM h a k) (tD h a k (tU h a k - 1))))) (tP h a k + 1) := k4.at.u0 (by decide) (by decide)
      have K2 : KpM σ (up3 (up3 τ 20 0 21 (nI (tP h a k + 1))) 20 0 25 (nI (max (tM h a k) (tD h a k (tU h a k - 1))))) := (k1.u0 (by decide)).u0 (by decide)
      have e24 : (up3 (up3 τ 20 0 21 (nI (tP h a k + 1))) 20 0 25 (nI (max (tM h a k) (tD h a k (tU h a k - 1))))) 20 0 24 = nI k := by rw [up3_i (by decide), up3_i (by decide)]; exact k7
      have e23 : (up3 (up3 τ 20 0 21 (nI (tP h a k + 1))) 20 0 25 (nI (max (tM h a k) (tD h a k (tU h a k - 1))))) 20 23 = σ 20 23 := by rw [up3_j (by decide), up3_j (by decide), k2]
      generalize (up3 (up3 τ 20 0 21 (nI (tP h a k + 1))) 20 0 25 (nI (max (tM h a k) (tD h a k (tU h a k - 1))))) = ρ at S2 O2 K2 e24 e23
      rw [m_here S2 O2.1 (by omega), some_b, nmo_b, in_eq, some_b]
      by_cases q2 : d02 (h (tP h a k + 1))
      · have hlt2 : tP h a k + 1 < n := hB.lt (ge_pos q2.1 (by decide))
        have q3 : ¬ d19 (h (tP h a k + 2)) := fun z => hk (Or.inr ⟨q1, q2, z⟩)
        rw [if_pos ((sub48h hB (tP h a k + 1)).1.mpr q2), if_neg (by decide), nst_b, O2.1, nI_1, m_here (S2.u0 (by decide)) (O2.at (b := tP h a k + 1 + 1)).1 (by omega), some_b, nmo_b, in_eq, some_b, if_neg (fun z => q3 ((sub48h hB (tP h a k + 2)).2.mp z)), if_pos rfl, nst_b, some_b, up3_same, if_pos q2]
        have e24'' : up3 (up3 ρ 20 0 21 (nI (tP h a k + 1 + 1))) 20 0 19 (nI (tP h a k + 1 + 1)) 20 0 24 = nI k := by rw [up3_i (by decide), up3_i (by decide)]; exact e24
        rw [m_addNode e24'' (by omega), some_b]
        have K3 : KpM σ (up3 (up3 ρ 20 0 21 (nI (tP h a k + 1 + 1))) 20 0 19 (nI (tP h a k + 1 + 1))) := (K2.u0 (by decide)).u0 (by decide)
        have C3 : CuM (up3 (up3 ρ 20 0 21 (nI (tP h a k + 1 + 1))) 20 0 19 (nI (tP h a k + 1 + 1))) n (.inr (tP h a k + 2)) := O2.at.bad (by omega)
        have e23' : (up3 (up3 ρ 20 0 21 (nI (tP h a k + 1 + 1))) 20 0 19 (nI (tP h a k + 1 + 1))) 20 23 = σ 20 23 := by rw [up3_j (by decide), up3_j (by decide), e23]
        generalize up3 (up3 ρ 20 0 21 (nI (tP h a k + 1 + 1))) 20 0 19 (nI (tP h a k + 1 + 1)) = ν at K3 C3 e23'
        refine ⟨_, rfl, ?_⟩
        by_cases c : k < 127
        · rw [if_pos c]
          exact ⟨(K3.uj (by decide)).u0 (by decide), by rw [up3_j (by decide), up3_j (by decide), e23'], (C3.uj (by decide)).u0 (by decide) (by decide)⟩
        · rw [if_neg c]
          exact ⟨K3.u0 (by decide), by rw [up3_j (by decide), e23'], C3.u0 (by decide) (by decide)⟩
      · rw [if_neg (fun z => q2 ((sub48h hB (tP h a k + 1)).1.mp z)), if_pos rfl, nst_b, if_neg q2, O2.1]
        exact ⟨_, rfl, K2.u0 (by decide), by rw [up3_j (by decide), e23], O2.bad (by omega)⟩
    · rw [if_neg q1, if_neg q1, nst_b, bindL_inr, k4.1]
      exact ⟨_, rfl, k1.u0 (by decide), by rw [up3_j (by decide), k2], k4.bad hp⟩
  obtain ⟨τ', e1, e2, e3, e4⟩ := step
  refine ⟨τ', ?_, e2, e3, e4⟩
  rw [iter_inl (show (fun z : Int32 × St => B_X12_readTree_19 z.1 z.2) (nI (tU h a k), τ) = _ from e1)]
  refine iter_inr ?_
  show B_X12_readTree_19 (nI (tU h a k - 1)) τ' = _
  unfold B_X12_readTree_19
  rw [if_neg (e4.neg (by omega))]
theorem m_readTree {σ : St} {n a N : Nat} {h : Nat → Int32} (S : SrcM σ n h) (O : OkM σ a) (hn : n ≤ 3200) (ha : a ≤ n) (hA : tAll h a N) : (tU h a N = 0 → Ret (F_X12_readTree σ) (fun τ => KpM σ τ ∧ τ 20 23 = σ 20 23 ∧ CuM τ n (.inl (tP h a N)) ∧ τ 20 0 24 = nI N ∧ (∀ m, m < N → m < 127 → τ 20 24 m = tV h a m) ∧ τ 20 0 25 = nI (tM h a N))) ∧ (1 ≤ tU h a N → ¬ tOk h (tP h a N) → Ret (F_X12_readTree σ) (fun τ => KpM σ τ ∧ τ 20 23 = σ 20 23 ∧ CuM τ n (.inr (tEr h (tP h a N))))) := by
  have hB := S.2.2.1
  have hp := tP_le hB ha N hA
  have K0 : KpM σ (up3 (up3 (up3 σ 20 0 24 0) 20 0 25 0) 20 27 0 0) := (((KpM.rf σ).u0 (by decide)).u0 (by decide)).uj (by decide)
  have O0 : OkM (up3 (up3 (up3 σ 20 0 24 0) 20 0 25 0) 20 27 0 0) a := ((O.u0 (by decide) (by decide)).u0 (by decide) (by decide)).uj (by decide)
  have e24 : up3 (up3 (up3 σ 20 0 24 0) 20 0 25 0) 20 27 0 0 20 0 24 = 0 := by rw [up3_j (by decide), up3_i (by decide), up3_same]
  have e25 : up3 (up3 (up3 σ 20 0 24 0) 20 0 25 0) 20 27 0 0 20 0 25 = 0 := by rw [up3_j (by decide), up3_same]
  have e27 : up3 (up3 (up3 σ 20 0 24 0) 20 0 25 0) 20 27 0 0 20 27 0 = 0 := by rw [up3_same]
  have e23 : up3 (up3 (up3 σ 20 0 24 0) 20 0 25 0) 20 27 0 0 20 23 = σ 20 23 := by rw [up3_j (by decide), up3_j (by decide), up3_j (by decide)]
  have eF : F_X12_readTree σ = Option.bind (iter (fun z => B_X12_readTree_19 z.1 z.2) ((1 : Int32), up3 (up3 (up3 σ 20 0 24 0) 20 0 25 0) 20 27 0 0)) (fun z231 => some z231) := by
    unfold F_X12_readTree
    rw [nst_b, nst_b, show (0 : Int32) = nI 0 from rfl, wro_nI (by decide) (by decide), some_b]
  rw [eF]
  generalize up3 (up3 (up3 σ 20 0 24 0) 20 0 25 0) 20 27 0 0 = ρ at K0 O0 e24 e25 e27 e23
  have S0 := K0.src S
  obtain ⟨z, I, e⟩ := iter_to (f := fun z : Int32 × St => B_X12_readTree_19 z.1 z.2) (fun k z => TrM ρ h n a k z) N (fun k z hk I => m_treeStep S0 hn ha (fun i hi => hA i (by omega)) (hA k hk).1 (hA k hk).2 I) ((1 : Int32), ρ) ⟨ρ, rfl, KpM.rf ρ, rfl, O0, e24, fun m hm => absurd hm (Nat.not_lt_zero m), e25, fun m hm => by
    have hm : m < 1 := hm
    rw [show m = 0 by omega, e27]
    rfl⟩
  rw [e]
  constructor
  · intro h0
    obtain ⟨τ, rfl, k1, k2, k4, k7, k8, k5, k6⟩ := I
    have e2 : iter (fun z : Int32 × St => B_X12_readTree_19 z.1 z.2) (nI (tU h a N), τ) = some τ := by
      refine iter_inr ?_
      show B_X12_readTree_19 (nI (tU h a N)) τ = _
      unfold B_X12_readTree_19
      rw [if_pos (by rw [k4.2]; decide), h0, if_neg (by decide)]
    rw [e2, some_b]
    exact Ret.some ⟨K0.tr k1, k2.trans e23, ⟨k4, hp⟩, k7, k8, k5⟩
  · intro hU hk
    obtain ⟨τ, e2, e3, e4, e5⟩ := m_treeBad S0 hn ha hA hk hU I
    rw [e2, some_b]
    exact Ret.some ⟨K0.tr e3, e4.trans e23, e5⟩
