/-! S7: the model's lists and sums -/
set_option maxRecDepth 100000
def FB (σ : St) (m : Nat → Int32) : Prop := σ 20 0 34 = nI (nC m) ∧ σ 20 0 36 = nI (nU m) ∧ (∀ j, j < nC m → σ 20 36 j = nI (wt m j)) ∧ (∀ i, i < nU m → σ 20 38 i = nI (fr m i)) ∧ σ 20 1 = m ∧ TabR σ m
/-- what findBoth may change -/
def FrB (σ τ : St) : Prop := (∀ a, a ≠ 20 → τ a = σ a) ∧ (∀ b, b ≠ 0 → b ≠ 34 → b ≠ 36 → b ≠ 38 → τ 20 b = σ 20 b) ∧ ∀ i, i ≠ 34 → i ≠ 36 → τ 20 0 i = σ 20 0 i
theorem m_findBoth {σ : St} {m : Nat → Int32} {b : Nat} (R : RokB m b) (hm : σ 20 1 = m) : Ret (F_X12_findBoth σ) (fun τ => FB τ m ∧ FrB σ τ) := by
  have hw := R.1
  have h2 := hw.2.2.1
  have h3 := hw.2.2.2.1
  have b2 := h2.2
  have b3 := h3.2
  have u6 := nU_6 R
  have c6 := nC_6 R
  unfold F_X12_findBoth
  refine Ret.bind (m_findDistances (by rw [hm]; exact hw)) ?_
  rintro τ0 ⟨f0, t0⟩
  have m0 : τ0 20 1 = m := by rw [f0 20 1 (by omega)]; exact hm
  rw [nst_b, nst_b]
  have z34 : up3 (up3 τ0 20 0 34 0) 20 0 36 0 20 0 34 = 0 := by rw [up3_i (by decide), up3_same]
  have z36 : up3 (up3 τ0 20 0 34 0) 20 0 36 0 20 0 36 = 0 := up3_same _ _ _ _ _
  have mm : up3 (up3 τ0 20 0 34 0) 20 0 36 0 20 1 = m := by rw [up3_j (by decide), up3_j (by decide), m0]
  have tt : up3 (up3 τ0 20 0 34 0) 20 0 36 0 20 34 = τ0 20 34 := by rw [up3_j (by decide), up3_j (by decide)]
  have fb : FrB σ (up3 (up3 τ0 20 0 34 0) 20 0 36 0) := by
    refine ⟨fun a ha => ?_, fun b hb h34 _ _ => ?_, fun i h1 h2 => ?_⟩
    · rw [up3_g ha, up3_g ha]
      funext b
      exact f0 a b (fun z => ha z.1)
    · rw [up3_j hb, up3_j hb, f0 20 b (by omega)]
    · rw [up3_i h2, up3_i h1, f0 20 0 (by omega)]
  generalize up3 (up3 τ0 20 0 34 0) 20 0 36 0 = ρ at z34 z36 mm tt fb
  refine Ret.bind (lp_coll (σ := ρ) (g := 20) (ci := 34) (J := 36) (n := cn (m 3)) (p := wtC m) (by decide) z34 ?_ ?_) ?_
  · intro k τ hk F e
    have mk : τ 20 1 = m := by
      funext i
      rw [F 20 1 i (by omega), mm]
    have hl := flt_mono (p := wtC m) (k := k + 1) (n := cn (m 3)) (by omega)
    show B_X12_findBoth_16 (nI k) τ = _
    unfold B_X12_findBoth_16
    rw [m_rd3, some_b, mk, if_pos (by rw [h3.1]; exact nI_lt hk (by omega)), m_isWaiting (by rw [mk]; exact hw) (by rw [mk]; exact hk), some_b, mk]
    by_cases q : wtC m k
    · have : (flt (wtC m) k).length < 6 := by
        rw [flt_pos q, List.length_append] at hl
        have h1 : [k].length = 1 := rfl
        have h6 : nC m = (flt (wtC m) (cn (m 3))).length := rfl
        omega
      rw [wtI_pos q, if_neg (by decide), e, wro_nI this (by decide), some_b, up3_j (by decide), e, nI_1, nst_b, nI_1, if_pos q, up3_comm (by decide)]
    · rw [wtI_neg q, if_pos rfl, nI_1, if_neg q]
  · intro τ F
    have mk : τ 20 1 = m := by
      funext i
      rw [F 20 1 i (by omega), mm]
    show B_X12_findBoth_16 (nI (cn (m 3))) τ = _
    unfold B_X12_findBoth_16
    rw [m_rd3, some_b, mk, if_neg]
    rw [h3.1, cn_nI (by omega)]
    exact nI_nlt (Nat.le_refl _) (by omega)
  rintro τ1 ⟨F1, e1, l1⟩
  have m1 : τ1 20 1 = m := by
    funext i
    rw [F1 20 1 i (by omega), mm]
  refine Ret.bind (lp_coll (σ := τ1) (g := 20) (ci := 36) (J := 38) (n := cn (m 2)) (p := frU m) (by decide) (by rw [F1 20 0 36 (by omega)]; exact z36) ?_ ?_) ?_
  · intro k τ hk F e
    have mk : τ 20 1 = m := by
      funext i
      rw [F 20 1 i (by omega), m1]
    have hl := flt_mono (p := frU m) (k := k + 1) (n := cn (m 2)) (by omega)
    show B_X12_findBoth_62 (nI k) τ = _
    unfold B_X12_findBoth_62
    rw [m_rd2, some_b, mk, if_pos (by rw [h2.1]; exact nI_lt hk (by omega)), m_isFree (by omega), some_b, mk]
    by_cases q : frU m k
    · have : (flt (frU m) k).length < 6 := by
        rw [flt_pos q, List.length_append] at hl
        have h1 : [k].length = 1 := rfl
        have h6 : nU m = (flt (frU m) (cn (m 2))).length := rfl
        omega
      rw [if_pos q, if_neg (by decide), e, wro_nI this (by decide), some_b, up3_j (by decide), e, nI_1, nst_b, nI_1, if_pos q, up3_comm (by decide)]
    · rw [if_neg q, if_pos rfl, nI_1, if_neg q]
  · intro τ F
    have mk : τ 20 1 = m := by
      funext i
      rw [F 20 1 i (by omega), m1]
    show B_X12_findBoth_62 (nI (cn (m 2))) τ = _
    unfold B_X12_findBoth_62
    rw [m_rd2, some_b, mk, if_neg]
    rw [h2.1, cn_nI (by omega)]
    exact nI_nlt (Nat.le_refl _) (by omega)
  rintro τ2 ⟨F2, e2, l2⟩
  have m2 : τ2 20 1 = m := by
    funext i
    rw [F2 20 1 i (by omega), m1]
  refine Ret.some ⟨⟨by rw [F2 20 0 34 (by omega)]; exact e1, e2, fun j hj => by rw [F2 20 36 j (by omega)]; exact l1 j hj, l2, m2, ?_⟩, ?_⟩
  · intro p q hp hq
    rw [F2 20 34 _ (by omega), F1 20 34 _ (by omega), tt]
    have := t0 p q (by rw [m0]; exact hp) (by rw [m0]; exact hq)
    rw [m0] at this
    exact this
  · refine ⟨fun a ha => ?_, fun b hb h34 h36 h38 => ?_, fun i h1 h2 => ?_⟩
    · rw [F2.g ha, F1.g ha, fb.1 a ha]
    · funext i
      rw [F2 20 b i (by omega), F1 20 b i (by omega), fb.2.1 b hb h34 h36 h38]
    · rw [F2 20 0 i (by omega), F1 20 0 i (by omega), fb.2.2 i h1 h2]
theorem dI_neg' {v : Nat} (h : v ≤ 1000000) : dI v < 0 ↔ ¬ v < 1000000 := dI_neg h
theorem m_wayP {σ : St} {m : Nat → Int32} {i j : Nat} (R : Rok m) (F : FB σ m) (hi : i < nU m) (hj : j < nC m) : F_X12_wayOf (nI (fr m i)) (m (160 + 6 * wt m j)) σ = some (dI (wyP m i j)) := by
  obtain ⟨hp, -, -, ep, -⟩ := wt_bd R hj
  rw [ep]
  exact m_wayOf R.1 F.2.2.2.2.1 F.2.2.2.2.2 (fr_ok hi).1 hp
theorem m_may {σ : St} {m : Nat → Int32} {i t : Nat} {c : Nat → Nat} (R : Rok m) (F : FB σ m) (hi : i < nC m) (ht : t < nU m) (hc : ∀ k, k < i → σ 20 39 k = nI (c k) ∧ c k ≤ nU m) : F_X12_may (nI i) (nI t) σ = some (@ite _ (vdP m t i ∧ ∀ k, k < i → c k ≠ t) (Classical.propDecidable _) 1 0) := by
  have u6 := nU_6 R
  have c6 := nC_6 R
  have b2 := R.1.2.2.1.2
  have b3 := R.1.2.2.2.1.2
  obtain ⟨hf1, -⟩ := fr_ok ht
  obtain ⟨ht1, -⟩ := wt_ok hi
  have hwb := (wyP_bd R ht hi).1
  unfold F_X12_may
  rw [rdo_nI (by omega) (by decide), some_b, rdo_nI (by omega) (by decide), some_b, F.2.2.2.1 t ht, F.2.2.1 i hi, m_hasSkill (by omega) (by omega), some_b, F.2.2.2.2.1]
  by_cases s1 : hsk m (fr m t) (wt m i)
  · rw [if_pos s1, if_neg (by decide), some_b, some_b, show (0 : Int32) = nI 0 from rfl, m_call (by omega) (by decide), some_b, F.2.2.2.2.1, Nat.add_zero, m_wayP R F ht hi, some_b]
    by_cases s2 : wyP m t i < 1000000
    · have hn : ¬ dI (wyP m t i) < nI 0 := fun z => (dI_neg hwb).mp z s2
      rw [if_neg hn]
      have key := iter_row (f := fun z => B_X12_may_50 (nI i) (nI t) z.1 z.2 σ) (fun k => (@ite _ (∀ k', k' < k → c k' ≠ t) (Classical.propDecidable _) (1 : Int32) 0, nI k)) i (@ite _ (∀ k', k' < i → c k' ≠ t) (Classical.propDecidable _) (1 : Int32) 0) ?_ ?_ 0 (Nat.zero_le _)
      · rw [if_pos (fun k' hk' => absurd hk' (Nat.not_lt_zero k'))] at key
        rw [key, some_b]
        by_cases s3 : ∀ k', k' < i → c k' ≠ t
        · rw [if_pos s3, zro_1, some_b, if_pos ⟨⟨s1, s2⟩, s3⟩]
        · rw [if_neg s3, if_neg (fun z => s3 z.2)]
          rfl
      · intro k hk
        obtain ⟨k1, k2⟩ := hc k hk
        show B_X12_may_50 (nI i) (nI t) (@ite _ (∀ k', k' < k → c k' ≠ t) (Classical.propDecidable _) (1 : Int32) 0) (nI k) σ = _
        unfold B_X12_may_50
        rw [if_pos (nI_lt hk (by omega)), rdo_nI (by omega) (by decide), some_b, k1, nI_1]
        by_cases s3 : ∀ k', k' < k → c k' ≠ t
        · rw [if_pos s3, if_neg (by decide)]
          by_cases s4 : c k = t
          · rw [s4, if_pos rfl, some_b, if_neg]
            intro z
            exact z k (by omega) s4
          · rw [if_neg (by rw [nI_eq (by omega) (by omega)]; exact s4), some_b, if_pos]
            intro k' hk'
            by_cases e : k' = k
            · rw [e]; exact s4
            · exact s3 k' (by omega)
        · rw [if_neg s3, if_pos rfl, some_b, if_neg]
          intro z
          exact s3 (fun k' hk' => z k' (by omega))
      · show B_X12_may_50 (nI i) (nI t) _ (nI i) σ = _
        unfold B_X12_may_50
        rw [if_neg (nI_nlt (Nat.le_refl _) (by omega))]
    · have hn : dI (wyP m t i) < nI 0 := (dI_neg hwb).mpr s2
      rw [if_pos hn, if_neg (fun z => s2 z.1.2)]
  · rw [if_neg s1, if_pos rfl, if_neg (fun z => s1 z.1.1)]
theorem m_sumOf {σ : St} {m : Nat → Int32} {c : Nat → Nat} (R : Rok m) (F : FB σ m) (hc : ∀ k, k < nC m → σ 20 39 k = nI (c k) ∧ c k ≤ nU m ∧ (c k < nU m → vdP m (c k) k)) : F_X12_sumOf 1 σ = some (nI (grk m c (nC m))) ∧ F_X12_sumOf 0 σ = some (nI (gsc m c (nC m))) := by
  have u6 := nU_6 R
  have c6 := nC_6 R
  have b2 := R.1.2.2.1.2
  have b3 := R.1.2.2.2.1.2
  constructor
  · unfold F_X12_sumOf
    have key := iter_row (f := fun z => B_X12_sumOf_4 1 z.1 z.2 σ) (fun k => (nI (grk m c k), nI k)) (nC m) (nI (grk m c (nC m))) ?_ ?_ 0 (Nat.zero_le _)
    · rw [show ((0 : Int32), (0 : Int32)) = (nI (grk m c 0), nI 0) from rfl, key, some_b]
    · intro k hk
      obtain ⟨k1, k2, k3⟩ := hc k hk
      obtain ⟨ht1, -⟩ := wt_ok hk
      obtain ⟨hp, hr1, hr2, ep, er⟩ := wt_bd R hk
      show B_X12_sumOf_4 1 (nI (grk m c k)) (nI k) σ = _
      unfold B_X12_sumOf_4
      rw [F.1, if_pos (nI_lt hk (by omega)), rdo_nI (by omega) (by decide), some_b, k1, F.2.1, nI_1, if_neg (show ¬ (1 : Int32) = 0 by decide)]
      by_cases q : c k < nU m
      · rw [if_pos (nI_lt q (by omega)), rdo_nI (by omega) (by decide), some_b, F.2.2.1 k hk, show (2 : Int32) = nI 2 from rfl, m_call (by omega) (by decide), some_b, some_b, nmo_b, F.2.2.2.2.1, er, nI_add, grk, if_pos q]
      · rw [if_neg (nI_nlt (by omega) (by omega)), grk, if_neg q]
        rfl
    · show B_X12_sumOf_4 1 _ (nI (nC m)) σ = _
      unfold B_X12_sumOf_4
      rw [F.1, if_neg (nI_nlt (Nat.le_refl _) (by omega))]
  · unfold F_X12_sumOf
    have key := iter_row (f := fun z => B_X12_sumOf_4 0 z.1 z.2 σ) (fun k => (nI (gsc m c k), nI k)) (nC m) (nI (gsc m c (nC m))) ?_ ?_ 0 (Nat.zero_le _)
    · rw [show ((0 : Int32), (0 : Int32)) = (nI (gsc m c 0), nI 0) from rfl, key, some_b]
    · intro k hk
      obtain ⟨k1, k2, k3⟩ := hc k hk
      obtain ⟨ht1, -⟩ := wt_ok hk
      show B_X12_sumOf_4 0 (nI (gsc m c k)) (nI k) σ = _
      unfold B_X12_sumOf_4
      rw [F.1, if_pos (nI_lt hk (by omega)), rdo_nI (by omega) (by decide), some_b, k1, F.2.1, nI_1, if_pos rfl]
      by_cases q : c k < nU m
      · have hv := k3 q
        rw [if_pos (nI_lt q (by omega)), some_b, rdo_nI (by omega) (by decide), some_b, F.2.2.2.1 _ q, rdo_nI (by omega) (by decide), some_b, F.2.2.1 k hk, show (0 : Int32) = nI 0 from rfl, m_call (by omega) (by decide), some_b, F.2.2.2.2.1, Nat.add_zero, m_wayP R F q hk, some_b, some_b, nmo_b, dI_fin hv.2, nI_add, gsc, if_pos q]
      · rw [if_neg (nI_nlt (by omega) (by omega)), gsc, if_neg q]
        rfl
    · show B_X12_sumOf_4 0 _ (nI (nC m)) σ = _
      unfold B_X12_sumOf_4
      rw [F.1, if_neg (nI_nlt (Nat.le_refl _) (by omega))]
