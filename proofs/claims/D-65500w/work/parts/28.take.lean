/-! S6: a house takes another one: words -/
set_option maxRecDepth 100000
def HB (c : Nat → Nat → Int32) : Prop := (∀ i, b8 (c 10 i) = c 10 i) ∧ ∀ i, b8 (c 11 i) = c 11 i
/-- rows of bytes with their sizes, copied -/
theorem lp_rows {h o J S R K N : Nat} {σ : St} (ho : o ≠ h) (hJS : J ≠ S) (hJ0 : J ≠ 0) (hS0 : S ≠ 0) (hK : K ≤ 8) (hN : R * 8 ≤ N) (hN2 : N < 2147483648) (hz : ∀ k, k < K → bd (σ o S k) R) (hb : ∀ i, b8 (σ o J i) = σ o J i)
    {g : Int32 → Int32 × St → Option ((Int32 × St) ⊕ St)} {f : Int32 × St → Option ((Int32 × St) ⊕ St)}
    (hg : ∀ k c τ, k < 8 → g (nI k) (c, τ) = (rdo τ h S 8 (nI k)).bind (fun r => if c < r then (rdo τ o J N (nI (R * k) + c)).bind (fun r => (wrb τ h J N (nI (R * k) + c) r).bind (fun s => some (.inl (c + 1, s)))) else some (.inr τ)))
    (hf : ∀ k τ, k < K → τ h 0 = σ h 0 → f (nI k, τ) = (rdo τ o S 8 (nI k)).bind (fun r => (wro τ h S 8 (nI k) r).bind (fun s => Option.bind (iter (g (nI k)) (nI 0, s)) (fun t => some (.inl (nI (k + 1), t))))))
    (he : ∀ τ, τ h 0 = σ h 0 → f (nI K, τ) = some (.inr τ)) :
    Ret (iter f (nI 0, σ)) (fun τ => (∀ a, a ≠ h → τ a = σ a) ∧ (∀ b, b ≠ J → b ≠ S → τ h b = σ h b) ∧ ((∀ i, b8 (σ h J i) = σ h J i) → ∀ i, b8 (τ h J i) = τ h J i) ∧ ∀ k, k < K → τ h S k = σ o S k ∧ ∀ i, i < cn (σ o S k) → τ h J (R * k + i) = σ o J (R * k + i)) := by
  refine iter_cnt (fun k (τ : St) => (nI k, τ)) (fun k τ => (∀ a, a ≠ h → τ a = σ a) ∧ (∀ b, b ≠ J → b ≠ S → τ h b = σ h b) ∧ ((∀ i, b8 (σ h J i) = σ h J i) → ∀ i, b8 (τ h J i) = τ h J i) ∧ ∀ j, j < k → τ h S j = σ o S j ∧ ∀ i, i < cn (σ o S j) → τ h J (R * j + i) = σ o J (R * j + i)) K ?_ ?_ σ ⟨fun _ _ => rfl, fun _ _ _ => rfl, fun z => z, fun i hi => by omega⟩
  · rintro k τ hk ⟨h1, h2, h3, h4⟩
    have e0 : τ h 0 = σ h 0 := h2 0 (fun z => hJ0 z.symm) (fun z => hS0 z.symm)
    have bz := hz k hk
    have bz2 := bz.2
    have hRk : R * k + R ≤ R * 8 := by
      have : R * (k + 1) ≤ R * 8 := Nat.mul_le_mul_left R (by omega)
      rw [Nat.mul_succ] at this
      exact this
    rw [hf k τ hk e0, rdo_nI (by omega) (by decide), some_b, wro_nI (by omega) (by decide), some_b, h1 o ho]
    have key := lp_bytes (σ := up3 τ h S k (σ o S k)) (h := h) (o := o) (J := J) (n := cn (σ o S k)) (b0 := R * k) (N := N) ho (by omega) hN2 (fun i hi => by rw [up3_g ho, h1 o ho]; exact hb _) (f := g (nI k)) ?_ ?_
    · refine Ret.bind key (fun υ hυ => ?_)
      obtain ⟨k1, k2, k3, k4⟩ := hυ
      refine Ret.some ⟨υ, rfl, fun a ha => ?_, fun b hb1 hb2 => ?_, fun z i => ?_, fun j hj => ?_⟩
      · rw [k1 a ha, up3_g ha, h1 a ha]
      · rw [k2 b hb1, up3_j hb2, h2 b hb1 hb2]
      · by_cases ei : i < R * k ∨ R * k + cn (σ o S k) ≤ i
        · rw [k3 i ei, up3_j hJS]
          exact h3 z i
        · have := k4 (i - R * k) (by omega)
          rw [show R * k + (i - R * k) = i by omega, up3_g ho, h1 o ho] at this
          rw [this]
          exact hb i
      · by_cases ej : j = k
        · subst ej
          refine ⟨?_, fun i hi => ?_⟩
          · rw [k2 S (fun z => hJS z.symm), up3_same]
          · rw [k4 i hi, up3_g ho, h1 o ho]
        · obtain ⟨q1, q2⟩ := h4 j (by omega)
          refine ⟨?_, fun i hi => ?_⟩
          · rw [k2 S (fun z => hJS z.symm), up3_i ej, q1]
          · have b1 := (hz j (by omega)).2
            have hRj : R * j + R ≤ R * k := by
              have : R * (j + 1) ≤ R * k := Nat.mul_le_mul_left R (by omega)
              rw [Nat.mul_succ] at this
              exact this
            rw [k3 _ (by omega), up3_j hJS, q2 i hi]
    · intro i υ hi k1 k2
      rw [hg k _ _ (by omega), rdo_nI (by omega) (by decide), some_b, k2 S (fun z => hJS z.symm), up3_same]
      rw [if_pos ((bd_lt bz (by omega) (by omega)).mpr hi), nI_add, nI_1]
    · intro υ k2
      rw [hg k _ _ (by omega), rdo_nI (by omega) (by decide), some_b, k2 S (fun z => hJS z.symm), up3_same]
      rw [if_neg (fun z => Nat.lt_irrefl _ ((bd_lt bz (by omega) (by omega)).mp z))]
  · rintro τ ⟨h1, h2, h3, h4⟩
    rw [he τ (h2 0 (fun z => hJ0 z.symm) (fun z => hS0 z.symm))]
    exact Ret.some ⟨h1, h2, h3, h4⟩
theorem c_takeWords {σ : St} {h o K : Nat} (ho : o ≠ h) (hK : K ≤ 8) (hk : σ h 0 35 = nI K) (hz : ∀ k, k < K → bd (σ o 12 k) 200) (hy : ∀ k, k < 8 → bd (σ o 13 k) 12) (hb : HB (σ o)) : Ret (F_X3_takeWords h o σ) (fun τ => (∀ a, a ≠ h → τ a = σ a) ∧ (∀ b, b < 10 ∨ 14 < b → τ h b = σ h b) ∧ (HB (σ h) → HB (τ h)) ∧ (∀ k, k < K → τ h 12 k = σ o 12 k ∧ ∀ i, i < cn (σ o 12 k) → τ h 10 (200 * k + i) = σ o 10 (200 * k + i)) ∧ (∀ k, k < 8 → τ h 13 k = σ o 13 k ∧ ∀ i, i < cn (σ o 13 k) → τ h 11 (12 * k + i) = σ o 11 (12 * k + i)) ∧ ∀ k, k < 12 → τ h 14 k = σ o 14 k) := by
  unfold F_X3_takeWords
  have key1 := lp_rows (h := h) (o := o) (J := 10) (S := 12) (R := 200) (K := K) (N := 1600) (σ := σ) ho (by decide) (by decide) (by decide) hK (by decide) (by decide) hz hb.1 (g := fun k z => B_X3_takeWords_24 h o k z.1 z.2) (f := fun z => B_X3_takeWords_2 h o z.1 z.2) ?_ ?_ ?_
  · refine Ret.bind key1 (fun τ1 hτ1 => ?_)
    obtain ⟨a1, a2, a3, a4⟩ := hτ1
    have key2 := lp_rows (h := h) (o := o) (J := 11) (S := 13) (R := 12) (K := 8) (N := 96) (σ := τ1) ho (by decide) (by decide) (by decide) (by decide) (by decide) (by decide) (by rw [a1 o ho]; exact hy) (by rw [a1 o ho]; exact hb.2) (g := fun k z => B_X3_takeWords_92 h o k z.1 z.2) (f := fun z => B_X3_takeWords_72 h o z.1 z.2) ?_ ?_ ?_
    · refine Ret.bind key2 (fun τ2 hτ2 => ?_)
      obtain ⟨b1, b2, b3, b4⟩ := hτ2
      refine Ret.bind (lp_tw138 (σ := τ2) ho) (fun τ3 hτ3 => ?_)
      obtain ⟨c1, c2, c3⟩ := hτ3
      refine Ret.some ⟨fun a ha => ?_, fun b hb' => ?_, fun z => ⟨?_, ?_⟩, fun k hk' => ?_, fun k hk' => ?_, fun k hk' => ?_⟩
      · rw [c1 a ha, b1 a ha, a1 a ha]
      · rw [c2 b (by intro z; rcases List.mem_cons.mp z with z | z; omega; exact absurd z List.not_mem_nil), b2 b (by omega) (by omega), a2 b (by omega) (by omega)]
      · rw [c2 10 (by decide), b2 10 (by decide) (by decide)]
        exact a3 z.1
      · rw [c2 11 (by decide)]
        exact b3 (by rw [a2 11 (by decide) (by decide)]; exact z.2)
      · rw [c2 12 (by decide), c2 10 (by decide), b2 12 (by decide) (by decide), b2 10 (by decide) (by decide)]
        exact a4 k hk'
      · have := b4 k hk'
        rw [a1 o ho] at this
        rw [c2 13 (by decide), c2 11 (by decide)]
        exact this
      · have := c3 14 (by decide) k hk'
        rw [b1 o ho, a1 o ho] at this
        exact this
    · intro k c τ hk'
      show B_X3_takeWords_92 h o (nI k) c τ = _
      unfold B_X3_takeWords_92
      rw [show (12 : Int32) = nI 12 from rfl, nI_mul']
    · intro k τ hk' e0
      show B_X3_takeWords_72 h o (nI k) τ = _
      unfold B_X3_takeWords_72
      rw [if_pos (show nI k < (8 : Int32) from nI_lt (b := 8) hk' (by decide)), nI_1]
      rfl
    · intro τ e0
      show B_X3_takeWords_72 h o (nI 8) τ = _
      unfold B_X3_takeWords_72
      rw [if_neg (by decide)]
  · intro k c τ hk'
    show B_X3_takeWords_24 h o (nI k) c τ = _
    unfold B_X3_takeWords_24
    rw [show (200 : Int32) = nI 200 from rfl, nI_mul']
  · intro k τ hk' e0
    show B_X3_takeWords_2 h o (nI k) τ = _
    unfold B_X3_takeWords_2
    rw [e0, hk, if_pos (nI_lt hk' (by omega)), nI_1]
    rfl
  · intro τ e0
    show B_X3_takeWords_2 h o (nI K) τ = _
    unfold B_X3_takeWords_2
    rw [e0, hk, if_neg (nI_nlt (Nat.le_refl _) (by omega))]
