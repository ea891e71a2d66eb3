/-! S6: names -/
set_option maxRecDepth 100000
def nmR (m : Nat → Int32) (p k : Nat) (y : Nat → Int32) : Nat → Int32 := fun i => if i = 392 + 13 * p then nI k else if 393 + 13 * p ≤ i ∧ i < 393 + 13 * p + k then y (i - (393 + 13 * p)) else m i
theorem nmR_cells {m : Nat → Int32} {p k : Nat} {y : Nat → Int32} (hk : k ≤ 12) (hp : p < 8) : nmR m p k y (392 + 13 * p) = nI k ∧ (∀ i, i < k → nmR m p k y (392 + 13 * p + 1 + i) = y i) ∧ (∀ i, i < 392 ∨ 496 ≤ i → nmR m p k y i = m i) ∧ ∀ q, q < 8 → q ≠ p → ∀ i, i < 13 → nmR m p k y (392 + 13 * q + i) = m (392 + 13 * q + i) := by
  unfold nmR
  refine ⟨?_, ?_, ?_, ?_⟩
  · rw [if_pos rfl]
  · intro i hi
    rw [if_neg (by omega), if_pos (by omega), show 392 + 13 * p + 1 + i - (393 + 13 * p) = i by omega]
  · intro i hi
    rw [if_neg (by omega), if_neg (by omega)]
  · intro q hq hqp i hi
    rw [if_neg (by omega), if_neg (by omega)]
/-- a row that differs in words alone -/
theorem Rok.words {m m' : Nat → Int32} (h : Rok m) (hi : ∀ i, i < 392 → i ≠ 7 → m' i = m i) (h7 : bd (m' 7) 8) (hww : WW m') : Rok m' := by
  obtain ⟨hw, hg, -, h4⟩ := h
  have hw0 := hw
  obtain ⟨w0, w1, w2, w3, w4, w7, w8, ws, wu, wuu, wq⟩ := hw
  have b1 := w1.2
  have b2 := w2.2
  have b3 := w3.2
  have e0 := hi 0 (by decide) (by decide)
  have e1 := hi 1 (by decide) (by decide)
  have e2 := hi 2 (by decide) (by decide)
  have e3 := hi 3 (by decide) (by decide)
  have e4 := hi 4 (by decide) (by decide)
  have e8 := hi 8 (by decide) (by decide)
  have eb : ∀ u, u < 6 → (busy m' u ↔ busy m u) := by
    intro u hu
    unfold busy
    rw [hi (110 + 8 * u + 5) (by omega) (by omega)]
  have hw' : WF m' := by
    refine ⟨by rw [e0]; exact w0, by rw [e1]; exact w1, by rw [e2]; exact w2, by rw [e3]; exact w3, by rw [e4]; exact w4, h7, by rw [e8]; exact w8, ?_, ?_, ?_, ?_⟩
    · intro k hk
      rw [e1] at hk
      rw [e0, hi (10 + 5 * k) (by omega) (by omega), hi (10 + 5 * k + 1) (by omega) (by omega), hi (10 + 5 * k + 2) (by omega) (by omega), hi (10 + 5 * k + 3) (by omega) (by omega), hi (10 + 5 * k + 4) (by omega) (by omega), hi (340 + 2 * k) (by omega) (by omega), hi (340 + 2 * k + 1) (by omega) (by omega)]
      exact ws k hk
    · intro u hu
      rw [e2] at hu
      have hx := wu u hu
      refine ⟨?_, ?_, ?_, ?_, ?_, ?_, ?_, ?_, ?_⟩
      · rw [e0, hi (110 + 8 * u) (by omega) (by omega)]; exact hx.1
      · rw [hi (110 + 8 * u + 1) (by omega) (by omega)]; exact hx.2.1
      · rw [e0, hi (110 + 8 * u + 2) (by omega) (by omega)]; exact hx.2.2.1
      · rw [hi (110 + 8 * u + 3) (by omega) (by omega)]; exact hx.2.2.2.1
      · rw [hi (110 + 8 * u + 4) (by omega) (by omega)]; exact hx.2.2.2.2.1
      · rw [hi (110 + 8 * u + 5) (by omega) (by omega)]; exact hx.2.2.2.2.2.1
      · rw [hi (380 + 2 * u) (by omega) (by omega)]; exact hx.2.2.2.2.2.2.1
      · rw [hi (380 + 2 * u + 1) (by omega) (by omega)]; exact hx.2.2.2.2.2.2.2.1
      · intro hb
        have := hx.2.2.2.2.2.2.2.2 ((eb u (by omega)).mp hb)
        have hb6 := this.1.2
        rw [e3, hi (110 + 8 * u + 6) (by omega) (by omega), hi (160 + 6 * cn (m (110 + 8 * u + 6)) + 3) (by omega) (by omega)]
        exact this
    · intro u v hu hv b1' b2' e
      rw [e2] at hu hv
      rw [hi (110 + 8 * u + 6) (by omega) (by omega), hi (110 + 8 * v + 6) (by omega) (by omega)] at e
      exact wuu u v hu hv ((eb u (by omega)).mp b1') ((eb v (by omega)).mp b2') e
    · intro q hq
      rw [e3] at hq
      rw [e0, hi (160 + 6 * q) (by omega) (by omega), hi (160 + 6 * q + 1) (by omega) (by omega), hi (160 + 6 * q + 2) (by omega) (by omega), hi (160 + 6 * q + 3) (by omega) (by omega)]
      exact wq q hq
  refine ⟨hw', ?_, hww, by rw [e4]; exact h4⟩
  refine hg.same hw0 e2 e3 e4 (hi 5 (by decide) (by decide)) (hi 6 (by decide) (by decide)) ?_ ?_ ?_ ?_
  · intro u hu; exact hi _ (by omega) (by omega)
  · intro q w hq h1 h2; exact hi _ (by omega) (by omega)
  · intro u hu
    rw [hi (110 + 8 * u + 5) (by omega) (by omega), hi (110 + 8 * u + 3) (by omega) (by omega), hi (110 + 8 * u + 2) (by omega) (by omega), hi (110 + 8 * u) (by omega) (by omega)]
    exact hg.2.2.2.2.2.2.1 u hu
  · have : sumN (fun q => cn (m' (160 + 6 * q + 3))) (cn (m 3)) = sumN (fun q => cn (m (160 + 6 * q + 3))) (cn (m 3)) := by
      refine sumN_congr ?_
      intro q hq
      rw [hi (160 + 6 * q + 3) (by omega) (by omega)]
    rw [this]
    exact hg.2.2.2.2.2.2.2
theorem HH.wds {c c' : Nat → Nat → Int32} {m m' : Nat → Int32} (hw : WF m) (H : HH c m) (hi : ∀ i, i < 392 → i ≠ 7 → m' i = m i) (h35 : c' 0 35 = m' 7) (hc0 : ∀ i, i ≠ 35 → c' 0 i = c 0 i) (hcj : ∀ j, j ≠ 0 → j < 10 ∨ 14 < j → c' j = c j) (hW : HW c' m') (hB : HB c') : HH c' m' := by
  have b1 := hw.2.1.2
  have b2 := hw.2.2.1.2
  have b3 := hw.2.2.2.1.2
  obtain ⟨⟨⟨z28, z29, z30, z31, z32, z33, z34, z35, z36⟩, hs, hu, hq⟩, hK, -, -⟩ := H
  have hS : SameW m m' := by
    refine ⟨hi 0 (by decide) (by decide), hi 1 (by decide) (by decide), ?_, fun i h => hi i (by omega) (by omega)⟩
    unfold hrs
    rw [hi 4 (by decide) (by decide)]
  refine ⟨⟨⟨?_, ?_, ?_, ?_, ?_, ?_, ?_, h35, ?_⟩, ?_, ?_, ?_⟩, ?_, hW, hB⟩
  · rw [hc0 28 (by decide), z28, hi 0 (by decide) (by decide)]
  · rw [hc0 29 (by decide), z29, hi 1 (by decide) (by decide)]
  · rw [hc0 30 (by decide), z30, hi 2 (by decide) (by decide)]
  · rw [hc0 31 (by decide), z31, hi 3 (by decide) (by decide)]
  · rw [hc0 32 (by decide), z32, hi 4 (by decide) (by decide)]
  · rw [hc0 33 (by decide), z33, hi 5 (by decide) (by decide)]
  · rw [hc0 34 (by decide), z34, hi 6 (by decide) (by decide)]
  · rw [hc0 36 (by decide), z36, hi 8 (by decide) (by decide)]
  · intro k hk
    rw [hi 1 (by decide) (by decide)] at hk
    rw [hcj 1 (by decide) (by decide), hcj 2 (by decide) (by decide), hcj 3 (by decide) (by decide), hcj 4 (by decide) (by decide), hcj 5 (by decide) (by decide), hcj 6 (by decide) (by decide), hcj 7 (by decide) (by decide), hi (10 + 5 * k) (by omega) (by omega), hi (10 + 5 * k + 1) (by omega) (by omega), hi (10 + 5 * k + 2) (by omega) (by omega), hi (10 + 5 * k + 3) (by omega) (by omega), hi (10 + 5 * k + 4) (by omega) (by omega), hi (340 + 2 * k) (by omega) (by omega), hi (340 + 2 * k + 1) (by omega) (by omega)]
    exact hs k hk
  · intro u hk
    rw [hi 2 (by decide) (by decide)] at hk
    have hx := hu u hk
    unfold busy at hx ⊢
    rw [hcj 15 (by decide) (by decide), hcj 16 (by decide) (by decide), hcj 17 (by decide) (by decide), hcj 18 (by decide) (by decide), hcj 19 (by decide) (by decide), hcj 20 (by decide) (by decide), hcj 8 (by decide) (by decide), hcj 9 (by decide) (by decide), hcj 21 (by decide) (by decide), hi (110 + 8 * u) (by omega) (by omega), hi (110 + 8 * u + 1) (by omega) (by omega), hi (110 + 8 * u + 2) (by omega) (by omega), hi (110 + 8 * u + 3) (by omega) (by omega), hi (110 + 8 * u + 4) (by omega) (by omega), hi (110 + 8 * u + 5) (by omega) (by omega), hi (110 + 8 * u + 6) (by omega) (by omega), hi (380 + 2 * u) (by omega) (by omega), hi (380 + 2 * u + 1) (by omega) (by omega)]
    exact hx
  · intro q hk
    rw [hi 3 (by decide) (by decide)] at hk
    rw [hcj 22 (by decide) (by decide), hcj 23 (by decide) (by decide), hcj 24 (by decide) (by decide), hcj 27 (by decide) (by decide), hcj 25 (by decide) (by decide), hcj 26 (by decide) (by decide), hi (160 + 6 * q) (by omega) (by omega), hi (160 + 6 * q + 1) (by omega) (by omega), hi (160 + 6 * q + 2) (by omega) (by omega), hi (160 + 6 * q + 3) (by omega) (by omega), hi (160 + 6 * q + 4) (by omega) (by omega), hi (160 + 6 * q + 5) (by omega) (by omega)]
    exact hq q hk
  · have hK2 := hK.same hS hw
    unfold KnC at hK2 ⊢
    rw [hc0 37 (by decide), hcj 28 (by decide) (by decide)]
    exact hK2
theorem offN_eq {m m' : Nat → Int32} {b : Nat} : ∀ n, (∀ i, i < n → m' (b + 1 + i) = m (b + 1 + i)) → offN m' b n = offN m b n := by
  intro n
  induction n with
  | zero => intro _; rfl
  | succ n ih =>
    intro h
    rw [offN, offN, ih (fun i hi => h i (by omega)), h n (by omega)]
theorem dueN_eq {m m' : Nat → Int32} {b : Nat} : ∀ n, (∀ i, i < n → m' (b + 1 + i) = m (b + 1 + i)) → dueN m' b n = dueN m b n := by
  intro n
  induction n with
  | zero => intro _; rfl
  | succ n ih =>
    intro h
    rw [dueN, dueN, ih (fun i hi => h i (by omega)), h n (by omega)]
theorem Rok.nm {m : Nat → Int32} (h : Rok m) {p k : Nat} {y : Nat → Int32} (hp : p < 8) (hk : k ≤ 12) (hy : ∀ i, i < k → ∃ l, 97 ≤ l ∧ l ≤ 122 ∧ y i = nI l) : Rok (nmR m p k y) := by
  obtain ⟨e0, e1, e2, e3⟩ := nmR_cells (m := m) (y := y) hk hp
  obtain ⟨v1, v2, v3, v4, v5, v6⟩ := h.2.2.1
  have b7 := h.1.2.2.2.2.2.1
  have b8' := h.1.2.2.2.2.2.2.1
  have b1 := h.1.2.1.2
  have b2 := h.1.2.2.1.2
  refine h.words (fun i hi _ => e2 i (by omega)) (by rw [e2 7 (by decide)]; exact b7) ⟨?_, ?_, ?_, ?_, ?_, ?_⟩
  · intro q hq
    by_cases e : q = p
    · subst e
      rw [e0]
      refine ⟨bd_nI hk (by decide), ?_⟩
      intro i hi
      rw [cn_nI (by omega)] at hi
      rw [e1 i hi]
      exact hy i hi
    · have hx := v1 q hq
      have hb := hx.1.2
      rw [show 392 + 13 * q = 392 + 13 * q + 0 from rfl, e3 q hq e 0 (by decide)]
      refine ⟨hx.1, ?_⟩
      intro i hi
      have hi : i < cn (m (392 + 13 * q)) := hi
      have := e3 q hq e (1 + i) (by omega)
      rw [show 392 + 13 * q + 0 + 1 + i = 392 + 13 * q + (1 + i) by omega, this, show 392 + 13 * q + (1 + i) = 392 + 13 * q + 1 + i by omega]
      exact hx.2 i hi
  · intro j hj
    rw [e2 8 (by decide)] at hj
    rw [e2 _ (by omega)]
    exact v2 j hj
  · intro j hj
    rw [e2 7 (by decide)] at hj
    rw [e2 _ (by omega), offN_eq _ (fun i _ => e2 _ (by omega)), dueN_eq _ (fun i _ => e2 _ (by omega))]
    obtain ⟨u1, u2, u3, u4, u5⟩ := v3 j hj
    refine ⟨u1, u2, ?_, ?_, u5⟩
    · intro i hi
      rw [e2 _ (by omega)]
      exact u3 i hi
    · intro i hi
      rw [dueN_eq _ (fun i _ => e2 _ (by omega))]
      exact u4 i hi
  · intro j h1 h2
    rw [e2 1 (by decide)] at h1
    rw [e2 _ (by omega), e2 _ (by omega)]
    exact v4 j h1 h2
  · intro u h1 h2
    rw [e2 2 (by decide)] at h1
    rw [e2 _ (by omega), e2 _ (by omega)]
    exact v5 u h1 h2
  · intro i hi
    rw [e2 _ (by omega)]
    exact v6 i hi
theorem b8_let {l : Nat} (h : l < 128) : b8 (nI l) = nI l := (b8_asc h).1
theorem c_setName {σ : St} {h j p k a : Nat} {m y : Nat → Int32} (hw : WF m) (hww : WW m) (H : HH (σ h) m) (hh : h ≠ 0) (hp : p < 8) (hk : k ≤ 12) (ha : a + k ≤ lenB j) (hy : ∀ i, i < k → (∃ l, 97 ≤ l ∧ l ≤ 122 ∧ y i = nI l) ∧ σ 0 j (a + i) = y i) : Ret (F_X3_setName h (nI p) j (nI a) (nI k) σ) (fun τ => (∀ a, a ≠ h → τ a = σ a) ∧ HH (τ h) (nmR m p k y)) := by
  have hj := lenB_le (j := j)
  obtain ⟨e0, e1, e2, e3⟩ := nmR_cells (m := m) (y := y) hk hp
  unfold F_X3_setName
  refine Ret.bind (Q := fun τ => (∀ a, a ≠ h → τ a = σ a) ∧ (∀ b, b ≠ 11 → τ h b = σ h b) ∧ (∀ i, (i < 12 * p ∨ 12 * p + k ≤ i) → τ h 11 i = σ h 11 i) ∧ ∀ i, i < k → τ h 11 (12 * p + i) = y i) ?_ ?_
  · refine iter_cnt (fun i (τ : St) => (nI i, τ)) (fun i τ => (∀ a, a ≠ h → τ a = σ a) ∧ (∀ b, b ≠ 11 → τ h b = σ h b) ∧ (∀ i, (i < 12 * p ∨ 12 * p + k ≤ i) → τ h 11 i = σ h 11 i) ∧ ∀ q, q < i → τ h 11 (12 * p + q) = y q) k ?_ ?_ σ ⟨fun _ _ => rfl, fun _ _ => rfl, fun _ _ => rfl, fun i hi => by omega⟩
    · rintro i τ hi ⟨h1, h2, h3, h4⟩
      obtain ⟨⟨l, l1, l2, l3⟩, l4⟩ := hy i hi
      show Ret (B_X3_setName_3 h j (nI p) (nI a) (nI k) (nI i) τ) _
      unfold B_X3_setName_3
      rw [if_pos (nI_lt hi (by omega)), nI_add, rdo_nI (by omega) (by omega), some_b, show (12 : Int32) = nI 12 from rfl, pk_mul, nI_add, wrb_nI (by omega) (by decide), some_b, nI_1, h1 0 (fun z => hh z.symm), l4]
      refine Ret.some ⟨_, rfl, fun x hx => (up3_g hx).trans (h1 x hx), fun b hb => (up3_j hb).trans (h2 b hb), fun q hq => ?_, fun q hq => ?_⟩
      · rw [up3_i (by omega), h3 q hq]
      · by_cases e : q = i
        · subst e
          rw [up3_same, l3]
          exact b8_let (by omega)
        · rw [up3_i (by omega), h4 q (by omega)]
    · rintro τ ⟨h1, h2, h3, h4⟩
      show Ret (B_X3_setName_3 h j (nI p) (nI a) (nI k) (nI k) τ) _
      unfold B_X3_setName_3
      rw [if_neg (nI_nlt (Nat.le_refl _) (by omega))]
      exact Ret.some ⟨h1, h2, h3, h4⟩
  · rintro τ ⟨h1, h2, h3, h4⟩
    rw [wro_nI hp (by decide), some_b]
    refine Ret.some ⟨fun x hx => (up3_g hx).trans (h1 x hx), ?_⟩
    refine HH.wds hw H (fun i hi _ => e2 i (by omega)) ?_ ?_ ?_ ⟨?_, ?_, ?_⟩ ?_
    · rw [up3_j (by decide), h2 0 (by decide), e2 7 (by decide)]
      exact H.1.1.2.2.2.2.2.2.2.1
    · intro i _
      rw [up3_j (by decide), h2 0 (by decide)]
    · intro b hb0 hb
      rw [up3_j (by omega), h2 b (by omega)]
    · intro q hq
      rw [up3_j (show (11 : Nat) ≠ 13 by decide)]
      by_cases e : q = p
      · subst e
        rw [up3_same, e0, cn_nI (by omega)]
        exact ⟨rfl, fun i hi => by rw [h4 i hi, e1 i hi]⟩
      · have hx := H.2.2.1.1 q hq
        have hb := (hww.1 q hq).1.2
        have e30 := e3 q hq e 0 (by decide)
        have e30 : nmR m p k y (392 + 13 * q) = m (392 + 13 * q) := e30
        rw [up3_i e, h2 13 (by decide), e30]
        refine ⟨hx.1, fun i hi => ?_⟩
        have := e3 q hq e (1 + i) (by omega)
        rw [h3 _ (by omega), show 392 + 13 * q + 1 + i = 392 + 13 * q + (1 + i) by omega, this, show 392 + 13 * q + (1 + i) = 392 + 13 * q + 1 + i by omega]
        exact hx.2 i hi
    · intro i hi
      rw [e2 8 (by decide)] at hi
      have b8' := hw.2.2.2.2.2.2.1.2
      rw [up3_j (by decide), h2 14 (by decide), e2 _ (by omega)]
      exact H.2.2.1.2.1 i hi
    · intro i hi
      rw [e2 7 (by decide)] at hi
      have hx := H.2.2.1.2.2 i hi
      rw [up3_j (by decide), up3_j (by decide), h2 12 (by decide), h2 10 (by decide), e2 _ (by omega), offN_eq _ (fun i _ => e2 _ (by omega))]
      refine ⟨hx.1, fun q hq => ?_⟩
      rw [offN_eq _ (fun i _ => e2 _ (by omega)), e2 _ (by omega)]
      exact hx.2 q hq
    · refine ⟨?_, ?_⟩
      · intro i
        rw [up3_j (by decide), h2 10 (by decide)]
        exact H.2.2.2.1 i
      · intro i
        rw [up3_j (by decide)]
        by_cases e : i < 12 * p ∨ 12 * p + k ≤ i
        · rw [h3 i e]; exact H.2.2.2.2 i
        · have e' : i = 12 * p + (i - 12 * p) := by omega
          rw [e', h4 _ (by omega)]
          obtain ⟨⟨l, l1, l2, l3⟩, -⟩ := hy (i - 12 * p) (by omega)
          rw [l3]
          exact b8_let (by omega)
/-- a loop that fills a row from b on -/
theorem lp_fill {σ : St} {h J b n : Nat} {y m : Nat → Int32} {f : Int32 × St → Option ((Int32 × St) ⊕ St)} (hs : ∀ k m', k < n → (∀ i, i < b ∨ b + k ≤ i → m' i = m i) → f (nI k, putj σ h J m') = some (.inl (nI (k + 1), putj σ h J (setm m' (b + k) (y k))))) (he : ∀ m', f (nI n, putj σ h J m') = some (.inr (putj σ h J m'))) : iter f (nI 0, putj σ h J m) = some (putj σ h J (fun i => if b ≤ i ∧ i < b + n then y (i - b) else m i)) := by
  have key := iter_row (f := f) (fun k => (nI k, putj σ h J (fun i => if b ≤ i ∧ i < b + k then y (i - b) else m i))) n (putj σ h J (fun i => if b ≤ i ∧ i < b + n then y (i - b) else m i)) ?_ ?_ 0 (Nat.zero_le _)
  · have e : (fun i => if b ≤ i ∧ i < b + 0 then y (i - b) else m i) = m := by
      funext i
      rw [if_neg (by omega)]
    rw [e] at key
    exact key
  · intro k hk
    show f (nI k, putj σ h J (fun i => if b ≤ i ∧ i < b + k then y (i - b) else m i)) = _
    rw [hs k _ hk (fun i hi => if_neg (by omega))]
    congr 4
    funext i
    unfold setm
    show (if i = b + k then y k else if b ≤ i ∧ i < b + k then y (i - b) else m i) = _
    by_cases e : i = b + k
    · rw [if_pos e, if_pos (by omega), show i - b = k by omega]
    · rw [if_neg e]
      by_cases e2 : b ≤ i ∧ i < b + k
      · rw [if_pos e2, if_pos (by omega)]
      · rw [if_neg e2, if_neg (by omega)]
  · exact he _
theorem m_name {σ : St} {m y : Nat → Int32} {p k : Nat} {x : Int32} (hkd : σ 20 0 20 = 15) (hp : p < 8) (hk : k ≤ 12) (h28 : σ 20 0 28 = nI k) (hy : ∀ i, i < k → σ 20 28 i = y i) : F_X12_tellMore (nI p) x (putr σ m) = some (putr σ (nmR m p k y)) := by
  unfold F_X12_tellMore
  have e28 : ∀ m', putj σ 20 1 m' 20 0 28 = nI k := fun m' => by rw [putj_j (by decide)]; exact h28
  rw [putr_j (by decide), hkd, if_pos rfl, show (392 : Int32) = nI 392 from rfl, show (13 : Int32) = nI 13 from rfl, pk_mul, nI_add, m_wr (by omega), some_b, h28]
  rw [show ((0 : Int32), putr σ (setm m (392 + 13 * p) (nI k))) = (nI 0, putj σ 20 1 (setm m (392 + 13 * p) (nI k))) from rfl]
  rw [lp_fill (b := 393 + 13 * p) (n := k) (y := y) ?_ ?_, some_b]
  · congr 2
    funext i
    unfold nmR setm
    by_cases e1 : i = 392 + 13 * p
    · rw [if_pos e1, if_neg (by omega), if_pos e1]
    · rw [if_neg e1, if_neg e1]
  · intro q m' hq _
    show B_X12_tellMore_28 (nI p) (nI q) (putj σ 20 1 m') = _
    unfold B_X12_tellMore_28
    rw [e28, if_pos (nI_lt hq (by omega)), rdo_nI (by omega) (by decide), some_b, putj_j (by decide), hy q hq, show (392 : Int32) = nI 392 from rfl, show (13 : Int32) = nI 13 from rfl, pk_mul, nI_add, nI_1, nI_add, ← putr_putj, m_wr (by omega), some_b, nI_1, show 392 + 13 * p + 1 + q = 393 + 13 * p + q by omega]
    rfl
  · intro m'
    show B_X12_tellMore_28 (nI p) (nI k) (putj σ 20 1 m') = _
    unfold B_X12_tellMore_28
    rw [e28, if_neg (nI_nlt (Nat.le_refl _) (by omega))]
