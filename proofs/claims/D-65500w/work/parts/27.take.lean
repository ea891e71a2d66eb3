/-! S6: a house takes another one -/
set_option maxRecDepth 100000
/-- members copied at one place -/
def cp (τ : St) (h o : Nat) (k : Nat) : List Nat → St
  | [] => τ
  | j :: js => cp (up3 τ h j k (τ o j k)) h o k js
theorem cp_g {h o k : Nat} : ∀ {js : List Nat} {τ : St} {a : Nat}, a ≠ h → cp τ h o k js a = τ a := by
  intro js
  induction js with
  | nil => intro τ a _; rfl
  | cons j js ih =>
    intro τ a ha
    show cp (up3 τ h j k (τ o j k)) h o k js a = τ a
    rw [ih ha, up3_g ha]
theorem cp_out {h o k : Nat} : ∀ {js : List Nat} {τ : St} {b : Nat}, b ∉ js → cp τ h o k js h b = τ h b := by
  intro js
  induction js with
  | nil => intro τ a _; rfl
  | cons j js ih =>
    intro τ b hb
    show cp (up3 τ h j k (τ o j k)) h o k js h b = τ h b
    rw [ih (fun z => hb (List.mem_cons_of_mem _ z)), up3_j (fun z => hb (by rw [z]; exact List.mem_cons_self))]
theorem cp_i {h o k : Nat} : ∀ {js : List Nat} {τ : St} {b i : Nat}, i ≠ k → cp τ h o k js h b i = τ h b i := by
  intro js
  induction js with
  | nil => intro τ a _ _; rfl
  | cons j js ih =>
    intro τ b i hi
    show cp (up3 τ h j k (τ o j k)) h o k js h b i = τ h b i
    rw [ih hi, up3_i hi]
theorem cp_in {h o k : Nat} (ho : o ≠ h) : ∀ {js : List Nat} {τ : St} {b : Nat}, b ∈ js → cp τ h o k js h b k = τ o b k := by
  intro js
  induction js with
  | nil => intro τ b hb; exact absurd hb List.not_mem_nil
  | cons j js ih =>
    intro τ b hb
    show cp (up3 τ h j k (τ o j k)) h o k js h b k = τ o b k
    by_cases e : b ∈ js
    · rw [ih e, up3_g ho]
    · rw [cp_out e]
      rcases List.mem_cons.mp hb with z | z
      · rw [z, up3_same]
      · exact absurd z e
theorem lp_copy {h o n : Nat} {js : List Nat} {σ : St} (ho : o ≠ h) {f : Int32 × St → Option ((Int32 × St) ⊕ St)}
    (hf : ∀ k τ, k < n → (∀ a, a ≠ h → τ a = σ a) → (∀ b, b ∉ js → τ h b = σ h b) → f (nI k, τ) = some (.inl (nI (k + 1), cp τ h o k js)))
    (he : ∀ τ, (∀ b, b ∉ js → τ h b = σ h b) → f (nI n, τ) = some (.inr τ)) :
    Ret (iter f (nI 0, σ)) (fun τ => (∀ a, a ≠ h → τ a = σ a) ∧ (∀ b, b ∉ js → τ h b = σ h b) ∧ ∀ b, b ∈ js → ∀ i, i < n → τ h b i = σ o b i) := by
  refine iter_cnt (fun k (τ : St) => (nI k, τ)) (fun k τ => (∀ a, a ≠ h → τ a = σ a) ∧ (∀ b, b ∉ js → τ h b = σ h b) ∧ ∀ b, b ∈ js → ∀ i, i < k → τ h b i = σ o b i) n ?_ ?_ σ ⟨fun _ _ => rfl, fun _ _ => rfl, fun _ _ i hi => by omega⟩
  · rintro k τ hk ⟨h1, h2, h3⟩
    rw [hf k τ hk h1 h2]
    refine Ret.some ⟨_, rfl, fun a ha => (cp_g ha).trans (h1 a ha), fun b hb => (cp_out hb).trans (h2 b hb), fun b hb i hi => ?_⟩
    by_cases e : i = k
    · subst e
      rw [cp_in ho hb, h1 o ho]
    · rw [cp_i e, h3 b hb i (by omega)]
  · rintro τ ⟨h1, h2, h3⟩
    rw [he τ h2]
    exact Ret.some ⟨h1, h2, h3⟩
theorem lp_take84 {σ : St} {h o n : Nat} (ho : o ≠ h) (hn : σ h 0 29 = nI n) (hn2 : n ≤ 20) (hz : ∀ k, k < n → (σ o 4 k = 0 ∨ σ o 4 k = 1) ∧ (σ o 5 k = 0 ∨ σ o 5 k = 1)) : Ret (iter (fun z => B_X3_take_84 h o z.1 z.2) (nI 0, σ)) (fun τ => (∀ a, a ≠ h → τ a = σ a) ∧ (∀ b, b ∉ [1, 2, 3, 4, 5, 6, 7] → τ h b = σ h b) ∧ ∀ b, b ∈ [1, 2, 3, 4, 5, 6, 7] → ∀ i, i < n → τ h b i = σ o b i) := by
  refine lp_copy ho (f := fun z => B_X3_take_84 h o z.1 z.2) ?_ ?_
  · intro k τ hk h1 h2
    show B_X3_take_84 h o (nI k) τ = _
    unfold B_X3_take_84
    obtain ⟨z4, z5⟩ := hz k hk
    rw [h2 0 (by decide), hn, if_pos (nI_lt hk (by omega))]
    rw [rdo_nI (by omega) (by decide), some_b, wro_nI (by omega) (by decide), some_b]
    rw [rdo_nI (by omega) (by decide), some_b, wro_nI (by omega) (by decide), some_b]
    rw [rdo_nI (by omega) (by decide), some_b, wro_nI (by omega) (by decide), some_b]
    rw [rdo_nI (by omega) (by decide), some_b, wrz_nI (by omega) (by decide) (by rw [up3_g ho, up3_g ho, up3_g ho, h1 o ho]; exact z4), some_b]
    rw [rdo_nI (by omega) (by decide), some_b, wrz_nI (by omega) (by decide) (by rw [up3_g ho, up3_g ho, up3_g ho, up3_g ho, h1 o ho]; exact z5), some_b]
    rw [rdo_nI (by omega) (by decide), some_b, wro_nI (by omega) (by decide), some_b]
    rw [rdo_nI (by omega) (by decide), some_b, wro_nI (by omega) (by decide), some_b, nI_1]
    rfl
  · intro τ h2
    show B_X3_take_84 h o (nI n) τ = _
    unfold B_X3_take_84
    rw [h2 0 (by decide), hn, if_neg (nI_nlt (Nat.le_refl _) (by omega))]
theorem lp_take184 {σ : St} {h o n : Nat} (ho : o ≠ h) (hn : σ h 0 30 = nI n) (hn2 : n ≤ 6) : Ret (iter (fun z => B_X3_take_184 h o z.1 z.2) (nI 0, σ)) (fun τ => (∀ a, a ≠ h → τ a = σ a) ∧ (∀ b, b ∉ [15, 16, 17, 18, 19, 20, 21, 8, 9] → τ h b = σ h b) ∧ ∀ b, b ∈ [15, 16, 17, 18, 19, 20, 21, 8, 9] → ∀ i, i < n → τ h b i = σ o b i) := by
  refine lp_copy ho (f := fun z => B_X3_take_184 h o z.1 z.2) ?_ ?_
  · intro k τ hk h1 h2
    show B_X3_take_184 h o (nI k) τ = _
    unfold B_X3_take_184
    rw [h2 0 (by decide), hn, if_pos (nI_lt hk (by omega))]
    rw [rdo_nI (by omega) (by decide), some_b, wro_nI (by omega) (by decide), some_b]
    rw [rdo_nI (by omega) (by decide), some_b, wro_nI (by omega) (by decide), some_b]
    rw [rdo_nI (by omega) (by decide), some_b, wro_nI (by omega) (by decide), some_b]
    rw [rdo_nI (by omega) (by decide), some_b, wro_nI (by omega) (by decide), some_b]
    rw [rdo_nI (by omega) (by decide), some_b, wro_nI (by omega) (by decide), some_b]
    rw [rdo_nI (by omega) (by decide), some_b, wro_nI (by omega) (by decide), some_b]
    rw [rdo_nI (by omega) (by decide), some_b, wro_nI (by omega) (by decide), some_b]
    rw [rdo_nI (by omega) (by decide), some_b, wro_nI (by omega) (by decide), some_b]
    rw [rdo_nI (by omega) (by decide), some_b, wro_nI (by omega) (by decide), some_b, nI_1]
    rfl
  · intro τ h2
    show B_X3_take_184 h o (nI n) τ = _
    unfold B_X3_take_184
    rw [h2 0 (by decide), hn, if_neg (nI_nlt (Nat.le_refl _) (by omega))]
theorem lp_take308 {σ : St} {h o n : Nat} (ho : o ≠ h) (hn : σ h 0 31 = nI n) (hn2 : n ≤ 30) (hz : ∀ k, k < n → σ o 27 k = 0 ∨ σ o 27 k = 1) : Ret (iter (fun z => B_X3_take_308 h o z.1 z.2) (nI 0, σ)) (fun τ => (∀ a, a ≠ h → τ a = σ a) ∧ (∀ b, b ∉ [22, 23, 24, 25, 26, 27] → τ h b = σ h b) ∧ ∀ b, b ∈ [22, 23, 24, 25, 26, 27] → ∀ i, i < n → τ h b i = σ o b i) := by
  refine lp_copy ho (f := fun z => B_X3_take_308 h o z.1 z.2) ?_ ?_
  · intro k τ hk h1 h2
    show B_X3_take_308 h o (nI k) τ = _
    unfold B_X3_take_308
    rw [h2 0 (by decide), hn, if_pos (nI_lt hk (by omega))]
    rw [rdo_nI (by omega) (by decide), some_b, wro_nI (by omega) (by decide), some_b]
    rw [rdo_nI (by omega) (by decide), some_b, wro_nI (by omega) (by decide), some_b]
    rw [rdo_nI (by omega) (by decide), some_b, wro_nI (by omega) (by decide), some_b]
    rw [rdo_nI (by omega) (by decide), some_b, wro_nI (by omega) (by decide), some_b]
    rw [rdo_nI (by omega) (by decide), some_b, wro_nI (by omega) (by decide), some_b]
    rw [rdo_nI (by omega) (by decide), some_b, wrz_nI (by omega) (by decide) (by rw [up3_g ho, up3_g ho, up3_g ho, up3_g ho, up3_g ho, h1 o ho]; exact hz k hk), some_b, nI_1]
    rfl
  · intro τ h2
    show B_X3_take_308 h o (nI n) τ = _
    unfold B_X3_take_308
    rw [h2 0 (by decide), hn, if_neg (nI_nlt (Nat.le_refl _) (by omega))]
theorem lp_tw138 {σ : St} {h o : Nat} (ho : o ≠ h) : Ret (iter (fun z => B_X3_takeWords_138 h o z.1 z.2) (nI 0, σ)) (fun τ => (∀ a, a ≠ h → τ a = σ a) ∧ (∀ b, b ∉ [14] → τ h b = σ h b) ∧ ∀ b, b ∈ [14] → ∀ i, i < 12 → τ h b i = σ o b i) := by
  refine lp_copy ho (f := fun z => B_X3_takeWords_138 h o z.1 z.2) ?_ ?_
  · intro k τ hk h1 h2
    show B_X3_takeWords_138 h o (nI k) τ = _
    unfold B_X3_takeWords_138
    rw [if_pos (show nI k < (12 : Int32) from nI_lt (b := 12) hk (by omega))]
    rw [rdo_nI (by omega) (by decide), some_b, wro_nI (by omega) (by decide), some_b, nI_1]
    rfl
  · intro τ h2
    show B_X3_takeWords_138 h o (nI 12) τ = _
    unfold B_X3_takeWords_138
    rw [if_neg (by decide)]
/-- the letters of a row: bytes copied, n of them from a place on -/
theorem lp_bytes {h o J n b0 N : Nat} {σ : St} (ho : o ≠ h) (hN : b0 + n ≤ N) (hN2 : N < 2147483648) (hb : ∀ i, i < n → b8 (σ o J (b0 + i)) = σ o J (b0 + i)) {f : Int32 × St → Option ((Int32 × St) ⊕ St)}
    (hf : ∀ k τ, k < n → (∀ a, a ≠ h → τ a = σ a) → (∀ b, b ≠ J → τ h b = σ h b) → f (nI k, τ) = (rdo τ o J N (nI (b0 + k))).bind (fun r => (wrb τ h J N (nI (b0 + k)) r).bind (fun s => some (.inl (nI (k + 1), s)))))
    (he : ∀ τ, (∀ b, b ≠ J → τ h b = σ h b) → f (nI n, τ) = some (.inr τ)) :
    Ret (iter f (nI 0, σ)) (fun τ => (∀ a, a ≠ h → τ a = σ a) ∧ (∀ b, b ≠ J → τ h b = σ h b) ∧ (∀ i, (i < b0 ∨ b0 + n ≤ i) → τ h J i = σ h J i) ∧ ∀ i, i < n → τ h J (b0 + i) = σ o J (b0 + i)) := by
  refine iter_cnt (fun k (τ : St) => (nI k, τ)) (fun k τ => (∀ a, a ≠ h → τ a = σ a) ∧ (∀ b, b ≠ J → τ h b = σ h b) ∧ (∀ i, (i < b0 ∨ b0 + n ≤ i) → τ h J i = σ h J i) ∧ ∀ i, i < k → τ h J (b0 + i) = σ o J (b0 + i)) n ?_ ?_ σ ⟨fun _ _ => rfl, fun _ _ => rfl, fun _ _ => rfl, fun i hi => by omega⟩
  · rintro k τ hk ⟨h1, h2, h3, h4⟩
    rw [hf k τ hk h1 h2, rdo_nI (by omega) hN2, some_b, wrb_nI (by omega) hN2, some_b]
    refine Ret.some ⟨_, rfl, fun a ha => (up3_g ha).trans (h1 a ha), fun b hb' => (up3_j hb').trans (h2 b hb'), fun i hi => ?_, fun i hi => ?_⟩
    · rw [up3_i (by omega), h3 i hi]
    · by_cases e : i = k
      · subst e
        rw [up3_same, h1 o ho]
        exact hb i hk
      · rw [up3_i (by omega), h4 i (by omega)]
  · rintro τ ⟨h1, h2, h3, h4⟩
    rw [he τ h2]
    exact Ret.some ⟨h1, h2, h3, h4⟩
