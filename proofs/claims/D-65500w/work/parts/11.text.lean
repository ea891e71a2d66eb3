/-! S1: texts: the component's Text and the model's out -/
set_option maxRecDepth 100000
/-- a byte as it is kept -/
def b8 (c : Int32) : Int32 := c.toInt8.toInt32
theorem b8_b8 (c : Int32) : b8 (b8 c) = b8 c := by
  unfold b8
  rw [Int8.toInt8_toInt32]
def addC (σ : St) (c : Int32) : St := up3 (up3 σ 1 0 1 (σ 1 0 1 + 1)) 1 1 (σ 1 0 1).toNatClampNeg (b8 c)
def appC (σ : St) (l : List Int32) : St := l.foldl addC σ
def addM (σ : St) (c : Int32) : St := up3 (up3 σ 20 15 (σ 20 0 15).toNatClampNeg c) 20 0 15 (σ 20 0 15 + 1)
def appM (σ : St) (l : List Int32) : St := l.foldl addM σ
theorem appC_app (σ : St) (a b : List Int32) : appC (appC σ a) b = appC σ (a ++ b) := by simp [appC, List.foldl_append]
theorem appM_app (σ : St) (a b : List Int32) : appM (appM σ a) b = appM σ (a ++ b) := by simp [appM, List.foldl_append]
theorem appC_cons (σ : St) (c : Int32) (l : List Int32) : appC (addC σ c) l = appC σ (c :: l) := rfl
theorem appM_cons (σ : St) (c : Int32) (l : List Int32) : appM (addM σ c) l = appM σ (c :: l) := rfl
theorem appC_nil (σ : St) : appC σ [] = σ := rfl
theorem appM_nil (σ : St) : appM σ [] = σ := rfl
/-- how long a text is -/
def szC (σ : St) (n : Nat) : Prop := σ 1 0 1 = nI n
def szM (σ : St) (n : Nat) : Prop := σ 20 0 15 = nI n
theorem addC_sz {σ : St} {n : Nat} (h : szC σ n) (c : Int32) : szC (addC σ c) (n + 1) := by
  unfold szC addC at *
  rw [up3_j (by decide), up3_same, h, nI_1]
theorem addM_sz {σ : St} {n : Nat} (h : szM σ n) (c : Int32) : szM (addM σ c) (n + 1) := by
  unfold szM addM at *
  rw [up3_same, h, nI_1]
theorem appC_sz {l : List Int32} : ∀ {σ : St} {n : Nat}, szC σ n → szC (appC σ l) (n + l.length) := by
  induction l with
  | nil => intro σ n h; exact h
  | cons c l ih =>
    intro σ n h
    rw [← appC_cons, List.length_cons, show n + (l.length + 1) = n + 1 + l.length by omega]
    exact ih (addC_sz h c)
theorem appM_sz {l : List Int32} : ∀ {σ : St} {n : Nat}, szM σ n → szM (appM σ l) (n + l.length) := by
  induction l with
  | nil => intro σ n h; exact h
  | cons c l ih =>
    intro σ n h
    rw [← appM_cons, List.length_cons, show n + (l.length + 1) = n + 1 + l.length by omega]
    exact ih (addM_sz h c)
/-- other groups stay -/
theorem appC_g {l : List Int32} : ∀ {σ : St} {g : Nat}, g ≠ 1 → appC σ l g = σ g := by
  induction l with
  | nil => intro σ g h; rfl
  | cons c l ih =>
    intro σ g h
    rw [← appC_cons, ih h]
    unfold addC
    rw [up3_g h, up3_g h]
theorem appM_g {l : List Int32} : ∀ {σ : St} {g : Nat}, g ≠ 20 → appM σ l g = σ g := by
  induction l with
  | nil => intro σ g h; rfl
  | cons c l ih =>
    intro σ g h
    rw [← appM_cons, ih h]
    unfold addM
    rw [up3_g h, up3_g h]
theorem appM_j {l : List Int32} : ∀ {σ : St} {j : Nat}, j ≠ 15 → j ≠ 0 → appM σ l 20 j = σ 20 j := by
  induction l with
  | nil => intro σ j h h0; rfl
  | cons c l ih =>
    intro σ j h h0
    rw [← appM_cons, ih h h0]
    unfold addM
    rw [up3_j h0, up3_j h]
theorem appM_0 {l : List Int32} : ∀ {σ : St} {k : Nat}, k ≠ 15 → appM σ l 20 0 k = σ 20 0 k := by
  induction l with
  | nil => intro σ k h; rfl
  | cons c l ih =>
    intro σ k h
    rw [← appM_cons, ih h]
    unfold addM
    rw [up3_i h, up3_j (by decide)]
/-- put and add -/
theorem f_add {σ : St} {n : Nat} (hn : szC σ n) (hl : n < 4000) (c : Int32) : F_X1_add c σ = some (addC σ c) := by
  unfold F_X1_add szC at *
  rw [nst_b, hn, wrb_nI hl (by decide)]
  unfold addC
  rw [hn, nI_clamp (by omega)]
  show some _ = some _
  rw [show c.toInt8.toInt32.toInt8.toInt32 = b8 c from b8_b8 c]
theorem f_put {σ : St} {n : Nat} (hn : szM σ n) (hl : n < 3200) (c : Int32) : F_X12_put c σ = some (addM σ c) := by
  unfold F_X12_put szM at *
  rw [hn, wro_nI hl (by decide)]
  unfold addM
  rw [hn, nI_clamp (by omega), some_b, up3_j (by decide), hn]
  rfl
/-- decimal digits of a number that isn't negative -/
def kN (n : Nat) : Nat → Nat → Nat
  | 0, k => k
  | f + 1, k => if 9 < n / 10 ^ k then kN n f (k + 1) else k
def dgN (n : Nat) : Nat → List Int32
  | 0 => [nI (48 + n % 10)]
  | i + 1 => nI (48 + n / 10 ^ (i + 1) % 10) :: dgN n i
def numN (n : Nat) : List Int32 := dgN n (kN n 9 0)
theorem kN_le (n : Nat) : ∀ f k, kN n f k ≤ k + f := by
  intro f
  induction f with
  | zero => intro k; exact Nat.le_refl k
  | succ f ih =>
    intro k
    unfold kN
    by_cases h : 9 < n / 10 ^ k
    · rw [if_pos h]; have := ih (k + 1); omega
    · rw [if_neg h]; omega
theorem dgN_len (n : Nat) : ∀ i, (dgN n i).length = i + 1 := by
  intro i
  induction i with
  | zero => rfl
  | succ i ih => simp [dgN, ih]
theorem numN_len (n : Nat) : (numN n).length ≤ 10 := by
  unfold numN
  rw [dgN_len]
  have := kN_le n 9 0
  omega
theorem p10 : ∀ k, k ≤ 9 → 10 ^ k ≤ 1000000000 := by
  intro k hk
  have h : ∀ k, k < 10 → 10 ^ k ≤ 1000000000 := by decide
  exact h k (by omega)
theorem nI_pow_ne {k : Nat} (hk : k ≤ 9) : ¬ nI (10 ^ k) = 0 := nI_ne0 (Nat.pow_pos (by decide)) (by have := p10 k hk; omega)
theorem div_small {n k : Nat} (hn : n < 2147483648) (hk : k = 9) : ¬ 9 < n / 10 ^ k := by
  subst hk
  have : n / 10 ^ 9 < 10 := by
    apply Nat.div_lt_of_lt_mul
    omega
  omega
theorem lp_unC {n : Nat} (hn : n < 2147483648) (σ : St) : ∀ f k, k + f = 9 → iter (fun z => B_X1_number_23 (nI n) z σ) (nI (10 ^ k)) = some (nI (10 ^ kN n f k)) := by
  intro f
  induction f with
  | zero =>
    intro k hk
    refine iter_inr ?_
    unfold B_X1_number_23
    rw [dvo_ok (nI_pow_ne (by omega)), some_b, pk_div (by omega) (Nat.pow_pos (by decide)) (by have := p10 k (by omega); omega), i32_lit, if_neg]
    · rfl
    · rw [nI_ltI (by decide) (by have := Nat.div_le_self n (10 ^ k); omega)]
      exact div_small hn (by omega)
  | succ f ih =>
    intro k hk
    have hp := p10 k (by omega)
    have hd := Nat.div_le_self n (10 ^ k)
    by_cases h : 9 < n / 10 ^ k
    · have e : B_X1_number_23 (nI n) (nI (10 ^ k)) σ = some (.inl (nI (10 ^ (k + 1)))) := by
        unfold B_X1_number_23
        rw [dvo_ok (nI_pow_ne (by omega)), some_b, pk_div (by omega) (Nat.pow_pos (by decide)) (by omega), i32_lit, if_pos ((nI_ltI (by decide) (by omega)).mpr h), nmo_b, i32_lit, pk_mul, Nat.pow_succ]
      rw [iter_inl e, ih (k + 1) (by omega)]
      simp [kN, h]
    · refine iter_inr ?_
      unfold B_X1_number_23
      rw [dvo_ok (nI_pow_ne (by omega)), some_b, pk_div (by omega) (Nat.pow_pos (by decide)) (by omega), i32_lit, if_neg (fun z => h ((nI_ltI (by decide) (by omega)).mp z))]
      simp [kN, h]
theorem lp_unM {n : Nat} (hn : n < 2147483648) (σ : St) : ∀ f k, k + f = 9 → iter (fun z => B_X12_number_17 (nI n) z σ) (nI (10 ^ k)) = some (nI (10 ^ kN n f k)) := lp_unC hn σ
/-- the digit at place i -/
theorem digit_eq {n i : Nat} (hn : n < 2147483648) (hi : i ≤ 9) : (48 : Int32) + (nI n / nI (10 ^ i) - nI n / nI (10 ^ i) / (10 : Int32) * (10 : Int32)) = nI (48 + n / 10 ^ i % 10) := by
  have hp := p10 i hi
  have hd := Nat.div_le_self n (10 ^ i)
  rw [pk_div (by omega) (Nat.pow_pos (by decide)) (by omega), show (10 : Int32) = nI 10 from rfl, pk_rem (by omega) (by decide) (by decide), show (48 : Int32) = nI 48 from rfl, nI_add]
theorem p10_div {i : Nat} (hi : i + 1 ≤ 9) : nI (10 ^ (i + 1)) / (10 : Int32) = nI (10 ^ i) := by
  have hp := p10 (i + 1) hi
  rw [show (10 : Int32) = nI 10 from rfl, pk_div (by omega) (by decide) (by decide), Nat.pow_succ, Nat.mul_div_cancel _ (by decide)]
theorem lp_dgC {n : Nat} (hn : n < 2147483648) : ∀ (i : Nat) (σ : St) (k : Nat), i ≤ 9 → szC σ k → k + i < 4000 → iter (fun z => B_X1_number_42 (nI n) z.1 z.2) (nI (10 ^ i), σ) = some (appC σ (dgN n i)) := by
  intro i
  induction i with
  | zero =>
    intro σ k hi hs hk
    have e : B_X1_number_42 (nI n) (nI (10 ^ 0)) σ = some (.inl (0, addC σ (nI (48 + n % 10)))) := by
      unfold B_X1_number_42
      rw [if_pos (by decide), dvo_ok (nI_pow_ne (by omega)), some_b, digit_eq hn (by omega), f_add hs (by omega), some_b, nmo_b]
      simp
      decide
    rw [iter_inl e]
    refine iter_inr ?_
    show B_X1_number_42 (nI n) 0 _ = _
    unfold B_X1_number_42
    rw [if_neg (by decide)]
    rfl
  | succ i ih =>
    intro σ k hi hs hk
    have hp := p10 (i + 1) hi
    have e : B_X1_number_42 (nI n) (nI (10 ^ (i + 1))) σ = some (.inl (nI (10 ^ i), addC σ (nI (48 + n / 10 ^ (i + 1) % 10)))) := by
      unfold B_X1_number_42
      rw [if_pos (show (0 : Int32) < nI (10 ^ (i + 1)) from nI_lt (a := 0) (Nat.pow_pos (by decide)) (by omega)), dvo_ok (nI_pow_ne hi), some_b, digit_eq hn hi, f_add hs (by omega), some_b, nmo_b, p10_div hi]
    rw [iter_inl e]
    show iter _ _ = some (appC σ (nI (48 + n / 10 ^ (i + 1) % 10) :: dgN n i))
    rw [← appC_cons]
    exact ih _ (k + 1) (by omega) (addC_sz hs _) (by omega)
theorem lp_dgM {n : Nat} (hn : n < 2147483648) : ∀ (i : Nat) (σ : St) (k : Nat), i ≤ 9 → szM σ k → k + i < 3200 → iter (fun z => B_X12_number_33 (nI n) z.1 z.2) (nI (10 ^ i), σ) = some (appM σ (dgN n i)) := by
  intro i
  induction i with
  | zero =>
    intro σ k hi hs hk
    have e : B_X12_number_33 (nI n) (nI (10 ^ 0)) σ = some (.inl (0, addM σ (nI (48 + n % 10)))) := by
      unfold B_X12_number_33
      rw [if_pos (by decide), dvo_ok (nI_pow_ne (by omega)), some_b, digit_eq hn (by omega), f_put hs (by omega), some_b, nmo_b]
      simp
      decide
    rw [iter_inl e]
    refine iter_inr ?_
    show B_X12_number_33 (nI n) 0 _ = _
    unfold B_X12_number_33
    rw [if_neg (by decide)]
    rfl
  | succ i ih =>
    intro σ k hi hs hk
    have hp := p10 (i + 1) hi
    have e : B_X12_number_33 (nI n) (nI (10 ^ (i + 1))) σ = some (.inl (nI (10 ^ i), addM σ (nI (48 + n / 10 ^ (i + 1) % 10)))) := by
      unfold B_X12_number_33
      rw [if_pos (show (0 : Int32) < nI (10 ^ (i + 1)) from nI_lt (a := 0) (Nat.pow_pos (by decide)) (by omega)), dvo_ok (nI_pow_ne hi), some_b, digit_eq hn hi, f_put hs (by omega), some_b, nmo_b, p10_div hi]
    rw [iter_inl e]
    show iter _ _ = some (appM σ (nI (48 + n / 10 ^ (i + 1) % 10) :: dgN n i))
    rw [← appM_cons]
    exact ih _ (k + 1) (by omega) (addM_sz hs _) (by omega)
/-- a number as text: n, or its negative -/
def numL (v : Int32) : List Int32 := if v < 0 then 45 :: numN (-v).toNatClampNeg else numN v.toNatClampNeg
/-- a number that isn't the least one -/
def okN (v : Int32) : Prop := ∃ n, n < 2147483648 ∧ (v = nI n ∨ v = -nI n)
theorem numL_pos {n : Nat} (hn : n < 2147483648) : numL (nI n) = numN n := by
  unfold numL
  rw [if_neg (nI_pos hn), nI_clamp hn]
theorem neg_lt {n : Nat} (h0 : 0 < n) (hn : n < 2147483648) : -nI n < 0 := by
  have h := (sb_nlt (a := n) (b := 0) hn (by decide)).mpr h0
  exact h
theorem neg_neg' (n : Nat) : - -nI n = nI n := by rw [Int32.neg_neg]
theorem numL_neg {n : Nat} (h0 : 0 < n) (hn : n < 2147483648) : numL (-nI n) = 45 :: numN n := by
  unfold numL
  rw [if_pos (neg_lt h0 hn), neg_neg', nI_clamp hn]
theorem numL_len {v : Int32} : (numL v).length ≤ 11 := by
  unfold numL
  by_cases h : v < 0
  · rw [if_pos h]
    have := numN_len (-v).toNatClampNeg
    simp
    omega
  · rw [if_neg h]
    have := numN_len v.toNatClampNeg
    omega
theorem okN_cases {v : Int32} (h : okN v) : ∃ n, n < 2147483648 ∧ (v = nI n ∨ (0 < n ∧ v = -nI n)) := by
  obtain ⟨n, hn, h | h⟩ := h
  · exact ⟨n, hn, Or.inl h⟩
  · by_cases h0 : n = 0
    · subst h0
      exact ⟨0, hn, Or.inl (by rw [h]; decide)⟩
    · exact ⟨n, hn, Or.inr ⟨by omega, h⟩⟩
theorem okN_nI {n : Nat} (h : n < 2147483648) : okN (nI n) := ⟨n, h, Or.inl rfl⟩
theorem f_numberC {σ : St} {k : Nat} {v : Int32} (hv : okN v) (hs : szC σ k) (hk : k + 11 ≤ 4000) : F_X1_number v σ = some (appC σ (numL v)) := by
  obtain ⟨n, hn, rfl | ⟨h0, rfl⟩⟩ := okN_cases hv
  · have hkn := kN_le n 9 0
    unfold F_X1_number
    rw [if_neg (nI_pos hn), if_neg (nI_pos hn), some_b, some_b]
    rw [show (1 : Int32) = nI (10 ^ 0) from rfl, lp_unC hn σ 9 0 (by decide), some_b, lp_dgC hn _ σ k (by omega) hs (by omega), some_b, numL_pos hn]
    rfl
  · have hkn := kN_le n 9 0
    unfold F_X1_number
    rw [if_pos (neg_lt h0 hn), if_pos (neg_lt h0 hn), f_add hs (by omega), some_b, some_b, some_b, neg_neg']
    rw [show (1 : Int32) = nI (10 ^ 0) from rfl, lp_unC hn _ 9 0 (by decide), some_b, lp_dgC hn _ _ (k + 1) (by omega) (addC_sz hs _) (by omega), some_b, numL_neg h0 hn]
    rfl
theorem f_numberM {σ : St} {k : Nat} {v : Int32} (hv : okN v) (hs : szM σ k) (hk : k + 11 ≤ 3200) : F_X12_number v σ = some (appM σ (numL v)) := by
  obtain ⟨n, hn, rfl | ⟨h0, rfl⟩⟩ := okN_cases hv
  · have hkn := kN_le n 9 0
    unfold F_X12_number
    rw [if_neg (nI_pos hn), some_b]
    rw [show (1 : Int32) = nI (10 ^ 0) from rfl, lp_unM hn σ 9 0 (by decide), some_b, lp_dgM hn _ σ k (by omega) hs (by omega), some_b, numL_pos hn]
    rfl
  · have hkn := kN_le n 9 0
    unfold F_X12_number
    rw [if_pos (neg_lt h0 hn), f_put hs (by omega), some_b, nmo_b, some_b, neg_neg']
    rw [show (1 : Int32) = nI (10 ^ 0) from rfl, lp_unM hn _ 9 0 (by decide), some_b, lp_dgM hn _ _ (k + 1) (by omega) (addM_sz hs _) (by omega), some_b, numL_neg h0 hn]
    rfl
/-- told: a number, '-' for a negative one -/
def toldL (v : Int32) : List Int32 := if v < 0 then [45] else numL v
theorem toldL_len {v : Int32} : (toldL v).length ≤ 11 := by
  unfold toldL
  by_cases h : v < 0
  · rw [if_pos h]; decide
  · rw [if_neg h]; exact numL_len
theorem f_toldC {σ : St} {k : Nat} {v : Int32} (hv : v < 0 ∨ okN v) (hs : szC σ k) (hk : k + 11 ≤ 4000) : F_X1_told v σ = some (appC σ (toldL v)) := by
  unfold F_X1_told toldL
  by_cases h : v < 0
  · rw [if_pos h, if_pos h, f_add hs (by omega), some_b]
    rfl
  · rw [if_neg h, if_neg h, f_numberC (hv.resolve_left h) hs hk, some_b]
theorem f_numbersC {σ : St} {k : Nat} {a b : Int32} (ha : okN a) (hb : okN b) (hs : szC σ k) (hk : k + 23 ≤ 4000) : F_X1_numbers a b σ = some (appC σ (numL a ++ 32 :: numL b)) := by
  have hl := numL_len (v := a)
  unfold F_X1_numbers
  rw [f_numberC ha hs (by omega), some_b, f_add (appC_sz hs) (by omega), some_b, f_numberC hb (addC_sz (appC_sz hs) _) (by omega), some_b, appC_cons, appC_app]
