/-! S2: trees -/
set_option maxRecDepth 100000
theorem iter_to {α β : Type} {f : α → Option (α ⊕ β)} (I : Nat → α → Prop) (n : Nat) (hs : ∀ k a, k < n → I k a → ∃ a', f a = some (.inl a') ∧ I (k + 1) a') : ∀ a, I 0 a → ∃ b, I n b ∧ iter f a = iter f b := by
  have key : ∀ k, k ≤ n → ∀ a, I 0 a → ∃ b, I k b ∧ iter f a = iter f b := by
    intro k
    induction k with
    | zero => intro _ a h; exact ⟨a, h, rfl⟩
    | succ k ih =>
      intro hk a h
      obtain ⟨b, h1, h2⟩ := ih (by omega) a h
      obtain ⟨c, h3, h4⟩ := hs k b (by omega) h1
      exact ⟨c, h4, by rw [h2, iter_inl h3]⟩
  exact key n (Nat.le_refl _)
theorem imax_nI {a b : Nat} (ha : a < 2147483648) (hb : b < 2147483648) : imax (nI a) (nI b) = nI (max a b) := by
  unfold imax
  by_cases q : a < b
  · rw [if_pos (nI_lt q hb), Nat.max_eq_right (by omega)]
  · rw [if_neg (nI_nlt (by omega) ha), Nat.max_eq_left (by omega)]
/-- node by node: where it begins, how many trees are due, their depths, the deepest one met, the deepest end -/
def tP (h : Nat → Int32) (a : Nat) : Nat → Nat
  | 0 => a
  | i + 1 => tP h a i + (if h (tP h a i) = 63 then 1 else 3)
def tU (h : Nat → Int32) (a : Nat) : Nat → Nat
  | 0 => 1
  | i + 1 => if h (tP h a i) = 63 then tU h a i + 1 else tU h a i - 1
def tD (h : Nat → Int32) (a : Nat) : Nat → Nat → Nat
  | 0 => fun _ => 0
  | i + 1 => if h (tP h a i) = 63 then updN (updN (tD h a i) (tU h a i - 1) (tD h a i (tU h a i - 1) + 1)) (tU h a i) (tD h a i (tU h a i - 1) + 1) else tD h a i
def tC (h : Nat → Int32) (a : Nat) : Nat → Nat
  | 0 => 0
  | i + 1 => max (tC h a i) (tD h a i (tU h a i - 1))
def tM (h : Nat → Int32) (a : Nat) : Nat → Nat
  | 0 => 0
  | i + 1 => if h (tP h a i) = 63 then tM h a i else max (tM h a i) (tD h a i (tU h a i - 1))
def tV (h : Nat → Int32) (a i : Nat) : Int32 := if h (tP h a i) = 63 then -1 else 10 * (h (tP h a i + 1) - 48) + (h (tP h a i + 2) - 48)
abbrev d02 (c : Int32) : Prop := ¬ c < 48 ∧ ¬ 50 < c
abbrev d19 (c : Int32) : Prop := ¬ c < 49 ∧ ¬ 57 < c
def tOk (h : Nat → Int32) (x : Nat) : Prop := h x = 63 ∨ (h x = 33 ∧ d02 (h (x + 1)) ∧ d19 (h (x + 2)))
def tEr (h : Nat → Int32) (x : Nat) : Nat := if h x = 33 then (if d02 (h (x + 1)) then x + 2 else x + 1) else x
theorem tP_ge (h : Nat → Int32) (a : Nat) : ∀ i, a + i ≤ tP h a i := by
  intro i
  induction i with
  | zero => exact Nat.le_refl _
  | succ i ih =>
    rw [tP]
    have : 1 ≤ (if h (tP h a i) = 63 then 1 else 3) := by by_cases q : h (tP h a i) = 63 <;> simp [q]
    omega
theorem tU_le (h : Nat → Int32) (a : Nat) : ∀ i, tU h a i ≤ i + 1 := by
  intro i
  induction i with
  | zero => exact Nat.le_refl _
  | succ i ih =>
    rw [tU]
    by_cases q : h (tP h a i) = 63
    · rw [if_pos q]; omega
    · rw [if_neg q]; omega
theorem tD_le (h : Nat → Int32) (a : Nat) : ∀ i m, tD h a i m ≤ i := by
  intro i
  induction i with
  | zero => intro m; exact Nat.le_refl _
  | succ i ih =>
    intro m
    rw [tD]
    by_cases q : h (tP h a i) = 63
    · rw [if_pos q]
      have := ih (tU h a i - 1)
      unfold updN
      by_cases q1 : m = tU h a i
      · rw [if_pos q1]; omega
      · rw [if_neg q1]
        by_cases q2 : m = tU h a i - 1
        · rw [if_pos q2]; omega
        · rw [if_neg q2]; have := ih m; omega
    · rw [if_neg q]; have := ih m; omega
theorem tC_le (h : Nat → Int32) (a : Nat) : ∀ i, tC h a i ≤ i ∧ tM h a i ≤ i := by
  intro i
  induction i with
  | zero => exact ⟨Nat.le_refl _, Nat.le_refl _⟩
  | succ i ih =>
    have := tD_le h a i (tU h a i - 1)
    rw [tC, tM]
    refine ⟨by omega, ?_⟩
    by_cases q : h (tP h a i) = 63
    · rw [if_pos q]; omega
    · rw [if_neg q]; omega
theorem tCM {h : Nat → Int32} {a N : Nat} (hU : ∀ i, i < N → 1 ≤ tU h a i) (h0 : tU h a N = 0) : tC h a N = tM h a N := by
  have key : ∀ i, i ≤ N → tM h a i ≤ tC h a i ∧ (tC h a i ≤ tM h a i ∨ ∃ m, m < tU h a i ∧ tC h a i ≤ tD h a i m) := by
    intro i
    induction i with
    | zero => intro _; exact ⟨Nat.le_refl _, Or.inl (Nat.le_refl _)⟩
    | succ i ih =>
      intro hi
      obtain ⟨h1, h2⟩ := ih (by omega)
      have hu := hU i (by omega)
      rw [tC, tM, tU, tD]
      by_cases q : h (tP h a i) = 63
      · rw [if_pos q, if_pos q, if_pos q]
        refine ⟨by omega, ?_⟩
        by_cases c : max (tC h a i) (tD h a i (tU h a i - 1)) ≤ tD h a i (tU h a i - 1) + 1
        · refine Or.inr ⟨tU h a i, by omega, ?_⟩
          unfold updN
          rw [if_pos rfl]
          exact c
        · rcases h2 with h2 | ⟨m, m1, m2⟩
          · exact Or.inl (by omega)
          · refine Or.inr ⟨m, by omega, ?_⟩
            unfold updN
            by_cases e : m = tU h a i - 1
            · rw [e] at m2; omega
            · rw [if_neg (by omega), if_neg e]; omega
      · rw [if_neg q, if_neg q, if_neg q]
        refine ⟨by omega, ?_⟩
        rcases h2 with h2 | ⟨m, m1, m2⟩
        · exact Or.inl (by omega)
        · by_cases e : m = tU h a i - 1
          · rw [e] at m2
            exact Or.inl (by omega)
          · by_cases c : tD h a i (tU h a i - 1) ≤ tC h a i
            · exact Or.inr ⟨m, by omega, by omega⟩
            · exact Or.inl (by omega)
  obtain ⟨h1, h2⟩ := key N (Nat.le_refl _)
  rcases h2 with h2 | ⟨m, m1, m2⟩
  · omega
  · omega
/-- nodes up to N are right, and more are due ahead of each -/
def tAll (h : Nat → Int32) (a N : Nat) : Prop := ∀ i, i < N → tOk h (tP h a i) ∧ 1 ≤ tU h a i
theorem tOk_lt {h : Nat → Int32} {n x : Nat} (B : Byt h n) (k : tOk h x) : x < n ∧ (¬ h x = 63 → x + 2 < n) := by
  rcases k with k | ⟨k1, k2, k3⟩
  · exact ⟨B.lt (by rw [k]; decide), fun z => absurd k z⟩
  · exact ⟨B.lt (by rw [k1]; decide), fun _ => B.lt (ge_pos k3.1 (by decide))⟩
theorem tP_le {h : Nat → Int32} {n a : Nat} (B : Byt h n) (ha : a ≤ n) : ∀ N, tAll h a N → tP h a N ≤ n := by
  intro N
  cases N with
  | zero => intro _; exact ha
  | succ N =>
    intro hA
    have := tOk_lt B (hA N (by omega)).1
    rw [tP]
    by_cases q : h (tP h a N) = 63
    · rw [if_pos q]; omega
    · rw [if_neg q]; have := this.2 q; omega
theorem t_ex {h : Nat → Int32} {n a : Nat} (B : Byt h n) (ha : a ≤ n) : ∃ N, tAll h a N ∧ (tU h a N = 0 ∨ (1 ≤ tU h a N ∧ ¬ tOk h (tP h a N))) := by
  have key : ∀ d N, N + d = n + 1 → tAll h a N → ∃ N, tAll h a N ∧ (tU h a N = 0 ∨ (1 ≤ tU h a N ∧ ¬ tOk h (tP h a N))) := by
    intro d
    induction d with
    | zero =>
      intro N hN hA
      have h1 := tP_le B ha N hA
      have h2 := tP_ge h a N
      omega
    | succ d ih =>
      intro N hN hA
      by_cases q : tU h a N = 0
      · exact ⟨N, hA, Or.inl q⟩
      · by_cases q2 : tOk h (tP h a N)
        · refine ih (N + 1) (by omega) ?_
          intro i hi
          by_cases e : i = N
          · rw [e]; exact ⟨q2, by omega⟩
          · exact hA i (by omega)
        · exact ⟨N, hA, Or.inr ⟨by omega, q2⟩⟩
  exact key (n + 1) 0 (by omega) (fun i hi => absurd hi (Nat.not_lt_zero i))
theorem nI_c1 {c : Nat} (h : 1 ≤ c) : nI c + -1 = nI (c - 1) := by
  have := nI_dec (c - 1)
  rw [show c - 1 + 1 = c by omega] at this
  exact this
/-- the component's tree at node k -/
def TrC (σ : St) (h : Nat → Int32) (n a k : Nat) (z : Int32 × St) : Prop := ∃ τ, z = (nI (tU h a k), τ) ∧ KpC σ τ ∧ (∀ b, b ≠ 0 → b ≠ 6 → τ 2 b = σ 2 b) ∧ τ 2 0 13 = σ 2 0 13 ∧ OkC τ (tP h a k) ∧ τ 2 0 15 = nI (tC h a k) ∧ ∀ m, m < tU h a k → τ 2 6 m = nI (tD h a k m)
theorem c_treeStep {σ : St} {j n a k : Nat} {h : Nat → Int32} (S : SrcC σ j n h) (hn : n ≤ 3200) (ha : a ≤ n) (hA : tAll h a k) (hk : tOk h (tP h a k)) (hU : 1 ≤ tU h a k) {z : Int32 × St} (I : TrC σ h n a k z) : ∃ z', B_X2_tree_22 z.1 z.2 = some (.inl z') ∧ TrC σ h n a (k + 1) z' := by
  have hB := S.2.2.2.2.1
  obtain ⟨τ, rfl, k1, k2, k3, k4, k5, k6⟩ := I
  have hx := tOk_lt hB hk
  have hg := tP_ge h a k
  have hu := tU_le h a k
  have hd := tD_le h a k (tU h a k - 1)
  have hc := tC_le h a k
  show ∃ z', B_X2_tree_22 (nI (tU h a k)) τ = some (.inl z') ∧ _
  unfold B_X2_tree_22
  rw [if_pos (by rw [k4.2]; decide), if_pos (show (0 : Int32) < nI (tU h a k) from nI_lt (a := 0) hU (by omega)), nI_c1 hU, rdo_nI (by omega) (by decide), some_b, k6 _ (by omega), nst_b, k5, imax_nI (by omega) (by omega)]
  have S2 := (k1.u0 (i := 15) (v := nI (max (tC h a k) (tD h a k (tU h a k - 1)))) (by decide) (by decide) (by decide)).src S
  have O2 : OkC (up3 τ 2 0 15 (nI (max (tC h a k) (tD h a k (tU h a k - 1))))) (tP h a k) := k4.u0 (by decide) (by decide)
  rw [c_here S2 O2.1 (by omega), some_b]
  by_cases q : h (tP h a k) = 63
  · rw [if_pos q, nst_b, wro_nI (by omega) (by decide), some_b, nI_1 (tD h a k (tU h a k - 1)), nI_1 (tU h a k - 1), show tU h a k - 1 + 1 = tU h a k by omega, wro_nI (by omega) (by decide), some_b]
    refine ⟨_, rfl, _, by rw [tU, if_pos q, nI_1], ((k1.u0 (by decide) (by decide) (by decide)).u0 (by decide) (by decide) (by decide)).uj (by decide) |>.uj (by decide), ?_, ?_, ?_, ?_, ?_⟩
    · intro b hb0 hb6
      rw [up3_j hb6, up3_j hb6, up3_j hb0, up3_j hb0, k2 b hb0 hb6]
    · rw [up3_j (by decide), up3_j (by decide), up3_i (by decide), up3_i (by decide), k3]
    · rw [tP, if_pos q, O2.1, nI_1]
      exact (O2.at.uj (by decide)).uj (by decide)
    · rw [up3_j (by decide), up3_j (by decide), up3_i (by decide), up3_same, tC]
    · intro m hm
      rw [tU, if_pos q] at hm
      rw [tD, if_pos q]
      unfold updN
      by_cases e1 : m = tU h a k
      · rw [if_pos e1, e1, up3_same]
      · rw [if_neg e1, up3_i e1]
        by_cases e2 : m = tU h a k - 1
        · rw [if_pos e2, e2, up3_same]
        · rw [if_neg e2, up3_i e2, up3_j (by decide), up3_j (by decide), k6 m (by omega)]
  · rcases hk with hk | ⟨hk1, hk2, hk3⟩
    · exact absurd hk q
    · have hx2 := hx.2 q
      rw [if_neg q, c_take' S2 O2 (by omega), if_pos hk1, some_b, c_digit (S2.u0 (by decide) (by decide)) O2.at (by omega), if_pos hk2, some_b, up3_up, c_digit (S2.u0 (by decide) (by decide)) O2.at (by omega), if_pos hk3, some_b, up3_up]
      refine ⟨_, rfl, _, by rw [tU, if_neg q], (k1.u0 (by decide) (by decide) (by decide)).u0 (by decide) (by decide) (by decide), ?_, ?_, ?_, ?_, ?_⟩
      · intro b hb0 hb6
        rw [up3_j hb0, up3_j hb0, k2 b hb0 hb6]
      · rw [up3_i (by decide), up3_i (by decide), k3]
      · rw [tP, if_neg q]
        exact O2.at
      · rw [up3_i (by decide), up3_same, tC]
      · intro m hm
        rw [tU, if_neg q] at hm
        rw [tD, if_neg q, up3_j (by decide), up3_j (by decide), k6 m (by omega)]
theorem c_treeBad {σ : St} {j n a k : Nat} {h : Nat → Int32} (S : SrcC σ j n h) (hn : n ≤ 3200) (ha : a ≤ n) (hA : tAll h a k) (hk : ¬ tOk h (tP h a k)) (hU : 1 ≤ tU h a k) {z : Int32 × St} (I : TrC σ h n a k z) : ∃ τ, iter (fun z => B_X2_tree_22 z.1 z.2) z = some τ ∧ KpC σ τ ∧ τ 2 1 = σ 2 1 ∧ CuC τ n (.inr (tEr h (tP h a k))) := by
  have hB := S.2.2.2.2.1
  obtain ⟨τ, rfl, k1, k2, k3, k4, k5, k6⟩ := I
  have hp := tP_le hB ha k hA
  have hg := tP_ge h a k
  have hu := tU_le h a k
  have hd := tD_le h a k (tU h a k - 1)
  have hc := tC_le h a k
  have q : ¬ h (tP h a k) = 63 := fun z => hk (Or.inl z)
  have S2 := (k1.u0 (i := 15) (v := nI (max (tC h a k) (tD h a k (tU h a k - 1)))) (by decide) (by decide) (by decide)).src S
  have O2 : OkC (up3 τ 2 0 15 (nI (max (tC h a k) (tD h a k (tU h a k - 1))))) (tP h a k) := k4.u0 (by decide) (by decide)
  have K2 : KpC σ (up3 τ 2 0 15 (nI (max (tC h a k) (tD h a k (tU h a k - 1))))) := k1.u0 (by decide) (by decide) (by decide)
  have e21 : (up3 τ 2 0 15 (nI (max (tC h a k) (tD h a k (tU h a k - 1))))) 2 1 = σ 2 1 := by rw [up3_j (by decide), k2 1 (by decide) (by decide)]
  have step : ∃ τ', B_X2_tree_22 (nI (tU h a k)) τ = some (.inl (nI (tU h a k - 1), τ')) ∧ KpC σ τ' ∧ τ' 2 1 = σ 2 1 ∧ CuC τ' n (.inr (tEr h (tP h a k))) := by
    unfold B_X2_tree_22
    rw [if_pos (by rw [k4.2]; decide), if_pos (show (0 : Int32) < nI (tU h a k) from nI_lt (a := 0) hU (by omega)), nI_c1 hU, rdo_nI (by omega) (by decide), some_b, k6 _ (by omega), nst_b, k5, imax_nI (by omega) (by omega)]
    generalize up3 τ 2 0 15 (nI (max (tC h a k) (tD h a k (tU h a k - 1)))) = ρ at S2 O2 K2 e21
    rw [c_here S2 O2.1 (by omega), some_b, if_neg q, c_take' S2 O2 hp]
    unfold tEr
    by_cases q1 : h (tP h a k) = 33
    · have hlt : tP h a k < n := hB.lt (by rw [q1]; decide)
      rw [if_pos q1, some_b, if_pos q1, c_digit (S2.u0 (by decide) (by decide)) O2.at (by omega)]
      by_cases q2 : d02 (h (tP h a k + 1))
      · have hlt2 : tP h a k + 1 < n := hB.lt (ge_pos q2.1 (by decide))
        rw [if_pos q2, if_pos q2, some_b, up3_up, c_digit (S2.u0 (by decide) (by decide)) O2.at (by omega)]
        have q3 : ¬ d19 (h (tP h a k + 2)) := fun z => hk (Or.inr ⟨q1, q2, z⟩)
        rw [if_neg q3, some_b]
        refine ⟨_, rfl, (K2.u0 (by decide) (by decide) (by decide)).u0 (by decide) (by decide) (by decide), ?_, O2.at.bad (by omega) (by omega)⟩
        rw [up3_j (by decide), up3_j (by decide), e21]
      · have hb := O2.at (b := tP h a k + 1) |>.bad (n := n) (w := tP h a k + 1) (by omega) (by omega)
        rw [if_neg q2, if_neg q2, some_b, c_skD (hb.neg (by omega)), some_b]
        refine ⟨_, rfl, (K2.u0 (by decide) (by decide) (by decide)).u0 (by decide) (by decide) (by decide), ?_, hb⟩
        rw [up3_j (by decide), up3_j (by decide), e21]
    · have hb := O2.bad (n := n) (w := tP h a k) (by omega) (by omega)
      rw [if_neg q1, if_neg q1, some_b, c_skD (hb.neg (by omega)), some_b, c_skD (hb.neg (by omega)), some_b]
      refine ⟨_, rfl, K2.u0 (by decide) (by decide) (by decide), ?_, hb⟩
      rw [up3_j (by decide), e21]
  obtain ⟨τ', e1, e2, e3, e4⟩ := step
  refine ⟨τ', ?_, e2, e3, e4⟩
  rw [iter_inl (show (fun z : Int32 × St => B_X2_tree_22 z.1 z.2) (nI (tU h a k), τ) = _ from e1)]
  refine iter_inr ?_
  show B_X2_tree_22 (nI (tU h a k - 1)) τ' = _
  unfold B_X2_tree_22
  rw [if_neg (e4.neg (by omega))]
theorem c_tree {σ : St} {j n a N : Nat} {h : Nat → Int32} (S : SrcC σ j n h) (O : OkC σ a) (hn : n ≤ 3200) (ha : a ≤ n) (hA : tAll h a N) : (tU h a N = 0 → Ret (F_X2_tree σ) (fun τ => KpC σ τ ∧ τ 2 1 = σ 2 1 ∧ CuC τ n (.inl (tP h a N)) ∧ τ 2 0 13 = nI a ∧ τ 2 0 14 = nI (tP h a N) ∧ τ 2 0 15 = nI (tC h a N))) ∧ (1 ≤ tU h a N → ¬ tOk h (tP h a N) → Ret (F_X2_tree σ) (fun τ => KpC σ τ ∧ τ 2 1 = σ 2 1 ∧ CuC τ n (.inr (tEr h (tP h a N))))) := by
  have hB := S.2.2.2.2.1
  have hp := tP_le hB ha N hA
  have K0 : KpC σ (up3 (up3 (up3 σ 2 0 13 (nI a)) 2 0 15 0) 2 6 0 0) := (((KpC.rf σ).u0 (by decide) (by decide) (by decide)).u0 (by decide) (by decide) (by decide)).uj (by decide)
  have O0 : OkC (up3 (up3 (up3 σ 2 0 13 (nI a)) 2 0 15 0) 2 6 0 0) a := ((O.u0 (by decide) (by decide)).u0 (by decide) (by decide)).uj (by decide)
  have e13 : up3 (up3 (up3 σ 2 0 13 (nI a)) 2 0 15 0) 2 6 0 0 2 0 13 = nI a := by rw [up3_j (by decide), up3_i (by decide), up3_same]
  have e15 : up3 (up3 (up3 σ 2 0 13 (nI a)) 2 0 15 0) 2 6 0 0 2 0 15 = 0 := by rw [up3_j (by decide), up3_same]
  have e6 : up3 (up3 (up3 σ 2 0 13 (nI a)) 2 0 15 0) 2 6 0 0 2 6 0 = 0 := by rw [up3_same]
  have e1 : up3 (up3 (up3 σ 2 0 13 (nI a)) 2 0 15 0) 2 6 0 0 2 1 = σ 2 1 := by rw [up3_j (by decide), up3_j (by decide), up3_j (by decide)]
  have eF : F_X2_tree σ = Option.bind (iter (fun z => B_X2_tree_22 z.1 z.2) ((1 : Int32), up3 (up3 (up3 σ 2 0 13 (nI a)) 2 0 15 0) 2 6 0 0)) (fun z126 => (nst (up3 z126 2 0 14 (z126 2 0 8))).bind (fun s1013 => some s1013)) := by
    unfold F_X2_tree
    rw [nst_b, O.1, nst_b, show (0 : Int32) = nI 0 from rfl, wro_nI (by decide) (by decide), some_b]
  rw [eF]
  generalize up3 (up3 (up3 σ 2 0 13 (nI a)) 2 0 15 0) 2 6 0 0 = ρ at K0 O0 e13 e15 e6 e1
  have S0 := K0.src S
  obtain ⟨z, I, e⟩ := iter_to (f := fun z : Int32 × St => B_X2_tree_22 z.1 z.2) (fun k z => TrC ρ h n a k z) N (fun k z hk I => c_treeStep S0 hn ha (fun i hi => hA i (by omega)) (hA k hk).1 (hA k hk).2 I) ((1 : Int32), ρ) ⟨ρ, rfl, KpC.rf ρ, fun _ _ _ => rfl, rfl, O0, e15, fun m hm => by
    have hm : m < 1 := hm
    rw [show m = 0 by omega, e6]
    rfl⟩
  rw [e]
  constructor
  · intro h0
    obtain ⟨τ, rfl, k1, k2, k3, k4, k5, k6⟩ := I
    have e2 : iter (fun z : Int32 × St => B_X2_tree_22 z.1 z.2) (nI (tU h a N), τ) = some τ := by
      refine iter_inr ?_
      show B_X2_tree_22 (nI (tU h a N)) τ = _
      unfold B_X2_tree_22
      rw [if_pos (by rw [k4.2]; decide), h0, if_neg (by decide)]
    rw [e2, some_b, nst_b]
    refine Ret.some ⟨(K0.tr k1).u0 (by decide) (by decide) (by decide), ?_, ⟨k4.u0 (by decide) (by decide), hp⟩, ?_, ?_, ?_⟩
    · rw [up3_j (by decide), k2 1 (by decide) (by decide), e1]
    · rw [up3_i (by decide), k3, e13]
    · rw [up3_same, k4.1]
    · rw [up3_i (by decide), k5]
  · intro hU hk
    obtain ⟨τ, e2, e3, e4, e5⟩ := c_treeBad S0 hn ha hA hk hU I
    rw [e2, some_b, nst_b]
    refine Ret.some ⟨(K0.tr e3).u0 (by decide) (by decide) (by decide), ?_, e5.u0 (by decide) (by decide)⟩
    rw [up3_j (by decide), e4, e1]
