/-! S7: free units and waiting calls; the best sending -/
set_option maxRecDepth 100000
theorem gd_l {l k : List Nat} {i : Nat} (h : i < l.length) : (l ++ k).getD i 0 = l.getD i 0 := by
  simp [List.getD, List.getElem?_append_left h]
theorem gd_r {l k : List Nat} : (l ++ k).getD l.length 0 = k.getD 0 0 := by
  rw [List.getD, List.getD, List.getElem?_append_right (Nat.le_refl _), Nat.sub_self]
noncomputable def flt (p : Nat → Prop) : Nat → List Nat
  | 0 => []
  | n + 1 => @ite _ (p n) (Classical.propDecidable _) (flt p n ++ [n]) (flt p n)
theorem flt_pos {p : Nat → Prop} {n : Nat} (h : p n) : flt p (n + 1) = flt p n ++ [n] := by rw [flt, if_pos h]
theorem flt_neg {p : Nat → Prop} {n : Nat} (h : ¬ p n) : flt p (n + 1) = flt p n := by rw [flt, if_neg h]
theorem flt_mem {p : Nat → Prop} : ∀ {n i : Nat}, i < (flt p n).length → (flt p n).getD i 0 < n ∧ p ((flt p n).getD i 0) := by
  intro n
  induction n with
  | zero => intro i h; exact absurd h (Nat.not_lt_zero i)
  | succ n ih =>
    intro i h
    by_cases q : p n
    · rw [flt_pos q] at h ⊢
      rw [List.length_append] at h
      by_cases z : i < (flt p n).length
      · have := ih z
        rw [gd_l z]
        exact ⟨by omega, this.2⟩
      · have e : i = (flt p n).length := by
          have : [n].length = 1 := rfl
          omega
        rw [e, gd_r]
        exact ⟨Nat.lt_succ_self n, q⟩
    · rw [flt_neg q] at h ⊢
      have := ih h
      exact ⟨by omega, this.2⟩
theorem flt_len {p : Nat → Prop} : ∀ n, (flt p n).length ≤ n := by
  intro n
  induction n with
  | zero => exact Nat.le_refl _
  | succ n ih =>
    by_cases q : p n
    · rw [flt_pos q, List.length_append]; have : [n].length = 1 := rfl; omega
    · rw [flt_neg q]; omega
theorem flt_mono {p : Nat → Prop} : ∀ {n k : Nat}, k ≤ n → (flt p k).length ≤ (flt p n).length := by
  intro n
  induction n with
  | zero => intro k h; rw [show k = 0 by omega]; exact Nat.le_refl _
  | succ n ih =>
    intro k h
    by_cases e : k = n + 1
    · rw [e]; exact Nat.le_refl _
    · have h1 := ih (k := k) (by omega)
      by_cases q : p n
      · rw [flt_pos q, List.length_append]; omega
      · rw [flt_neg q]; exact h1
theorem flt_sum {p : Nat → Prop} {f : Nat → Nat} (h : ∀ q, p q → 1 ≤ f q) : ∀ n, (flt p n).length ≤ sumN f n := by
  intro n
  induction n with
  | zero => exact Nat.le_refl _
  | succ n ih =>
    rw [sumN]
    by_cases q : p n
    · rw [flt_pos q, List.length_append]
      have := h n q
      have : [n].length = 1 := rfl
      omega
    · rw [flt_neg q]; omega
/-- strictly rising -/
theorem flt_inj {p : Nat → Prop} : ∀ {n i j : Nat}, i < j → j < (flt p n).length → (flt p n).getD i 0 < (flt p n).getD j 0 := by
  intro n
  induction n with
  | zero => intro i j _ h; exact absurd h (Nat.not_lt_zero j)
  | succ n ih =>
    intro i j hij h
    by_cases q : p n
    · rw [flt_pos q] at h ⊢
      rw [List.length_append] at h
      have h1 : [n].length = 1 := rfl
      by_cases z : j < (flt p n).length
      · rw [gd_l z, gd_l (by omega)]
        exact ih hij z
      · have e : j = (flt p n).length := by omega
        rw [gd_l (show i < (flt p n).length by omega), e, gd_r]
        exact (flt_mem (by omega)).1
    · rw [flt_neg q] at h ⊢
      exact ih hij h
/-- a loop that collects -/
def FrP (σ τ : St) (g J ci : Nat) : Prop := ∀ a b i, ¬ (a = g ∧ (b = J ∨ (b = 0 ∧ i = ci))) → τ a b i = σ a b i
theorem lp_coll {σ : St} {g ci J n : Nat} {p : Nat → Prop} (hJ : J ≠ 0) (h0 : σ g 0 ci = 0) {f : Int32 × St → Option ((Int32 × St) ⊕ St)} (hs : ∀ k τ, k < n → FrP σ τ g J ci → τ g 0 ci = nI (flt p k).length → f (nI k, τ) = some (.inl (nI (k + 1), @ite _ (p k) (Classical.propDecidable _) (up3 (up3 τ g 0 ci (nI ((flt p k).length + 1))) g J (flt p k).length (nI k)) τ))) (he : ∀ τ, FrP σ τ g J ci → f (nI n, τ) = some (.inr τ)) : Ret (iter f (nI 0, σ)) (fun τ => FrP σ τ g J ci ∧ τ g 0 ci = nI (flt p n).length ∧ ∀ i, i < (flt p n).length → τ g J i = nI ((flt p n).getD i 0)) := by
  refine iter_cnt (fun k (τ : St) => (nI k, τ)) (fun k τ => FrP σ τ g J ci ∧ τ g 0 ci = nI (flt p k).length ∧ ∀ i, i < (flt p k).length → τ g J i = nI ((flt p k).getD i 0)) n ?_ ?_ σ ⟨fun _ _ _ _ => rfl, h0, fun i hi => absurd hi (Nat.not_lt_zero i)⟩
  · rintro k τ hk ⟨h1, h2, h3⟩
    rw [hs k τ hk h1 h2]
    by_cases q : p k
    · rw [if_pos q, flt_pos q]
      refine Ret.some ⟨_, rfl, ?_, ?_, ?_⟩
      · intro a b i hi
        unfold up3
        rw [if_neg (fun z => hi ⟨z.1, Or.inl z.2.1⟩), if_neg (fun z => hi ⟨z.1, Or.inr z.2⟩)]
        exact h1 a b i hi
      · rw [up3_j (fun z => hJ z.symm), up3_same, List.length_append]
        rfl
      · intro i hi
        rw [List.length_append] at hi
        have h4 : [k].length = 1 := rfl
        by_cases z : i < (flt p k).length
        · rw [up3_i (by omega), up3_j hJ, gd_l z]
          exact h3 i z
        · have e : i = (flt p k).length := by omega
          rw [e, up3_same, gd_r]
          rfl
    · rw [if_neg q, flt_neg q]
      exact Ret.some ⟨_, rfl, h1, h2, h3⟩
  · rintro τ ⟨h1, h2, h3⟩
    rw [he τ h1]
    exact Ret.some ⟨h1, h2, h3⟩
/-- the free units, the waiting calls -/
noncomputable abbrev fL (m : Nat → Int32) : List Nat := flt (frU m) (cn (m 2))
noncomputable abbrev wLs (m : Nat → Int32) : List Nat := flt (wtC m) (cn (m 3))
noncomputable abbrev nU (m : Nat → Int32) : Nat := (fL m).length
noncomputable abbrev nC (m : Nat → Int32) : Nat := (wLs m).length
noncomputable abbrev fr (m : Nat → Int32) (i : Nat) : Nat := (fL m).getD i 0
noncomputable abbrev wt (m : Nat → Int32) (j : Nat) : Nat := (wLs m).getD j 0
theorem nU_6 {m : Nat → Int32} {b : Nat} (R : RokB m b) : nU m ≤ 6 := by
  have h1 := flt_len (p := frU m) (cn (m 2))
  have h2 := R.1.2.2.1.2
  show (flt (frU m) (cn (m 2))).length ≤ 6
  omega
theorem nC_6 {m : Nat → Int32} {b : Nat} (R : RokB m b) : nC m ≤ 6 := by
  have h1 := flt_sum (p := fun q => wtC m q) (f := fun q => cn (m (160 + 6 * q + 3))) (by
    intro q hq
    have := hq.1.2
    show 1 ≤ cn (m (160 + 6 * q + 3))
    rw [this]
    decide) (cn (m 3))
  have h2 := R.2.1.2.2.2.2.2.2.2
  exact Nat.le_trans h1 h2
theorem fr_ok {m : Nat → Int32} {i : Nat} (h : i < nU m) : fr m i < cn (m 2) ∧ frU m (fr m i) := flt_mem h
theorem wt_ok {m : Nat → Int32} {j : Nat} (h : j < nC m) : wt m j < cn (m 3) ∧ wtC m (wt m j) := flt_mem h
abbrev cpl (m : Nat → Int32) (q : Nat) : Nat := cn (m (160 + 6 * q))
noncomputable abbrev wyP (m : Nat → Int32) (i j : Nat) : Nat := wyN m (fr m i) (cpl m (wt m j))
noncomputable abbrev rkP (m : Nat → Int32) (j : Nat) : Nat := cn (m (160 + 6 * wt m j + 2))
/-- the i-th free unit can go to the j-th waiting call -/
def vdP (m : Nat → Int32) (i j : Nat) : Prop := hsk m (fr m i) (wt m j) ∧ wyP m i j < 1000000
noncomputable def wN (m : Nat → Int32) (i j : Nat) : Nat := 1000000 * rkP m j - wyP m i j
theorem wt_bd {m : Nat → Int32} (R : Rok m) {j : Nat} (h : j < nC m) : cpl m (wt m j) < cn (m 0) ∧ 1 ≤ rkP m j ∧ rkP m j ≤ 9 ∧ m (160 + 6 * wt m j) = nI (cpl m (wt m j)) ∧ m (160 + 6 * wt m j + 2) = nI (rkP m j) := by
  obtain ⟨w1, -, w2, -⟩ := R.1.2.2.2.2.2.2.2.2.2.2 (wt m j) (wt_ok h).1
  exact ⟨w1.2, w2.2, w2.1.2, w1.1.1, w2.1.1⟩
theorem wyP_bd {m : Nat → Int32} (R : Rok m) {i j : Nat} (hi : i < nU m) (hj : j < nC m) : wyP m i j ≤ 1000000 ∧ (vdP m i j → wyP m i j ≤ 7992) := by
  have := wyN_bd R.1 (u := fr m i) (p := cpl m (wt m j)) (fr_ok hi).1 (wt_bd R hj).1
  exact ⟨this.1, fun z => this.2 z.2⟩
theorem wN_bd {m : Nat → Int32} (R : Rok m) {i j : Nat} (hi : i < nU m) (hj : j < nC m) (hv : vdP m i j) : 1 ≤ wN m i j ∧ wN m i j ≤ 9000000 ∧ wN m i j + wyP m i j = 1000000 * rkP m j := by
  have h1 := (wyP_bd R hi hj).2 hv
  have h2 := wt_bd R hj
  unfold wN
  omega
/-- the worth as it stands in the component's table -/
noncomputable def wI (m : Nat → Int32) (i j : Nat) : Int32 := @ite _ (vdP m i j) (Classical.propDecidable _) (nI (wN m i j)) (-1)
/-- allowed: the call is not left out, the unit fits and isn't taken -/
def alP (m : Nat → Int32) (wo : Int32) (j t x : Nat) : Prop := ¬ nI j = wo ∧ vdP m t j ∧ x.testBit t = false
noncomputable def mxF (m : Nat → Int32) (wo : Int32) (V : Nat → Nat) (j x : Nat) : Nat → Nat
  | 0 => V x
  | t + 1 => @ite _ (alP m wo j t x) (Classical.propDecidable _) (max (mxF m wo V j x t) (wN m t j + V (x ||| 2 ^ t))) (mxF m wo V j x t)
noncomputable def VV (m : Nat → Int32) (wo : Int32) : Nat → Nat → Nat
  | 0 => fun _ => 0
  | d + 1 => fun x => mxF m wo (VV m wo d) (nC m - (d + 1)) x (nU m)
theorem mxF_bd {m : Nat → Int32} (R : Rok m) {wo : Int32} {V : Nat → Nat} {j x B : Nat} (hj : j < nC m) (hV : ∀ x, V x ≤ B) : ∀ t, t ≤ nU m → mxF m wo V j x t ≤ B + 9000000 := by
  intro t
  induction t with
  | zero => intro _; have := hV x; exact Nat.le_trans this (Nat.le_add_right _ _)
  | succ t ih =>
    intro ht
    have h1 := ih (by omega)
    rw [mxF]
    by_cases q : alP m wo j t x
    · rw [if_pos q]
      have h2 := (wN_bd R (show t < nU m by omega) hj q.2.1).2.1
      have h3 := hV (x ||| 2 ^ t)
      omega
    · rw [if_neg q]; exact h1
theorem VV_bd {m : Nat → Int32} (R : Rok m) (wo : Int32) : ∀ d, d ≤ nC m → ∀ x, VV m wo d x ≤ 9000000 * d := by
  intro d
  induction d with
  | zero => intro _ x; exact Nat.le_refl _
  | succ d ih =>
    intro hd x
    have := mxF_bd R (wo := wo) (V := VV m wo d) (j := nC m - (d + 1)) (x := x) (B := 9000000 * d) (by omega) (ih (by omega)) (nU m) (Nat.le_refl _)
    show mxF m wo (VV m wo d) (nC m - (d + 1)) x (nU m) ≤ _
    omega
theorem mxF_ge {m : Nat → Int32} {wo : Int32} {V : Nat → Nat} {j x : Nat} : ∀ {t k : Nat}, k ≤ t → mxF m wo V j x k ≤ mxF m wo V j x t := by
  intro t
  induction t with
  | zero => intro k h; rw [show k = 0 by omega]; exact Nat.le_refl _
  | succ t ih =>
    intro k h
    by_cases e : k = t + 1
    · rw [e]; exact Nat.le_refl _
    · have h1 := ih (k := k) (by omega)
      have h2 : mxF m wo V j x t ≤ mxF m wo V j x (t + 1) := by
        rw [mxF]
        by_cases q : alP m wo j t x
        · rw [if_pos q]; omega
        · rw [if_neg q]; exact Nat.le_refl _
      omega
theorem mxF_al {m : Nat → Int32} {wo : Int32} {V : Nat → Nat} {j x t n : Nat} (ht : t < n) (q : alP m wo j t x) : wN m t j + V (x ||| 2 ^ t) ≤ mxF m wo V j x n := by
  have h1 : wN m t j + V (x ||| 2 ^ t) ≤ mxF m wo V j x (t + 1) := by
    rw [mxF, if_pos q]; omega
  exact Nat.le_trans h1 (mxF_ge (by omega))
theorem mxF_at {m : Nat → Int32} {wo : Int32} {V : Nat → Nat} {j x : Nat} : ∀ n, mxF m wo V j x n = V x ∨ ∃ t, t < n ∧ alP m wo j t x ∧ mxF m wo V j x n = wN m t j + V (x ||| 2 ^ t) := by
  intro n
  induction n with
  | zero => exact Or.inl rfl
  | succ n ih =>
    rw [mxF]
    by_cases q : alP m wo j n x
    · rw [if_pos q]
      by_cases z : mxF m wo V j x n ≤ wN m n j + V (x ||| 2 ^ n)
      · exact Or.inr ⟨n, by omega, q, by omega⟩
      · rw [Nat.max_eq_left (by omega)]
        rcases ih with e | ⟨t, t1, t2, t3⟩
        · exact Or.inl e
        · exact Or.inr ⟨t, by omega, t2, t3⟩
    · rw [if_neg q]
      rcases ih with e | ⟨t, t1, t2, t3⟩
      · exact Or.inl e
      · exact Or.inr ⟨t, by omega, t2, t3⟩
/-- the choice at call j = nC - (d + 1): the lowest unit that reaches the best, nU for none -/
def okA (m : Nat → Int32) (wo : Int32) (d x t : Nat) : Prop := t < nU m ∧ alP m wo (nC m - (d + 1)) t x ∧ wN m t (nC m - (d + 1)) + VV m wo d (x ||| 2 ^ t) = VV m wo (d + 1) x
noncomputable def amN (m : Nat → Int32) (wo : Int32) (d x : Nat) : Nat := @dite _ (∃ t, okA m wo d x t ∧ ∀ k, k < t → ¬ okA m wo d x k) (Classical.propDecidable _) (fun h => Classical.choose h) (fun _ => nU m)
theorem amN_cases (m : Nat → Int32) (wo : Int32) (d x : Nat) : (okA m wo d x (amN m wo d x) ∧ ∀ k, k < amN m wo d x → ¬ okA m wo d x k) ∨ (amN m wo d x = nU m ∧ ∀ t, ¬ okA m wo d x t) := by
  unfold amN
  by_cases h : ∃ t, okA m wo d x t ∧ ∀ k, k < t → ¬ okA m wo d x k
  · rw [dif_pos h]
    exact Or.inl (Classical.choose_spec h)
  · rw [dif_neg h]
    refine Or.inr ⟨rfl, ?_⟩
    intro t ht
    obtain ⟨k, k1, k2⟩ := pk_least _ ⟨t, ht⟩
    exact h ⟨k, k1, k2⟩
/-- the mask behind a choice -/
noncomputable def nxX (m : Nat → Int32) (x t : Nat) : Nat := x ||| (if t < (flt (frU m) (cn (m 2))).length then 2 ^ t else 0)
