/-! S9: doing what is told: the spec, the component -/
set_option maxRecDepth 100000
/-- the row behind a command -/
noncomputable def pfR (m : Nat → Int32) (s : Nat) (K : Nat → Nat → Int32) (D : Nat → Int32) (w : Nat) (A : Nat → Nat) (y : Nat → Int32) (Kk : Nat) (v : Nat → Int32) (N : Nat) : Nat → Int32 :=
  if w = 0 then bgR (A 0) else if w = 1 then asR m (A 0) (A 1) (A 2) 0 else if w = 2 then asR m (A 0) (A 1) (A 2) 1
  else if w = 3 then setm m (10 + 5 * A 0 + 4) 0 else if w = 4 then setm m (10 + 5 * A 0 + 4) 1 else if w = 5 then auR m (A 0) (A 1)
  else if w = 6 then setm m (110 + 8 * A 0 + 5) 4 else if w = 7 then setm m (110 + 8 * A 0 + 5) 0 else if w = 8 then ptR m (A 0) (A 1)
  else if w = 9 then caR m (A 0) (A 1) (A 2) else if w = 10 then sR m (gc m) (nC m) else if w = 11 then sdR m (A 0) (A 1) else if w = 12 then enR m (A 0)
  else if w = 13 then kdR m N v else if w = 14 then caR m (A 0) (cn (wkV m (A 1) y Kk) / 10) (cn (wkV m (A 1) y Kk) % 10)
  else if w = 15 then nmR m (A 0) Kk y else if w = 16 then hoR m (A 0) (A 1) (A 2) else if w = 17 then awR m (A 0) (A 1) (A 2) else if w = 18 then shR m
  else if w = 19 then tickN m (A 0) else if w = 20 then K (s - 1) else if w = 22 then D else m
noncomputable def pfT (m : Nat → Int32) (w : Nat) (A : Nat → Nat) (y : Nat → Int32) (Kk : Nat) : List Int32 :=
  if w = 9 then caT m (A 0) (A 1) else if w = 10 then plT m (gc m) else if w = 13 then aTx 29 ++ numL (nI (cn (m 7))) else if w = 14 then caT m (A 0) (cn (wkV m (A 1) y Kk) / 10) else aTx 0
def isS (w : Nat) : Prop := w ≠ 0 ∧ w < 20
noncomputable def pfS (s w : Nat) : Nat := if w = 20 then s - 1 else @ite _ (isS w) (Classical.propDecidable _) (kpS s) 0
noncomputable def pfK (m : Nat → Int32) (s w : Nat) (K : Nat → Nat → Int32) : Nat → Nat → Int32 := @ite _ (isS w) (Classical.propDecidable _) (kpK m s K) K
def pfD (m : Nat → Int32) (w : Nat) (D : Nat → Int32) : Nat → Int32 := if w = 21 then m else D
def pfd (w : Nat) (d : Int32) : Int32 := if w = 0 ∨ w = 22 then 0 else if w = 21 then 1 else d
theorem pf_st {s w : Nat} {m : Nat → Int32} {K : Nat → Nat → Int32} {D : Nat → Int32} {d : Int32} (h : isS w) : pfS s w = kpS s ∧ pfK m s w K = kpK m s K ∧ pfD m w D = D ∧ pfd w d = d := by
  have h1 := h.1
  have h2 := h.2
  unfold pfS pfK pfD pfd
  rw [if_neg (by omega), if_pos h, if_pos h, if_neg (by omega), if_neg (by omega), if_neg (by omega)]
  exact ⟨rfl, rfl, rfl, rfl⟩
def FrPf (σ τ : St) : Prop := (∀ a, a ≠ 0 → a ≠ 1 → a ≠ 3 → a ≠ 4 → a ≠ 10 → (a < 14 ∨ 20 ≤ a) → τ a = σ a) ∧ (∀ b, b ≠ 0 → τ 0 b = σ 0 b) ∧ ∀ i, i < 18 ∨ 20 < i → τ 0 0 i = σ 0 0 i
theorem FrPf.rf (σ : St) : FrPf σ σ := ⟨fun _ _ _ _ _ _ _ => rfl, fun _ _ => rfl, fun _ _ => rfl⟩
theorem FrPf.tr {σ τ υ : St} (a : FrPf σ τ) (b : FrPf τ υ) : FrPf σ υ := ⟨fun x h0 h1 h3 h4 h10 h => (b.1 x h0 h1 h3 h4 h10 h).trans (a.1 x h0 h1 h3 h4 h10 h), fun x h => (b.2.1 x h).trans (a.2.1 x h), fun i h => (b.2.2 i h).trans (a.2.2 i h)⟩
theorem FrPf.g3 {σ τ : St} (h : ∀ a, a ≠ 1 → a ≠ 3 → a ≠ 4 → a ≠ 10 → τ a = σ a) : FrPf σ τ := ⟨fun x _ h1 h3 h4 h10 _ => h x h1 h3 h4 h10, fun b _ => by rw [h 0 (by decide) (by decide) (by decide) (by decide)], fun i _ => by rw [h 0 (by decide) (by decide) (by decide) (by decide)]⟩
def PfC (σ : St) (m : Nat → Int32) (s : Nat) (K : Nat → Nat → Int32) (D : Nat → Int32) (d : Int32) (l : List Int32) (τ : St) : Prop := AbC τ m s K D d ∧ TxC σ τ l ∧ FrPf σ τ
theorem c_sayOk {σ : St} {k : Nat} (hs : szC σ k) (hk : k ≤ 3900) : F_X1_say 32 σ = some (appC σ (aTx 0)) := by
  have t : sTx 32 = aTx 0 := tx_eq (32, 0) (by decide)
  have hl := tx_len 0 (by decide)
  have := f_sayC (σ := σ) (n := k) (i := 32) (by decide) hs (by rw [t]; omega)
  rw [t] at this
  exact this
theorem AbC.app {σ : St} {m : Nat → Int32} {s : Nat} {K : Nat → Nat → Int32} {D : Nat → Int32} {d : Int32} {l : List Int32} (A : AbC σ m s K D d) : AbC (appC σ l) m s K D d := A.fr (appC_g (by decide)) (appC_g (by decide)) (appC_g (by decide)) (fun k hk => appC_g (by omega)) (fun i _ _ => by rw [appC_g (by decide)])
/-- a step that ends with ok -/
theorem c_pfOk {σ : St} {m m' : Nat → Int32} {s k : Nat} {K : Nat → Nat → Int32} {D : Nat → Int32} {d : Int32} {X : St → Option St} (A : AbC σ m s K D d) (W : AbW m s K D d) (hs : szC σ k) (hk : k ≤ 3900) (hX : ∀ z, HH (z 3) m → z 2 = σ 2 → z 6 = σ 6 → (∀ b, b ≠ 0 → z 0 b = σ 0 b) → Ret (X z) (fun τ => (∀ a, a ≠ 3 → τ a = z a) ∧ HH (τ 3) m')) : Ret (((F_X0_keep σ).bind (fun s2 => some s2)).bind (fun z39 => bindL ((X z39).bind (fun s7 => some (.inl s7))) (fun z561 => (F_X1_say 32 z561).bind (fun s1038 => some s1038)))) (PfC σ m' (kpS s) (kpK m s K) D d (aTx 0)) := by
  refine Ret.bind (Ret.bind (c_keepA A W) (fun b hb => Ret.some (Q := fun τ => AbC τ m (kpS s) (kpK m s K) D d ∧ (∀ a, a ≠ 0 → a < 14 ∨ 20 ≤ a → τ a = σ a) ∧ (∀ b, b ≠ 0 → τ 0 b = σ 0 b) ∧ ∀ i, i ≠ 18 → i ≠ 19 → τ 0 0 i = σ 0 0 i) hb)) ?_
  rintro z ⟨z1, z2, z3, z4⟩
  obtain ⟨τ, t1, t2, t3⟩ := hX z z1.1 (z2 2 (by decide) (by decide)) (z2 6 (by decide) (by decide)) z3
  have ht1 : τ 1 = σ 1 := by rw [t2 1 (by decide), z2 1 (by decide) (by decide)]
  have hst : szC τ k := by unfold szC; rw [ht1]; exact hs
  rw [t1, some_b, bindL_inl, c_sayOk hst hk, some_b]
  have A2 : AbC τ m' (kpS s) (kpK m s K) D d := z1.row' t3 (fun a _ h3 => t2 a h3)
  refine Ret.some ⟨A2.app, ((TxC.rf σ).g ht1).app, ?_⟩
  refine ⟨?_, ?_, ?_⟩
  · intro a h0 h1 h3 h4 h10 h
    rw [appC_g h1, t2 a h3, z2 a h0 h]
  · intro b hb
    rw [appC_g (by decide), t2 0 (by decide), z3 b hb]
  · intro i hi
    rw [appC_g (by decide), t2 0 (by decide), z4 i (by omega) (by omega)]
/-- what a command finds behind its numbers -/
def BtP (σ : St) (w j a Kk n N : Nat) (h y : Nat → Int32) : Prop := (w = 14 ∨ w = 15 → (j = 1 ∨ j = 2 ∨ j = 3) ∧ σ 2 0 6 = nI j ∧ σ 2 0 13 = nI a ∧ σ 2 0 14 = nI (a + Kk) ∧ a + Kk ≤ lenB j ∧ ∀ i, i < Kk → σ 0 j (a + i) = y i) ∧ (w = 15 → ∀ i, i < Kk → ∃ l, 97 ≤ l ∧ l ≤ 122 ∧ y i = nI l) ∧ (w = 13 → (j = 1 ∨ j = 2 ∨ j = 3) ∧ σ 2 0 6 = nI j ∧ σ 2 0 13 = nI a ∧ σ 2 0 14 = nI n ∧ a ≤ n ∧ n ≤ lenB j ∧ n ≤ a + 200 ∧ Byt h n ∧ (∀ i, i < n → σ 0 j i &&& 255 = h i ∧ b8 (σ 0 j i) = σ 0 j i) ∧ tAll h a N ∧ tU h a N = 0 ∧ tP h a N = n)
theorem c_kept {σ : St} {m : Nat → Int32} {s : Nat} {K : Nat → Nat → Int32} {D : Nat → Int32} {d : Int32} {G : St → Option St} {Q : St → Prop} (A : AbC σ m s K D d) (W : AbW m s K D d) (hG : ∀ z, AbC z m (kpS s) (kpK m s K) D d → (∀ a, a ≠ 0 → a < 14 ∨ 20 ≤ a → z a = σ a) → (∀ b, b ≠ 0 → z 0 b = σ 0 b) → FrPf σ z → Ret (G z) Q) : Ret (((F_X0_keep σ).bind (fun s2 => some s2)).bind G) Q := by
  refine Ret.bind (Ret.bind (c_keepA A W) (fun b hb => Ret.some (Q := fun τ => AbC τ m (kpS s) (kpK m s K) D d ∧ (∀ a, a ≠ 0 → a < 14 ∨ 20 ≤ a → τ a = σ a) ∧ (∀ b, b ≠ 0 → τ 0 b = σ 0 b) ∧ ∀ i, i ≠ 18 → i ≠ 19 → τ 0 0 i = σ 0 0 i) hb)) ?_
  rintro z ⟨z1, z2, z3, z4⟩
  exact hG z z1 z2 z3 ⟨fun a h0 _ _ _ _ h => z2 a h0 h, z3, fun i hi => z4 i (by omega) (by omega)⟩
theorem rfS_cases {m : Nat → Int32} {s : Nat} {d : Int32} {A : Nat → Nat} {y : Nat → Int32} {K dp : Nat} {w : Nat} (R : Rok m) (h : rfS m s d w A y K dp = 0) : (w = 0 → 2 ≤ A 0 ∧ A 0 ≤ 8) ∧ (w = 1 ∨ w = 2 → (A 0 < cn (m 0) ∧ A 1 < cn (m 0) ∧ ¬ A 0 = A 1) ∧ (1 ≤ A 2 ∧ A 2 ≤ 999) ∧ cn (m 1) < 20) ∧ (w = 3 ∨ w = 4 → A 0 < cn (m 1)) ∧ (w = 5 → A 0 < cn (m 0) ∧ A 1 ≤ 7 ∧ cn (m 2) < 6) ∧ (w = 6 ∨ w = 7 → A 0 < cn (m 2) ∧ (m (110 + 8 * A 0 + 5) = 0 ∨ m (110 + 8 * A 0 + 5) = 4)) ∧ (w = 8 → A 0 < cn (m 2) ∧ A 1 < cn (m 0) ∧ ¬ m (110 + 8 * A 0 + 5) = 4) := by
  have b1 := R.1.2.1.2
  have b2 := R.1.2.2.1.2
  refine ⟨?_, ?_, ?_, ?_, ?_, ?_⟩
  · intro e
    subst e
    have h : (if 2 ≤ A 0 ∧ A 0 ≤ 8 then 0 else 4) = 0 := h
    by_cases q : 2 ≤ A 0 ∧ A 0 ≤ 8
    · exact q
    · rw [if_neg q] at h; omega
  · intro e
    have h : (if A 0 < cn (m 0) ∧ A 1 < cn (m 0) ∧ ¬ A 0 = A 1 then (if 1 ≤ A 2 ∧ A 2 ≤ 999 then (if cn (m 1) = 20 then 7 else 0) else 6) else 5) = 0 := by rcases e with e | e <;> subst e <;> exact h
    by_cases q : A 0 < cn (m 0) ∧ A 1 < cn (m 0) ∧ ¬ A 0 = A 1
    · rw [if_pos q] at h
      by_cases q2 : 1 ≤ A 2 ∧ A 2 ≤ 999
      · rw [if_pos q2] at h
        by_cases q3 : cn (m 1) = 20
        · rw [if_pos q3] at h; omega
        · exact ⟨q, q2, by omega⟩
      · rw [if_neg q2] at h; omega
    · rw [if_neg q] at h; omega
  · intro e
    have h : (if A 0 < cn (m 1) then (if m (10 + 5 * A 0 + 4) = (if w = 4 then 1 else 0) then 9 else 0) else 8) = 0 := by rcases e with e | e <;> subst e <;> exact h
    by_cases q : A 0 < cn (m 1)
    · exact q
    · rw [if_neg q] at h; omega
  · intro e
    subst e
    have h : (if A 0 < cn (m 0) then (if 1 ≤ A 1 ∧ A 1 ≤ 7 then (if cn (m 2) = 6 then 7 else 0) else 10) else 5) = 0 := h
    by_cases q : A 0 < cn (m 0)
    · rw [if_pos q] at h
      by_cases q2 : 1 ≤ A 1 ∧ A 1 ≤ 7
      · rw [if_pos q2] at h
        by_cases q3 : cn (m 2) = 6
        · rw [if_pos q3] at h; omega
        · exact ⟨q, by omega, by omega⟩
      · rw [if_neg q2] at h; omega
    · rw [if_neg q] at h; omega
  · intro e
    have h : (if A 0 < cn (m 2) then (if m (110 + 8 * A 0 + 5) = 0 ∨ m (110 + 8 * A 0 + 5) = 4 then (if m (110 + 8 * A 0 + 5) = (if w = 6 then 4 else 0) then 9 else 0) else 12) else 11) = 0 := by rcases e with e | e <;> subst e <;> exact h
    by_cases q : A 0 < cn (m 2)
    · rw [if_pos q] at h
      by_cases q2 : m (110 + 8 * A 0 + 5) = 0 ∨ m (110 + 8 * A 0 + 5) = 4
      · exact ⟨q, q2⟩
      · rw [if_neg q2] at h; omega
    · rw [if_neg q] at h; omega
  · intro e
    subst e
    have h : (if A 0 < cn (m 2) then (if A 1 < cn (m 0) then (if m (110 + 8 * A 0 + 5) = 4 then 13 else if m (110 + 8 * A 0) = nI (A 1) then 9 else 0) else 5) else 11) = 0 := h
    by_cases q : A 0 < cn (m 2)
    · rw [if_pos q] at h
      by_cases q2 : A 1 < cn (m 0)
      · rw [if_pos q2] at h
        by_cases q3 : m (110 + 8 * A 0 + 5) = 4
        · rw [if_pos q3] at h; omega
        · exact ⟨q, q2, q3⟩
      · rw [if_neg q2] at h; omega
    · rw [if_neg q] at h; omega
theorem rfS_cas2 {m : Nat → Int32} {s : Nat} {d : Int32} {A : Nat → Nat} {y : Nat → Int32} {K dp : Nat} {w : Nat} (R : Rok m) (hd : d = 0 ∨ d = 1) (h : rfS m s d w A y K dp = 0) : (w = 9 → A 0 < cn (m 0) ∧ A 1 ≤ 2 ∧ (1 ≤ A 2 ∧ A 2 ≤ 9) ∧ rfCall m (A 0) (A 1) = 0) ∧ (w = 11 → A 0 < cn (m 2) ∧ ¬ busy m (A 0) ∧ wtC m (A 1)) ∧ (w = 12 → A 0 < cn (m 3)) ∧ (w = 13 → cn (m 7) < 8) ∧ (w = 14 → A 0 < cn (m 0) ∧ A 1 < cn (m 7) ∧ ¬ wkV m (A 1) y K < 0 ∧ rfCall m (A 0) (cn (wkV m (A 1) y K) / 10) = 0) ∧ (w = 15 → A 0 < cn (m 0) ∧ K ≤ 12) ∧ (w = 16 → A 0 < cn (m 1) ∧ A 1 ≤ 23 ∧ A 2 ≤ 23) ∧ (w = 17 → A 0 < cn (m 2)) ∧ (w = 19 → 1 ≤ A 0 ∧ A 0 ≤ 3600 ∧ cn (m 4) + A 0 ≤ 1000000) ∧ (w = 20 → 1 ≤ s) ∧ (w = 22 → d = 1) := by
  have b7 := R.1.2.2.2.2.2.1.2
  refine ⟨?_, ?_, ?_, ?_, ?_, ?_, ?_, ?_, ?_, ?_, ?_⟩
  · intro e
    subst e
    have h : (if A 0 < cn (m 0) then (if A 1 ≤ 2 then (if 1 ≤ A 2 ∧ A 2 ≤ 9 then rfCall m (A 0) (A 1) else 14) else 10) else 5) = 0 := h
    by_cases q : A 0 < cn (m 0)
    · rw [if_pos q] at h
      by_cases q2 : A 1 ≤ 2
      · rw [if_pos q2] at h
        by_cases q3 : 1 ≤ A 2 ∧ A 2 ≤ 9
        · rw [if_pos q3] at h; exact ⟨q, q2, q3, h⟩
        · rw [if_neg q3] at h; omega
      · rw [if_neg q2] at h; omega
    · rw [if_neg q] at h; omega
  · intro e
    subst e
    have h : rfGo m (A 0) (A 1) = 0 := h
    unfold rfGo at h
    by_cases q1 : A 0 < cn (m 2)
    · rw [if_pos q1] at h
      by_cases q2 : opC m (A 1)
      · rw [if_pos q2] at h
        by_cases q3 : frU m (A 0)
        · rw [if_pos q3] at h
          by_cases q4 : wtC m (A 1)
          · exact ⟨q1, fr_nb q3.1, q4⟩
          · rw [wtI_neg q4, if_neg (by decide)] at h; omega
        · rw [if_neg q3] at h; omega
      · rw [if_neg q2] at h; omega
    · rw [if_neg q1] at h; omega
  · intro e
    subst e
    have h : (if opC m (A 0) then 0 else 15) = 0 := h
    by_cases q : opC m (A 0)
    · exact q.1
    · rw [if_neg q] at h; omega
  · intro e
    subst e
    have h : (if 6 < dp then 29 else if cn (m 7) = 8 then 7 else 0) = 0 := h
    by_cases q : 6 < dp
    · rw [if_pos q] at h; omega
    · rw [if_neg q] at h
      by_cases q2 : cn (m 7) = 8
      · rw [if_pos q2] at h; omega
      · omega
  · intro e
    subst e
    have h : rfRep m (A 0) (A 1) y K = 0 := h
    unfold rfRep at h
    by_cases q1 : A 0 < cn (m 0)
    · rw [if_pos q1] at h
      by_cases q2 : A 1 < cn (m 7)
      · rw [if_pos q2] at h
        by_cases q3 : wkV m (A 1) y K < 0
        · rw [if_pos q3] at h; omega
        · rw [if_neg q3] at h
          by_cases q4 : wkU m (508 + 128 * A 1) y K < K
          · rw [if_pos q4] at h; omega
          · rw [if_neg q4] at h; exact ⟨q1, q2, q3, h⟩
      · rw [if_neg q2] at h; omega
    · rw [if_neg q1] at h; omega
  · intro e
    subst e
    have h : rfNam m (A 0) K y = 0 := h
    unfold rfNam at h
    by_cases q1 : A 0 < cn (m 0)
    · rw [if_pos q1] at h
      by_cases q2 : 12 < K
      · rw [if_pos q2] at h; omega
      · exact ⟨q1, by omega⟩
    · rw [if_neg q1] at h; omega
  · intro e
    subst e
    have h : (if A 0 < cn (m 1) then (if A 1 ≤ 23 ∧ A 2 ≤ 23 then 0 else 36) else 8) = 0 := h
    by_cases q1 : A 0 < cn (m 1)
    · rw [if_pos q1] at h
      by_cases q2 : A 1 ≤ 23 ∧ A 2 ≤ 23
      · exact ⟨q1, q2.1, q2.2⟩
      · rw [if_neg q2] at h; omega
    · rw [if_neg q1] at h; omega
  · intro e
    subst e
    have h : (if A 0 < cn (m 2) then (if A 1 < A 2 then 0 else 6) else 11) = 0 := h
    by_cases q1 : A 0 < cn (m 2)
    · exact q1
    · rw [if_neg q1] at h; omega
  · intro e
    subst e
    have h : (if 1 ≤ A 0 ∧ A 0 ≤ 3600 then (if cn (m 4) + A 0 ≤ 1000000 then 0 else 6) else 6) = 0 := h
    by_cases q1 : 1 ≤ A 0 ∧ A 0 ≤ 3600
    · rw [if_pos q1] at h
      by_cases q2 : cn (m 4) + A 0 ≤ 1000000
      · exact ⟨q1.1, q1.2, q2⟩
      · rw [if_neg q2] at h; omega
    · rw [if_neg q1] at h; omega
  · intro e
    subst e
    have h : (if s = 0 then 19 else 0) = 0 := h
    by_cases q : s = 0
    · rw [if_pos q] at h; omega
    · omega
  · intro e
    subst e
    have h : (if d = 0 then 21 else 0) = 0 := h
    rcases hd with q | q
    · rw [if_pos q] at h; omega
    · exact q
