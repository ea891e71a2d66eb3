/-! S11: where, whole -/
set_option maxRecDepth 100000
def weS (m y : Nat → Int32) (K : Nat) (t : Int32 × Nat) (p : Nat) : Int32 × Nat := if nmN m p = 0 then t else if t.1 < 0 ∨ edN m y K p < t.2 then (nI p, edN m y K p) else t
def weF (m y : Nat → Int32) (K : Nat) : Nat → Int32 × Nat := fldL (fun i => i) (weS m y K) (-1, 0)
def weT (m y : Nat → Int32) (K : Nat) : List Int32 := if 12 < K then aTx 33 else if (weF m y K (cn (m 0))).1 < 0 then aTx 36 else numL (weF m y K (cn (m 0))).1 ++ [32] ++ numL (nI (weF m y K (cn (m 0))).2)
theorem weT_len (m y : Nat → Int32) (K : Nat) : (weT m y K).length ≤ 23 := by
  have h1 := numL_len (v := (weF m y K (cn (m 0))).1)
  have h2 := numL_len (v := nI (weF m y K (cn (m 0))).2)
  have h3 := tx_len 33 (by decide)
  have h4 := tx_len 36 (by decide)
  unfold weT
  split
  · omega
  · split
    · omega
    · simp only [List.length_append, List.length_cons, List.length_nil]; omega
theorem weT_asc (m y : Nat → Int32) (K : Nat) : asc (weT m y K) := by
  unfold weT
  split
  · exact tx_asc 33 (by decide)
  · split
    · exact tx_asc 36 (by decide)
    · exact asc_app (asc_app (asc_numL _) (asc_1 (n := 32) (by decide) rfl)) (asc_numL _)
theorem edN_le {m y : Nat → Int32} {K p : Nat} (hww : WW m) (hp : p < 8) : edN m y K p ≤ 12 + K := by
  have h := eD_le (nmF m p) y (nmN m p) K
  have h2 : nmN m p ≤ 12 := (hww.1 p hp).1.2
  unfold edN
  omega
theorem weF_ok {m y : Nat → Int32} {K : Nat} (hww : WW m) : ∀ k, k ≤ 8 → ((weF m y K k).1 = -1 ∨ ∃ p, p < 8 ∧ (weF m y K k).1 = nI p) ∧ (weF m y K k).2 ≤ 12 + K := by
  intro k
  induction k with
  | zero => intro _; exact ⟨Or.inl rfl, Nat.zero_le _⟩
  | succ k ih =>
    intro hk
    have h1 := ih (by omega)
    have h2 := edN_le (y := y) (K := K) hww (p := k) (by omega)
    show (((weS m y K (weF m y K k) k).1 = -1 ∨ ∃ p, p < 8 ∧ (weS m y K (weF m y K k) k).1 = nI p) ∧ (weS m y K (weF m y K k) k).2 ≤ 12 + K)
    unfold weS
    split
    · exact h1
    · split
      · exact ⟨Or.inr ⟨k, by omega, rfl⟩, h2⟩
      · exact h1
theorem c_where {σ : St} {m y : Nat → Int32} {k K j a : Nat} (R : Rok m) (H : HH (σ 3) m) (B5 : HB (σ 5)) (hs : szC σ k) (hk : k ≤ 100) (h6 : σ 2 0 6 = nI j) (h13 : σ 2 0 13 = nI a) (h14 : σ 2 0 14 = nI (a + K)) (hj : j = 1 ∨ j = 2 ∨ j = 3) (hl : a + K ≤ lenB j) (hy : ∀ i, i < K → σ 0 j (a + i) = y i) : Ret (F_X0_where σ) (AskC σ m (weT m y K)) := by
  have hw := R.1
  have hww := R.2.2.1
  have b0 := hw.1.1
  have b0' := b0.2
  have hlb : lenB j ≤ 4006 := by rcases hj with e | e | e <;> subst e <;> decide +kernel
  unfold F_X0_where weT
  rw [nmo_b, h13, h14, nI_sub (by omega), Nat.add_sub_cancel_left]
  by_cases q : 12 < K
  · have := c_sayA (σ := σ) (L := []) (i := 23) (w := 33) (by decide) (by decide) (tx_eq (23, 33) (by decide)) hs (by rw [List.length_nil]; omega)
    rw [appC_nil, List.nil_append] at this
    rw [if_pos (show (12 : Int32) < nI K from nI_lt (a := 12) q (by omega)), show (23 : Int32) = nI 23 from rfl, this, some_b, if_pos q]
    exact AskC.ex H B5 rfl
  · rw [if_neg (show ¬ (12 : Int32) < nI K from nI_nlt (a := 12) (by omega) (by decide)), if_neg q]
    refine Ret.bind (Q := fun z => z.1 = (weF m y K (cn (m 0))).1 ∧ z.2.1 = nI (weF m y K (cn (m 0))).2 ∧ FiC σ z.2.2) ?_ ?_
    · refine iter_cnt (f := fun z => B_X0_where_39 (nI K) z.1 z.2.1 z.2.2.1 z.2.2.2) (fun p (τ : St) => ((weF m y K p).1, nI (weF m y K p).2, nI p, τ)) (fun p τ => FiC σ τ) (cn (m 0)) ?_ ?_ σ (fun _ _ => rfl)
      · rintro p τ hp F
        have H' : HH (τ 3) m := by rw [F 3 (by decide)]; exact H
        have lt : nI p < m 0 := by rw [b0.1]; exact nI_lt hp (by omega)
        have nm1 : m (392 + 13 * p) = nI (nmN m p) := (hww.1 p (by omega)).1.1
        have nm2 : nmN m p ≤ 12 := (hww.1 p (by omega)).1.2
        have e13 : τ 3 13 p = nI (nmN m p) := by rw [(H'.2.2.1.1 p (by omega)).1]; exact nm1
        obtain ⟨o1, o2⟩ := weF_ok (y := y) (K := K) hww p (by omega)
        have ed := edN_le (y := y) (K := K) hww (p := p) (by omega)
        have eS : weF m y K (p + 1) = weS m y K (weF m y K p) p := rfl
        rw [eS]
        generalize weF m y K p = t at o1 o2
        show Ret (B_X0_where_39 (nI K) t.1 (nI t.2) (nI p) τ) _
        unfold B_X0_where_39 weS
        rw [H'.1.1.1, if_pos lt, rdo_nI (by omega) (by decide), some_b, e13]
        by_cases z : nmN m p = 0
        · rw [if_pos (show nI (nmN m p) = 0 by rw [z]; rfl), if_pos z, nI_1]
          exact Ret.some ⟨τ, rfl, F⟩
        · rw [if_neg (nI_ne0 (by omega) (by omega)), if_neg z, F 2 (by decide), h6, dyb_nI hj, some_b, h13]
          refine Ret.bind (c_edits (y := y) hww H' (by omega) (by omega) hj hl (fun i hi => by rw [F 0 (by decide)]; exact hy i hi)) ?_
          rintro r ⟨r1, r2⟩
          have F2 : FiC σ r.2 := fun x hx => (r2 x hx).trans (F x hx)
          rw [r1]
          by_cases c : t.1 < 0
          · rw [if_pos c, bindL_inl, if_pos (Or.inl c), nI_1]
            exact Ret.some ⟨r.2, rfl, F2⟩
          · rw [if_neg c]
            by_cases d : edN m y K p < t.2
            · rw [if_pos (nI_lt d (by omega)), bindL_inl, if_pos (Or.inr d), nI_1]
              exact Ret.some ⟨r.2, rfl, F2⟩
            · rw [if_neg (nI_nlt (by omega) (by omega)), bindL_inr, if_neg (fun z => z.elim c d), nI_1]
              exact Ret.some ⟨r.2, rfl, F2⟩
      · rintro τ F
        have H' : HH (τ 3) m := by rw [F 3 (by decide)]; exact H
        have nlt : ¬ nI (cn (m 0)) < m 0 := by
          conv => rhs; rhs; rw [b0.1]
          exact nI_nlt (Nat.le_refl _) (by omega)
        show Ret (B_X0_where_39 (nI K) _ _ (nI (cn (m 0))) τ) _
        unfold B_X0_where_39
        rw [H'.1.1.1, if_neg nlt]
        exact ⟨_, rfl, rfl, rfl, F⟩
    · rintro z ⟨z1, z2, F⟩
      obtain ⟨o1, o2⟩ := weF_ok (y := y) (K := K) hww (cn (m 0)) b0'
      have hs1 : szC z.2.2 k := by unfold szC; rw [F 1 (by decide)]; exact hs
      have T0 : TxC σ z.2.2 [] := (TxC.rf σ).g (F 1 (by decide))
      have fq : FrQ σ z.2.2 m := ⟨fun x hx => F x (by omega), fun b _ => by rw [F 0 (by decide)], by rw [F 3 (by decide)]; exact H, by rw [F 5 (by decide)]; exact B5⟩
      rw [z1, z2]
      by_cases c : (weF m y K (cn (m 0))).1 < 0
      · have := c_sayA (σ := z.2.2) (L := []) (i := 33) (w := 36) (by decide) (by decide) (tx_eq (33, 36) (by decide)) hs1 (by rw [List.length_nil]; omega)
        rw [appC_nil, List.nil_append] at this
        rw [if_pos c, show (33 : Int32) = nI 33 from rfl, this, some_b, if_pos c]
        exact Ret.some ⟨T0.app, fq.app⟩
      · have ok1 : okN (weF m y K (cn (m 0))).1 := by
          rcases o1 with e | ⟨p, p1, p2⟩
          · rw [e] at c; exact absurd (by decide) c
          · rw [p2]; exact okN_nI (by omega)
        have := c_nmsA (σ := z.2.2) (L := []) hs1 ok1 (okN_nI (n := (weF m y K (cn (m 0))).2) (by omega)) (by rw [List.length_nil]; omega)
        rw [appC_nil, List.nil_append] at this
        rw [if_neg c, this, some_b, if_neg c]
        exact Ret.some ⟨T0.app, fq.app⟩
theorem m_where {σ : St} {m y : Nat → Int32} {k K : Nat} (R : Rok m) (hm : σ 20 1 = m) (hS : StatM σ) (hs : szM σ k) (hk : k ≤ 100) (hK : K ≤ 3200) (h28 : σ 20 0 28 = nI K) (hy : ∀ i, i < K → σ 20 28 i = y i) : Ret (F_X12_tellWhere σ) (AskM σ (weT m y K)) := by
  have hw := R.1
  have hww := R.2.2.1
  have b0 := hw.1.1
  have b0' := b0.2
  unfold F_X12_tellWhere weT
  refine Ret.bind (Q := fun z => z.1 = (weF m y K (cn (m 0))).1 ∧ z.2.1 = nI (weF m y K (cn (m 0))).2 ∧ FiM σ z.2.2) ?_ ?_
  · refine iter_cnt (f := fun z => B_X12_tellWhere_6 z.1 z.2.1 z.2.2.1 z.2.2.2) (fun p (τ : St) => ((weF m y K p).1, nI (weF m y K p).2, nI p, τ)) (fun p τ => FiM σ τ) (cn (m 0)) ?_ ?_ σ (fun _ _ _ => rfl)
    · rintro p τ hp F
      have mt : τ 20 1 = m := by rw [F 20 1 (by omega)]; exact hm
      have lt : nI p < m 0 := by rw [b0.1]; exact nI_lt hp (by omega)
      have nm1 : m (392 + 13 * p) = nI (nmN m p) := (hww.1 p (by omega)).1.1
      have nm2 : nmN m p ≤ 12 := (hww.1 p (by omega)).1.2
      have er : (392 : Int32) + (13 : Int32) * nI p = nI (392 + 13 * p) := by rw [← nI_add, ← nI_mulc]; rfl
      obtain ⟨o1, o2⟩ := weF_ok (y := y) (K := K) hww p (by omega)
      have ed := edN_le (y := y) (K := K) hww (p := p) (by omega)
      have eS : weF m y K (p + 1) = weS m y K (weF m y K p) p := rfl
      rw [eS]
      generalize weF m y K p = t at o1 o2
      show Ret (B_X12_tellWhere_6 t.1 (nI t.2) (nI p) τ) _
      unfold B_X12_tellWhere_6 weS
      rw [m_rd0, some_b, mt, if_pos lt, er, m_rd (by omega), some_b, mt, nm1]
      by_cases z : nmN m p = 0
      · rw [if_pos (show nI (nmN m p) = 0 by rw [z]; rfl), if_pos z, nI_1]
        exact Ret.some ⟨τ, rfl, F⟩
      · rw [if_neg (nI_ne0 (by omega) (by omega)), if_neg z]
        refine Ret.bind (m_edits (y := y) (K := K) hww mt (p := p) (by omega) hK (by rw [F 20 0 (by omega)]; exact h28) (fun i hi => by rw [F 20 28 (by omega)]; exact hy i hi)) ?_
        rintro r ⟨r1, r2⟩
        have F2 : FiM σ r.2 := fun x b hx => (r2 x b hx).trans (F x b hx)
        rw [r1]
        by_cases c : t.1 < 0
        · rw [if_pos c, bindL_inl, if_pos (Or.inl c), nI_1]
          exact Ret.some ⟨r.2, rfl, F2⟩
        · rw [if_neg c]
          by_cases d : edN m y K p < t.2
          · rw [if_pos (nI_lt d (by omega)), bindL_inl, if_pos (Or.inr d), nI_1]
            exact Ret.some ⟨r.2, rfl, F2⟩
          · rw [if_neg (nI_nlt (by omega) (by omega)), bindL_inr, if_neg (fun z => z.elim c d), nI_1]
            exact Ret.some ⟨r.2, rfl, F2⟩
    · rintro τ F
      have mt : τ 20 1 = m := by rw [F 20 1 (by omega)]; exact hm
      have nlt : ¬ nI (cn (m 0)) < m 0 := by
        conv => rhs; rhs; rw [b0.1]
        exact nI_nlt (Nat.le_refl _) (by omega)
      show Ret (B_X12_tellWhere_6 _ _ (nI (cn (m 0))) τ) _
      unfold B_X12_tellWhere_6
      rw [m_rd0, some_b, mt, if_neg nlt]
      exact ⟨_, rfl, rfl, rfl, F⟩
  · rintro z ⟨z1, z2, F⟩
    obtain ⟨o1, o2⟩ := weF_ok (y := y) (K := K) hww (cn (m 0)) b0'
    have T0 : TxM σ z.2.2 [] := (TxM.rf σ).fr (F 20 15 (by omega)) (by rw [F 20 0 (by omega)])
    have hs1 : szM z.2.2 k := T0.sz hs
    have hS1 : StatM z.2.2 := hS.fr (F 20 19 (by omega)) (F 20 17 (by omega)) (F 20 18 (by omega))
    have fq : FrM σ z.2.2 := ⟨fun x hx => by funext b; exact F x b (fun q => hx q.1), fun b hb => F 20 b (by omega), fun i _ => by rw [F 20 0 (by omega)]⟩
    have e28 : z.2.2 20 0 28 = nI K := by rw [F 20 0 (by omega)]; exact h28
    rw [z1, z2, e28]
    by_cases q : 12 < K
    · rw [if_pos (show (12 : Int32) < nI K from nI_lt (a := 12) q (by omega)), show (33 : Int32) = nI 33 from rfl, AskM.say (by decide) hS1 hs1 hk, some_b, if_pos q]
      exact Ret.some ⟨T0.app, fq.app⟩
    · rw [if_neg (show ¬ (12 : Int32) < nI K from nI_nlt (a := 12) (by omega) (by decide)), if_neg q]
      by_cases c : (weF m y K (cn (m 0))).1 < 0
      · rw [if_pos c, show (36 : Int32) = nI 36 from rfl, AskM.say (by decide) hS1 hs1 hk, some_b, if_pos c]
        exact Ret.some ⟨T0.app, fq.app⟩
      · have ok1 : okN (weF m y K (cn (m 0))).1 := by
          rcases o1 with e | ⟨p, p1, p2⟩
          · rw [e] at c; exact absurd (by decide) c
          · rw [p2]; exact okN_nI (by omega)
        have l1 := numL_len (v := (weF m y K (cn (m 0))).1)
        have n1 := m_numA (σ := z.2.2) (L := []) hs1 ok1 (by rw [List.length_nil]; omega)
        rw [appM_nil, List.nil_append] at n1
        rw [if_neg c, n1, some_b, m_putA hs1 (by omega), some_b, m_numA hs1 (okN_nI (n := (weF m y K (cn (m 0))).2) (by omega)) (by simp only [List.length_append, List.length_cons, List.length_nil]; omega), some_b, if_neg c]
        exact Ret.some ⟨T0.app, fq.app⟩
