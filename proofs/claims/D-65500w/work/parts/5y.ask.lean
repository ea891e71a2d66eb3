/-! S11: counts -/
set_option maxRecDepth 100000
def ctN (m : Nat → Int32) (r n : Nat) : Nat := sumN (fun q => if m (160 + 6 * q + 2) = nI r then 1 else 0) n
def cz (m : Nat → Int32) (r : Nat) : Nat := ctN m r (cn (m 3))
theorem ctN_le (m : Nat → Int32) (r : Nat) : ∀ n, ctN m r n ≤ n := by
  intro n
  induction n with
  | zero => exact Nat.le_refl _
  | succ n ih =>
    unfold ctN at ih ⊢
    rw [sumN_s]
    split <;> omega
/-- how many of the ranks 1..k are hidden; the least that isn't -/
def hdN (m : Nat → Int32) : Nat → Nat
  | 0 => 0
  | k + 1 => if 1 ≤ cz m (k + 1) ∧ cz m (k + 1) ≤ 2 then hdN m k + 1 else hdN m k
def mnN (m : Nat → Int32) : Nat → Nat
  | 0 => 0
  | k + 1 => if 2 < cz m (k + 1) ∧ (mnN m k = 0 ∨ cz m (k + 1) < cz m (mnN m k)) then k + 1 else mnN m k
theorem mnN_le (m : Nat → Int32) : ∀ k, mnN m k ≤ k := by
  intro k
  induction k with
  | zero => exact Nat.le_refl _
  | succ k ih => unfold mnN; split <;> omega
theorem hdN_le (m : Nat → Int32) : ∀ k, hdN m k ≤ k := by
  intro k
  induction k with
  | zero => exact Nat.le_refl _
  | succ k ih => unfold hdN; split <;> omega
def coJ (m : Nat → Int32) (i : Nat) : List Int32 := (if (1 ≤ cz m (i + 1) ∧ cz m (i + 1) ≤ 2) ∨ (hdN m 9 = 1 ∧ i + 1 = mnN m 9) then [42] else numL (nI (cz m (i + 1)))) ++ [32]
def coT (m : Nat → Int32) : List Int32 := cat (coJ m) 9 ++ [59] ++ numL (m 3)
theorem coJ_len (m : Nat → Int32) (i : Nat) : (coJ m i).length ≤ 12 := by
  have := numL_len (v := nI (cz m (i + 1)))
  unfold coJ
  split <;> simp only [List.length_append, List.length_cons, List.length_nil] <;> omega
theorem coT_len (m : Nat → Int32) : (coT m).length ≤ 120 := by
  have h1 := cat_len (f := coJ m) (B := 12) 9 (fun k _ => coJ_len m k)
  have h2 := numL_len (v := m 3)
  unfold coT
  simp only [List.length_append, List.length_cons, List.length_nil]
  omega
theorem coT_asc (m : Nat → Int32) : asc (coT m) := by
  refine asc_app (asc_app (cat_asc 9 (fun k _ => ?_)) (asc_1 (n := 59) (by decide) rfl)) (asc_numL _)
  unfold coJ
  refine asc_app ?_ (asc_1 (n := 32) (by decide) rfl)
  split
  · exact asc_1 (n := 42) (by decide) rfl
  · exact asc_numL _
def CzC (σ τ : St) (f : Nat → Nat) : Prop := (∀ a, a ≠ 0 → τ a = σ a) ∧ (∀ b, b ≠ 22 → τ 0 b = σ 0 b) ∧ ∀ r, r ≤ 9 → τ 0 22 r = nI (f r)
theorem c_counts {σ : St} {m : Nat → Int32} {k : Nat} (hw : WF m) (H : HH (σ 3) m) (B5 : HB (σ 5)) (hs : szC σ k) (hk : k ≤ 100) : Ret (F_X0_counts σ) (AskC σ m (coT m)) := by
  have b3 := hw.2.2.2.1
  have b3' := b3.2
  have hcz : ∀ r, cz m r ≤ 30 := fun r => by have := ctN_le m r (cn (m 3)); unfold cz; omega
  unfold F_X0_counts
  refine Ret.bind (Q := fun τ => CzC σ τ (fun _ => 0)) ?_ ?_
  · refine iter_cnt (f := fun z => B_X0_counts_7 z.1 z.2) (fun j (τ : St) => (nI j, τ)) (fun j τ => (∀ a, a ≠ 0 → τ a = σ a) ∧ (∀ b, b ≠ 22 → τ 0 b = σ 0 b) ∧ ∀ r, r < j → τ 0 22 r = 0) 10 ?_ ?_ σ ⟨fun _ _ => rfl, fun _ _ => rfl, fun r hr => absurd hr (Nat.not_lt_zero r)⟩
    · rintro j τ hj ⟨t1, t2, t3⟩
      show Ret (B_X0_counts_7 (nI j) τ) _
      unfold B_X0_counts_7
      rw [if_neg (show ¬ (9 : Int32) < nI j from nI_nlt (a := 9) (by omega) (by decide)), wro_nI hj (by decide), some_b, nI_1]
      refine Ret.some ⟨_, rfl, fun a ha => by rw [up3_g ha]; exact t1 a ha, fun b hb => by rw [up3_j hb]; exact t2 b hb, fun r hr => ?_⟩
      by_cases e : r = j
      · subst e; exact up3_same _ _ _ _ _
      · rw [up3_i e]; exact t3 r (by omega)
    · rintro τ ⟨t1, t2, t3⟩
      show Ret (B_X0_counts_7 (nI 10) τ) _
      unfold B_X0_counts_7
      rw [if_pos (by decide)]
      exact Ret.some ⟨t1, t2, fun r hr => t3 r (by omega)⟩
  rintro τ1 T1
  refine Ret.bind (Q := fun τ => CzC σ τ (cz m)) ?_ ?_
  · refine iter_cnt (f := fun z => B_X0_counts_25 z.1 z.2) (fun j (τ : St) => (nI j, τ)) (fun j τ => CzC σ τ (fun r => ctN m r j)) (cn (m 3)) ?_ ?_ τ1 T1
    · rintro j τ hj ⟨t1, t2, t3⟩
      obtain ⟨-, -, p2, -⟩ := hw.2.2.2.2.2.2.2.2.2.2 j hj
      have p2' := p2.1.2
      have e3 := t1 3 (by decide)
      show Ret (B_X0_counts_25 (nI j) τ) _
      unfold B_X0_counts_25
      rw [e3, H.1.1.2.2.2.1, b3.1, if_pos (nI_lt hj (by omega)), rdo_nI (by omega) (by decide), some_b, e3, (H.1.2.2.2 j hj).2.2.1, p2.1.1, rdo_nI (by omega) (by decide), some_b, t3 _ p2', nI_1, wro_nI (by omega) (by decide), some_b, nI_1]
      refine Ret.some ⟨_, rfl, fun a ha => by rw [up3_g ha]; exact t1 a ha, fun b hb => by rw [up3_j hb]; exact t2 b hb, fun r hr => ?_⟩
      show _ = nI (ctN m r (j + 1))
      unfold ctN at t3 ⊢
      rw [sumN_s]
      by_cases e : r = cn (m (160 + 6 * j + 2))
      · rw [e, up3_same, if_pos p2.1.1]
      · have hz : ¬ m (160 + 6 * j + 2) = nI r := by
          intro z
          rw [z, cn_nI (by omega)] at e
          exact e rfl
        rw [up3_i e, t3 r hr, if_neg hz]; rfl
    · rintro τ ⟨t1, t2, t3⟩
      show Ret (B_X0_counts_25 (nI (cn (m 3))) τ) _
      unfold B_X0_counts_25
      rw [t1 3 (by decide), H.1.1.2.2.2.1, b3.1, cn_nI (by omega), if_neg (nI_nlt (Nat.le_refl _) (by omega))]
      exact Ret.some ⟨t1, t2, t3⟩
  rintro τ ⟨t1, t2, t3⟩
  have hst : szC τ k := by unfold szC; rw [t1 1 (by decide)]; exact hs
  have L3 := iter_row (f := fun z => B_X0_counts_64 z.1 z.2.1 z.2.2 τ) (fun j => (nI (hdN m j), (if mnN m j = 0 then -1 else nI (mnN m j)), nI (j + 1))) 9 (nI (hdN m 9), (if mnN m 9 = 0 then -1 else nI (mnN m 9))) ?_ ?_ 0 (Nat.zero_le _)
  · rw [show ((0 : Int32), (-1 : Int32), (1 : Int32)) = (nI (hdN m 0), (if mnN m 0 = 0 then -1 else nI (mnN m 0)), nI (0 + 1)) from rfl, L3, some_b]
    have hcl : ∀ j, (cat (coJ m) j).length ≤ 12 * j := fun j => cat_len (f := coJ m) (B := 12) j (fun k _ => coJ_len m k)
    have g0 : ∀ l, appC τ l 0 22 = τ 0 22 := fun l => by rw [appC_g (by decide)]
    have L4 := iter_row (f := fun z => B_X0_counts_122 (nI (hdN m 9)) (if mnN m 9 = 0 then -1 else nI (mnN m 9)) z.1 z.2) (fun j => (nI (j + 1), appC τ (cat (coJ m) j))) 9 (appC τ (cat (coJ m) 9)) ?_ ?_ 0 (Nat.zero_le _)
    · rw [show ((1 : Int32), τ) = (nI (0 + 1), appC τ (cat (coJ m) 0)) from rfl, L4, some_b]
      have hc := hcl 9
      rw [c_addA hst (by omega), some_b, appC_g (by decide), t1 3 (by decide), H.1.1.2.2.2.1, c_numA hst (bd_ok b3 (by decide)) (by simp only [List.length_append, List.length_cons, List.length_nil]; omega), some_b]
      refine Ret.some ⟨?_, ?_⟩
      · exact ((TxC.rf σ).g (t1 1 (by decide))).app (l' := coT m)
      · refine FrQ.app ⟨fun a ha => t1 a (by omega), t2, by rw [t1 3 (by decide)]; exact H, by rw [t1 5 (by decide)]; exact B5⟩
    · intro j hj
      have hc := hcl j
      have h30 := hcz (j + 1)
      have l1 := numL_len (v := nI (cz m (j + 1)))
      have hm9 := mnN_le m 9
      have hh9 := hdN_le m 9
      show B_X0_counts_122 _ _ (nI (j + 1)) (appC τ (cat (coJ m) j)) = _
      unfold B_X0_counts_122
      rw [if_neg (show ¬ (9 : Int32) < nI (j + 1) from nI_nlt (a := 9) (by omega) (by decide)), rdo_nI (by omega) (by decide), some_b, g0, t3 (j + 1) (by omega), show F_X0_in (nI (cz m (j + 1))) (1 : Int32) (2 : Int32) (appC τ (cat (coJ m) j)) = _ from inC_nI (lo := 1) (hi := 2) (by omega) (by decide) (by decide), some_b]
      have star : (F_X1_add (42 : Int32) (appC τ (cat (coJ m) j))).bind (fun s4014 => some s4014) = some (appC τ (cat (coJ m) j ++ [42])) := by rw [c_addA hst (by omega), some_b]
      have fin : ∀ L : List Int32, L.length ≤ 12 * j + 11 → cat (coJ m) (j + 1) = L ++ [32] → (F_X1_add (32 : Int32) (appC τ L)).bind (fun s4015 => (some (.inl ((nI (j + 1) + (1 : Int32)), s4015)) : Option ((Int32 × St) ⊕ St))) = some (.inl (nI (j + 1 + 1), appC τ (cat (coJ m) (j + 1)))) := by
        intro L hL eL
        rw [c_addA hst (by omega), some_b, eL, nI_1]
      by_cases q : 1 ≤ cz m (j + 1) ∧ cz m (j + 1) ≤ 2
      · have eJ : coJ m j = [42] ++ [32] := by unfold coJ; rw [if_pos (Or.inl q)]
        rw [if_pos q, if_neg (show ¬ (1 : Int32) = 0 by decide), some_b, if_neg (show ¬ (1 : Int32) = 0 by decide), star, some_b]
        exact fin _ (by simp only [List.length_append, List.length_cons, List.length_nil]; omega) (by rw [cat, eJ, List.append_assoc])
      · rw [if_neg q, if_pos rfl]
        have num : (some (nI (cz m (j + 1)))).bind (fun r4012 => (F_X1_number r4012 (appC τ (cat (coJ m) j))).bind (fun s4013 => some s4013)) = some (appC τ (cat (coJ m) j ++ numL (nI (cz m (j + 1))))) := by
          rw [some_b, c_numA hst (okN_nI (by omega)) (by omega), some_b]
        by_cases q1 : hdN m 9 = 1
        · rw [if_pos (show nI (hdN m 9) = 1 by rw [q1]; rfl)]
          by_cases q2 : j + 1 = mnN m 9
          · have eJ : coJ m j = [42] ++ [32] := by unfold coJ; rw [if_pos (Or.inr ⟨q1, q2⟩)]
            rw [if_neg (show ¬ mnN m 9 = 0 by omega), if_pos (by rw [q2]), some_b, if_neg (show ¬ (1 : Int32) = 0 by decide), star, some_b]
            exact fin _ (by simp only [List.length_append, List.length_cons, List.length_nil]; omega) (by rw [cat, eJ, List.append_assoc])
          · have eJ : coJ m j = numL (nI (cz m (j + 1))) ++ [32] := by unfold coJ; rw [if_neg (fun z => z.elim q (fun y => q2 y.2))]
            have hne : ¬ nI (j + 1) = (if mnN m 9 = 0 then -1 else nI (mnN m 9)) := by
              split
              · exact fun z => absurd (show nI (j + 1) < 0 by rw [z]; decide) (nI_pos (by omega))
              · rw [nI_eq (by omega) (by omega)]; exact q2
            rw [if_neg hne, some_b, if_pos rfl, num, some_b]
            exact fin _ (by simp only [List.length_append]; omega) (by rw [cat, eJ, List.append_assoc])
        · have eJ : coJ m j = numL (nI (cz m (j + 1))) ++ [32] := by unfold coJ; rw [if_neg (fun z => z.elim q (fun y => q1 y.1))]
          rw [if_neg (show ¬ nI (hdN m 9) = 1 by rw [show (1 : Int32) = nI 1 from rfl, nI_eq (by omega) (by decide)]; exact q1), some_b, if_pos rfl, num, some_b]
          exact fin _ (by simp only [List.length_append]; omega) (by rw [cat, eJ, List.append_assoc])
    · show B_X0_counts_122 _ _ (nI 10) (appC τ (cat (coJ m) 9)) = _
      unfold B_X0_counts_122
      rw [if_pos (by decide)]
  · intro j hj
    have h30 := hcz (j + 1)
    have hmj := mnN_le m j
    have hmz := hcz (mnN m j)
    have hhj := hdN_le m j
    show B_X0_counts_64 (nI (hdN m j)) (if mnN m j = 0 then -1 else nI (mnN m j)) (nI (j + 1)) τ = _
    unfold B_X0_counts_64
    have r1 : rdo τ 0 22 10 (nI (j + 1)) = some (nI (cz m (j + 1))) := by rw [rdo_nI (by omega) (by decide), t3 (j + 1) (by omega)]
    rw [if_neg (show ¬ (9 : Int32) < nI (j + 1) from nI_nlt (a := 9) (by omega) (by decide)), r1, some_b, show F_X0_in (nI (cz m (j + 1))) (1 : Int32) (2 : Int32) τ = _ from inC_nI (lo := 1) (hi := 2) (by omega) (by decide) (by decide), some_b]
    by_cases q : 1 ≤ cz m (j + 1) ∧ cz m (j + 1) ≤ 2
    · have e1 : hdN m (j + 1) = hdN m j + 1 := by rw [hdN, if_pos q]
      have e2 : mnN m (j + 1) = mnN m j := by rw [mnN, if_neg (fun z => by omega)]
      rw [if_pos q, if_neg (show ¬ (1 : Int32) = 0 by decide), e1, e2, nI_1, nI_1]
    · have e1 : hdN m (j + 1) = hdN m j := by rw [hdN, if_neg q]
      rw [if_neg q, if_pos rfl, some_b, e1]
      by_cases q0 : 0 < cz m (j + 1)
      · have h0 : (0 : Int32) < nI (cz m (j + 1)) := nI_lt (a := 0) q0 (by omega)
        rw [if_pos h0]
        by_cases qm : mnN m j = 0
        · have e2 : mnN m (j + 1) = j + 1 := by rw [mnN, if_pos ⟨by omega, Or.inl qm⟩]
          rw [if_pos qm, if_pos (show (-1 : Int32) < 0 by decide), bindL_inl, e2, if_neg (Nat.succ_ne_zero j), nI_1]
        · rw [if_neg qm, if_neg (nI_pos (by omega)), some_b, rdo_nI (by omega) (by decide), some_b, t3 _ (by omega)]
          by_cases ql : cz m (j + 1) < cz m (mnN m j)
          · have e2 : mnN m (j + 1) = j + 1 := by rw [mnN, if_pos ⟨by omega, Or.inr ql⟩]
            rw [if_pos (nI_lt ql (by omega)), bindL_inl, e2, if_neg (Nat.succ_ne_zero j), nI_1]
          · have e2 : mnN m (j + 1) = mnN m j := by rw [mnN, if_neg (fun z => z.2.elim qm ql)]
            rw [if_neg (nI_nlt (by omega) (by omega)), bindL_inr, e2, if_neg qm, nI_1]
      · have h0 : ¬ (0 : Int32) < nI (cz m (j + 1)) := nI_nlt (a := 0) (by omega) (by decide)
        have e2 : mnN m (j + 1) = mnN m j := by rw [mnN, if_neg (fun z => by omega)]
        rw [if_neg h0, e2, nI_1]
  · show B_X0_counts_64 _ _ (nI 10) τ = _
    unfold B_X0_counts_64
    rw [if_pos (by decide)]
theorem m_callsOf {σ : St} {m : Nat → Int32} {r : Nat} (hw : WF m) (hm : σ 20 1 = m) : F_X12_callsOf (nI r) σ = some (nI (cz m r)) := by
  have b3 := hw.2.2.2.1
  have b3' := b3.2
  unfold F_X12_callsOf
  have key := iter_row (f := fun z => B_X12_callsOf_4 (nI r) z.1 z.2 σ) (fun j => (nI (ctN m r j), nI j)) (cn (m 3)) (nI (ctN m r (cn (m 3)))) ?_ ?_ 0 (Nat.zero_le _)
  · rw [show ((0 : Int32), (0 : Int32)) = (nI (ctN m r 0), nI 0) from rfl, key, some_b]; rfl
  · intro j hj
    show B_X12_callsOf_4 (nI r) (nI (ctN m r j)) (nI j) σ = _
    unfold B_X12_callsOf_4
    rw [m_rd3, some_b, hm, b3.1, if_pos (nI_lt hj (by omega)), show (2 : Int32) = nI 2 from rfl, m_call (by omega) (by decide), some_b, hm]
    have e : ctN m r (j + 1) = ctN m r j + (if m (160 + 6 * j + 2) = nI r then 1 else 0) := rfl
    by_cases q : m (160 + 6 * j + 2) = nI r
    · rw [if_pos q, some_b, nmo_b, nI_1, nI_1, e, if_pos q]
    · rw [if_neg q, some_b, nmo_b, nI_1, e, if_neg q, show nI (ctN m r j) + 0 = nI (ctN m r j + 0) from nI_add _ 0]
  · show B_X12_callsOf_4 (nI r) (nI (ctN m r (cn (m 3)))) (nI (cn (m 3))) σ = _
    unfold B_X12_callsOf_4
    rw [m_rd3, some_b, hm, b3.1, cn_nI (by omega), if_neg (nI_nlt (Nat.le_refl _) (by omega))]
theorem m_counts {σ : St} {m : Nat → Int32} {k : Nat} (hw : WF m) (hm : σ 20 1 = m) (hs : szM σ k) (hk : k ≤ 100) : F_X12_tellCounts σ = some (appM σ (coT m)) := by
  have b3 := hw.2.2.2.1
  have b3' := b3.2
  have hcz : ∀ r, cz m r ≤ 30 := fun r => by have := ctN_le m r (cn (m 3)); unfold cz; omega
  have g1 : ∀ l, appM σ l 20 1 = m := fun l => by rw [appM_j (by decide) (by decide)]; exact hm
  unfold F_X12_tellCounts
  have L3 := iter_row (f := fun z => B_X12_tellCounts_6 z.1 z.2.1 z.2.2 σ) (fun j => (nI (hdN m j), nI (mnN m j), nI (j + 1))) 9 (nI (hdN m 9), nI (mnN m 9)) ?_ ?_ 0 (Nat.zero_le _)
  · rw [show ((0 : Int32), (0 : Int32), (1 : Int32)) = (nI (hdN m 0), nI (mnN m 0), nI (0 + 1)) from rfl, L3, some_b]
    have hcl : ∀ j, (cat (coJ m) j).length ≤ 12 * j := fun j => cat_len (f := coJ m) (B := 12) j (fun k _ => coJ_len m k)
    have L4 := iter_row (f := fun z => B_X12_tellCounts_66 (nI (hdN m 9)) (nI (mnN m 9)) z.1 z.2) (fun j => (nI (j + 1), appM σ (cat (coJ m) j))) 9 (appM σ (cat (coJ m) 9)) ?_ ?_ 0 (Nat.zero_le _)
    · rw [show ((1 : Int32), σ) = (nI (0 + 1), appM σ (cat (coJ m) 0)) from rfl, L4, some_b]
      have hc := hcl 9
      rw [m_putA hs (by omega), some_b, m_rd3, some_b, g1, m_numA hs (bd_ok b3 (by decide)) (by simp only [List.length_append, List.length_cons, List.length_nil]; omega), some_b]
      rfl
    · intro j hj
      have hc := hcl j
      have h30 := hcz (j + 1)
      have l1 := numL_len (v := nI (cz m (j + 1)))
      have hm9 := mnN_le m 9
      have hh9 := hdN_le m 9
      show B_X12_tellCounts_66 _ _ (nI (j + 1)) (appM σ (cat (coJ m) j)) = _
      unfold B_X12_tellCounts_66
      rw [if_pos (show nI (j + 1) < (10 : Int32) from nI_lt (b := 10) (by omega) (by decide)), m_callsOf hw (g1 _), some_b]
      have star : (F_X12_put (42 : Int32) (appM σ (cat (coJ m) j))).bind (fun s2005 => some s2005) = some (appM σ (cat (coJ m) j ++ [42])) := by rw [m_putA hs (by omega), some_b]
      have fin : ∀ L : List Int32, L.length ≤ 12 * j + 11 → cat (coJ m) (j + 1) = L ++ [32] → (F_X12_put (32 : Int32) (appM σ L)).bind (fun s2006 => (some (.inl ((nI (j + 1) + (1 : Int32)), s2006)) : Option ((Int32 × St) ⊕ St))) = some (.inl (nI (j + 1 + 1), appM σ (cat (coJ m) (j + 1)))) := by
        intro L hL eL
        rw [m_putA hs (by omega), some_b, eL, nI_1]
      by_cases c1 : cz m (j + 1) = 1
      · have eJ : coJ m j = [42] ++ [32] := by unfold coJ; rw [if_pos (Or.inl ⟨by omega, by omega⟩)]
        rw [if_pos (show nI (cz m (j + 1)) = 1 by rw [c1]; rfl), bindL_inl, star, some_b]
        exact fin _ (by simp only [List.length_append, List.length_cons, List.length_nil]; omega) (by rw [cat, eJ, List.append_assoc])
      · rw [if_neg (show ¬ nI (cz m (j + 1)) = 1 by rw [show (1 : Int32) = nI 1 from rfl, nI_eq (by omega) (by decide)]; exact c1)]
        by_cases c2 : cz m (j + 1) = 2
        · have eJ : coJ m j = [42] ++ [32] := by unfold coJ; rw [if_pos (Or.inl ⟨by omega, by omega⟩)]
          rw [if_pos (show nI (cz m (j + 1)) = 2 by rw [c2]; rfl), bindL_inl, star, some_b]
          exact fin _ (by simp only [List.length_append, List.length_cons, List.length_nil]; omega) (by rw [cat, eJ, List.append_assoc])
        · rw [if_neg (show ¬ nI (cz m (j + 1)) = 2 by rw [show (2 : Int32) = nI 2 from rfl, nI_eq (by omega) (by decide)]; exact c2)]
          have q : ¬ (1 ≤ cz m (j + 1) ∧ cz m (j + 1) ≤ 2) := by omega
          have num : (F_X12_number (nI (cz m (j + 1))) (appM σ (cat (coJ m) j))).bind (fun s2004 => (some (.inr s2004) : Option (Unit ⊕ St))) = some (.inr (appM σ (cat (coJ m) j ++ numL (nI (cz m (j + 1)))))) := by
            rw [m_numA hs (okN_nI (by omega)) (by omega), some_b]
          by_cases q1 : hdN m 9 = 1
          · rw [if_pos (show nI (hdN m 9) = 1 by rw [q1]; rfl)]
            by_cases q2 : j + 1 = mnN m 9
            · have eJ : coJ m j = [42] ++ [32] := by unfold coJ; rw [if_pos (Or.inr ⟨q1, q2⟩)]
              rw [if_pos (by rw [q2]), bindL_inr, bindL_inl, star, some_b]
              exact fin _ (by simp only [List.length_append, List.length_cons, List.length_nil]; omega) (by rw [cat, eJ, List.append_assoc])
            · have eJ : coJ m j = numL (nI (cz m (j + 1))) ++ [32] := by unfold coJ; rw [if_neg (fun z => z.elim q (fun y => q2 y.2))]
              rw [if_neg (show ¬ nI (j + 1) = nI (mnN m 9) by rw [nI_eq (by omega) (by omega)]; exact q2), bindL_inl, num, bindL_inr, some_b]
              exact fin _ (by simp only [List.length_append]; omega) (by rw [cat, eJ, List.append_assoc])
          · have eJ : coJ m j = numL (nI (cz m (j + 1))) ++ [32] := by unfold coJ; rw [if_neg (fun z => z.elim q (fun y => q1 y.1))]
            rw [if_neg (show ¬ nI (hdN m 9) = 1 by rw [show (1 : Int32) = nI 1 from rfl, nI_eq (by omega) (by decide)]; exact q1), bindL_inl, num, bindL_inr, some_b]
            exact fin _ (by simp only [List.length_append]; omega) (by rw [cat, eJ, List.append_assoc])
    · show B_X12_tellCounts_66 _ _ (nI 10) (appM σ (cat (coJ m) 9)) = _
      unfold B_X12_tellCounts_66
      rw [if_neg (by decide)]
  · intro j hj
    have h30 := hcz (j + 1)
    have hmj := mnN_le m j
    have hmz := hcz (mnN m j)
    have hhj := hdN_le m j
    show B_X12_tellCounts_6 (nI (hdN m j)) (nI (mnN m j)) (nI (j + 1)) σ = _
    unfold B_X12_tellCounts_6
    rw [if_pos (show nI (j + 1) < (10 : Int32) from nI_lt (b := 10) (by omega) (by decide)), m_callsOf hw hm, some_b]
    by_cases q : 1 ≤ cz m (j + 1) ∧ cz m (j + 1) ≤ 2
    · have e1 : hdN m (j + 1) = hdN m j + 1 := by rw [hdN, if_pos q]
      have e2 : mnN m (j + 1) = mnN m j := by rw [mnN, if_neg (fun z => by omega)]
      have c12 : cz m (j + 1) = 1 ∨ cz m (j + 1) = 2 := by omega
      rw [e1, e2]
      rcases c12 with c | c
      · rw [if_pos (show nI (cz m (j + 1)) = 1 by rw [c]; rfl), nI_1, nI_1]
      · rw [if_neg (show ¬ nI (cz m (j + 1)) = 1 by rw [c]; decide), if_pos (show nI (cz m (j + 1)) = 2 by rw [c]; rfl), nI_1, nI_1]
    · have e1 : hdN m (j + 1) = hdN m j := by rw [hdN, if_neg q]
      rw [if_neg (show ¬ nI (cz m (j + 1)) = 1 by rw [show (1 : Int32) = nI 1 from rfl, nI_eq (by omega) (by decide)]; omega), if_neg (show ¬ nI (cz m (j + 1)) = 2 by rw [show (2 : Int32) = nI 2 from rfl, nI_eq (by omega) (by decide)]; omega), e1]
      by_cases q0 : 0 < cz m (j + 1)
      · have h0 : (0 : Int32) < nI (cz m (j + 1)) := nI_lt (a := 0) q0 (by omega)
        rw [if_pos h0]
        by_cases qm : mnN m j = 0
        · have e2 : mnN m (j + 1) = j + 1 := by rw [mnN, if_pos ⟨by omega, Or.inl qm⟩]
          rw [if_pos (show nI (mnN m j) = 0 by rw [qm]; rfl), bindL_inl, e2, nI_1]
        · rw [if_neg (nI_ne0 (by omega) (by omega)), m_callsOf hw hm, some_b]
          by_cases ql : cz m (j + 1) < cz m (mnN m j)
          · have e2 : mnN m (j + 1) = j + 1 := by rw [mnN, if_pos ⟨by omega, Or.inr ql⟩]
            rw [if_pos (nI_lt ql (by omega)), bindL_inl, e2, nI_1]
          · have e2 : mnN m (j + 1) = mnN m j := by rw [mnN, if_neg (fun z => z.2.elim qm ql)]
            rw [if_neg (nI_nlt (by omega) (by omega)), bindL_inr, e2, nI_1]
      · have h0 : ¬ (0 : Int32) < nI (cz m (j + 1)) := nI_nlt (a := 0) (by omega) (by decide)
        have e2 : mnN m (j + 1) = mnN m j := by rw [mnN, if_neg (fun z => by omega)]
        rw [if_neg h0, e2, nI_1]
  · show B_X12_tellCounts_6 _ _ (nI 10) σ = _
    unfold B_X12_tellCounts_6
    rw [if_neg (by decide)]
