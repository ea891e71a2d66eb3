/-! S11: calls, bill, books, shifts -/
set_option maxRecDepth 100000
def tdL (x : Int32) : List Int32 := if x < 0 then [45] else numL x
theorem tdL_len (x : Int32) : (tdL x).length ≤ 11 := by
  unfold tdL
  split
  · exact (by decide : 1 ≤ 11)
  · exact numL_len
theorem tdL_asc (x : Int32) : asc (tdL x) := by
  unfold tdL
  split
  · exact asc_1 (n := 45) (by decide) rfl
  · exact asc_numL _
theorem c_told {σ : St} {L : List Int32} {k : Nat} {v : Int32} (hs : szC σ k) (hv : ¬ v < 0 → okN v) (hL : k + L.length + 11 ≤ 3200) : F_X1_told v (appC σ L) = some (appC σ (L ++ tdL v)) := by
  unfold F_X1_told tdL
  by_cases q : v < 0
  · rw [if_pos q, c_addA hs (by omega), some_b, if_pos q]
  · rw [if_neg q, c_numA hs (hv q) hL, some_b, if_neg q]
theorem srvI_ok {m : Nat → Int32} (hw : WF m) (q : Nat) : ¬ srvI m q < 0 → okN (srvI m q) := by
  intro h
  rcases srvI_cases hw q with ⟨u, u1, -, e⟩ | ⟨-, e⟩
  · rw [e]; exact okN_nI (by omega)
  · rw [e] at h; exact absurd (by decide) h
noncomputable def caJ (m : Nat → Int32) (q : Nat) : List Int32 := if m (160 + 6 * q + 3) = 0 then [] else numL (nI q) ++ [32] ++ numL (m (160 + 6 * q)) ++ [32] ++ numL (m (160 + 6 * q + 1)) ++ [32] ++ numL (m (160 + 6 * q + 2)) ++ [32] ++ tdL (srvI m q) ++ [59]
theorem caJ_len (m : Nat → Int32) (q : Nat) : (caJ m q).length ≤ 60 := by
  have h0 := numL_len (v := nI q)
  have h1 := numL_len (v := m (160 + 6 * q))
  have h2 := numL_len (v := m (160 + 6 * q + 1))
  have h3 := numL_len (v := m (160 + 6 * q + 2))
  have h4 := tdL_len (srvI m q)
  unfold caJ
  split
  · exact Nat.zero_le _
  · simp only [List.length_append, List.length_cons, List.length_nil]; omega
theorem caJ_asc (m : Nat → Int32) (q : Nat) : asc (caJ m q) := by
  have a32 : asc [32] := asc_1 (n := 32) (by decide) rfl
  have a59 : asc [59] := asc_1 (n := 59) (by decide) rfl
  unfold caJ
  split
  · exact asc_nil
  · exact asc_app (asc_app (asc_app (asc_app (asc_app (asc_app (asc_app (asc_app (asc_app (asc_numL _) a32) (asc_numL _)) a32) (asc_numL _)) a32) (asc_numL _)) a32) (tdL_asc _)) a59
theorem c_calls {σ : St} {m : Nat → Int32} {k : Nat} (hw : WF m) (H : HH (σ 3) m) (hs : szC σ k) (hk : k ≤ 100) : F_X0_calls σ = some (appC σ (cat (caJ m) (cn (m 3)))) := by
  have b3 := hw.2.2.2.1
  have b3' := b3.2
  have hcl : ∀ j, (cat (caJ m) j).length ≤ 60 * j := fun j => cat_len (f := caJ m) (B := 60) j (fun k _ => caJ_len m k)
  have g3 : ∀ l, appC σ l 3 = σ 3 := fun l => appC_g (by decide)
  unfold F_X0_calls
  have key := iter_row (f := fun z => B_X0_calls_2 z.1 z.2) (fun j => (nI j, appC σ (cat (caJ m) j))) (cn (m 3)) (appC σ (cat (caJ m) (cn (m 3)))) ?_ ?_ 0 (Nat.zero_le _)
  · rw [show ((0 : Int32), σ) = (nI 0, appC σ (cat (caJ m) 0)) from rfl, key, some_b]
  · intro j hj
    have hc := hcl j
    obtain ⟨p0, p1, p2, p3⟩ := hw.2.2.2.2.2.2.2.2.2.2 j hj
    obtain ⟨h22, h23, h24, h27, -⟩ := H.1.2.2.2 j hj
    have l0 := numL_len (v := nI j)
    have l1 := numL_len (v := m (160 + 6 * j))
    have l2 := numL_len (v := m (160 + 6 * j + 1))
    have l3 := numL_len (v := m (160 + 6 * j + 2))
    have l4 := tdL_len (srvI m j)
    have H' : ∀ l, HH (appC σ l 3) m := fun l => by rw [g3]; exact H
    show B_X0_calls_2 (nI j) (appC σ (cat (caJ m) j)) = _
    unfold B_X0_calls_2
    rw [g3, H.1.1.2.2.2.1, b3.1, if_pos (nI_lt hj (by omega)), c_isOpen hw (H' _).1 (by omega), some_b]
    by_cases q : opC m j
    · have q3 : ¬ m (160 + 6 * j + 3) = 0 := by rw [q.2]; decide
      rw [if_pos q, if_neg (show ¬ (1 : Int32) = 0 by decide), rdo_nI (by omega) (by decide), some_b, g3, h22, c_nmsA hs (okN_nI (by omega)) (bd_ok p0.1 (by decide)) (by omega), some_b, c_addA hs (by simp only [List.length_append, List.length_cons, List.length_nil]; omega), some_b, rdo_nI (by omega) (by decide), some_b, rdo_nI (by omega) (by decide), some_b, g3, h23, h24, c_nmsA hs (bd_ok p1 (by decide)) (bd_ok p2.1 (by decide)) (by simp only [List.length_append, List.length_cons, List.length_nil]; omega), some_b, c_addA hs (by simp only [List.length_append, List.length_cons, List.length_nil]; omega), some_b, c_serves hw (H' _).1 (by omega), some_b, c_told hs (srvI_ok hw j) (by simp only [List.length_append, List.length_cons, List.length_nil]; omega), some_b, c_addA hs (by simp only [List.length_append, List.length_cons, List.length_nil]; omega), some_b, nI_1, cat, caJ, if_neg q3]
      simp only [List.append_assoc, List.cons_append, List.nil_append]
    · have q3 : m (160 + 6 * j + 3) = 0 := by
        rcases p3 with p3 | p3
        · exact p3
        · exact absurd ⟨hj, p3⟩ q
      rw [if_neg q, if_pos rfl, nI_1, cat, caJ, if_pos q3, List.append_nil]
  · show B_X0_calls_2 (nI (cn (m 3))) (appC σ (cat (caJ m) (cn (m 3)))) = _
    unfold B_X0_calls_2
    rw [g3, H.1.1.2.2.2.1, b3.1, cn_nI (by omega), if_neg (nI_nlt (Nat.le_refl _) (by omega))]
theorem m_calls {σ : St} {m : Nat → Int32} {k : Nat} (hw : WF m) (hm : σ 20 1 = m) (hs : szM σ k) (hk : k ≤ 100) : F_X12_tellCalls σ = some (appM σ (cat (caJ m) (cn (m 3)))) := by
  have b3 := hw.2.2.2.1
  have b3' := b3.2
  have hcl : ∀ j, (cat (caJ m) j).length ≤ 60 * j := fun j => cat_len (f := caJ m) (B := 60) j (fun k _ => caJ_len m k)
  have g1 : ∀ l, appM σ l 20 1 = m := fun l => by rw [appM_j (by decide) (by decide)]; exact hm
  unfold F_X12_tellCalls
  have key := iter_row (f := fun z => B_X12_tellCalls_2 z.1 z.2) (fun j => (nI j, appM σ (cat (caJ m) j))) (cn (m 3)) (appM σ (cat (caJ m) (cn (m 3)))) ?_ ?_ 0 (Nat.zero_le _)
  · rw [show ((0 : Int32), σ) = (nI 0, appM σ (cat (caJ m) 0)) from rfl, key, some_b]
  · intro j hj
    have hc := hcl j
    obtain ⟨p0, p1, p2, p3⟩ := hw.2.2.2.2.2.2.2.2.2.2 j hj
    have l0 := numL_len (v := nI j)
    have l1 := numL_len (v := m (160 + 6 * j))
    have l2 := numL_len (v := m (160 + 6 * j + 1))
    have l3 := numL_len (v := m (160 + 6 * j + 2))
    have l4 := tdL_len (srvI m j)
    show B_X12_tellCalls_2 (nI j) (appM σ (cat (caJ m) j)) = _
    unfold B_X12_tellCalls_2
    rw [m_rd3, some_b, g1, b3.1, if_pos (nI_lt hj (by omega)), show (3 : Int32) = nI 3 from rfl, m_call (by omega) (by decide), some_b, g1]
    by_cases q3 : m (160 + 6 * j + 3) = 0
    · rw [if_pos q3, nI_1, cat, caJ, if_pos q3, List.append_nil]
    · rw [if_neg q3, m_numA hs (okN_nI (by omega)) (by omega), some_b, m_putA hs (by simp only [List.length_append, List.length_cons, List.length_nil]; omega), some_b]
      have ok : ∀ i, i < 3 → okN (m (160 + 6 * j + i)) ∧ (numL (m (160 + 6 * j + i))).length ≤ 11 := by
        intro i hi
        have : i = 0 ∨ i = 1 ∨ i = 2 := by omega
        rcases this with e | e | e <;> subst e
        · exact ⟨bd_ok p0.1 (by decide), numL_len⟩
        · exact ⟨bd_ok p1 (by decide), numL_len⟩
        · exact ⟨bd_ok p2.1 (by decide), numL_len⟩
      have hic : ∀ i, i ≤ 3 → (cat (fun i => numL (m (160 + 6 * j + i)) ++ [32]) i).length ≤ 12 * i := fun i hi => cat_len (B := 12) i (fun k hk => by have := (ok k (by omega)).2; simp only [List.length_append, List.length_cons, List.length_nil]; omega)
      have inn := iter_row (f := fun z => B_X12_tellCalls_37 (nI j) z.1 z.2) (fun i => (nI i, appM σ (cat (caJ m) j ++ numL (nI j) ++ [32] ++ cat (fun i => numL (m (160 + 6 * j + i)) ++ [32]) i))) 3 (appM σ (cat (caJ m) j ++ numL (nI j) ++ [32] ++ cat (fun i => numL (m (160 + 6 * j + i)) ++ [32]) 3)) ?_ ?_ 0 (Nat.zero_le _)
      · rw [show ((0 : Int32), appM σ (cat (caJ m) j ++ numL (nI j) ++ [32])) = (nI 0, appM σ (cat (caJ m) j ++ numL (nI j) ++ [32] ++ cat (fun i => numL (m (160 + 6 * j + i)) ++ [32]) 0)) by rw [show cat (fun i => numL (m (160 + 6 * j + i)) ++ [32]) 0 = [] from rfl, List.append_nil]; rfl, inn, some_b]
        have hi3 := hic 3 (by omega)
        rw [m_unitOf (by rw [g1]; exact hw) (by omega), some_b, g1]
        have tl : (Option.bind (if srvI m j < 0 then (F_X12_put (45 : Int32) (appM σ (cat (caJ m) j ++ numL (nI j) ++ [32] ++ cat (fun i => numL (m (160 + 6 * j + i)) ++ [32]) 3))).bind (fun s2011 => some s2011) else (some (srvI m j)).bind (fun r2009 => (F_X12_number r2009 (appM σ (cat (caJ m) j ++ numL (nI j) ++ [32] ++ cat (fun i => numL (m (160 + 6 * j + i)) ++ [32]) 3))).bind (fun s2010 => some s2010))) (fun z90 => (F_X12_put (59 : Int32) z90).bind (fun s2012 => (some (.inl (nI j + (1 : Int32), s2012)) : Option ((Int32 × St) ⊕ St))))) = some (.inl (nI j + 1, appM σ (cat (caJ m) j ++ numL (nI j) ++ [32] ++ cat (fun i => numL (m (160 + 6 * j + i)) ++ [32]) 3 ++ tdL (srvI m j) ++ [59]))) := by
          unfold tdL
          by_cases q : srvI m j < 0
          · rw [if_pos q, if_pos q, m_putA hs (by simp only [List.length_append, List.length_cons, List.length_nil]; omega), some_b, some_b, m_putA hs (by simp only [List.length_append, List.length_cons, List.length_nil]; omega), some_b]
          · have l5 := numL_len (v := srvI m j)
            rw [if_neg q, if_neg q, some_b, m_numA hs (srvI_ok hw j q) (by simp only [List.length_append, List.length_cons, List.length_nil]; omega), some_b, some_b, m_putA hs (by simp only [List.length_append, List.length_cons, List.length_nil]; omega), some_b]
        rw [tl, nI_1, show cat (caJ m) (j + 1) = cat (caJ m) j ++ caJ m j from rfl, show caJ m j = _ from if_neg q3]
        simp only [cat, Nat.add_zero, List.append_assoc, List.cons_append, List.nil_append]
      · intro i hi
        have hii := hic i (by omega)
        obtain ⟨o1, o2⟩ := ok i hi
        show B_X12_tellCalls_37 (nI j) (nI i) (appM σ _) = _
        unfold B_X12_tellCalls_37
        rw [if_neg (show ¬ (2 : Int32) < nI i from nI_nlt (a := 2) (by omega) (by decide)), m_call (by omega) (by omega), some_b, g1, m_numA hs o1 (by simp only [List.length_append, List.length_cons, List.length_nil]; omega), some_b, m_putA hs (by simp only [List.length_append, List.length_cons, List.length_nil]; omega), some_b, nI_1, cat]
        simp only [List.append_assoc]
      · show B_X12_tellCalls_37 (nI j) (nI 3) (appM σ _) = _
        unfold B_X12_tellCalls_37
        rw [if_pos (by decide)]
  · show B_X12_tellCalls_2 (nI (cn (m 3))) (appM σ (cat (caJ m) (cn (m 3)))) = _
    unfold B_X12_tellCalls_2
    rw [m_rd3, some_b, g1, b3.1, cn_nI (by omega), if_neg (nI_nlt (Nat.le_refl _) (by omega))]
/-- bill -/
noncomputable def biT (m : Nat → Int32) (q : Nat) : List Int32 := if q < cn (m 3) then numL (m (160 + 6 * q + 4)) ++ [32] ++ numL (m (160 + 6 * q + 5)) else aTx 14
theorem biT_len (m : Nat → Int32) (q : Nat) : (biT m q).length ≤ 23 := by
  have h1 := numL_len (v := m (160 + 6 * q + 4))
  have h2 := numL_len (v := m (160 + 6 * q + 5))
  have h3 := tx_len 14 (by decide)
  unfold biT
  split
  · simp only [List.length_append, List.length_cons, List.length_nil]; omega
  · omega
theorem biT_asc (m : Nat → Int32) (q : Nat) : asc (biT m q) := by
  unfold biT
  split
  · exact asc_app (asc_app (asc_numL _) (asc_1 (n := 32) (by decide) rfl)) (asc_numL _)
  · exact tx_asc 14 (by decide)
theorem bill_ok {m : Nat → Int32} (R : Rok m) {q : Nat} (hq : q < cn (m 3)) : okN (m (160 + 6 * q + 4)) ∧ okN (m (160 + 6 * q + 5)) := by
  obtain ⟨-, g1, g2, g3, g4, g5, -⟩ := R.2.1
  have g0 := R.2.2.2
  have b5 := g1.2
  have b6 := g2.2
  obtain ⟨e4, e5⟩ := g3 q hq
  have s4 := sumN_mem (f := fun q => cn (m (160 + 6 * q + 4))) hq
  have s5 := sumN_mem (f := fun q => cn (m (160 + 6 * q + 5))) hq
  have s4 : cn (m (160 + 6 * q + 4)) ≤ sumN (fun q => cn (m (160 + 6 * q + 4))) (cn (m 3)) := s4
  have s5 : cn (m (160 + 6 * q + 5)) ≤ sumN (fun q => cn (m (160 + 6 * q + 5))) (cn (m 3)) := s5
  rw [e4, e5]
  exact ⟨okN_nI (by omega), okN_nI (by omega)⟩
theorem c_bill {σ : St} {m : Nat → Int32} {k q : Nat} (R : Rok m) (H : HH (σ 3) m) (hs : szC σ k) (hk : k ≤ 100) (hq : q < 2147483648) : F_X0_bill (nI q) σ = some (appC σ (biT m q)) := by
  have hw := R.1
  have b3 := hw.2.2.2.1
  have b3' := b3.2
  unfold F_X0_bill biT
  rw [H.1.1.2.2.2.1, b3.1]
  by_cases c : q < cn (m 3)
  · obtain ⟨o1, o2⟩ := bill_ok R c
    obtain ⟨-, -, -, -, h25, h26⟩ := H.1.2.2.2 q c
    rw [if_pos (nI_lt c (by omega)), rdo_nI (by omega) (by decide), some_b, rdo_nI (by omega) (by decide), some_b, h25, h26, cn_nI (by omega), if_pos c]
    have := c_nmsA (σ := σ) (L := []) hs o1 o2 (by rw [List.length_nil]; omega)
    rw [appC_nil] at this
    rw [this, some_b, List.nil_append]
  · rw [if_neg (nI_nlt (by omega) (by omega)), cn_nI (by omega), if_neg c]
    have := c_sayA (σ := σ) (L := []) (i := 15) (w := 14) (by decide) (by decide) (tx_eq (15, 14) (by decide)) hs (by rw [List.length_nil]; omega)
    rw [appC_nil, List.nil_append] at this
    rw [show (15 : Int32) = nI 15 from rfl, this, some_b]
theorem m_bill {σ : St} {m : Nat → Int32} {k q : Nat} (R : Rok m) (hm : σ 20 1 = m) (hS : StatM σ) (hs : szM σ k) (hk : k ≤ 100) (hq : q < 2147483648) : F_X12_tellBill (nI q) σ = some (appM σ (biT m q)) := by
  have hw := R.1
  have b3 := hw.2.2.2.1
  have b3' := b3.2
  have g1 : ∀ l, appM σ l 20 1 = m := fun l => by rw [appM_j (by decide) (by decide)]; exact hm
  have g0 := g1 []
  rw [appM_nil] at g0
  unfold F_X12_tellBill biT
  rw [m_rd3, some_b, g0, b3.1]
  by_cases c : q < cn (m 3)
  · obtain ⟨o1, o2⟩ := bill_ok R c
    have l1 := numL_len (v := m (160 + 6 * q + 4))
    have n1 := m_numA (σ := σ) (L := []) hs o1 (by rw [List.length_nil]; omega)
    rw [appM_nil, List.nil_append] at n1
    rw [if_pos (nI_lt c (by omega)), show (4 : Int32) = nI 4 from rfl, m_call (by omega) (by decide), some_b, g0, n1, some_b, m_putA hs (by omega), some_b, show (5 : Int32) = nI 5 from rfl, m_call (by omega) (by decide), some_b, g1, m_numA hs o2 (by simp only [List.length_append, List.length_cons, List.length_nil]; omega), some_b, cn_nI (by omega), if_pos c]
  · rw [if_neg (nI_nlt (by omega) (by omega)), cn_nI (by omega), if_neg c]
    have := m_sayA (σ := σ) (L := []) (w := 14) (by decide) hS hs (by rw [List.length_nil]; omega)
    rw [appM_nil, List.nil_append] at this
    rw [show (14 : Int32) = nI 14 from rfl, this, some_b]
/-- books -/
def boT (m : Nat → Int32) : List Int32 := numL (-(m 5 + m 6)) ++ [32] ++ numL (m 5) ++ [32] ++ numL (m 6)
theorem boT_len (m : Nat → Int32) : (boT m).length ≤ 35 := by
  have h0 := numL_len (v := -(m 5 + m 6))
  have h1 := numL_len (v := m 5)
  have h2 := numL_len (v := m 6)
  unfold boT
  simp only [List.length_append, List.length_cons, List.length_nil]; omega
theorem boT_asc (m : Nat → Int32) : asc (boT m) := by
  have a32 : asc [32] := asc_1 (n := 32) (by decide) rfl
  exact asc_app (asc_app (asc_app (asc_app (asc_numL _) a32) (asc_numL _)) a32) (asc_numL _)
theorem books_ok {m : Nat → Int32} (R : Rok m) : okN (m 5) ∧ okN (m 6) ∧ okN (-(m 5 + m 6)) ∧ -m 5 - m 6 = -(m 5 + m 6) := by
  obtain ⟨-, g1, g2, -⟩ := R.2.1
  have g0 := R.2.2.2
  have b5 := g1.2
  have b6 := g2.2
  refine ⟨bd_ok g1 (by omega), bd_ok g2 (by omega), ?_, ?_⟩
  · rw [g1.1, g2.1, nI_add]
    exact ⟨_, by omega, Or.inr rfl⟩
  · rw [Int32.neg_add, Int32.sub_eq_add_neg]
theorem c_books {σ : St} {m : Nat → Int32} {k : Nat} (R : Rok m) (H : HH (σ 3) m) (hs : szC σ k) (hk : k ≤ 100) : (F_X1_numbers (-((σ 3 0 33) + (σ 3 0 34))) (σ 3 0 33) σ).bind (fun s15 => (F_X1_add (32 : Int32) s15).bind (fun s16 => (F_X1_number (s16 3 0 34) s16).bind (fun s17 => some s17))) = some (appC σ (boT m)) := by
  obtain ⟨o1, o2, o3, -⟩ := books_ok R
  obtain ⟨-, -, -, -, -, h33, h34, -⟩ := H.1.1
  have n1 := c_nmsA (σ := σ) (L := []) hs o3 o1 (by rw [List.length_nil]; omega)
  have h0 := numL_len (v := -(m 5 + m 6))
  have h1 := numL_len (v := m 5)
  rw [appC_nil, List.nil_append] at n1
  rw [h33, h34, n1, some_b, c_addA hs (by simp only [List.length_append, List.length_cons, List.length_nil]; omega), some_b, appC_g (by decide), h34, c_numA hs o2 (by simp only [List.length_append, List.length_cons, List.length_nil]; omega), some_b]
  rfl
theorem m_books {σ : St} {m : Nat → Int32} {k : Nat} (R : Rok m) (hm : σ 20 1 = m) (hs : szM σ k) (hk : k ≤ 100) : F_X12_tellBooks σ = some (appM σ (boT m)) := by
  obtain ⟨o1, o2, o3, o4⟩ := books_ok R
  have g1 : ∀ l, appM σ l 20 1 = m := fun l => by rw [appM_j (by decide) (by decide)]; exact hm
  have n1 := m_numA (σ := σ) (L := []) hs o3 (by rw [List.length_nil]; omega)
  have h0 := numL_len (v := -(m 5 + m 6))
  have h1 := numL_len (v := m 5)
  rw [appM_nil, List.nil_append] at n1
  unfold F_X12_tellBooks
  rw [m_rd5, some_b, m_rd6, some_b, hm, o4, n1, some_b, m_putA hs (by omega), some_b, m_rd5, some_b, g1, m_numA hs o1 (by simp only [List.length_append, List.length_cons, List.length_nil]; omega), some_b, m_putA hs (by simp only [List.length_append, List.length_cons, List.length_nil]; omega), some_b, m_rd6, some_b, g1, m_numA hs o2 (by simp only [List.length_append, List.length_cons, List.length_nil]; omega), some_b]
  rfl
/-- shifts -/
def shJ (m : Nat → Int32) (s : Nat) : List Int32 := cat (fun i => numL (m (496 + 3 * s + i)) ++ [32]) 3 ++ [59]
theorem shJ_len (m : Nat → Int32) (s : Nat) : (shJ m s).length ≤ 37 := by
  have h := cat_len (f := fun i => numL (m (496 + 3 * s + i)) ++ [32]) (B := 12) 3 (fun k _ => by have := numL_len (v := m (496 + 3 * s + k)); simp only [List.length_append, List.length_cons, List.length_nil]; omega)
  unfold shJ
  simp only [List.length_append, List.length_cons, List.length_nil]; omega
theorem shJ_asc (m : Nat → Int32) (s : Nat) : asc (shJ m s) := asc_app (cat_asc 3 (fun k _ => asc_app (asc_numL _) (asc_1 (n := 32) (by decide) rfl))) (asc_1 (n := 59) (by decide) rfl)
theorem c_shifts {σ : St} {m : Nat → Int32} {k : Nat} (R : Rok m) (H : HH (σ 3) m) (hs : szC σ k) (hk : k ≤ 100) : F_X0_shifts σ = some (appC σ (cat (shJ m) (cn (m 8)))) := by
  have hw := R.1
  have hww := R.2.2.1
  have b8 := hw.2.2.2.2.2.2.1
  have b8' := b8.2
  have e36 : σ 3 0 36 = m 8 := H.1.1.2.2.2.2.2.2.2.2
  have hcl : ∀ j, (cat (shJ m) j).length ≤ 37 * j := fun j => cat_len (f := shJ m) (B := 37) j (fun k _ => shJ_len m k)
  have g3 : ∀ l, appC σ l 3 = σ 3 := fun l => appC_g (by decide)
  unfold F_X0_shifts
  have key := iter_row (f := fun z => B_X0_shifts_2 z.1 z.2) (fun j => (nI j, appC σ (cat (shJ m) j))) (cn (m 8)) (appC σ (cat (shJ m) (cn (m 8)))) ?_ ?_ 0 (Nat.zero_le _)
  · rw [show ((0 : Int32), σ) = (nI 0, appC σ (cat (shJ m) 0)) from rfl, key, some_b]
  · intro j hj
    have hc := hcl j
    show B_X0_shifts_2 (nI j) (appC σ (cat (shJ m) j)) = _
    unfold B_X0_shifts_2
    rw [g3, e36, b8.1, if_pos (nI_lt hj (by omega))]
    have hic : ∀ i, (cat (fun i => numL (m (496 + 3 * j + i)) ++ [32]) i).length ≤ 12 * i := fun i => cat_len (B := 12) i (fun k hk => by have := numL_len (v := m (496 + 3 * j + k)); simp only [List.length_append, List.length_cons, List.length_nil]; omega)
    have inn := iter_row (f := fun z => B_X0_shifts_15 (nI j) z.1 z.2) (fun i => (nI i, appC σ (cat (shJ m) j ++ cat (fun i => numL (m (496 + 3 * j + i)) ++ [32]) i))) 3 (appC σ (cat (shJ m) j ++ cat (fun i => numL (m (496 + 3 * j + i)) ++ [32]) 3)) ?_ ?_ 0 (Nat.zero_le _)
    · have hi3 := hic 3
      rw [show ((0 : Int32), appC σ (cat (shJ m) j)) = (nI 0, appC σ (cat (shJ m) j ++ cat (fun i => numL (m (496 + 3 * j + i)) ++ [32]) 0)) by rw [show cat (fun i => numL (m (496 + 3 * j + i)) ++ [32]) 0 = [] from rfl, List.append_nil]; rfl, inn, some_b, c_addA hs (by simp only [List.length_append]; omega), some_b, nI_1]
      conv => rhs; rw [cat, shJ]
      rw [List.append_assoc]
    · intro i hi
      have hii := hic i
      have hv : bd (m (496 + (3 * j + i))) 100000000 := hww.2.1 (3 * j + i) (by omega)
      have hv2 : σ 3 14 (3 * j + i) = m (496 + (3 * j + i)) := H.2.2.1.2.1 (3 * j + i) (by omega)
      rw [← Nat.add_assoc] at hv hv2
      show B_X0_shifts_15 (nI j) (nI i) (appC σ _) = _
      unfold B_X0_shifts_15
      rw [if_pos (show nI i < (3 : Int32) from nI_lt (b := 3) hi (by decide)), show (3 : Int32) * nI j + nI i = nI (3 * j + i) by rw [← nI_add, ← nI_mulc]; rfl, rdo_nI (by omega) (by decide), some_b, g3, hv2, c_numA hs (bd_ok hv (by decide)) (by simp only [List.length_append]; omega), some_b]
      have := numL_len (v := m (496 + 3 * j + i))
      rw [c_addA hs (by simp only [List.length_append]; omega), some_b, nI_1]
      conv => rhs; rw [cat]
      simp only [List.append_assoc]
    · show B_X0_shifts_15 (nI j) (nI 3) (appC σ _) = _
      unfold B_X0_shifts_15
      rw [if_neg (by decide)]
  · show B_X0_shifts_2 (nI (cn (m 8))) (appC σ (cat (shJ m) (cn (m 8)))) = _
    unfold B_X0_shifts_2
    rw [g3, e36, b8.1, cn_nI (by omega), if_neg (nI_nlt (Nat.le_refl _) (by omega))]
theorem m_shifts {σ : St} {m : Nat → Int32} {k : Nat} (R : Rok m) (hm : σ 20 1 = m) (hs : szM σ k) (hk : k ≤ 100) : F_X12_tellShifts σ = some (appM σ (cat (shJ m) (cn (m 8)))) := by
  have hw := R.1
  have hww := R.2.2.1
  have b8 := hw.2.2.2.2.2.2.1
  have b8' := b8.2
  have hcl : ∀ j, (cat (shJ m) j).length ≤ 37 * j := fun j => cat_len (f := shJ m) (B := 37) j (fun k _ => shJ_len m k)
  have g1 : ∀ l, appM σ l 20 1 = m := fun l => by rw [appM_j (by decide) (by decide)]; exact hm
  unfold F_X12_tellShifts
  have key := iter_row (f := fun z => B_X12_tellShifts_2 z.1 z.2) (fun j => (nI j, appM σ (cat (shJ m) j))) (cn (m 8)) (appM σ (cat (shJ m) (cn (m 8)))) ?_ ?_ 0 (Nat.zero_le _)
  · rw [show ((0 : Int32), σ) = (nI 0, appM σ (cat (shJ m) 0)) from rfl, key, some_b]
  · intro j hj
    have hc := hcl j
    show B_X12_tellShifts_2 (nI j) (appM σ (cat (shJ m) j)) = _
    unfold B_X12_tellShifts_2
    rw [m_rd8, some_b, g1, b8.1, if_pos (nI_lt hj (by omega))]
    have hic : ∀ i, (cat (fun i => numL (m (496 + 3 * j + i)) ++ [32]) i).length ≤ 12 * i := fun i => cat_len (B := 12) i (fun k hk => by have := numL_len (v := m (496 + 3 * j + k)); simp only [List.length_append, List.length_cons, List.length_nil]; omega)
    have inn := iter_row (f := fun z => B_X12_tellShifts_15 (nI j) z.1 z.2) (fun i => (nI i, appM σ (cat (shJ m) j ++ cat (fun i => numL (m (496 + 3 * j + i)) ++ [32]) i))) 3 (appM σ (cat (shJ m) j ++ cat (fun i => numL (m (496 + 3 * j + i)) ++ [32]) 3)) ?_ ?_ 0 (Nat.zero_le _)
    · have hi3 := hic 3
      rw [show ((0 : Int32), appM σ (cat (shJ m) j)) = (nI 0, appM σ (cat (shJ m) j ++ cat (fun i => numL (m (496 + 3 * j + i)) ++ [32]) 0)) by rw [show cat (fun i => numL (m (496 + 3 * j + i)) ++ [32]) 0 = [] from rfl, List.append_nil]; rfl, inn, some_b, m_putA hs (by simp only [List.length_append]; omega), some_b, nI_1]
      conv => rhs; rw [cat, shJ]
      rw [List.append_assoc]
    · intro i hi
      have hii := hic i
      have hv : bd (m (496 + (3 * j + i))) 100000000 := hww.2.1 (3 * j + i) (by omega)
      rw [← Nat.add_assoc] at hv
      show B_X12_tellShifts_15 (nI j) (nI i) (appM σ _) = _
      unfold B_X12_tellShifts_15
      rw [if_pos (show nI i < (3 : Int32) from nI_lt (b := 3) hi (by decide)), show ((496 : Int32) + (3 : Int32) * nI j) + nI i = nI (496 + 3 * j + i) by rw [← nI_add, ← nI_add, ← nI_mulc]; rfl, m_rd (by omega), some_b, g1, m_numA hs (bd_ok hv (by decide)) (by simp only [List.length_append]; omega), some_b]
      have := numL_len (v := m (496 + 3 * j + i))
      rw [m_putA hs (by simp only [List.length_append]; omega), some_b, nI_1]
      conv => rhs; rw [cat]
      simp only [List.append_assoc]
    · show B_X12_tellShifts_15 (nI j) (nI 3) (appM σ _) = _
      unfold B_X12_tellShifts_15
      rw [if_neg (by decide)]
  · show B_X12_tellShifts_2 (nI (cn (m 8))) (appM σ (cat (shJ m) (cn (m 8)))) = _
    unfold B_X12_tellShifts_2
    rw [m_rd8, some_b, g1, b8.1, cn_nI (by omega), if_neg (nI_nlt (Nat.le_refl _) (by omega))]
