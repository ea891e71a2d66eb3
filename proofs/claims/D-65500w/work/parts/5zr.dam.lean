/-! S11: flow and dam asked -/
set_option maxRecDepth 100000
def apt (m : Nat → Int32) (a b : Nat) : Prop := a < cn (m 0) ∧ b < cn (m 0) ∧ a ≠ b
def apW (m : Nat → Int32) (a b : Nat) : Nat := if a < cn (m 0) ∧ b < cn (m 0) then 8 else 4
theorem c_flows {σ : St} {m : Nat → Int32} {a b k : Nat} (hw : WF m) (H : HH (σ 3) m) (hs : szC σ k) (hk : k ≤ 100) (ha : a < 2147483648) (hb : b < 2147483648) : (apt m a b ∧ F_X0_flows (nI a) (nI b) σ = some (1, σ)) ∨ (¬ apt m a b ∧ F_X0_flows (nI a) (nI b) σ = some (0, appC σ (aTx (apW m a b)))) := by
  have sy : ∀ i w, i < 54 → w < 45 → sTx i = aTx w → F_X1_say (nI i) σ = some (appC σ (aTx w)) := fun i w h1 h2 e => by
    have := c_sayA (σ := σ) (L := []) h1 h2 e hs (by rw [List.length_nil]; omega)
    rw [appC_nil, List.nil_append] at this
    exact this
  have s5 : F_X1_say (5 : Int32) σ = some (appC σ (aTx 4)) := sy 5 4 (by decide) (by decide) (tx_eq (5, 4) (by decide))
  have s9 : F_X1_say (9 : Int32) σ = some (appC σ (aTx 8)) := sy 9 8 (by decide) (by decide) (tx_eq (9, 8) (by decide))
  unfold F_X0_flows apt apW
  rw [c_isPlace hw H.1 ha, some_b, c_isPlace hw H.1 hb, some_b]
  by_cases q1 : a < cn (m 0)
  · by_cases q2 : b < cn (m 0)
    · rw [if_pos q1, if_neg (show ¬ (1 : Int32) = 0 by decide), if_pos q2, if_neg (show ¬ (1 : Int32) = 0 by decide), some_b, if_neg (show ¬ (1 : Int32) = 0 by decide)]
      by_cases q3 : a = b
      · right
        refine ⟨fun z => z.2.2 q3, ?_⟩
        rw [if_pos (by rw [q3]), bindL_inl, if_neg (show ¬ (1 : Int32) = 0 by decide), some_b, s9, some_b, if_pos ⟨q1, q2⟩]
      · left
        refine ⟨⟨q1, q2, q3⟩, ?_⟩
        rw [if_neg (by rw [nI_eq ha hb]; exact q3), bindL_inr]
    · right
      refine ⟨fun z => q2 z.2.1, ?_⟩
      rw [if_pos q1, if_neg (show ¬ (1 : Int32) = 0 by decide), if_neg q2, if_pos rfl, some_b, if_pos rfl, bindL_inl, if_pos rfl, some_b, s5, some_b, if_neg (fun z => q2 z.2)]
  · right
    refine ⟨fun z => q1 z.1, ?_⟩
    rw [if_neg q1, if_pos rfl, some_b, if_pos rfl, bindL_inl, if_pos rfl, some_b, s5, some_b, if_neg (fun z => q1 z.1)]
theorem m_apart {σ : St} {m : Nat → Int32} {a b k : Nat} (hw : WF m) (hm : σ 20 1 = m) (hS : StatM σ) (hs : szM σ k) (hk : k ≤ 100) (ha : a < 2147483648) (hb : b < 2147483648) : (apt m a b ∧ F_X12_areApart (nI a) (nI b) σ = some (1, σ)) ∨ (¬ apt m a b ∧ F_X12_areApart (nI a) (nI b) σ = some (0, appM σ (aTx (apW m a b)))) := by
  have hwm : WF (σ 20 1) := by rw [hm]; exact hw
  have s4 : F_X12_say (4 : Int32) σ = some (appM σ (aTx 4)) := AskM.say (w := 4) (by decide) hS hs hk
  have s8 : F_X12_say (8 : Int32) σ = some (appM σ (aTx 8)) := AskM.say (w := 8) (by decide) hS hs hk
  unfold F_X12_areApart apt apW
  rw [m_isPlace hwm ha, some_b, m_isPlace hwm hb, some_b, some_b, some_b, hm]
  by_cases q1 : a < cn (m 0)
  · by_cases q2 : b < cn (m 0)
    · rw [if_pos q1, if_neg (show ¬ (1 : Int32) = 0 by decide), if_pos q2, if_neg (show ¬ (1 : Int32) = 0 by decide)]
      by_cases q3 : a = b
      · right
        refine ⟨fun z => z.2.2 q3, ?_⟩
        rw [if_pos (by rw [q3]), bindL_inl, if_neg (show ¬ (1 : Int32) = 0 by decide), if_neg (show ¬ (1 : Int32) = 0 by decide), some_b, s8, some_b, if_pos ⟨q1, q2⟩]
      · left
        refine ⟨⟨q1, q2, q3⟩, ?_⟩
        rw [if_neg (by rw [nI_eq ha hb]; exact q3), bindL_inr]
    · right
      refine ⟨fun z => q2 z.2.1, ?_⟩
      rw [if_pos q1, if_neg (show ¬ (1 : Int32) = 0 by decide), if_neg q2, if_pos rfl, bindL_inl, if_neg (show ¬ (1 : Int32) = 0 by decide), if_pos rfl, some_b, s4, some_b, if_neg (fun z => q2 z.2)]
  · right
    refine ⟨fun z => q1 z.1, ?_⟩
    rw [if_neg q1, if_pos rfl, bindL_inl, if_pos rfl, some_b, s4, some_b, if_neg (fun z => q1 z.1)]
/-- flow -/
noncomputable def flT (m : Nat → Int32) (a b : Nat) : List Int32 := @ite _ (apt m a b) (Classical.propDecidable _) (numL (zI (ou m (ffl m a b) a))) (aTx (apW m a b))
theorem apW_lt (m : Nat → Int32) (a b : Nat) : apW m a b < 45 := by unfold apW; split <;> decide
theorem flT_len (m : Nat → Int32) (a b : Nat) : (flT m a b).length ≤ 11 := by
  unfold flT
  split
  · exact numL_len
  · exact tx_len _ (apW_lt m a b)
theorem flT_asc (m : Nat → Int32) (a b : Nat) : asc (flT m a b) := by
  unfold flT
  split
  · exact asc_numL _
  · exact tx_asc _ (apW_lt m a b)
theorem ffl_ok {m : Nat → Int32} (hw : WF m) {a b : Nat} (ha : a < cn (m 0)) : FlI m (ffl m a b) := augN_ok hw ha _ _ (fl0 m)
theorem c_flowA {σ : St} {m : Nat → Int32} {k a b : Nat} (hw : WF m) (H : HH (σ 3) m) (B5 : HB (σ 5)) (hs : szC σ k) (hk : k ≤ 100) (ha : a < 2147483648) (hb : b < 2147483648) : Ret ((F_X0_flows (nI a) (nI b) σ).bind (fun q6 => (if q6.1 = 0 then some q6.2 else (F_X7_find 3 (nI a) (nI b) q6.2).bind (fun s9 => (F_X1_number (s9 9 0 3) s9).bind (fun s10 => some s10))))) (AskC σ m (flT m a b)) := by
  unfold flT
  rcases c_flows hw H hs hk ha hb with ⟨q, e⟩ | ⟨q, e⟩
  · rw [e, some_b, if_neg (show ¬ (1 : Int32) = 0 by decide), if_pos q]
    refine Ret.bind (c_find hw q.1 q.2.1 q.2.2 H.1) ?_
    rintro τ ⟨t1, t2, t3, -⟩
    obtain ⟨o1, o2⟩ := ou_bd hw (ffl_ok hw (b := b) q.1) a
    have hst : szC τ k := by unfold szC; rw [t1 1 (by decide)]; exact hs
    have n1 := c_numA (σ := τ) (L := []) hst (zI_ok (a := ou m (ffl m a b) a) (by unfold zB; omega)) (by rw [List.length_nil]; omega)
    rw [appC_nil, List.nil_append] at n1
    rw [t3, n1, some_b]
    exact Ret.some ⟨((TxC.rf σ).g (t1 1 (by decide))).app, FrQ.app ⟨fun x hx => t1 x (by omega), fun b _ => by rw [t1 0 (by decide)], by rw [t1 3 (by decide)]; exact H, by rw [t1 5 (by decide)]; exact B5⟩⟩
  · rw [e, some_b, if_pos rfl, if_neg q]
    exact AskC.ex H B5 rfl
theorem FrM.w3 {σ τ : St} (f : FW3 σ τ) : FrM σ τ := ⟨fun a ha => by funext b; exact f a b (by omega), fun b hb => f 20 b (by omega), fun i _ => by rw [f 20 0 (by omega)]⟩
theorem m_flowA {σ : St} {m : Nat → Int32} {k a b : Nat} (hw : WF m) (hm : σ 20 1 = m) (hS : StatM σ) (hs : szM σ k) (hk : k ≤ 100) (ha : a < 2147483648) (hb : b < 2147483648) (h20 : σ 20 0 20 = 35) : Ret ((F_X12_areApart (nI a) (nI b) σ).bind (fun q5 => (if q5.1 = 0 then some q5.2 else (F_X12_askFlow (nI a) (nI b) q5.2).bind (fun s8 => some s8)))) (AskM σ (flT m a b)) := by
  have b1 := hw.2.1.2
  have b0 := hw.1.1.2
  unfold flT
  rcases m_apart hw hm hS hs hk ha hb with ⟨q, e⟩ | ⟨q, e⟩
  · rw [e, some_b, if_neg (show ¬ (1 : Int32) = 0 by decide), if_pos q]
    show Ret ((F_X12_askFlow (nI a) (nI b) σ).bind (fun s8 => some s8)) _
    unfold F_X12_askFlow
    rw [h20, if_neg (by decide), if_neg (by decide)]
    refine Ret.bind ?_ (fun τ h => Ret.some h)
    refine Ret.bind (m_findFlow hw q.1 q.2.1 q.2.2 hm) ?_
    rintro τ ⟨t1, t2⟩
    obtain ⟨o1, o2⟩ := ou_bd hw (ffl_ok hw (b := b) q.1) a
    have T0 : TxM σ τ [] := (TxM.rf σ).fr (t1 20 15 (by omega)) (by rw [t1 20 0 (by omega)])
    have hst : szM τ k := T0.sz hs
    have qa := q.1
    have eo := m_out0 (σ := τ) (f := ffl m a b) (v := a) hw (by rw [t1 20 1 (by omega)]; exact hm) 0 (fun k hk => by rw [if_pos rfl, rdo_nI (by omega) (by decide), some_b, t2 k hk]) (by omega)
    have n1 := m_numA (σ := τ) (L := []) hst (zI_ok (a := ou m (ffl m a b) a) (by unfold zB; omega)) (by rw [List.length_nil]; omega)
    rw [appM_nil, List.nil_append] at n1
    rw [eo, some_b, n1, some_b]
    exact Ret.some ⟨T0.app, (FrM.w3 t1).app⟩
  · rw [e, some_b, if_pos rfl, if_neg q]
    exact AskM.ex rfl
/-- dam -/
noncomputable def dmF (f : Nat → Int) (k : Nat) : List Int32 := [32] ++ numL (zI (f k))
noncomputable def dmP (m : Nat → Int32) (f : Nat → Int) (a p : Nat) : List Int32 := @ite _ (rv m f a p) (Classical.propDecidable _) ([32] ++ numL (nI p)) []
noncomputable def dmL (m : Nat → Int32) (a b : Nat) : List Int32 := [102] ++ cat (dmF (ffl m a b)) (cn (m 1)) ++ [59] ++ [99] ++ cat (dmP m (ffl m a b) a) (cn (m 0)) ++ [59]
noncomputable def dmT (m : Nat → Int32) (a b : Nat) : List Int32 := @ite _ (apt m a b) (Classical.propDecidable _) (dmL m a b) (aTx (apW m a b))
theorem dmF_len (f : Nat → Int) (k : Nat) : (dmF f k).length ≤ 12 := by
  have := numL_len (v := zI (f k))
  unfold dmF
  simp only [List.length_append, List.length_cons, List.length_nil]; omega
theorem dmP_len (m : Nat → Int32) (f : Nat → Int) (a p : Nat) : (dmP m f a p).length ≤ 12 := by
  have := numL_len (v := nI p)
  unfold dmP
  split
  · simp only [List.length_append, List.length_cons, List.length_nil]; omega
  · exact Nat.zero_le _
theorem dmT_len {m : Nat → Int32} (hw : WF m) (a b : Nat) : (dmT m a b).length ≤ 350 := by
  have b1 := hw.2.1.2
  have b0 := hw.1.1.2
  have h1 := cat_len (f := dmF (ffl m a b)) (B := 12) (cn (m 1)) (fun k _ => dmF_len _ k)
  have h2 := cat_len (f := dmP m (ffl m a b) a) (B := 12) (cn (m 0)) (fun k _ => dmP_len _ _ _ k)
  have h3 := tx_len _ (apW_lt m a b)
  unfold dmT
  split
  · unfold dmL
    simp only [List.length_append, List.length_cons, List.length_nil]; omega
  · omega
theorem dmT_asc (m : Nat → Int32) (a b : Nat) : asc (dmT m a b) := by
  have a32 : asc [32] := asc_1 (n := 32) (by decide) rfl
  have a59 : asc [59] := asc_1 (n := 59) (by decide) rfl
  unfold dmT
  split
  · refine asc_app (asc_app (asc_app (asc_app (asc_app (asc_1 (n := 102) (by decide) rfl) (cat_asc _ (fun k _ => asc_app a32 (asc_numL _)))) a59) (asc_1 (n := 99) (by decide) rfl)) (cat_asc _ (fun k _ => ?_))) a59
    unfold dmP
    split
    · exact asc_app a32 (asc_numL _)
    · exact asc_nil
  · exact tx_asc _ (apW_lt m a b)
theorem t34 : sTx 34 = [59] ++ [99] := by decide +kernel
theorem fl_zB {m : Nat → Int32} {f : Nat → Int} (hw : WF m) (FI : FlI m f) {k : Nat} (hk : k < cn (m 1)) : zB (f k) := by
  obtain ⟨f1, f2, -, -⟩ := FI k hk
  obtain ⟨-, -, -, -, c2⟩ := pipe hw hk
  unfold zB
  omega
theorem c_dam {σ : St} {m : Nat → Int32} {k a b : Nat} (hw : WF m) (H : HH (σ 3) m) (B5 : HB (σ 5)) (hs : szC σ k) (hk : k ≤ 100) (q : apt m a b) : Ret (F_X7_dam 3 (nI a) (nI b) σ) (AskC σ m (dmL m a b)) := by
  have b1 := hw.2.1
  have b1' := b1.2
  have b0 := hw.1.1
  have b0' := b0.2
  unfold F_X7_dam
  refine Ret.bind (c_find hw q.1 q.2.1 q.2.2 H.1) ?_
  rintro τ ⟨t1, t2, -, -⟩
  have FI := ffl_ok hw (b := b) q.1
  have hst : szC τ k := by unfold szC; rw [t1 1 (by decide)]; exact hs
  have T0 : TxC σ τ [] := (TxC.rf σ).g (t1 1 (by decide))
  have H1 : HH (τ 3) m := by rw [t1 3 (by decide)]; exact H
  have g3 : ∀ l, appC τ l 3 = τ 3 := fun l => appC_g (by decide)
  have g9 : ∀ l, appC τ l 9 = τ 9 := fun l => appC_g (by decide)
  have hc1 : ∀ j, (cat (dmF (ffl m a b)) j).length ≤ 12 * j := fun j => cat_len (f := dmF (ffl m a b)) (B := 12) j (fun k _ => dmF_len _ k)
  have hc2 : ∀ j, (cat (dmP m (ffl m a b) a) j).length ≤ 12 * j := fun j => cat_len (f := dmP m (ffl m a b) a) (B := 12) j (fun k _ => dmP_len _ _ _ k)
  have n1 := c_addA (σ := τ) (L := []) (c := 102) hst (by rw [List.length_nil]; omega)
  rw [appC_nil, List.nil_append] at n1
  rw [n1, some_b]
  have L1 := iter_row (f := fun z => B_X7_dam_17 3 (nI a) z.1 z.2) (fun j => (nI j, appC τ ([102] ++ cat (dmF (ffl m a b)) j))) (cn (m 1)) (appC τ ([102] ++ cat (dmF (ffl m a b)) (cn (m 1)))) ?_ ?_ 0 (Nat.zero_le _)
  · have h1 := hc1 (cn (m 1))
    rw [show ((0 : Int32), appC τ [102]) = (nI 0, appC τ ([102] ++ cat (dmF (ffl m a b)) 0)) from rfl, L1, some_b, show (34 : Int32) = nI 34 from rfl, f_sayC (by decide) (appC_sz hst) (by rw [t34]; simp only [List.length_append, List.length_cons, List.length_nil]; omega), some_b, appC_app, t34]
    obtain ⟨r, r1, M, r2, r3, r4⟩ := c_reach (σ := appC τ ([102] ++ cat (dmF (ffl m a b)) (cn (m 1)) ++ ([59] ++ [99]))) (f := ffl m a b) hw q.1 (by rw [g3]; exact H1.1) (t2.fr (by rw [g9])) FI
    rw [r1, some_b, r2]
    have L2 := iter_row (f := fun z => B_X7_dam_69 3 (nI M) z.1 z.2) (fun j => (nI j, appC τ ([102] ++ cat (dmF (ffl m a b)) (cn (m 1)) ++ ([59] ++ [99]) ++ cat (dmP m (ffl m a b) a) j))) (cn (m 0)) (appC τ ([102] ++ cat (dmF (ffl m a b)) (cn (m 1)) ++ ([59] ++ [99]) ++ cat (dmP m (ffl m a b) a) (cn (m 0)))) ?_ ?_ 0 (Nat.zero_le _)
    · have h2 := hc2 (cn (m 0))
      rw [show ((0 : Int32), appC τ ([102] ++ cat (dmF (ffl m a b)) (cn (m 1)) ++ ([59] ++ [99]))) = (nI 0, appC τ ([102] ++ cat (dmF (ffl m a b)) (cn (m 1)) ++ ([59] ++ [99]) ++ cat (dmP m (ffl m a b) a) 0)) by rw [show cat (dmP m (ffl m a b) a) 0 = [] from rfl, List.append_nil]; rfl, L2, some_b, c_addA hst (by simp only [List.length_append, List.length_cons, List.length_nil]; omega), some_b]
      have e : [102] ++ cat (dmF (ffl m a b)) (cn (m 1)) ++ ([59] ++ [99]) ++ cat (dmP m (ffl m a b) a) (cn (m 0)) ++ [59] = dmL m a b := by
        unfold dmL
        simp only [List.append_assoc]
      rw [e]
      exact Ret.some ⟨T0.app, FrQ.app ⟨fun x hx => t1 x (by omega), fun b _ => by rw [t1 0 (by decide)], H1, by rw [t1 5 (by decide)]; exact B5⟩⟩
    · intro p hp
      have h2 := hc2 p
      have lt : nI p < m 0 := by rw [b0.1]; exact nI_lt hp (by omega)
      have bg := bit_get (p := p) r3 (by omega)
      show B_X7_dam_69 3 (nI M) (nI p) (appC τ _) = _
      unfold B_X7_dam_69
      rw [g3, H1.1.1.1, if_pos lt]
      by_cases z : rv m (ffl m a b) a p
      · have e : cat (dmP m (ffl m a b) a) (p + 1) = cat (dmP m (ffl m a b) a) p ++ ([32] ++ numL (nI p)) := by rw [cat]; unfold dmP; rw [if_pos z]
        rw [if_neg (fun w => bg.1.mp w ((r4 p hp).mpr z)), c_addA hst (by simp only [List.length_append, List.length_cons, List.length_nil]; omega), some_b, c_numA hst (okN_nI (by omega)) (by simp only [List.length_append, List.length_cons, List.length_nil]; omega), some_b, nI_1, e]
        simp only [List.append_assoc]
      · have e : cat (dmP m (ffl m a b) a) (p + 1) = cat (dmP m (ffl m a b) a) p := by rw [cat]; unfold dmP; rw [if_neg z, List.append_nil]
        rw [if_pos (bg.1.mpr (fun w => z ((r4 p hp).mp w))), nI_1, e]
    · have nlt : ¬ nI (cn (m 0)) < m 0 := by
        conv => rhs; rhs; rw [b0.1]
        exact nI_nlt (Nat.le_refl _) (by omega)
      show B_X7_dam_69 3 (nI M) (nI (cn (m 0))) (appC τ _) = _
      unfold B_X7_dam_69
      rw [g3, H1.1.1.1, if_neg nlt]
  · intro j hj
    have h1 := hc1 j
    have lt : nI j < m 1 := by rw [b1.1]; exact nI_lt hj (by omega)
    show B_X7_dam_17 3 (nI a) (nI j) (appC τ _) = _
    unfold B_X7_dam_17
    rw [g3, H1.1.1.2.1, if_pos lt, c_addA hst (by simp only [List.length_append, List.length_cons, List.length_nil]; omega), some_b, rdo_nI (by omega) (by decide), some_b, g9, t2 j hj, c_numA hst (zI_ok (fl_zB hw FI hj)) (by simp only [List.length_append, List.length_cons, List.length_nil]; omega), some_b, nI_1, show cat (dmF (ffl m a b)) (j + 1) = cat (dmF (ffl m a b)) j ++ ([32] ++ numL (zI (ffl m a b j))) from rfl]
    simp only [List.append_assoc]
  · have nlt : ¬ nI (cn (m 1)) < m 1 := by
      conv => rhs; rhs; rw [b1.1]
      exact nI_nlt (Nat.le_refl _) (by omega)
    show B_X7_dam_17 3 (nI a) (nI (cn (m 1))) (appC τ _) = _
    unfold B_X7_dam_17
    rw [g3, H1.1.1.2.1, if_neg nlt]
theorem m_dam {σ : St} {m : Nat → Int32} {k a b : Nat} (hw : WF m) (hm : σ 20 1 = m) (hs : szM σ k) (hk : k ≤ 100) (q : apt m a b) : Ret (F_X12_tellDam (nI a) (nI b) σ) (AskM σ (dmL m a b)) := by
  have b1 := hw.2.1
  have b1' := b1.2
  have b0 := hw.1.1
  have b0' := b0.2
  unfold F_X12_tellDam
  refine Ret.bind (m_findFlow hw q.1 q.2.1 q.2.2 hm) ?_
  rintro τ ⟨t1, t2⟩
  have FI := ffl_ok hw (b := b) q.1
  have T0 : TxM σ τ [] := (TxM.rf σ).fr (t1 20 15 (by omega)) (by rw [t1 20 0 (by omega)])
  have hst : szM τ k := T0.sz hs
  have mt : τ 20 1 = m := by rw [t1 20 1 (by omega)]; exact hm
  have g1 : ∀ l, appM τ l 20 1 = m := fun l => by rw [appM_j (by decide) (by decide)]; exact mt
  have g52 : ∀ l, appM τ l 20 52 = τ 20 52 := fun l => appM_j (by decide) (by decide)
  have hc1 : ∀ j, (cat (dmF (ffl m a b)) j).length ≤ 12 * j := fun j => cat_len (f := dmF (ffl m a b)) (B := 12) j (fun k _ => dmF_len _ k)
  have hc2 : ∀ j, (cat (dmP m (ffl m a b) a) j).length ≤ 12 * j := fun j => cat_len (f := dmP m (ffl m a b) a) (B := 12) j (fun k _ => dmP_len _ _ _ k)
  have n1 := m_putA (σ := τ) (L := []) (c := 102) hst (by rw [List.length_nil]; omega)
  rw [appM_nil, List.nil_append] at n1
  rw [n1, some_b]
  have L1 := iter_row (f := fun z => B_X12_tellDam_14 (nI a) z.1 z.2) (fun j => (nI j, appM τ ([102] ++ cat (dmF (ffl m a b)) j))) (cn (m 1)) (appM τ ([102] ++ cat (dmF (ffl m a b)) (cn (m 1)))) ?_ ?_ 0 (Nat.zero_le _)
  · have h1 := hc1 (cn (m 1))
    rw [show ((0 : Int32), appM τ [102]) = (nI 0, appM τ ([102] ++ cat (dmF (ffl m a b)) 0)) from rfl, L1, some_b, m_putA hst (by simp only [List.length_append, List.length_cons, List.length_nil]; omega), some_b, m_putA hst (by simp only [List.length_append, List.length_cons, List.length_nil]; omega), some_b]
    obtain ⟨υ, e1, u1, u2⟩ := m_marks (σ := appM τ ([102] ++ cat (dmF (ffl m a b)) (cn (m 1)) ++ [59] ++ [99])) (f := ffl m a b) hw q.1 (g1 _) (t2.fr (g52 _)) FI
    -- the marks' two loops
    have split : ∀ {α : Type} (X : Option St) (Y : St → Option St) (K : St → Option α), (X.bind (fun z => (Y z).bind K)) = (X.bind Y).bind K := fun X Y K => by cases X <;> rfl
    rw [split, e1, some_b]
    have T1 : TxM σ υ ([102] ++ cat (dmF (ffl m a b)) (cn (m 1)) ++ [59] ++ [99]) := (T0.app (l' := [102] ++ cat (dmF (ffl m a b)) (cn (m 1)) ++ [59] ++ [99])).fr (u1 20 15 (by omega)) (by rw [u1 20 0 (by omega)])
    have hsυ : szM υ (k + ([102] ++ cat (dmF (ffl m a b)) (cn (m 1)) ++ [59] ++ [99]).length) := T1.sz hs
    have hl : ([102] ++ cat (dmF (ffl m a b)) (cn (m 1)) ++ [59] ++ [99]).length ≤ 243 := by simp only [List.length_append, List.length_cons, List.length_nil]; omega
    have mυ : ∀ l, appM υ l 20 1 = m := fun l => by rw [appM_j (by decide) (by decide), u1 20 1 (by omega)]; exact g1 _
    have g53 : ∀ l, appM υ l 20 53 = υ 20 53 := fun l => appM_j (by decide) (by decide)
    have L2 := iter_row (f := fun z => B_X12_tellDam_212 z.1 z.2) (fun j => (nI j, appM υ (cat (dmP m (ffl m a b) a) j))) (cn (m 0)) (appM υ (cat (dmP m (ffl m a b) a) (cn (m 0)))) ?_ ?_ 0 (Nat.zero_le _)
    · have h2 := hc2 (cn (m 0))
      rw [show ((0 : Int32), υ) = (nI 0, appM υ (cat (dmP m (ffl m a b) a) 0)) from rfl, L2, some_b, m_putA hsυ (by omega), some_b]
      refine Ret.some ⟨?_, ?_⟩
      · have := T1.app (l' := cat (dmP m (ffl m a b) a) (cn (m 0)) ++ [59])
        rw [← List.append_assoc] at this
        exact this
      · exact FrM.app (((FrM.w3 t1).app).tr (FrM.w3 (FW3.of u1 (by decide))))
    · intro p hp
      have h2 := hc2 p
      have lt : nI p < m 0 := by rw [b0.1]; exact nI_lt hp (by omega)
      show B_X12_tellDam_212 (nI p) (appM υ _) = _
      unfold B_X12_tellDam_212
      rw [m_rd0, some_b, mυ, if_pos lt, rdo_nI (by omega) (by decide), some_b, g53, u2 p hp]
      by_cases z : rv m (ffl m a b) a p
      · have e : cat (dmP m (ffl m a b) a) (p + 1) = cat (dmP m (ffl m a b) a) p ++ ([32] ++ numL (nI p)) := by rw [cat]; unfold dmP; rw [if_pos z]
        rw [if_neg (fun w => mk_neg.mp w z), m_putA hsυ (by omega), some_b, m_numA hsυ (okN_nI (by omega)) (by simp only [List.length_append, List.length_cons, List.length_nil] at hl ⊢; omega), some_b, nI_1, e]
        simp only [List.append_assoc]
      · have e : cat (dmP m (ffl m a b) a) (p + 1) = cat (dmP m (ffl m a b) a) p := by rw [cat]; unfold dmP; rw [if_neg z, List.append_nil]
        rw [if_pos (mk_neg.mpr z), nI_1, e]
    · have nlt : ¬ nI (cn (m 0)) < m 0 := by
        conv => rhs; rhs; rw [b0.1]
        exact nI_nlt (Nat.le_refl _) (by omega)
      show B_X12_tellDam_212 (nI (cn (m 0))) (appM υ _) = _
      unfold B_X12_tellDam_212
      rw [m_rd0, some_b, mυ, if_neg nlt]
  · intro j hj
    have h1 := hc1 j
    have lt : nI j < m 1 := by rw [b1.1]; exact nI_lt hj (by omega)
    show B_X12_tellDam_14 (nI a) (nI j) (appM τ _) = _
    unfold B_X12_tellDam_14
    rw [m_rd1, some_b, g1, if_pos lt, m_putA hst (by simp only [List.length_append, List.length_cons, List.length_nil]; omega), some_b, rdo_nI (by omega) (by decide), some_b, g52, t2 j hj, m_numA hst (zI_ok (fl_zB hw FI hj)) (by simp only [List.length_append, List.length_cons, List.length_nil]; omega), some_b, nI_1, show cat (dmF (ffl m a b)) (j + 1) = cat (dmF (ffl m a b)) j ++ ([32] ++ numL (zI (ffl m a b j))) from rfl]
    simp only [List.append_assoc]
  · have nlt : ¬ nI (cn (m 1)) < m 1 := by
      conv => rhs; rhs; rw [b1.1]
      exact nI_nlt (Nat.le_refl _) (by omega)
    show B_X12_tellDam_14 (nI a) (nI (cn (m 1))) (appM τ _) = _
    unfold B_X12_tellDam_14
    rw [m_rd1, some_b, g1, if_neg nlt]
