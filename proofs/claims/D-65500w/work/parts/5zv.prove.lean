/-! S11: prove, the model -/
set_option maxRecDepth 100000
def PvF (σ τ : St) : Prop := (∀ a, a ≠ 20 → τ a = σ a) ∧ (∀ b, b ≠ 0 → b ≠ 15 → b ≠ 34 → b ≠ 36 → b ≠ 38 → b ≠ 39 → b ≠ 40 → b ≠ 46 → b ≠ 47 → τ 20 b = σ 20 b) ∧ ∀ i, i ≠ 15 → i ≠ 34 → i ≠ 36 → i ≠ 40 → i ≠ 41 → τ 20 0 i = σ 20 0 i
theorem PvF.tr {σ τ υ : St} (f : PvF σ τ) (g : PvF τ υ) : PvF σ υ := ⟨fun a h => (g.1 a h).trans (f.1 a h), fun b h0 h1 h2 h3 h4 h5 h6 h7 h8 => (g.2.1 b h0 h1 h2 h3 h4 h5 h6 h7 h8).trans (f.2.1 b h0 h1 h2 h3 h4 h5 h6 h7 h8), fun i h1 h2 h3 h4 h5 => (g.2.2 i h1 h2 h3 h4 h5).trans (f.2.2 i h1 h2 h3 h4 h5)⟩
theorem PvF.b {σ τ : St} (f : FrB σ τ) : PvF σ τ := ⟨f.1, fun b h0 _ h2 h3 h4 _ _ _ _ => f.2.1 b h0 h2 h3 h4, fun i _ h2 h3 _ _ => f.2.2 i h2 h3⟩
theorem PvF.f {σ τ : St} (f : FrF σ τ) : PvF σ τ := ⟨f.1, fun b h0 _ _ _ _ h5 h6 _ _ => f.2.1 b h0 h5 h6, fun i _ _ _ h4 h5 => f.2.2 i h4 h5⟩
theorem PvF.app (σ : St) (l : List Int32) : PvF σ (appM σ l) := ⟨fun _ h => appM_g h, fun _ h0 h15 _ _ _ _ _ _ _ => appM_j h15 h0, fun _ h15 _ _ _ _ => appM_0 h15⟩
theorem PvF.up {σ τ : St} {b i : Nat} {v : Int32} (f : PvF σ τ) (hb : b = 46 ∨ b = 47) : PvF σ (up3 τ 20 b i v) := ⟨fun a h => by rw [up3_g h]; exact f.1 a h, fun c h0 h1 h2 h3 h4 h5 h6 h7 h8 => by rw [up3_j (by omega)]; exact f.2.1 c h0 h1 h2 h3 h4 h5 h6 h7 h8, fun j h1 h2 h3 h4 h5 => by rw [up3_j (by omega)]; exact f.2.2 j h1 h2 h3 h4 h5⟩
theorem PvF.m {σ τ : St} (f : PvF σ τ) : FrM σ τ := ⟨f.1, fun b hb => f.2.1 b (by omega) (by omega) (by omega) (by omega) (by omega) (by omega) (by omega) (by omega) (by omega), fun i hi => f.2.2 i (by omega) (by omega) (by omega) (by omega) (by omega)⟩
theorem FB.up {σ : St} {m : Nat → Int32} {b i : Nat} {v : Int32} (F : FB σ m) (hb : b = 46 ∨ b = 47) : FB (up3 σ 20 b i v) m := by
  unfold FB TabR
  rw [up3_j (by omega), up3_j (by omega), up3_j (by omega), up3_j (by omega), up3_j (by omega)]
  exact F
theorem m_worth {σ : St} {m : Nat → Int32} (R : Rok m) (F : FB σ m) (wo : Int32) : Ret (F_X12_worthOfPlan wo σ) (fun r => r.1 = nI (VV m wo (nC m) 0) ∧ FrF σ r.2 ∧ ∀ j, j < nC m → r.2 20 40 j = nI (bsS m wo j)) := by
  have c6 := nC_6 R
  unfold F_X12_worthOfPlan
  refine Ret.bind (m_findPlan R F wo) ?_
  rintro τ ⟨f1, f2, f3, f4, f5, f6⟩
  have hs := gvl_sum R (c := bsS m wo) (nC m) (Nat.le_refl _) (fun j hj => (f2 j hj).2)
  obtain ⟨bR, bS⟩ := grk_bd R (c := bsS m wo) (nC m) (Nat.le_refl _) (fun j hj => (f2 j hj).2)
  refine Ret.some ⟨?_, f1, f5⟩
  show (1000000 : Int32) * τ 20 0 40 - τ 20 0 41 = _
  rw [f3, f4, show (1000000 : Int32) = nI 1000000 from rfl, nI_mulc, nI_sub (by omega), ← f6]
  congr 1
  omega
theorem m_prove {σ : St} {m : Nat → Int32} {k : Nat} (R : Rok m) (hm : σ 20 1 = m) (hs : szM σ k) (hk : k ≤ 100) : Ret (F_X12_tellProof σ) (AskM σ (pvT m)) := by
  have hw := R.1
  have u6 := nU_6 R
  have c6 := nC_6 R
  have b0 := hw.1.1
  have b0' := b0.2
  have b2 := hw.2.2.1.2
  have b3 := hw.2.2.2.1.2
  have h1 : ∀ j, (cat (pvU m) j).length ≤ 110 * j := fun j => cat_len (f := pvU m) (B := 110) j (fun k _ => pvU_len hw k)
  have h2 : ∀ j, (cat (pvS m) j).length ≤ 26 * j := fun j => cat_len (f := pvS m) (B := 26) j (fun k _ => pvS_len m k)
  have h3 : ∀ j, (cat (pvA m) j).length ≤ 12 * j := fun j => cat_len (f := pvA m) (B := 12) j (fun k _ => pvA_len m k)
  have h4 : ∀ j, (cat (pvC m) j).length ≤ 12 * j := fun j => cat_len (f := pvC m) (B := 12) j (fun k _ => pvC_len m k)
  unfold F_X12_tellProof
  refine Ret.bind (m_findBoth R hm) ?_
  rintro τ ⟨F, B⟩
  have T0 : TxM σ τ [] := (TxM.rf σ).fr (B.2.1 15 (by decide) (by decide) (by decide) (by decide)) (B.2.2 15 (by decide) (by decide))
  have s0 : szM τ k := T0.sz hs
  have FA : ∀ l, FB (appM τ l) m := fun l => F.app
  -- the free units and their ways
  have L1 := iter_row (f := fun z => B_X12_tellProof_6 z.1 z.2) (fun i => (nI i, appM τ (cat (pvU m) i))) (nU m) (appM τ (cat (pvU m) (nU m))) ?_ ?_ 0 (Nat.zero_le _)
  · have g1 := h1 (nU m)
    rw [show ((0 : Int32), τ) = (nI 0, appM τ (cat (pvU m) 0)) from rfl, L1, some_b]
    have T1 : TxM σ (appM τ (cat (pvU m) (nU m))) (cat (pvU m) (nU m)) := T0.app
    have P1 : PvF σ (appM τ (cat (pvU m) (nU m))) := (PvF.b B).tr (PvF.app _ _)
    have F1 := FA (cat (pvU m) (nU m))
    generalize appM τ (cat (pvU m) (nU m)) = τ1 at T1 P1 F1
    -- the worth of the whole
    refine Ret.bind (m_worth R F1 (-1)) ?_
    rintro ⟨V, τ2⟩ ⟨q1', q2', q3'⟩
    have q1 : V = nI (VV m (-1) (nC m) 0) := q1'
    have q2 : FrF τ1 τ2 := q2'
    have q3 : ∀ j, j < nC m → τ2 20 40 j = nI (gc m j) := fun j hj => (q3' j hj).trans (by rw [bs_gc' hj])
    have F2 := q2.fb F1
    have P2 : PvF σ τ2 := P1.tr (PvF.f q2)
    have T2 : TxM σ τ2 (cat (pvU m) (nU m)) := T1.fr (q2.2.1 15 (by decide) (by decide) (by decide)) (q2.2.2 15 (by decide) (by decide))
    rw [q1]
    dsimp only
    -- the plan is kept beside
    refine Ret.bind (Q := fun υ => FB υ m ∧ PvF σ υ ∧ TxM σ υ (cat (pvU m) (nU m)) ∧ ∀ j, j < nC m → υ 20 47 j = nI (gc m j)) ?_ ?_
    · refine iter_cnt (f := fun z => B_X12_tellProof_110 (nI (VV m (-1) (nC m) 0)) z.1 z.2) (fun j (υ : St) => (nI j, υ)) (fun j υ => FB υ m ∧ PvF σ υ ∧ TxM σ υ (cat (pvU m) (nU m)) ∧ (∀ i, i < nC m → υ 20 40 i = nI (gc m i)) ∧ ∀ i, i < j → υ 20 47 i = nI (gc m i)) (nC m) ?_ ?_ τ2 ⟨F2, P2, T2, q3, fun i hi => absurd hi (Nat.not_lt_zero i)⟩
      · rintro j υ hj ⟨u1, u2, u3, u4, u5⟩
        show Ret (B_X12_tellProof_110 (nI (VV m (-1) (nC m) 0)) (nI j) υ) _
        unfold B_X12_tellProof_110
        rw [u1.1, if_pos (nI_lt hj (by omega)), rdo_nI (by omega) (by decide), some_b, u4 j hj, wro_nI (by omega) (by decide), some_b, nI_1]
        refine Ret.some ⟨_, rfl, u1.up (Or.inr rfl), u2.up (Or.inr rfl), u3.fr (up3_j (by decide)) (by rw [up3_j (by decide)]), fun i hi => by rw [up3_j (by decide)]; exact u4 i hi, fun i hi => ?_⟩
        by_cases e : i = j
        · rw [e, up3_same]
        · rw [up3_i e]; exact u5 i (by omega)
      · rintro υ ⟨u1, u2, u3, u4, u5⟩
        show Ret (B_X12_tellProof_110 (nI (VV m (-1) (nC m) 0)) (nI (nC m)) υ) _
        unfold B_X12_tellProof_110
        rw [u1.1, if_neg (nI_nlt (Nat.le_refl _) (by omega))]
        exact Ret.some ⟨u1, u2, u3, u5⟩
    rintro τ3 ⟨F3, P3, T3, K3⟩
    -- the duals of the calls
    refine Ret.bind (Q := fun υ => FB υ m ∧ PvF σ υ ∧ TxM σ υ (cat (pvU m) (nU m)) ∧ (∀ j, j < nC m → υ 20 47 j = nI (gc m j)) ∧ ∀ j, j < nC m → υ 20 46 j = duI m j) ?_ ?_
    · refine iter_cnt (f := fun z => B_X12_tellProof_138 (nI (VV m (-1) (nC m) 0)) z.1 z.2) (fun j (υ : St) => (nI j, υ)) (fun j υ => FB υ m ∧ PvF σ υ ∧ TxM σ υ (cat (pvU m) (nU m)) ∧ (∀ i, i < nC m → υ 20 47 i = nI (gc m i)) ∧ ∀ i, i < j → υ 20 46 i = duI m i) (nC m) ?_ ?_ τ3 ⟨F3, P3, T3, K3, fun i hi => absurd hi (Nat.not_lt_zero i)⟩
      · rintro j υ hj ⟨u1, u2, u3, u4, u5⟩
        show Ret (B_X12_tellProof_138 (nI (VV m (-1) (nC m) 0)) (nI j) υ) _
        unfold B_X12_tellProof_138
        rw [u1.1, if_pos (nI_lt hj (by omega))]
        refine Ret.bind (m_worth R u1 (nI j)) ?_
        rintro r ⟨r1, r2, -⟩
        rw [r1, wro_nI (by omega) (by decide), some_b, nI_1]
        refine Ret.some ⟨_, rfl, (r2.fb u1).up (Or.inl rfl), (u2.tr (PvF.f r2)).up (Or.inl rfl), (u3.fr (r2.2.1 15 (by decide) (by decide) (by decide)) (r2.2.2 15 (by decide) (by decide))).fr (up3_j (by decide)) (by rw [up3_j (by decide)]), fun i hi => by rw [up3_j (by decide), r2.2.1 47 (by decide) (by decide) (by decide)]; exact u4 i hi, fun i hi => ?_⟩
        by_cases e : i = j
        · rw [e, up3_same]; rfl
        · rw [up3_i e, r2.2.1 46 (by decide) (by decide) (by decide)]; exact u5 i (by omega)
      · rintro υ ⟨u1, u2, u3, u4, u5⟩
        show Ret (B_X12_tellProof_138 (nI (VV m (-1) (nC m) 0)) (nI (nC m)) υ) _
        unfold B_X12_tellProof_138
        rw [u1.1, if_neg (nI_nlt (Nat.le_refl _) (by omega))]
        exact Ret.some ⟨u1, u2, u3, u4, u5⟩
    rintro τ4 ⟨F4, P4, T4, K4, D4⟩
    have s4 : szM τ4 (k + (cat (pvU m) (nU m)).length) := T4.sz hs
    have FA4 : ∀ l, FB (appM τ4 l) m := fun l => F4.app
    have A47 : ∀ l j, j < nC m → appM τ4 l 20 47 j = nI (gc m j) := fun l j hj => by rw [appM_j (by decide) (by decide)]; exact K4 j hj
    have A46 : ∀ l j, j < nC m → appM τ4 l 20 46 j = duI m j := fun l j hj => by rw [appM_j (by decide) (by decide)]; exact D4 j hj
    have gle : ∀ j, gc m j ≤ nU m := fun j => by
      rcases amN_cases m (-1) (nC m - (j + 1)) (gx m j) with ⟨a1, -⟩ | ⟨a1, -⟩
      · exact Nat.le_of_lt a1.1
      · exact Nat.le_of_eq a1
    -- the sendings
    have L2 := iter_row (f := fun z => B_X12_tellProof_167 z.1 z.2) (fun j => (nI j, appM τ4 (cat (pvS m) j))) (nC m) (appM τ4 (cat (pvS m) (nC m))) ?_ ?_ 0 (Nat.zero_le _)
    · have g2 := h2 (nC m)
      rw [show ((0 : Int32), τ4) = (nI 0, appM τ4 (cat (pvS m) 0)) from rfl, L2, some_b, m_putA s4 (by omega), some_b]
      -- the duals of the units
      have L3 := iter_row (f := fun z => B_X12_tellProof_254 z.1 z.2) (fun i => (nI i, appM τ4 (cat (pvS m) (nC m) ++ [97] ++ cat (pvA m) i))) (nU m) (appM τ4 (cat (pvS m) (nC m) ++ [97] ++ cat (pvA m) (nU m))) ?_ ?_ 0 (Nat.zero_le _)
      · have g3 := h3 (nU m)
        rw [show ((0 : Int32), appM τ4 (cat (pvS m) (nC m) ++ [97])) = (nI 0, appM τ4 (cat (pvS m) (nC m) ++ [97] ++ cat (pvA m) 0)) by rw [show cat (pvA m) 0 = [] from rfl, List.append_nil]; rfl, L3, some_b, m_putA s4 (by simp only [List.length_append, List.length_cons, List.length_nil]; omega), some_b, m_putA s4 (by simp only [List.length_append, List.length_cons, List.length_nil]; omega), some_b]
        have L4 := iter_row (f := fun z => B_X12_tellProof_376 z.1 z.2) (fun j => (nI j, appM τ4 (cat (pvS m) (nC m) ++ [97] ++ cat (pvA m) (nU m) ++ [59] ++ [99] ++ cat (pvC m) j))) (nC m) (appM τ4 (cat (pvS m) (nC m) ++ [97] ++ cat (pvA m) (nU m) ++ [59] ++ [99] ++ cat (pvC m) (nC m))) ?_ ?_ 0 (Nat.zero_le _)
        · have g4 := h4 (nC m)
          rw [show ((0 : Int32), appM τ4 (cat (pvS m) (nC m) ++ [97] ++ cat (pvA m) (nU m) ++ [59] ++ [99])) = (nI 0, appM τ4 (cat (pvS m) (nC m) ++ [97] ++ cat (pvA m) (nU m) ++ [59] ++ [99] ++ cat (pvC m) 0)) by rw [show cat (pvC m) 0 = [] from rfl, List.append_nil]; rfl, L4, some_b, m_putA s4 (by simp only [List.length_append, List.length_cons, List.length_nil]; omega), some_b]
          refine Ret.some ⟨?_, (P4.tr (PvF.app _ _)).m⟩
          have := T4.app (l' := cat (pvS m) (nC m) ++ [97] ++ cat (pvA m) (nU m) ++ [59] ++ [99] ++ cat (pvC m) (nC m) ++ [59])
          unfold pvT
          simp only [List.append_assoc, List.cons_append, List.nil_append] at this ⊢
          exact this
        · intro j hj
          have g4 := h4 j
          obtain ⟨z, z1, z2, z3⟩ := duI_z R j
          show B_X12_tellProof_376 (nI j) (appM τ4 _) = _
          unfold B_X12_tellProof_376
          rw [(FA4 _).1, if_pos (nI_lt hj (by omega)), m_putA s4 (by simp only [List.length_append, List.length_cons, List.length_nil]; omega), some_b, rdo_nI (by omega) (by decide), some_b, A46 _ j hj, m_numA s4 (by rw [z1]; exact zI_ok (by unfold zB; omega)) (by simp only [List.length_append, List.length_cons, List.length_nil]; omega), some_b, nI_1, show cat (pvC m) (j + 1) = cat (pvC m) j ++ ([32] ++ numL (duI m j)) from rfl]
          simp only [List.append_assoc]
        · show B_X12_tellProof_376 (nI (nC m)) (appM τ4 _) = _
          unfold B_X12_tellProof_376
          rw [(FA4 _).1, if_neg (nI_nlt (Nat.le_refl _) (by omega))]
      · intro i hi
        have g3 := h3 i
        obtain ⟨f1, f2⟩ := fr_ok hi
        obtain ⟨z, z1, z2, z3⟩ := duU_z R hi (nC m) (Nat.le_refl _)
        show B_X12_tellProof_254 (nI i) (appM τ4 (cat (pvS m) (nC m) ++ [97] ++ cat (pvA m) i)) = _
        unfold B_X12_tellProof_254
        have inn := iter_row (f := fun z => B_X12_tellProof_267 (nI i) z.1 z.2 (appM τ4 (cat (pvS m) (nC m) ++ [97] ++ cat (pvA m) i))) (fun j => (duU m i j, nI j)) (nC m) (duU m i (nC m)) ?_ ?_ 0 (Nat.zero_le _)
        · rw [(FA4 _).2.1, if_pos (nI_lt hi (by omega)), show ((0 : Int32), (0 : Int32)) = (duU m i 0, nI 0) from rfl, inn, some_b, m_putA s4 (by simp only [List.length_append, List.length_cons, List.length_nil]; omega), some_b, m_numA s4 (by rw [z1]; exact zI_ok (by unfold zB; omega)) (by simp only [List.length_append, List.length_cons, List.length_nil]; omega), some_b, nI_1, show cat (pvA m) (i + 1) = cat (pvA m) i ++ ([32] ++ numL (duU m i (nC m))) from rfl]
          simp only [List.append_assoc]
        · intro j hj
          have gj := gle j
          obtain ⟨w1, -⟩ := wt_ok hj
          obtain ⟨hp, hr1, hr2, ep, er⟩ := wt_bd R hj
          show B_X12_tellProof_267 (nI i) (duU m i j) (nI j) _ = _
          unfold B_X12_tellProof_267
          rw [(FA4 _).1, if_pos (nI_lt hj (by omega)), rdo_nI (by omega) (by decide), some_b, A47 _ j hj]
          by_cases q : gc m j = i
          · have hv := (gc_vd (m := m) (k := j) hj (by rw [q]; exact hi)).1
            rw [q] at hv
            obtain ⟨x1, x2, x3⟩ := wN_bd R hi hj hv
            have r36 : rdo (appM τ4 (cat (pvS m) (nC m) ++ [97] ++ cat (pvA m) i)) 20 36 6 (nI j) = some (nI (wt m j)) := by rw [rdo_nI (by omega) (by decide), (FA4 _).2.2.1 j hj]
            have r38 : rdo (appM τ4 (cat (pvS m) (nC m) ++ [97] ++ cat (pvA m) i)) 20 38 6 (nI i) = some (nI (fr m i)) := by rw [rdo_nI (by omega) (by decide), (FA4 _).2.2.2.1 i hi]
            rw [if_pos (by rw [q]), r36, some_b, show (2 : Int32) = nI 2 from rfl, m_call (by omega) (by decide), some_b, (FA4 _).2.2.2.2.1, er, r38, some_b, some_b, show (0 : Int32) = nI 0 from rfl, m_call (by omega) (by decide), some_b, (FA4 _).2.2.2.2.1, Nat.add_zero, m_wayP R (FA4 _) hi hj, some_b, dI_fin hv.2, rdo_nI (by omega) (by decide), some_b, A46 _ j hj, some_b, show (1000000 : Int32) = nI 1000000 from rfl, nI_mulc, nI_sub (by omega), nI_1, duU, if_pos q, show 1000000 * rkP m j - wyP m i j = wN m i j by omega]
          · rw [if_neg (by rw [nI_eq (by omega) (by omega)]; exact q), some_b, nI_1, duU, if_neg q]
        · show B_X12_tellProof_267 (nI i) _ (nI (nC m)) _ = _
          unfold B_X12_tellProof_267
          rw [(FA4 _).1, if_neg (nI_nlt (Nat.le_refl _) (by omega))]
      · show B_X12_tellProof_254 (nI (nU m)) (appM τ4 _) = _
        unfold B_X12_tellProof_254
        rw [(FA4 _).2.1, if_neg (nI_nlt (Nat.le_refl _) (by omega))]
    · intro j hj
      have g2 := h2 j
      have gj := gle j
      obtain ⟨w1, -⟩ := wt_ok hj
      show B_X12_tellProof_167 (nI j) (appM τ4 (cat (pvS m) j)) = _
      unfold B_X12_tellProof_167
      rw [(FA4 _).1, if_pos (nI_lt hj (by omega)), rdo_nI (by omega) (by decide), some_b, A47 _ j hj, (FA4 _).2.1]
      by_cases q : gc m j < nU m
      · obtain ⟨f1, -⟩ := fr_ok q
        have l1 := numL_len (v := nI (wt m j))
        have l2 := numL_len (v := nI (fr m (gc m j)))
        rw [if_neg (show ¬ nI (gc m j) = nI (nU m) by rw [nI_eq (by omega) (by omega)]; omega), m_putA s4 (by omega), some_b, m_putA s4 (by simp only [List.length_append, List.length_cons, List.length_nil]; omega), some_b, rdo_nI (by omega) (by decide), some_b, (FA4 _).2.2.1 j hj, m_numA s4 (okN_nI (by omega)) (by simp only [List.length_append, List.length_cons, List.length_nil]; omega), some_b, m_putA s4 (by simp only [List.length_append, List.length_cons, List.length_nil]; omega), some_b, rdo_nI (by omega) (by decide), some_b, A47 _ j hj, rdo_nI (by omega) (by decide), some_b, (FA4 _).2.2.2.1 _ q, m_numA s4 (okN_nI (by omega)) (by simp only [List.length_append, List.length_cons, List.length_nil]; omega), some_b, m_putA s4 (by simp only [List.length_append, List.length_cons, List.length_nil]; omega), some_b, nI_1, show cat (pvS m) (j + 1) = cat (pvS m) j ++ pvS m j from rfl, pvS, if_pos q]
        simp only [List.append_assoc, List.cons_append, List.nil_append]
      · have e : gc m j = nU m := by omega
        rw [if_pos (by rw [e]), nI_1, show cat (pvS m) (j + 1) = cat (pvS m) j ++ pvS m j from rfl, pvS, if_neg q, List.append_nil]
    · show B_X12_tellProof_167 (nI (nC m)) (appM τ4 _) = _
      unfold B_X12_tellProof_167
      rw [(FA4 _).1, if_neg (nI_nlt (Nat.le_refl _) (by omega))]
  · intro i hi
    have g1 := h1 i
    obtain ⟨f1, f2⟩ := fr_ok hi
    have l1 := numL_len (v := nI (fr m i))
    have hW : ∀ p, (cat (pvW m i) p).length ≤ 12 * p := fun p => cat_len (f := pvW m i) (B := 12) p (fun k _ => pvW_len m i k)
    show B_X12_tellProof_6 (nI i) (appM τ (cat (pvU m) i)) = _
    unfold B_X12_tellProof_6
    rw [(FA _).2.1, if_pos (nI_lt hi (by omega)), m_putA s0 (by omega), some_b, m_putA s0 (by simp only [List.length_append, List.length_cons, List.length_nil]; omega), some_b, rdo_nI (by omega) (by decide), some_b, (FA _).2.2.2.1 i hi, m_numA s0 (okN_nI (by omega)) (by simp only [List.length_append, List.length_cons, List.length_nil]; omega), some_b]
    have inn := iter_row (f := fun z => B_X12_tellProof_38 (nI i) z.1 z.2) (fun p => (nI p, appM τ (cat (pvU m) i ++ [112] ++ [32] ++ numL (nI (fr m i)) ++ cat (pvW m i) p))) (cn (m 0)) (appM τ (cat (pvU m) i ++ [112] ++ [32] ++ numL (nI (fr m i)) ++ cat (pvW m i) (cn (m 0)))) ?_ ?_ 0 (Nat.zero_le _)
    · have gw := hW (cn (m 0))
      rw [show ((0 : Int32), appM τ (cat (pvU m) i ++ [112] ++ [32] ++ numL (nI (fr m i)))) = (nI 0, appM τ (cat (pvU m) i ++ [112] ++ [32] ++ numL (nI (fr m i)) ++ cat (pvW m i) 0)) by rw [show cat (pvW m i) 0 = [] from rfl, List.append_nil]; rfl, inn, some_b, m_putA s0 (by simp only [List.length_append, List.length_cons, List.length_nil]; omega), some_b, nI_1, show cat (pvU m) (i + 1) = cat (pvU m) i ++ pvU m i from rfl, pvU]
      simp only [List.append_assoc, List.cons_append, List.nil_append]
    · intro p hp
      have gw := hW p
      have lt : nI p < m 0 := by rw [b0.1]; exact nI_lt hp (by omega)
      have wb := (wyN_bd hw f1 hp).1
      show B_X12_tellProof_38 (nI i) (nI p) (appM τ _) = _
      unfold B_X12_tellProof_38
      rw [m_rd0, some_b, (FA _).2.2.2.2.1, if_pos lt, m_putA s0 (by simp only [List.length_append, List.length_cons, List.length_nil]; omega), some_b, rdo_nI (by omega) (by decide), some_b, (FA _).2.2.2.1 i hi, m_wayOf hw (FA _).2.2.2.2.1 (FA _).2.2.2.2.2 f1 hp, some_b, show cat (pvW m i) (p + 1) = cat (pvW m i) p ++ ([32] ++ tdL (dI (wyN m (fr m i) p))) from rfl]
      unfold tdL
      by_cases q : dI (wyN m (fr m i) p) < 0
      · rw [if_pos q, m_putA s0 (by simp only [List.length_append, List.length_cons, List.length_nil]; omega), some_b, nI_1, if_pos q]
        simp only [List.append_assoc]
      · rw [if_neg q, m_numA s0 (dI_ok wb q) (by simp only [List.length_append, List.length_cons, List.length_nil]; omega), some_b, nI_1, if_neg q]
        simp only [List.append_assoc]
    · have nlt : ¬ nI (cn (m 0)) < m 0 := by
        conv => rhs; rhs; rw [b0.1]
        exact nI_nlt (Nat.le_refl _) (by omega)
      show B_X12_tellProof_38 (nI i) (nI (cn (m 0))) (appM τ _) = _
      unfold B_X12_tellProof_38
      rw [m_rd0, some_b, (FA _).2.2.2.2.1, if_neg nlt]
  · show B_X12_tellProof_6 (nI (nU m)) (appM τ _) = _
    unfold B_X12_tellProof_6
    rw [(FA _).2.1, if_neg (nI_nlt (Nat.le_refl _) (by omega))]
