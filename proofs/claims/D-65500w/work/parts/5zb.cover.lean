/-! S11: cover and move -/
set_option maxRecDepth 100000
theorem dI_min {a b : Nat} (ha : a ≤ 1000000) (hb : b ≤ 1000000) : (if dI b < 0 then some (dI a) else (if dI a < 0 then some (dI b) else (if dI b < dI a then some (dI b) else some (dI a)))) = some (dI (min a b)) := by
  by_cases qb : b < 1000000
  · rw [if_neg (fun z => (dI_neg hb).mp z qb)]
    by_cases qa : a < 1000000
    · rw [if_neg (fun z => (dI_neg ha).mp z qa), dI_fin qa, dI_fin qb]
      by_cases c : b < a
      · rw [if_pos (nI_lt c (by omega)), show min a b = b by omega, dI_fin qb]
      · rw [if_neg (nI_nlt (by omega) (by omega)), show min a b = a by omega, dI_fin qa]
    · rw [if_pos ((dI_neg ha).mpr qa), show min a b = b by omega]
  · rw [if_pos ((dI_neg hb).mpr qb), show min a b = a by omega]
theorem FB.u47 {σ : St} {m : Nat → Int32} {v : Int32} (F : FB σ m) : FB (up3 σ 20 0 47 v) m := by
  unfold FB TabR
  rw [up3_i (by decide), up3_i (by decide), up3_j (by decide), up3_j (by decide), up3_j (by decide), up3_j (by decide)]
  exact F
theorem m_cover27 {σ : St} {m : Nat → Int32} {x y : Int32} {g p : Nat} {b : Nat} (R : RokB m b) (F : FB σ m) (hg : g < cn (m 0)) (hp : p < cn (m 0)) : iter (fun z => B_X12_coverWith_27 x (nI g) y (nI p) z.1 z.2 σ) ((-1 : Int32), (0 : Int32)) = some (dI (cvP m x g p)) := by
  have hw := R.1
  have u6 := nU_6 R
  have b0 := hw.1.1.2
  have b2 := hw.2.2.1.2
  have e : cvP m x g p = fldL (fr m) (cvS m x g p) 1000000 (nU m) := fldU_L (frU m) (cvS m x g p) 1000000 (cn (m 2))
  have hb : ∀ i, fldL (fr m) (cvS m x g p) 1000000 i ≤ 1000000 := by
    intro i
    induction i with
    | zero => exact Nat.le_refl _
    | succ i ih => rw [fldL, cvS]; omega
  have key := iter_row (f := fun z => B_X12_coverWith_27 x (nI g) y (nI p) z.1 z.2 σ) (fun i => (dI (fldL (fr m) (cvS m x g p) 1000000 i), nI i)) (nU m) (dI (fldL (fr m) (cvS m x g p) 1000000 (nU m))) ?_ ?_ 0 (Nat.zero_le _)
  · rw [e]
    exact key
  · intro i hi
    obtain ⟨f1, f2⟩ := fr_ok hi
    have hd := cvD_bd (x := x) hw hg f1 hp
    show B_X12_coverWith_27 x (nI g) y (nI p) (dI (fldL (fr m) (cvS m x g p) 1000000 i)) (nI i) σ = _
    unfold B_X12_coverWith_27
    have zz : (if nI (fr m i) = x then (rdo σ 20 34 64 (((8 : Int32) * nI g) + nI p)).bind (fun r2006 => some r2006) else (some (nI (fr m i))).bind (fun r2004 => (F_X12_wayOf r2004 (nI p) σ).bind (fun r2005 => some r2005))) = some (dI (cvD m x g (fr m i) p)) := by
      unfold cvD
      by_cases c : nI (fr m i) = x
      · rw [if_pos c, if_pos c, show (8 : Int32) * nI g + nI p = nI (8 * g + p) by rw [← nI_add, ← nI_mulc]; rfl, rdo_nI (by omega) (by decide), some_b, F.2.2.2.2.2 g p hg hp]
      · rw [if_neg c, if_neg c, some_b, m_wayOf hw F.2.2.2.2.1 F.2.2.2.2.2 f1 hp, some_b]
    rw [F.2.1, if_pos (nI_lt hi (by omega)), rdo_nI (by omega) (by decide), some_b, F.2.2.2.1 i hi, zz, some_b, dI_min (hb i) hd, some_b, nI_1]
    rfl
  · show B_X12_coverWith_27 x (nI g) y (nI p) _ (nI (nU m)) σ = _
    unfold B_X12_coverWith_27
    rw [F.2.1, if_neg (nI_nlt (Nat.le_refl _) (by omega))]
noncomputable def cwR (m : Nat → Int32) (x : Int32) (g : Nat) (σ : St) : Int32 × St := if fbN m x g (cn (m 0)) < cn (m 0) then (-1, up3 σ 20 0 47 (nI (fbN m x g (cn (m 0))))) else (nI (wnC m x g (cn (m 0))), up3 σ 20 0 47 (nI (qN m x g (cn (m 0)))))
theorem m_coverWith {σ : St} {m : Nat → Int32} {x : Int32} {g : Nat} {b : Nat} (R : RokB m b) (F : FB σ m) (hg : g < cn (m 0)) : F_X12_coverWith x (nI g) σ = some (cwR m x g σ) := by
  have hw := R.1
  have b0 := hw.1.1
  have b0' := b0.2
  have b02 := hw.1.2
  unfold F_X12_coverWith
  rw [nst_b]
  have key : Ret (iter (fun z => B_X12_coverWith_10 x (nI g) z.1 z.2.1 z.2.2) ((-1 : Int32), (0 : Int32), up3 σ 20 0 47 0)) (fun r => r = if fbN m x g (cn (m 0)) < cn (m 0) then .inr (-1, up3 σ 20 0 47 (nI (fbN m x g (cn (m 0))))) else .inl (nI (wnC m x g (cn (m 0))), up3 σ 20 0 47 (nI (qN m x g (cn (m 0)))))) := by
    refine iter_cnt (f := fun z => B_X12_coverWith_10 x (nI g) z.1 z.2.1 z.2.2) (fun j (_ : Unit) => (wnI m x g j, nI j, up3 σ 20 0 47 (nI (qN m x g j)))) (fun j _ => fbN m x g j = j) (cn (m 0)) ?_ ?_ () rfl
    · rintro j - hj hf
      have hc := cvP_bd m x g j
      have F1 : FB (up3 σ 20 0 47 (nI (qN m x g j))) m := F.u47
      show Ret (B_X12_coverWith_10 x (nI g) (wnI m x g j) (nI j) (up3 σ 20 0 47 (nI (qN m x g j)))) _
      unfold B_X12_coverWith_10
      have lt : nI j < m 0 := by rw [b0.1]; exact nI_lt hj (by omega)
      rw [m_rd0, some_b, F1.2.2.2.2.1, if_pos lt, m_cover27 R F1 hg hj, some_b]
      by_cases q : cvP m x g j < 1000000
      · rw [if_neg (fun z => (dI_neg hc).mp z q), dI_fin q]
        by_cases c : j = 0 ∨ wnC m x g j < cvP m x g j
        · rw [if_pos (wnI_lt.mpr c), nst_b, nI_1, up3_up]
          refine Ret.some ⟨(), ?_, fbN_ok hf q⟩
          rw [wnI, if_neg (Nat.succ_ne_zero j), wnC, if_pos c, qN, if_pos c]
        · rw [if_neg (fun z => c (wnI_lt.mp z)), nI_1]
          refine Ret.some ⟨(), ?_, fbN_ok hf q⟩
          rw [wnI, wnI, if_neg (fun z => c (Or.inl z)), if_neg (Nat.succ_ne_zero j), wnC, if_neg c, qN, if_neg c]
      · have hb := fbN_bad hj hf q
        rw [if_pos ((dI_neg hc).mpr q), nst_b, up3_up, if_pos (by omega), hb]
        exact ⟨_, rfl, rfl⟩
    · rintro - hf
      have F1 : FB (up3 σ 20 0 47 (nI (qN m x g (cn (m 0))))) m := F.u47
      show Ret (B_X12_coverWith_10 x (nI g) (wnI m x g (cn (m 0))) (nI (cn (m 0))) (up3 σ 20 0 47 (nI (qN m x g (cn (m 0)))))) _
      unfold B_X12_coverWith_10
      have lt : ¬ nI (cn (m 0)) < m 0 := by
        conv => rhs; rhs; rw [b0.1]
        exact nI_nlt (Nat.le_refl _) (by omega)
      rw [m_rd0, some_b, F1.2.2.2.2.1, if_neg lt, if_neg (show ¬ fbN m x g (cn (m 0)) < cn (m 0) by omega)]
      refine ⟨_, rfl, ?_⟩
      show Sum.inl _ = _
      rw [wnI, if_neg (by omega)]
  obtain ⟨r, r1, r2⟩ := key
  rw [r1, r2]
  unfold cwR
  by_cases c : fbN m x g (cn (m 0)) < cn (m 0)
  · rw [if_pos c, if_pos c, bindL_inr]
  · rw [if_neg c, if_neg c, bindL_inl]
/-- cover -/
noncomputable def cvT (m : Nat → Int32) : List Int32 := if fbN m (-1) 0 (cn (m 0)) < cn (m 0) then aTx 21 ++ [32] ++ numL (nI (fbN m (-1) 0 (cn (m 0)))) else numL (nI (qN m (-1) 0 (cn (m 0)))) ++ [32] ++ numL (nI (wnC m (-1) 0 (cn (m 0))))
theorem cvT_len (m : Nat → Int32) : (cvT m).length ≤ 23 := by
  have h1 := numL_len (v := nI (fbN m (-1) 0 (cn (m 0))))
  have h2 := numL_len (v := nI (qN m (-1) 0 (cn (m 0))))
  have h3 := numL_len (v := nI (wnC m (-1) 0 (cn (m 0))))
  have h4 := tx_len 21 (by decide)
  unfold cvT
  split <;> simp only [List.length_append, List.length_cons, List.length_nil] <;> omega
theorem cvT_asc (m : Nat → Int32) : asc (cvT m) := by
  have a32 : asc [32] := asc_1 (n := 32) (by decide) rfl
  unfold cvT
  split
  · exact asc_app (asc_app (tx_asc 21 (by decide)) a32) (asc_numL _)
  · exact asc_app (asc_app (asc_numL _) a32) (asc_numL _)
theorem t41 : sTx 41 = aTx 21 ++ [32] := by decide +kernel
theorem c_coverTell {σ : St} {h k : Nat} {m : Nat → Int32} (hw : WF m) (h12 : h ≠ 12) (h1 : h ≠ 1) (H : HH (σ h) m) (hs : szC σ k) (hk : k ≤ 100) : Ret (F_X10_tell h σ) (fun τ => HH (τ h) m ∧ (∀ a, a ≠ h → a ≠ 12 → a ≠ 1 → τ a = σ a) ∧ TxC σ τ (cvT m)) := by
  have b0' := hw.1.1.2
  have b02 := hw.1.2
  have f1 := fbN_le m (-1) 0 (cn (m 0))
  have f2 := qN_bd m (-1) 0 (cn (m 0))
  have f3 := wnC_bd m (-1) 0 (cn (m 0))
  unfold F_X10_tell cvT
  refine Ret.bind (c_coverLook (x := -1) (g := 0) hw h12 (by omega) H) ?_
  rintro r ⟨r1, r2⟩
  have e1 : r.2 1 = σ 1 := r1.2 1 (fun z => h1 z.symm) (by decide)
  have hs1 : szC r.2 k := by unfold szC; rw [e1]; exact hs
  have T0 : TxC σ r.2 [] := (TxC.rf σ).g e1
  have fin : ∀ l, HH (appC r.2 l h) m ∧ (∀ a, a ≠ h → a ≠ 12 → a ≠ 1 → appC r.2 l a = σ a) := fun l => ⟨by rw [appC_g h1]; exact r1.1, fun a ha ha12 ha1 => by rw [appC_g ha1]; exact r1.2 a ha ha12⟩
  have hl := tx_len 21 (by decide)
  rcases r2 with ⟨c, p1, p2⟩ | ⟨c, p1, p2, p3⟩
  · rw [p1, if_pos rfl, show (41 : Int32) = nI 41 from rfl, f_sayC (by decide) hs1 (by rw [t41]; simp only [List.length_append, List.length_cons, List.length_nil]; omega), some_b, appC_g (by decide), p2, c_numA hs1 (okN_nI (by omega)) (by rw [t41]; simp only [List.length_append, List.length_cons, List.length_nil]; omega), some_b, if_pos c, t41]
    exact Ret.some ⟨(fin _).1, (fin _).2, T0.app⟩
  · have := c_nmsA (σ := r.2) (L := []) hs1 (okN_nI (n := qN m (-1) 0 (cn (m 0))) (by omega)) (okN_nI (n := wnC m (-1) 0 (cn (m 0))) (by omega)) (by rw [List.length_nil]; omega)
    rw [appC_nil, List.nil_append] at this
    rw [p1, if_neg (show ¬ (1 : Int32) = 0 by decide), p2, p3, this, some_b, if_neg (by omega)]
    exact Ret.some ⟨(fin _).1, (fin _).2, T0.app⟩
theorem FrM.fb {σ τ : St} (f : FrB σ τ) : FrM σ τ := ⟨f.1, fun b hb => f.2.1 b (by omega) (by omega) (by omega) (by omega), fun i hi => f.2.2 i (by omega) (by omega)⟩
theorem FrM.u0 {σ τ : St} {i : Nat} {v : Int32} (f : FrM σ τ) (hi : i ≠ 2 ∧ i ≠ 5 ∧ i ≠ 7 ∧ i ≠ 8 ∧ i ≠ 9 ∧ i ≠ 11) : FrM σ (up3 τ 20 0 i v) := ⟨fun a ha => by rw [up3_g ha]; exact f.1 a ha, fun b hb => by rw [up3_j (by omega)]; exact f.2.1 b hb, fun j hj => by rw [up3_i (by omega)]; exact f.2.2 j hj⟩
theorem m_tellCover5 {σ : St} {m : Nat → Int32} {k : Nat} {b : Nat} (R : RokB m b) (hm : σ 20 1 = m) (hS : StatM σ) (hs : szM σ k) (hk : k ≤ 100) : Ret (F_X12_tellCover σ) (fun τ => TxM σ τ (cvT m) ∧ FrM σ τ ∧ τ 20 5 = σ 20 5) := by
  have hw := R.1
  have b0' := hw.1.1.2
  have b02 := hw.1.2
  have f1 := fbN_le m (-1) 0 (cn (m 0))
  have f2 := qN_bd m (-1) 0 (cn (m 0))
  have f3 := wnC_bd m (-1) 0 (cn (m 0))
  unfold F_X12_tellCover cvT
  refine Ret.bind (m_findBoth R hm) ?_
  rintro τ ⟨F, B⟩
  have T0 : TxM σ τ [] := (TxM.rf σ).fr (B.2.1 15 (by decide) (by decide) (by decide) (by decide)) (B.2.2 15 (by decide) (by decide))
  have hSt : StatM τ := hS.fr (B.2.1 19 (by decide) (by decide) (by decide) (by decide)) (B.2.1 17 (by decide) (by decide) (by decide) (by decide)) (B.2.1 18 (by decide) (by decide) (by decide) (by decide))
  have hst : szM τ k := by have := T0.sz hs; exact this
  have hl := tx_len 21 (by decide)
  rw [show (0 : Int32) = nI 0 from rfl, m_coverWith R F (g := 0) (by omega), some_b]
  unfold cwR
  by_cases c : fbN m (-1) 0 (cn (m 0)) < cn (m 0)
  · have T1 : TxM σ (up3 τ 20 0 47 (nI (fbN m (-1) 0 (cn (m 0))))) [] := T0.fr (up3_j (by decide)) (up3_i (by decide))
    have s1 : szM (up3 τ 20 0 47 (nI (fbN m (-1) 0 (cn (m 0))))) k := T1.sz hs
    have e47 : ∀ l, appM (up3 τ 20 0 47 (nI (fbN m (-1) 0 (cn (m 0))))) l 20 0 47 = nI (fbN m (-1) 0 (cn (m 0))) := fun l => by rw [appM_0 (by decide)]; exact up3_same _ _ _ _ _
    rw [if_pos c]
    dsimp only
    rw [if_pos (show (-1 : Int32) < nI 0 by decide), show (21 : Int32) = nI 21 from rfl, AskM.say (by decide) (hSt.u0) s1 hk, some_b, m_putA s1 (by omega), some_b, some_b, e47, m_numA s1 (okN_nI (by omega)) (by simp only [List.length_append, List.length_cons, List.length_nil]; omega), some_b, if_pos (show (-1 : Int32) < nI 0 by decide), if_pos c]
    exact Ret.some ⟨T1.app, ((FrM.fb B).u0 (by decide)).app, by rw [appM_j (by decide) (by decide), up3_j (by decide)]; exact B.2.1 5 (by decide) (by decide) (by decide) (by decide)⟩
  · have T1 : TxM σ (up3 τ 20 0 47 (nI (qN m (-1) 0 (cn (m 0))))) [] := T0.fr (up3_j (by decide)) (up3_i (by decide))
    have s1 : szM (up3 τ 20 0 47 (nI (qN m (-1) 0 (cn (m 0))))) k := T1.sz hs
    have e47 : up3 τ 20 0 47 (nI (qN m (-1) 0 (cn (m 0)))) 20 0 47 = nI (qN m (-1) 0 (cn (m 0))) := up3_same _ _ _ _ _
    have n1 := m_numA (σ := up3 τ 20 0 47 (nI (qN m (-1) 0 (cn (m 0))))) (L := []) s1 (okN_nI (n := qN m (-1) 0 (cn (m 0))) (by omega)) (by rw [List.length_nil]; omega)
    have l1 := numL_len (v := nI (qN m (-1) 0 (cn (m 0))))
    rw [appM_nil, List.nil_append] at n1
    rw [if_neg c]
    dsimp only
    rw [if_neg (show ¬ nI (wnC m (-1) 0 (cn (m 0))) < nI 0 from nI_pos (by omega)), some_b, e47, n1, some_b, if_neg (show ¬ nI (wnC m (-1) 0 (cn (m 0))) < nI 0 from nI_pos (by omega)), m_putA s1 (by omega), some_b, m_numA s1 (okN_nI (by omega)) (by simp only [List.length_append, List.length_cons, List.length_nil]; omega), some_b, if_neg c]
    exact Ret.some ⟨T1.app, ((FrM.fb B).u0 (by decide)).app, by rw [appM_j (by decide) (by decide), up3_j (by decide)]; exact B.2.1 5 (by decide) (by decide) (by decide) (by decide)⟩
theorem m_tellCover {σ : St} {m : Nat → Int32} {k : Nat} {b : Nat} (R : RokB m b) (hm : σ 20 1 = m) (hS : StatM σ) (hs : szM σ k) (hk : k ≤ 100) : Ret (F_X12_tellCover σ) (AskM σ (cvT m)) := (m_tellCover5 R hm hS hs hk).mono (fun _ h => ⟨h.1, h.2.1⟩)
