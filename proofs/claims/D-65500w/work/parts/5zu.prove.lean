/-! S11: prove, the component -/
set_option maxRecDepth 100000
noncomputable def pvW (m : Nat → Int32) (i p : Nat) : List Int32 := [32] ++ tdL (dI (wyN m (fr m i) p))
noncomputable def pvU (m : Nat → Int32) (i : Nat) : List Int32 := [112, 32] ++ numL (nI (fr m i)) ++ cat (pvW m i) (cn (m 0)) ++ [59]
noncomputable def pvS (m : Nat → Int32) (j : Nat) : List Int32 := if gc m j < nU m then [115, 32] ++ numL (nI (wt m j)) ++ [32] ++ numL (nI (fr m (gc m j))) ++ [59] else []
/-- the dual of a unit: from the call that it is sent to -/
noncomputable def duU (m : Nat → Int32) (i : Nat) : Nat → Int32
  | 0 => 0
  | j + 1 => if gc m j = i then nI (wN m i j) - duI m j else duU m i j
noncomputable def pvA (m : Nat → Int32) (i : Nat) : List Int32 := [32] ++ numL (duU m i (nC m))
noncomputable def pvC (m : Nat → Int32) (j : Nat) : List Int32 := [32] ++ numL (duI m j)
noncomputable def pvT (m : Nat → Int32) : List Int32 := cat (pvU m) (nU m) ++ cat (pvS m) (nC m) ++ [97] ++ cat (pvA m) (nU m) ++ [59, 99] ++ cat (pvC m) (nC m) ++ [59]
theorem pvW_len (m : Nat → Int32) (i p : Nat) : (pvW m i p).length ≤ 12 := by
  have := tdL_len (dI (wyN m (fr m i) p))
  unfold pvW
  simp only [List.length_append, List.length_cons, List.length_nil]; omega
theorem pvU_len {m : Nat → Int32} (hw : WF m) (i : Nat) : (pvU m i).length ≤ 110 := by
  have b0 := hw.1.1.2
  have h1 := cat_len (f := pvW m i) (B := 12) (cn (m 0)) (fun k _ => pvW_len m i k)
  have h2 := numL_len (v := nI (fr m i))
  unfold pvU
  simp only [List.length_append, List.length_cons, List.length_nil]; omega
theorem pvS_len (m : Nat → Int32) (j : Nat) : (pvS m j).length ≤ 26 := by
  have h1 := numL_len (v := nI (wt m j))
  have h2 := numL_len (v := nI (fr m (gc m j)))
  unfold pvS
  split
  · simp only [List.length_append, List.length_cons, List.length_nil]; omega
  · exact Nat.zero_le _
theorem pvA_len (m : Nat → Int32) (i : Nat) : (pvA m i).length ≤ 12 := by
  have := numL_len (v := duU m i (nC m))
  unfold pvA
  simp only [List.length_append, List.length_cons, List.length_nil]; omega
theorem pvC_len (m : Nat → Int32) (j : Nat) : (pvC m j).length ≤ 12 := by
  have := numL_len (v := duI m j)
  unfold pvC
  simp only [List.length_append, List.length_cons, List.length_nil]; omega
theorem pvT_len {m : Nat → Int32} (R : Rok m) : (pvT m).length ≤ 1000 := by
  have u6 := nU_6 R
  have c6 := nC_6 R
  have h1 := cat_len (f := pvU m) (B := 110) (nU m) (fun k _ => pvU_len R.1 k)
  have h2 := cat_len (f := pvS m) (B := 26) (nC m) (fun k _ => pvS_len m k)
  have h3 := cat_len (f := pvA m) (B := 12) (nU m) (fun k _ => pvA_len m k)
  have h4 := cat_len (f := pvC m) (B := 12) (nC m) (fun k _ => pvC_len m k)
  unfold pvT
  simp only [List.length_append, List.length_cons, List.length_nil]; omega
theorem pvT_asc (m : Nat → Int32) : asc (pvT m) := by
  have a32 : asc [32] := asc_1 (n := 32) (by decide) rfl
  have a59 : asc [59] := asc_1 (n := 59) (by decide) rfl
  have a112 : asc [112, 32] := asc_cons ⟨112, by decide, rfl⟩ a32
  have a115 : asc [115, 32] := asc_cons ⟨115, by decide, rfl⟩ a32
  have a5999 : asc [59, 99] := asc_cons ⟨59, by decide, rfl⟩ (asc_1 (n := 99) (by decide) rfl)
  refine asc_app (asc_app (asc_app (asc_app (asc_app (asc_app (cat_asc _ (fun k _ => ?_)) (cat_asc _ (fun k _ => ?_))) (asc_1 (n := 97) (by decide) rfl)) (cat_asc _ (fun k _ => asc_app a32 (asc_numL _)))) a5999) (cat_asc _ (fun k _ => asc_app a32 (asc_numL _)))) a59
  · exact asc_app (asc_app (asc_app a112 (asc_numL _)) (cat_asc _ (fun k _ => asc_app a32 (tdL_asc _)))) a59
  · unfold pvS
    split
    · exact asc_app (asc_app (asc_app (asc_app a115 (asc_numL _)) a32) (asc_numL _)) a59
    · exact asc_nil
theorem duI_z {m : Nat → Int32} (R : Rok m) (j : Nat) : ∃ z : Int, duI m j = zI z ∧ -60000000 ≤ z ∧ z ≤ 60000000 := by
  have c6 := nC_6 R
  have h1 := VV_bd R (-1) (nC m) (Nat.le_refl _) 0
  have h2 := VV_bd R (nI j) (nC m) (Nat.le_refl _) 0
  refine ⟨(VV m (-1) (nC m) 0 : Int) - (VV m (nI j) (nC m) 0 : Int), ?_, by omega, by omega⟩
  unfold duI
  rw [← zI_nat, ← zI_nat, zI_sub]
theorem duU_z {m : Nat → Int32} (R : Rok m) {i : Nat} (hi : i < nU m) : ∀ n, n ≤ nC m → ∃ z : Int, duU m i n = zI z ∧ -80000000 ≤ z ∧ z ≤ 80000000 := by
  intro n
  induction n with
  | zero => intro _; exact ⟨0, rfl, by omega, by omega⟩
  | succ n ih =>
    intro hn
    unfold duU
    by_cases q : gc m n = i
    · rw [if_pos q]
      obtain ⟨z, z1, z2, z3⟩ := duI_z R n
      have hv := (gc_vd (m := m) (k := n) (by omega) (by rw [q]; exact hi)).1
      rw [q] at hv
      obtain ⟨w1, w2, -⟩ := wN_bd R hi (by omega) hv
      refine ⟨(wN m i n : Int) - z, ?_, by omega, by omega⟩
      rw [z1, ← zI_nat, zI_sub]
    · rw [if_neg q]; exact ih (by omega)
theorem duU_no {m : Nat → Int32} {i : Nat} : ∀ n, (∀ j, j < n → gc m j ≠ i) → duU m i n = 0 := by
  intro n
  induction n with
  | zero => intro _; rfl
  | succ n ih => intro h; rw [duU, if_neg (h n (by omega))]; exact ih (fun j hj => h j (by omega))
theorem duU_at {m : Nat → Int32} {i j : Nat} (hi : i < nU m) (hj : j < nC m) (h : gc m j = i) : duU m i (nC m) = nI (wN m i j) - duI m j := by
  have key : ∀ n, j < n → n ≤ nC m → duU m i n = nI (wN m i j) - duI m j := by
    intro n
    induction n with
    | zero => intro h; omega
    | succ n ih =>
      intro hn hnC
      unfold duU
      by_cases e : n = j
      · subst e; rw [if_pos h]
      · have hne : gc m n ≠ i := fun z => gc_inj (m := m) (i := j) (k := n) (by omega) (by omega) (by rw [z]; exact hi) (by rw [h, z])
        rw [if_neg hne]
        exact ih (by omega) (by omega)
  exact key (nC m) hj (Nat.le_refl _)
theorem c_dualOf {τ : St} {m : Nat → Int32} {i : Nat} (R : Rok m) (P : PR τ m) (D : ∀ j, j < nC m → τ 10 6 j = duI m j) (hi : i < nU m) : F_X8_dualOf (nI i) τ = some (duU m i (nC m)) := by
  have u6 := nU_6 R
  have c6 := nC_6 R
  unfold F_X8_dualOf
  have key : Ret (iter (fun z => B_X8_dualOf_2 (nI i) z τ) (0 : Int32)) (fun r => (r = .inl () ∧ ∀ j, j < nC m → gc m j ≠ i) ∨ ∃ j, j < nC m ∧ gc m j = i ∧ r = .inr (nI (wN m i j) - duI m j)) := by
    refine iter_cnt (f := fun z => B_X8_dualOf_2 (nI i) z τ) (fun j (_ : Unit) => nI j) (fun j _ => ∀ k, k < j → gc m k ≠ i) (nC m) ?_ ?_ () (fun k hk => absurd hk (Nat.not_lt_zero k))
    · rintro j - hj hI
      show Ret (B_X8_dualOf_2 (nI i) (nI j) τ) _
      unfold B_X8_dualOf_2
      rw [P.1.2.1, if_pos (nI_lt hj (by omega)), rdo_nI (by omega) (by decide), some_b, P.2.2.1 j hj]
      by_cases q : gc m j = i
      · have hv := (gc_vd (m := m) (k := j) hj (by rw [q]; exact hi)).1
        rw [q] at hv
        have e1 : prI m (gc m) j = nI i := by unfold prI; rw [q, if_pos hi]
        have e2 : wI m i j = nI (wN m i j) := by unfold wI; rw [if_pos hv]
        rw [if_pos e1, show nI i * (6 : Int32) + nI j = nI (6 * i + j) by rw [Nat.mul_comm, ← nI_add, ← nI_mulc]; rfl, rdo_nI (by omega) (by decide), some_b, rdo_nI (by omega) (by decide), some_b, P.2.1 i j hi hj, D j hj, e2]
        exact ⟨_, rfl, Or.inr ⟨j, hj, q, rfl⟩⟩
      · have e1 : ¬ prI m (gc m) j = nI i := by
          unfold prI
          split
          · rw [nI_eq (by omega) (by omega)]; exact q
          · exact fun z => absurd (show nI i < 0 by rw [← z]; decide) (nI_pos (by omega))
        rw [if_neg e1, nI_1]
        refine Ret.some ⟨(), rfl, fun k hk => ?_⟩
        by_cases e : k = j
        · subst e; exact q
        · exact hI k (by omega)
    · rintro - hI
      show Ret (B_X8_dualOf_2 (nI i) (nI (nC m)) τ) _
      unfold B_X8_dualOf_2
      rw [P.1.2.1, if_neg (nI_nlt (Nat.le_refl _) (by omega))]
      exact ⟨_, rfl, Or.inl ⟨rfl, hI⟩⟩
  obtain ⟨r, r1, r2⟩ := key
  rw [r1]
  rcases r2 with ⟨e, h⟩ | ⟨j, j1, j2, e⟩
  · rw [e, bindL_inl, duU_no _ h]
  · rw [e, bindL_inr, duU_at hi j1 j2]
theorem PR.fr {σ τ : St} {m : Nat → Int32} (P : PR σ m) (e : τ 10 = σ 10) : PR τ m := by
  unfold PR PL PW
  rw [e]
  exact P
theorem t44 : sTx 44 = [112, 32] := by decide +kernel
theorem t45 : sTx 45 = [115, 32] := by decide +kernel
theorem t46 : sTx 46 = [59, 99] := by decide +kernel
theorem GrC.say2 {σ τ : St} {h k i : Nat} {m : Nat → Int32} {l l' : List Int32} (G : GrC σ h m l τ) (hi : i < 54) (e : sTx i = l') (hl : l'.length ≤ 11) (hs : szC σ k) (hL : k + l.length + 11 ≤ 3200) : F_X1_say (nI i) τ = some (appC τ l') := by
  rw [f_sayC hi (G.2.2.sz hs) (by rw [e]; omega), e]
theorem GrC.nms {σ τ : St} {h k : Nat} {m : Nat → Int32} {l : List Int32} {a b : Int32} (G : GrC σ h m l τ) (hs : szC σ k) (ha : okN a) (hb : okN b) (hL : k + l.length + 23 ≤ 3200) : F_X1_numbers a b τ = some (appC τ (numL a ++ [32] ++ numL b)) := by
  have := c_nmsA (σ := τ) (L := []) (G.2.2.sz hs) ha hb (by rw [List.length_nil]; omega)
  rw [appC_nil, List.nil_append] at this
  exact this
theorem c_prove {σ : St} {m : Nat → Int32} {k : Nat} (R : Rok m) (H : HH (σ 3) m) (B5 : HB (σ 5)) (hs : szC σ k) (hk : k ≤ 100) : Ret (F_X8_prove 3 σ) (AskC σ m (pvT m)) := by
  have hw := R.1
  have u6 := nU_6 R
  have c6 := nC_6 R
  have b0 := hw.1.1
  have b0' := b0.2
  have b2 := hw.2.2.1.2
  have b3 := hw.2.2.2.1.2
  unfold F_X8_prove
  refine Ret.bind (c_plan (h := 3) (du := 1) (by decide) R H (Or.inr rfl)) ?_
  rintro τ ⟨H1, fA, P, D⟩
  have D := D rfl
  have hs1 : szC τ k := by unfold szC; rw [fA.g (by decide) (by decide)]; exact hs
  have h1 : ∀ j, (cat (pvU m) j).length ≤ 110 * j := fun j => cat_len (f := pvU m) (B := 110) j (fun k _ => pvU_len hw k)
  have h2 : ∀ j, (cat (pvS m) j).length ≤ 26 * j := fun j => cat_len (f := pvS m) (B := 26) j (fun k _ => pvS_len m k)
  have h3 : ∀ j, (cat (pvA m) j).length ≤ 12 * j := fun j => cat_len (f := pvA m) (B := 12) j (fun k _ => pvA_len m k)
  have h4 : ∀ j, (cat (pvC m) j).length ≤ 12 * j := fun j => cat_len (f := pvC m) (B := 12) j (fun k _ => pvC_len m k)
  have PG : ∀ {l υ}, GrC τ 3 m l υ → PR υ m ∧ ∀ j, j < nC m → υ 10 6 j = duI m j := fun {l υ} G => by
    have e : υ 10 = τ 10 := G.2.1 10 (by decide) (by decide)
    exact ⟨P.fr e, fun j hj => by rw [e]; exact D j hj⟩
  -- the free units and their ways
  refine Ret.bind (Q := GrC τ 3 m (cat (pvU m) (nU m))) ?_ ?_
  · refine iter_cnt (f := fun z => B_X8_prove_8 3 z.1 z.2) (fun i (υ : St) => (nI i, υ)) (fun i υ => GrC τ 3 m (cat (pvU m) i) υ) (nU m) ?_ ?_ τ (GrC.rf H1)
    · rintro i υ hi G
      have g1 := h1 i
      obtain ⟨f1, f2⟩ := fr_ok hi
      obtain ⟨P1, -⟩ := PG G
      show Ret (B_X8_prove_8 3 (nI i) υ) _
      unfold B_X8_prove_8
      have G1 := G.app (l' := [112, 32]) (by decide)
      have G2 := G1.app (l' := numL (nI (fr m i))) (by decide)
      obtain ⟨P2, -⟩ := PG G1
      have l1 := numL_len (v := nI (fr m i))
      rw [P1.1.1, if_pos (nI_lt hi (by omega)), show (44 : Int32) = nI 44 from rfl, G.say2 (by decide) t44 (by decide) hs1 (by omega), some_b, rdo_nI (by omega) (by decide), some_b, P2.1.2.2.1 i hi, G1.num hs1 (okN_nI (by omega)) (by simp only [List.length_append, List.length_cons, List.length_nil]; omega), some_b]
      refine Ret.bind (Q := GrC τ 3 m (cat (pvU m) i ++ [112, 32] ++ numL (nI (fr m i)) ++ cat (pvW m i) (cn (m 0)))) ?_ ?_
      · have hW : ∀ p, (cat (pvW m i) p).length ≤ 12 * p := fun p => cat_len (f := pvW m i) (B := 12) p (fun k _ => pvW_len m i k)
        refine iter_cnt (f := fun z => B_X8_prove_35 3 (nI i) z.1 z.2) (fun p (ρ : St) => (nI p, ρ)) (fun p ρ => GrC τ 3 m (cat (pvU m) i ++ [112, 32] ++ numL (nI (fr m i)) ++ cat (pvW m i) p) ρ) (cn (m 0)) ?_ ?_ _ (by rw [show cat (pvW m i) 0 = [] from rfl, List.append_nil]; exact G2)
        · rintro p ρ hp G3
          have gw := hW p
          have lt : nI p < m 0 := by rw [b0.1]; exact nI_lt hp (by omega)
          have wb := (wyN_bd hw f1 hp).1
          show Ret (B_X8_prove_35 3 (nI i) (nI p) ρ) _
          unfold B_X8_prove_35
          have G4 := G3.app (l' := [32]) (by decide)
          obtain ⟨P4, -⟩ := PG G4
          rw [G3.1.1.1.1, if_pos lt, G3.add hs1 (by simp only [List.length_append, List.length_cons, List.length_nil]; omega), some_b, rdo_nI (by omega) (by decide), some_b, P4.1.2.2.1 i hi]
          refine Ret.bind (G4.way hw (by decide) f1 hp) ?_
          rintro r ⟨r1, G5⟩
          obtain ⟨P5, -⟩ := PG G5
          rw [r1]
          refine Ret.bind (Q := fun z => z.1 = dI (wyN m (fr m i) p) ∧ GrC τ 3 m (cat (pvU m) i ++ [112, 32] ++ numL (nI (fr m i)) ++ cat (pvW m i) p ++ [32]) z.2) ?_ ?_
          · by_cases q : wyN m (fr m i) p < 1000000
            · rw [if_pos (ltF q), rdo_nI (by omega) (by decide), some_b, P5.1.2.2.1 i hi]
              refine Ret.bind (G5.way hw (by decide) f1 hp) ?_
              rintro r' ⟨r1', G6⟩
              exact Ret.some ⟨by show r'.1 = _; rw [r1', dI_fin q], G6⟩
            · rw [if_neg (nltF (by omega) (by omega))]
              have e : wyN m (fr m i) p = 1000000 := by omega
              exact Ret.some ⟨by show (-1 : Int32) = _; rw [e, dI_far], G5⟩
          · rintro z ⟨z1, G6⟩
            rw [z1, G6.told hs1 (dI_ok wb) (by simp only [List.length_append, List.length_cons, List.length_nil]; omega), some_b, nI_1]
            refine Ret.some ⟨_, rfl, ?_⟩
            have := G6.app (l' := tdL (dI (wyN m (fr m i) p))) (by decide)
            rw [show cat (pvW m i) (p + 1) = cat (pvW m i) p ++ ([32] ++ tdL (dI (wyN m (fr m i) p))) from rfl]
            simp only [List.append_assoc] at this ⊢
            exact this
        · rintro ρ G3
          have nlt : ¬ nI (cn (m 0)) < m 0 := by
            conv => rhs; rhs; rw [b0.1]
            exact nI_nlt (Nat.le_refl _) (by omega)
          show Ret (B_X8_prove_35 3 (nI i) (nI (cn (m 0))) ρ) _
          unfold B_X8_prove_35
          rw [G3.1.1.1.1, if_neg nlt]
          exact Ret.some G3
      · rintro ρ G3
        have hW := cat_len (f := pvW m i) (B := 12) (cn (m 0)) (fun k _ => pvW_len m i k)
        rw [G3.add hs1 (by simp only [List.length_append, List.length_cons, List.length_nil]; omega), some_b, nI_1]
        refine Ret.some ⟨_, rfl, ?_⟩
        have := G3.app (l' := [59]) (by decide)
        rw [show cat (pvU m) (i + 1) = cat (pvU m) i ++ pvU m i from rfl, pvU]
        simp only [List.append_assoc] at this ⊢
        exact this
    · rintro υ G
      obtain ⟨P1, -⟩ := PG G
      show Ret (B_X8_prove_8 3 (nI (nU m)) υ) _
      unfold B_X8_prove_8
      rw [P1.1.1, if_neg (nI_nlt (Nat.le_refl _) (by omega))]
      exact Ret.some G
  rintro υ GU
  -- the sendings
  have g1 := h1 (nU m)
  refine Ret.bind (Q := GrC τ 3 m (cat (pvU m) (nU m) ++ cat (pvS m) (nC m))) ?_ ?_
  · refine iter_cnt (f := fun z => B_X8_prove_107 z.1 z.2) (fun j (ρ : St) => (nI j, ρ)) (fun j ρ => GrC τ 3 m (cat (pvU m) (nU m) ++ cat (pvS m) j) ρ) (nC m) ?_ ?_ υ (by rw [show cat (pvS m) 0 = [] from rfl, List.append_nil]; exact GU)
    · rintro j ρ hj G
      have g2 := h2 j
      obtain ⟨P1, -⟩ := PG G
      obtain ⟨w1, -⟩ := wt_ok hj
      show Ret (B_X8_prove_107 (nI j) ρ) _
      unfold B_X8_prove_107
      rw [P1.1.2.1, if_pos (nI_lt hj (by omega)), rdo_nI (by omega) (by decide), some_b, P1.2.2.1 j hj]
      by_cases q : gc m j < nU m
      · obtain ⟨f1, -⟩ := fr_ok q
        have e1 : prI m (gc m) j = nI (gc m j) := by unfold prI; rw [if_pos q]
        have G1 := G.app (l' := [115, 32]) (by decide)
        obtain ⟨P2, -⟩ := PG G1
        have G2 := G1.app (l' := numL (nI (wt m j)) ++ [32] ++ numL (nI (fr m (gc m j)))) (by decide)
        have l1 := numL_len (v := nI (wt m j))
        have l2 := numL_len (v := nI (fr m (gc m j)))
        rw [e1, if_neg (nI_pos (by omega)), show (45 : Int32) = nI 45 from rfl, G.say2 (by decide) t45 (by decide) hs1 (by simp only [List.length_append]; omega), some_b, rdo_nI (by omega) (by decide), some_b, P2.1.2.2.2 j hj, rdo_nI (by omega) (by decide), some_b, P2.2.2.1 j hj, e1, rdo_nI (by omega) (by decide), some_b, P2.1.2.2.1 _ q, G1.nms hs1 (okN_nI (by omega)) (okN_nI (by omega)) (by simp only [List.length_append, List.length_cons, List.length_nil]; omega), some_b, G2.add hs1 (by simp only [List.length_append, List.length_cons, List.length_nil]; omega), some_b, nI_1]
        refine Ret.some ⟨_, rfl, ?_⟩
        have := G2.app (l' := [59]) (by decide)
        rw [show cat (pvS m) (j + 1) = cat (pvS m) j ++ pvS m j from rfl, pvS, if_pos q]
        simp only [List.append_assoc] at this ⊢
        exact this
      · have e1 : prI m (gc m) j = -1 := by unfold prI; rw [if_neg q]
        rw [e1, if_pos (by decide), nI_1]
        refine Ret.some ⟨_, rfl, ?_⟩
        rw [show cat (pvS m) (j + 1) = cat (pvS m) j ++ pvS m j from rfl, pvS, if_neg q, List.append_nil]
        exact G
    · rintro ρ G
      obtain ⟨P1, -⟩ := PG G
      show Ret (B_X8_prove_107 (nI (nC m)) ρ) _
      unfold B_X8_prove_107
      rw [P1.1.2.1, if_neg (nI_nlt (Nat.le_refl _) (by omega))]
      exact Ret.some G
  rintro ρ GS
  have g2 := h2 (nC m)
  have GA0 := GS.app (l' := [97]) (by decide)
  rw [GS.add hs1 (by simp only [List.length_append]; omega), some_b]
  -- the duals
  refine Ret.bind (Q := GrC τ 3 m (cat (pvU m) (nU m) ++ cat (pvS m) (nC m) ++ [97] ++ cat (pvA m) (nU m))) ?_ ?_
  · refine iter_cnt (f := fun z => B_X8_prove_174 z.1 z.2) (fun i (ω : St) => (nI i, ω)) (fun i ω => GrC τ 3 m (cat (pvU m) (nU m) ++ cat (pvS m) (nC m) ++ [97] ++ cat (pvA m) i) ω) (nU m) ?_ ?_ _ (by rw [show cat (pvA m) 0 = [] from rfl, List.append_nil]; exact GA0)
    · rintro i ω hi G
      have g3 := h3 i
      obtain ⟨P1, -⟩ := PG G
      have G1 := G.app (l' := [32]) (by decide)
      obtain ⟨P2, D2⟩ := PG G1
      obtain ⟨z, z1, z2, z3⟩ := duU_z R hi (nC m) (Nat.le_refl _)
      show Ret (B_X8_prove_174 (nI i) ω) _
      unfold B_X8_prove_174
      rw [P1.1.1, if_pos (nI_lt hi (by omega)), G.add hs1 (by simp only [List.length_append, List.length_cons, List.length_nil]; omega), some_b, c_dualOf R P2 D2 hi, some_b, G1.num hs1 (by rw [z1]; exact zI_ok (by unfold zB; omega)) (by simp only [List.length_append, List.length_cons, List.length_nil]; omega), some_b, nI_1]
      refine Ret.some ⟨_, rfl, ?_⟩
      have := G1.app (l' := numL (duU m i (nC m))) (by decide)
      rw [show cat (pvA m) (i + 1) = cat (pvA m) i ++ pvA m i from rfl, pvA]
      simp only [List.append_assoc] at this ⊢
      exact this
    · rintro ω G
      obtain ⟨P1, -⟩ := PG G
      show Ret (B_X8_prove_174 (nI (nU m)) ω) _
      unfold B_X8_prove_174
      rw [P1.1.1, if_neg (nI_nlt (Nat.le_refl _) (by omega))]
      exact Ret.some G
  rintro ω GA
  have g3 := h3 (nU m)
  have GC0 := GA.app (l' := [59, 99]) (by decide)
  rw [show (46 : Int32) = nI 46 from rfl, GA.say2 (by decide) t46 (by decide) hs1 (by simp only [List.length_append, List.length_cons, List.length_nil]; omega), some_b]
  refine Ret.bind (Q := GrC τ 3 m (cat (pvU m) (nU m) ++ cat (pvS m) (nC m) ++ [97] ++ cat (pvA m) (nU m) ++ [59, 99] ++ cat (pvC m) (nC m))) ?_ ?_
  · refine iter_cnt (f := fun z => B_X8_prove_211 z.1 z.2) (fun j (ω : St) => (nI j, ω)) (fun j ω => GrC τ 3 m (cat (pvU m) (nU m) ++ cat (pvS m) (nC m) ++ [97] ++ cat (pvA m) (nU m) ++ [59, 99] ++ cat (pvC m) j) ω) (nC m) ?_ ?_ _ (by rw [show cat (pvC m) 0 = [] from rfl, List.append_nil]; exact GC0)
    · rintro j ω hj G
      have g4 := h4 j
      obtain ⟨P1, -⟩ := PG G
      have G1 := G.app (l' := [32]) (by decide)
      obtain ⟨P2, D2⟩ := PG G1
      obtain ⟨z, z1, z2, z3⟩ := duI_z R j
      show Ret (B_X8_prove_211 (nI j) ω) _
      unfold B_X8_prove_211
      rw [P1.1.2.1, if_pos (nI_lt hj (by omega)), G.add hs1 (by simp only [List.length_append, List.length_cons, List.length_nil]; omega), some_b, rdo_nI (by omega) (by decide), some_b, D2 j hj, G1.num hs1 (by rw [z1]; exact zI_ok (by unfold zB; omega)) (by simp only [List.length_append, List.length_cons, List.length_nil]; omega), some_b, nI_1]
      refine Ret.some ⟨_, rfl, ?_⟩
      have := G1.app (l' := numL (duI m j)) (by decide)
      rw [show cat (pvC m) (j + 1) = cat (pvC m) j ++ pvC m j from rfl, pvC]
      simp only [List.append_assoc] at this ⊢
      exact this
    · rintro ω G
      obtain ⟨P1, -⟩ := PG G
      show Ret (B_X8_prove_211 (nI (nC m)) ω) _
      unfold B_X8_prove_211
      rw [P1.1.2.1, if_neg (nI_nlt (Nat.le_refl _) (by omega))]
      exact Ret.some G
  rintro φ GC
  have g4 := h4 (nC m)
  rw [GC.add hs1 (by simp only [List.length_append, List.length_cons, List.length_nil]; omega), some_b]
  have GF := GC.app (l' := [59]) (by decide)
  refine Ret.some ⟨?_, ?_⟩
  · have e1 : τ 1 = σ 1 := fA.g (by decide) (by decide)
    exact (show appC φ [59] 1 = _ from GF.2.2).trans (appC_1' e1)
  · exact ⟨fun x hx => by rw [GF.2.1 x (by omega) (by omega), fA.g (by omega) (by omega)], fun b _ => by rw [GF.2.1 0 (by decide) (by decide), fA.g (by decide) (by decide)], GF.1, by rw [GF.2.1 5 (by decide) (by decide), fA.g (by decide) (by decide)]; exact B5⟩
