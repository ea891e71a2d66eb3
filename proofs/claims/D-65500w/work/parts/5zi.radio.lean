/-! S11: radio, both -/
set_option maxRecDepth 100000
noncomputable abbrev oL (m : Nat → Int32) : List Nat := flt (opC m) (cn (m 3))
noncomputable abbrev nO (m : Nat → Int32) : Nat := (oL m).length
noncomputable abbrev oc (m : Nat → Int32) (i : Nat) : Nat := (oL m).getD i 0
theorem nO_6 {m : Nat → Int32} {b : Nat} (R : RokB m b) : nO m ≤ 6 := by
  have h1 := flt_sum (p := fun q => opC m q) (f := fun q => cn (m (160 + 6 * q + 3))) (by
    intro q hq
    have := hq.2
    show 1 ≤ cn (m (160 + 6 * q + 3))
    rw [this]
    decide) (cn (m 3))
  have h2 := R.2.1.2.2.2.2.2.2.2
  exact Nat.le_trans h1 h2
theorem oc_ok {m : Nat → Int32} {i : Nat} (h : i < nO m) : oc m i < cn (m 3) ∧ opC m (oc m i) := flt_mem h
noncomputable abbrev nrD (m : Nat → Int32) (u v : Nat) : Nat := min (DD m (cpl m (oc m u)) (cpl m (oc m v))) (DD m (cpl m (oc m v)) (cpl m (oc m u)))
def nr (m : Nat → Int32) (X u v : Nat) : Prop := nrD m u v < 1000000 ∧ nrD m u v ≤ X
def rdJ (l c : Nat → Nat) (i : Nat) : List Int32 := numL (nI (l i)) ++ [32] ++ numL (nI (c i)) ++ [59]
def rdT (n : Nat) (l c : Nat → Nat) (k : Nat) : List Int32 := cat (rdJ l c) n ++ numL (nI k)
theorem rdJ_len (l c : Nat → Nat) (i : Nat) : (rdJ l c i).length ≤ 24 := by
  have h1 := numL_len (v := nI (l i))
  have h2 := numL_len (v := nI (c i))
  unfold rdJ
  simp only [List.length_append, List.length_cons, List.length_nil]; omega
theorem rdJ_asc (l c : Nat → Nat) (i : Nat) : asc (rdJ l c i) := asc_app (asc_app (asc_app (asc_numL _) (asc_1 (n := 32) (by decide) rfl)) (asc_numL _)) (asc_1 (n := 59) (by decide) rfl)
noncomputable def raT (m : Nat → Int32) (X : Nat) : List Int32 := @dite _ (∃ p : Nat × (Nat → Nat), LfP (nr m X) (nO m) p.1 p.2) (Classical.propDecidable _) (fun h => rdT (nO m) (oc m) h.choose.2 h.choose.1) (fun _ => [])
theorem raT_eq {m : Nat → Int32} {X k : Nat} {c : Nat → Nat} (h : LfP (nr m X) (nO m) k c) : raT m X = rdT (nO m) (oc m) c k := by
  have hx : ∃ p : Nat × (Nat → Nat), LfP (nr m X) (nO m) p.1 p.2 := ⟨(k, c), h⟩
  unfold raT
  rw [dif_pos hx]
  obtain ⟨e1, e2⟩ := LfP.un hx.choose_spec h
  unfold rdT
  rw [e1, cat_eq (g := rdJ (oc m) c) (nO m) (fun i hi => by unfold rdJ; rw [e2 i hi])]
theorem raT_len {m : Nat → Int32} {b : Nat} (R : RokB m b) (X : Nat) : (raT m X).length ≤ 155 := by
  have h6 := nO_6 R
  unfold raT
  split
  · rename_i h
    have h1 := cat_len (f := rdJ (oc m) h.choose.2) (B := 24) (nO m) (fun k _ => rdJ_len _ _ k)
    have h2 := numL_len (v := nI h.choose.1)
    unfold rdT
    rw [List.length_append]
    omega
  · exact Nat.zero_le _
theorem raT_asc (m : Nat → Int32) (X : Nat) : asc (raT m X) := by
  unfold raT
  split
  · exact asc_app (cat_asc _ (fun k _ => rdJ_asc _ _ k)) (asc_numL _)
  · exact asc_nil
theorem c_radio {σ : St} {m : Nat → Int32} {k X : Nat} (R : Rok m) (H : HH (σ 3) m) (B5 : HB (σ 5)) (hs : szC σ k) (hk : k ≤ 100) (hX : X < 2147483648) : Ret (F_X6_tell 3 (nI X) σ) (AskC σ m (raT m X)) := by
  have hw := R.1
  have b3 := hw.2.2.2.1
  have b3' := b3.2
  have h6 := nO_6 R
  unfold F_X6_tell
  rw [nst_b]
  -- the open calls
  have L1 := lp_coll (σ := up3 σ 8 0 4 0) (g := 8) (ci := 4) (J := 1) (n := cn (m 3)) (p := opC m) (f := fun z => B_X6_tell_8 3 (nI X) z.1 z.2) (by decide) (up3_same _ _ _ _ _) ?_ ?_
  · refine Ret.bind L1 ?_
    rintro τ ⟨t1, t2, t3⟩
    have tg : ∀ a, a ≠ 8 → τ a = σ a := fun a ha => by
      funext b i
      rw [t1 a b i (fun z => ha z.1), up3_g ha]
    have t2 : τ 8 0 4 = nI (nO m) := t2
    have t3 : ∀ i, i < nO m → τ 8 1 i = nI (oc m i) := t3
    have H1 : HH (τ 3) m := by rw [tg 3 (by decide)]; exact H
    have cp : ∀ i, i < nO m → cpl m (oc m i) < cn (m 0) ∧ m (160 + 6 * oc m i) = nI (cpl m (oc m i)) := fun i hi => by
      obtain ⟨c1, -, -, -⟩ := hw.2.2.2.2.2.2.2.2.2.2 (oc m i) (oc_ok hi).1
      exact ⟨c1.2, c1.1.1⟩
    -- who is near whom
    refine Ret.bind (Q := fun υ => HH (υ 3) m ∧ (∀ a, a ≠ 8 → a ≠ 3 → υ a = σ a) ∧ υ 8 1 = τ 8 1 ∧ υ 8 0 4 = nI (nO m) ∧ ∀ u v, u < nO m → v < nO m → υ 8 4 (u * 6 + v) = bI (nr m X u v)) ?_ ?_
    · refine iter_cnt (f := fun z => B_X6_tell_53 3 (nI X) z.1 z.2) (fun u (υ : St) => (nI u, υ)) (fun u υ => HH (υ 3) m ∧ (∀ a, a ≠ 8 → a ≠ 3 → υ a = σ a) ∧ υ 8 1 = τ 8 1 ∧ υ 8 0 4 = nI (nO m) ∧ ∀ u' v, u' < u → v < nO m → υ 8 4 (u' * 6 + v) = bI (nr m X u' v)) (nO m) ?_ ?_ τ ⟨H1, fun a ha _ => tg a ha, rfl, t2, fun u v hu => absurd hu (Nat.not_lt_zero u)⟩
      · rintro u υ hu ⟨u1, u2, u3, u4, u5⟩
        show Ret (B_X6_tell_53 3 (nI X) (nI u) υ) _
        unfold B_X6_tell_53
        rw [u4, if_pos (nI_lt hu (by omega))]
        refine Ret.bind (Q := fun ρ => HH (ρ 3) m ∧ (∀ a, a ≠ 8 → a ≠ 3 → ρ a = σ a) ∧ ρ 8 1 = τ 8 1 ∧ ρ 8 0 4 = nI (nO m) ∧ ∀ u' v, u' < u + 1 → v < nO m → ρ 8 4 (u' * 6 + v) = bI (nr m X u' v)) ?_ ?_
        · refine iter_cnt (f := fun z => B_X6_tell_65 3 (nI X) (nI u) z.1 z.2) (fun v (ρ : St) => (nI v, ρ)) (fun v ρ => HH (ρ 3) m ∧ (∀ a, a ≠ 8 → a ≠ 3 → ρ a = σ a) ∧ ρ 8 1 = τ 8 1 ∧ ρ 8 0 4 = nI (nO m) ∧ ∀ u' v', (u' < u ∨ (u' = u ∧ v' < v)) → v' < nO m → ρ 8 4 (u' * 6 + v') = bI (nr m X u' v')) (nO m) ?_ ?_ υ ⟨u1, u2, u3, u4, fun u' v' h hv => u5 u' v' (by omega) hv⟩
          · rintro v ρ hv ⟨r1, r2, r3, r4, r5⟩
            obtain ⟨cu1, cu2⟩ := cp u hu
            obtain ⟨cv1, cv2⟩ := cp v hv
            obtain ⟨ou1, -⟩ := oc_ok hu
            obtain ⟨ov1, -⟩ := oc_ok hv
            show Ret (B_X6_tell_65 3 (nI X) (nI u) (nI v) ρ) _
            unfold B_X6_tell_65
            rw [r4, if_pos (nI_lt hv (by omega)), rdo_nI (by omega) (by decide), some_b, r3, t3 u hu, rdo_nI (by omega) (by decide), some_b, rdo_nI (by omega) (by decide), some_b, r3, t3 v hv, rdo_nI (by omega) (by decide), some_b, (r1.1.2.2.2 _ ou1).1, (r1.1.2.2.2 _ ov1).1, cu2, cv2]
            refine Ret.bind (c_far hw r1.1 r1.2.1 cu1 cv1) ?_
            rintro x ⟨x1, x2, x3, -⟩
            have Hx : HH (x.2 3) m := r1.frK x2 x3
            refine Ret.bind (c_far hw Hx.1 Hx.2.1 cv1 cu1) ?_
            rintro y ⟨y1, y2, y3, -⟩
            have Hy : HH (y.2 3) m := Hx.frK y2 y3
            have d1 := (DD_bd hw cu1 cv1).1
            have d2 := (DD_bd hw cv1 cu1).1
            have dn : nrD m u v ≤ 1000000 := Nat.le_trans (Nat.min_le_left _ _) d1
            have y8 : y.2 8 = ρ 8 := by rw [y2.g (by decide), x2.g (by decide)]
            rw [nmo_b, x1, y1, imin_nI (by omega) (by omega)]
            have ez : (if nI (nrD m u v) < (1000000 : Int32) then (if nI X < nI (nrD m u v) then some ((0 : Int32)) else some ((1 : Int32))) else some ((0 : Int32))) = some (bI (nr m X u v)) := by
              unfold bI nr
              by_cases q : nrD m u v < 1000000
              · rw [if_pos (ltF q)]
                by_cases z : nrD m u v ≤ X
                · rw [if_neg (nI_nlt z (by omega)), if_pos ⟨q, z⟩]
                · rw [if_pos (nI_lt (by omega) (by omega)), if_neg (fun w => z w.2)]
              · rw [if_neg (nltF (by omega) (by omega)), if_neg (fun w => q w.1)]
            have hb01 : bI (nr m X u v) = 0 ∨ bI (nr m X u v) = 1 := by
              unfold bI
              split
              · exact Or.inr rfl
              · exact Or.inl rfl
            rw [ez, some_b, show nI u * (6 : Int32) + nI v = nI (u * 6 + v) by rw [← nI_add, ← nI_mulc]; rfl, wrz_nI (by omega) (by decide) hb01, some_b, nI_1]
            refine Ret.some ⟨_, rfl, by rw [up3_g (by decide)]; exact Hy, fun a h8 h3 => by rw [up3_g h8, y2.g h3, x2.g h3]; exact r2 a h8 h3, by rw [up3_j (by decide), y8]; exact r3, by rw [up3_j (by decide), y8]; exact r4, fun u' v' h hv' => ?_⟩
            by_cases e : u' * 6 + v' = u * 6 + v
            · have e1 : u' = u := by omega
              have e2 : v' = v := by omega
              rw [e1, e2, up3_same]
            · rw [up3_i e, y8]
              refine r5 u' v' ?_ hv'
              rcases h with h | ⟨h1, h2⟩
              · exact Or.inl h
              · refine Or.inr ⟨h1, ?_⟩
                subst h1
                omega
          · rintro ρ ⟨r1, r2, r3, r4, r5⟩
            show Ret (B_X6_tell_65 3 (nI X) (nI u) (nI (nO m)) ρ) _
            unfold B_X6_tell_65
            rw [r4, if_neg (nI_nlt (Nat.le_refl _) (by omega))]
            exact Ret.some ⟨r1, r2, r3, r4, fun u' v' h hv => r5 u' v' (by omega) hv⟩
        · rintro ρ hρ
          rw [nI_1]
          exact Ret.some ⟨ρ, rfl, hρ⟩
      · rintro υ h
        show Ret (B_X6_tell_53 3 (nI X) (nI (nO m)) υ) _
        unfold B_X6_tell_53
        rw [h.2.2.2.1, if_neg (nI_nlt (Nat.le_refl _) (by omega))]
        exact Ret.some h
    · rintro υ ⟨u1, u2, u3, u4, u5⟩
      rw [nst_b]
      -- the search
      have SR := c_search (g := nr m X) h6 (nO m) 8 0 7 (fun i => i) (up3 υ 8 0 5 7) (by omega) (by omega) (fun i hi => absurd hi (Nat.not_lt_zero i)) (fun v hv => absurd hv (Nat.not_lt_zero v)) (fun i j _ hj => absurd hj (Nat.not_lt_zero j)) (by rw [up3_i (by decide)]; exact u4) (up3_same _ _ _ _ _) (Nat.le_refl _) (fun u v h1 h2 => by rw [up3_j (by decide)]; exact u5 u v (by omega) h2)
      refine Ret.bind (show Ret (F_X6_search 8 (0 : Int32) (0 : Int32) (up3 υ 8 0 5 7)) _ from SR) ?_
      rintro ρ ⟨r1, -, B', r3, r4, r5, r6⟩
      have hid : Ex (nr m X) (nO m) 0 (fun i => i) (fun i => i) := ⟨fun _ _ => rfl, fun v _ => by rw [usd_id]; exact Nat.le_refl _, (pr_id (nr m X) (nO m)).2⟩
      have hlim : ∀ d : Nat → Nat, RG (nO m) d → d 0 < 1000 ∨ 0 = nO m := by
        intro d hd
        by_cases z : 0 = nO m
        · exact Or.inr z
        · left
          have := hd 0 (by omega)
          rw [usd] at this
          omega
      have hB := r5 _ hid (hlim _ hid.2.1)
      rw [usd_id] at hB
      rcases r6 with ⟨w, -⟩ | ⟨-, e, e1, -, e3, e4, e5⟩
      · omega
      · have LF : LfP (nr m X) (nO m) (usd e (nO m)) e := best_lf ⟨fun i hi => usd_lt e _ i hi, e1.2.2⟩ (fun d d1 d2 => by rw [e3]; exact r5 d ⟨fun i hi => absurd hi (Nat.not_lt_zero i), d1, d2.2⟩ (hlim d d1)) (fun d d1 d2 d3 => e5 d ⟨fun i hi => absurd hi (Nat.not_lt_zero i), d1, d2.2⟩ (hlim d d1) (by rw [d3, e3]))
        rw [raT_eq LF, e3]
        have g8 : ∀ a, a ≠ 8 → ρ a = υ a := fun a ha => by rw [r1.1 a ha, up3_g ha]
        have s0 : szC ρ k := by unfold szC; rw [g8 1 (by decide), u2 1 (by decide) (by decide)]; exact hs
        have hcl : ∀ j, (cat (rdJ (oc m) e) j).length ≤ 24 * j := fun j => cat_len (f := rdJ (oc m) e) (B := 24) j (fun k _ => rdJ_len _ _ k)
        have a8 : ∀ l, appC ρ l 8 = ρ 8 := fun l => appC_g (by decide)
        have p4 : ρ 8 0 4 = nI (nO m) := by rw [r1.2.2.2, up3_i (by decide)]; exact u4
        have p1 : ∀ i, i < nO m → ρ 8 1 i = nI (oc m i) := fun i hi => by rw [r1.2.1, up3_j (by decide), u3]; exact t3 i hi
        have key := iter_row (f := fun z => B_X6_tell_181 z.1 z.2) (fun j => (nI j, appC ρ (cat (rdJ (oc m) e) j))) (nO m) (appC ρ (cat (rdJ (oc m) e) (nO m))) ?_ ?_ 0 (Nat.zero_le _)
        · have hc := hcl (nO m)
          rw [show ((0 : Int32), ρ) = (nI 0, appC ρ (cat (rdJ (oc m) e) 0)) from rfl, key, some_b, a8, r3, c_numA s0 (okN_nI (by omega)) (by omega), some_b]
          have T0 : TxC σ ρ [] := (TxC.rf σ).g (by rw [g8 1 (by decide), u2 1 (by decide) (by decide)])
          refine Ret.some ⟨T0.app, FrQ.app ⟨fun a ha => by rw [g8 a (by omega)]; exact u2 a (by omega) (by omega), fun b _ => by rw [g8 0 (by decide), u2 0 (by decide) (by decide)], by rw [g8 3 (by decide)]; exact u1, by rw [g8 5 (by decide), u2 5 (by decide) (by decide)]; exact B5⟩⟩
        · intro j hj
          have hc := hcl j
          obtain ⟨o1, -⟩ := oc_ok hj
          have ej := usd_lt e (nO m) j hj
          have l1 := numL_len (v := nI (oc m j))
          have l2 := numL_len (v := nI (e j))
          show B_X6_tell_181 (nI j) (appC ρ (cat (rdJ (oc m) e) j)) = _
          unfold B_X6_tell_181
          rw [a8, p4, if_pos (nI_lt hj (by omega)), rdo_nI (by omega) (by decide), some_b, rdo_nI (by omega) (by decide), some_b, a8, p1 j hj, e4 j hj, c_nmsA s0 (okN_nI (by omega)) (okN_nI (by omega)) (by omega), some_b, c_addA s0 (by simp only [List.length_append, List.length_cons, List.length_nil]; omega), some_b, nI_1, show cat (rdJ (oc m) e) (j + 1) = cat (rdJ (oc m) e) j ++ rdJ (oc m) e j from rfl, rdJ]
          simp only [List.append_assoc, List.cons_append, List.nil_append]
        · show B_X6_tell_181 (nI (nO m)) (appC ρ (cat (rdJ (oc m) e) (nO m))) = _
          unfold B_X6_tell_181
          rw [a8, p4, if_neg (nI_nlt (Nat.le_refl _) (by omega))]
  · intro j τ hj f e4
    have tg : τ 3 = σ 3 := by
      funext b i
      rw [f 3 b i (fun z => by omega), up3_g (by decide)]
    have H1 : HH (τ 3) m := by rw [tg]; exact H
    have lt : nI j < m 3 := by rw [b3.1]; exact nI_lt hj (by omega)
    have hlen := flt_mono (p := opC m) (n := cn (m 3)) (k := j + 1) (by omega)
    have h6' : (flt (opC m) (cn (m 3))).length ≤ 6 := h6
    show B_X6_tell_8 3 (nI X) (nI j) τ = _
    unfold B_X6_tell_8
    rw [H1.1.1.2.2.2.1, if_pos lt, c_isOpen hw H1.1 (by omega), some_b]
    by_cases q : opC m j
    · have hl : (flt (opC m) (j + 1)).length = (flt (opC m) j).length + 1 := by rw [flt_pos q, List.length_append]; rfl
      rw [if_pos q, if_neg (show ¬ (1 : Int32) = 0 by decide), nst_b, e4, nI_1, wro_nI (by omega) (by decide), some_b, nI_1, if_pos q]
    · rw [if_neg q, if_pos rfl, nI_1, if_neg q]
  · intro τ f
    have tg : τ 3 = σ 3 := by
      funext b i
      rw [f 3 b i (fun z => by omega), up3_g (by decide)]
    have H1 : HH (τ 3) m := by rw [tg]; exact H
    have nlt : ¬ nI (cn (m 3)) < m 3 := by
      conv => rhs; rhs; rw [b3.1]
      exact nI_nlt (Nat.le_refl _) (by omega)
    show B_X6_tell_8 3 (nI X) (nI (cn (m 3))) τ = _
    unfold B_X6_tell_8
    rw [H1.1.1.2.2.2.1, if_neg nlt]
