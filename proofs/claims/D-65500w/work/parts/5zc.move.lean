/-! S11: move -/
set_option maxRecDepth 100000
theorem wnC_lt {m : Nat → Int32} {x : Int32} {g : Nat} : ∀ n, fbN m x g n = n → wnC m x g n < 1000000 := by
  intro n
  induction n with
  | zero => intro _; exact (by decide : 0 < 1000000)
  | succ n ih =>
    intro h
    have hle := fbN_le m x g n
    rw [fbN] at h
    by_cases c : fbN m x g n < n
    · rw [if_pos c] at h; omega
    · rw [if_neg c] at h
      by_cases d : cvP m x g n < 1000000
      · have := ih (by omega)
        rw [wnC]
        split <;> omega
      · rw [if_neg d] at h; omega
noncomputable def mvP (m : Nat → Int32) (u : Nat) (t : Nat × Int32 × Nat) (p : Nat) : Nat × Int32 × Nat := if nI p = m (110 + 8 * u + 2) then t else if fbN m (nI u) p (cn (m 0)) < cn (m 0) then t else if wnC m (nI u) p (cn (m 0)) < t.1 then (wnC m (nI u) p (cn (m 0)), nI u, p) else t
noncomputable def mvI (m : Nat → Int32) (t : Nat × Int32 × Nat) (u : Nat) : Nat × Int32 × Nat := if m (110 + 8 * u + 5) = 0 then fldL (fun i => i) (mvP m u) t (cn (m 0)) else t
noncomputable def mv0 (m : Nat → Int32) : Nat × Int32 × Nat := (if fbN m (-1) 0 (cn (m 0)) < cn (m 0) then 1000000 else wnC m (-1) 0 (cn (m 0)), -1, 0)
noncomputable def mvS (m : Nat → Int32) : Nat × Int32 × Nat := fldU (frU m) (mvI m) (mv0 m) (cn (m 2))
def mvB (t : Nat × Int32 × Nat) : Prop := t.1 ≤ 1000000 ∧ (t.2.1 = -1 ∨ ∃ u, u < 6 ∧ t.2.1 = nI u) ∧ t.2.2 ≤ 8
theorem mvP_ok {m : Nat → Int32} {u p : Nat} {t : Nat × Int32 × Nat} (hu : u < 6) (hp : p ≤ 8) (h : mvB t) : mvB (mvP m u t p) := by
  unfold mvP
  have := wnC_bd m (nI u) p (cn (m 0))
  split
  · exact h
  · split
    · exact h
    · split
      · exact ⟨this, Or.inr ⟨u, hu, rfl⟩, hp⟩
      · exact h
theorem mvL_ok {m : Nat → Int32} {u : Nat} {t : Nat × Int32 × Nat} (hu : u < 6) (h : mvB t) : ∀ p, p ≤ 8 → mvB (fldL (fun i => i) (mvP m u) t p) := by
  intro p
  induction p with
  | zero => intro _; exact h
  | succ p ih => intro hp; rw [fldL]; exact mvP_ok hu (by omega) (ih (by omega))
theorem mvI_ok {m : Nat → Int32} (hw : WF m) {u : Nat} {t : Nat × Int32 × Nat} (hu : u < 6) (h : mvB t) : mvB (mvI m t u) := by
  have b0 := hw.1.1.2
  unfold mvI
  split
  · exact mvL_ok hu h _ b0
  · exact h
theorem mv0_ok (m : Nat → Int32) : mvB (mv0 m) := by
  have := wnC_bd m (-1) 0 (cn (m 0))
  unfold mv0
  refine ⟨?_, Or.inl rfl, Nat.zero_le _⟩
  show (if _ then _ else _) ≤ _
  split
  · exact Nat.le_refl _
  · exact this
theorem mvF_ok {m : Nat → Int32} (hw : WF m) : ∀ n, n ≤ 6 → mvB (fldU (frU m) (mvI m) (mv0 m) n) := by
  intro n
  induction n with
  | zero => intro _; exact mv0_ok m
  | succ n ih =>
    intro hn
    by_cases q : frU m n
    · rw [fldU_pos q]; exact mvI_ok hw (by omega) (ih (by omega))
    · rw [fldU_neg q]; exact ih (by omega)
noncomputable def mvT (m : Nat → Int32) : List Int32 := if (mvS m).2.1 < 0 then aTx 21 else numL (mvS m).2.1 ++ [32] ++ numL (nI (mvS m).2.2) ++ [32] ++ numL (nI (mvS m).1)
theorem mvT_len (m : Nat → Int32) : (mvT m).length ≤ 35 := by
  have h1 := numL_len (v := (mvS m).2.1)
  have h2 := numL_len (v := nI (mvS m).2.2)
  have h3 := numL_len (v := nI (mvS m).1)
  have h4 := tx_len 21 (by decide)
  unfold mvT
  split
  · omega
  · simp only [List.length_append, List.length_cons, List.length_nil]; omega
theorem mvT_asc (m : Nat → Int32) : asc (mvT m) := by
  have a32 : asc [32] := asc_1 (n := 32) (by decide) rfl
  unfold mvT
  split
  · exact tx_asc 21 (by decide)
  · exact asc_app (asc_app (asc_app (asc_app (asc_numL _) a32) (asc_numL _)) a32) (asc_numL _)
theorem FrV.tr {σ τ υ : St} {h : Nat} {m : Nat → Int32} (f : FrV σ τ h m) (g : FrV τ υ h m) : FrV σ υ h m := ⟨g.1, fun a ha hh => (g.2 a ha hh).trans (f.2 a ha hh)⟩
/-- the component's loop over places for a free unit at its post -/
theorem c_move41 {σ : St} {m : Nat → Int32} {u : Nat} {t : Nat × Int32 × Nat} (hw : WF m) (hu : u < cn (m 2)) (hB : mvB t) {τ : St} (f : FrV σ τ 3 m) : Ret (iter (fun z => B_X10_move_41 3 (nI u) z.1 z.2.1 z.2.2.1 z.2.2.2.1 z.2.2.2.2) (nI t.1, t.2.1, nI t.2.2, (0 : Int32), τ)) (fun z => ∃ t', (@ite _ (frU m u) (Classical.propDecidable _) (t' = mvI m t u) (t' = t)) ∧ z.1 = nI t'.1 ∧ z.2.1 = t'.2.1 ∧ z.2.2.1 = nI t'.2.2 ∧ FrV σ z.2.2.2 3 m) := by
  have b0 := hw.1.1
  have b0' := b0.2
  have b02 := hw.1.2
  have b2' := hw.2.2.1.2
  have hu6 : u < 6 := by omega
  obtain ⟨-, -, u2, -, -, u5, -⟩ := hw.2.2.2.2.2.2.2.2.1 u hu
  have lt0 : ∀ p, p < cn (m 0) → nI p < m 0 := fun p hp => by rw [b0.1]; exact nI_lt hp (by omega)
  by_cases q : frU m u
  · simp only [if_pos q]
    by_cases s0 : m (110 + 8 * u + 5) = 0
    · have eI : mvI m t u = fldL (fun i => i) (mvP m u) t (cn (m 0)) := by unfold mvI; rw [if_pos s0]
      rw [eI]
      refine iter_cnt (f := fun z => B_X10_move_41 3 (nI u) z.1 z.2.1 z.2.2.1 z.2.2.2.1 z.2.2.2.2) (fun p (ρ : St) => (nI (fldL (fun i => i) (mvP m u) t p).1, (fldL (fun i => i) (mvP m u) t p).2.1, nI (fldL (fun i => i) (mvP m u) t p).2.2, nI p, ρ)) (fun p ρ => FrV σ ρ 3 m) (cn (m 0)) ?_ ?_ τ f
      · rintro p ρ hp F
        obtain ⟨hb1, -, -⟩ := mvL_ok (m := m) hu6 hB p (by omega)
        have eS : fldL (fun i => i) (mvP m u) t (p + 1) = mvP m u (fldL (fun i => i) (mvP m u) t p) p := rfl
        rw [eS]
        generalize fldL (fun i => i) (mvP m u) t p = t1 at hb1
        have hW := wnC_bd m (nI u) p (cn (m 0))
        show Ret (B_X10_move_41 3 (nI u) (nI t1.1) t1.2.1 (nI t1.2.2) (nI p) ρ) _
        unfold B_X10_move_41 mvP
        obtain ⟨-, -, h17, -, -, h20, -⟩ := F.1.1.2.2.1 u hu
        rw [F.1.1.1.1, if_pos (lt0 p hp), c_isFree hw F.1.1 hu, some_b, if_pos q, if_neg (show ¬ (1 : Int32) = 0 by decide), rdo_nI (by omega) (by decide), some_b, h20, if_pos s0, rdo_nI (by omega) (by decide), some_b, h17]
        by_cases c : nI p = m (110 + 8 * u + 2)
        · rw [if_pos c, if_pos c, nI_1]
          exact Ret.some ⟨ρ, rfl, F⟩
        · rw [if_neg c, if_neg c]
          refine Ret.bind (c_coverLook (x := nI u) hw (by decide) hp F.1) ?_
          rintro r ⟨r1, r2⟩
          have F2 := F.tr r1
          rcases r2 with ⟨d, p1, p2⟩ | ⟨d, p1, p2, p3⟩
          · rw [p1, if_pos rfl, if_pos d, nI_1]
            exact Ret.some ⟨r.2, rfl, F2⟩
          · rw [p1, if_neg (show ¬ (1 : Int32) = 0 by decide), p3, if_neg (show ¬ fbN m (nI u) p (cn (m 0)) < cn (m 0) by omega)]
            by_cases e : wnC m (nI u) p (cn (m 0)) < t1.1
            · rw [if_pos (nI_lt e (by omega)), nmo_b, if_pos e, nI_1]
              exact Ret.some ⟨r.2, rfl, F2⟩
            · rw [if_neg (nI_nlt (by omega) (by omega)), if_neg e, nI_1]
              exact Ret.some ⟨r.2, rfl, F2⟩
      · rintro ρ F
        have nlt : ¬ nI (cn (m 0)) < m 0 := by
          conv => rhs; rhs; rw [b0.1]
          exact nI_nlt (Nat.le_refl _) (by omega)
        show Ret (B_X10_move_41 3 (nI u) _ _ _ (nI (cn (m 0))) ρ) _
        unfold B_X10_move_41
        rw [F.1.1.1.1, if_neg nlt]
        exact ⟨_, rfl, _, rfl, rfl, rfl, rfl, F⟩
    · have eI : mvI m t u = t := by unfold mvI; rw [if_neg s0]
      obtain ⟨-, -, h17, -, -, h20, -⟩ := f.1.1.2.2.1 u hu
      have eB : B_X10_move_41 3 (nI u) (nI t.1) t.2.1 (nI t.2.2) 0 τ = some (.inr (nI t.1, t.2.1, nI t.2.2, τ)) := by
        unfold B_X10_move_41
        rw [f.1.1.1.1, if_pos (show (0 : Int32) < m 0 from lt0 0 (by omega)), c_isFree hw f.1.1 hu, some_b, if_pos q, if_neg (show ¬ (1 : Int32) = 0 by decide), rdo_nI (by omega) (by decide), some_b, h20, if_neg s0]
      rw [iter_inr (f := fun z => B_X10_move_41 3 (nI u) z.1 z.2.1 z.2.2.1 z.2.2.2.1 z.2.2.2.2) (a := (nI t.1, t.2.1, nI t.2.2, (0 : Int32), τ)) eB, eI]
      exact Ret.some ⟨t, rfl, rfl, rfl, rfl, f⟩
  · simp only [if_neg q]
    have eB : B_X10_move_41 3 (nI u) (nI t.1) t.2.1 (nI t.2.2) 0 τ = some (.inr (nI t.1, t.2.1, nI t.2.2, τ)) := by
      unfold B_X10_move_41
      rw [f.1.1.1.1, if_pos (show (0 : Int32) < m 0 from lt0 0 (by omega)), c_isFree hw f.1.1 hu, some_b, if_neg q, if_pos rfl]
    rw [iter_inr (f := fun z => B_X10_move_41 3 (nI u) z.1 z.2.1 z.2.2.1 z.2.2.2.1 z.2.2.2.2) (a := (nI t.1, t.2.1, nI t.2.2, (0 : Int32), τ)) eB]
    exact Ret.some ⟨t, rfl, rfl, rfl, rfl, f⟩
theorem c_move {σ : St} {k : Nat} {m : Nat → Int32} (hw : WF m) (H : HH (σ 3) m) (B5 : HB (σ 5)) (hs : szC σ k) (hk : k ≤ 100) : Ret (F_X10_move 3 σ) (AskC σ m (mvT m)) := by
  have b0' := hw.1.1.2
  have b02 := hw.1.2
  have b2 := hw.2.2.1
  have b2' := b2.2
  have f3 := wnC_bd m (-1) 0 (cn (m 0))
  unfold F_X10_move
  refine Ret.bind (c_coverLook (x := -1) (g := 0) hw (by decide) (by omega) H) ?_
  rintro r ⟨r1, r2⟩
  have e0 : (if r.1 = 0 then some ((1000000 : Int32)) else some ((r.2 12 0 1))) = some (nI (mv0 m).1) := by
    unfold mv0
    rcases r2 with ⟨c, p1, p2⟩ | ⟨c, p1, p2, p3⟩
    · rw [p1, if_pos rfl, if_pos c]; rfl
    · rw [p1, if_neg (show ¬ (1 : Int32) = 0 by decide), p3, if_neg (show ¬ fbN m (-1) 0 (cn (m 0)) < cn (m 0) by omega)]
  rw [e0, some_b]
  refine Ret.bind (Q := fun z => z.1 = nI (mvS m).1 ∧ z.2.1 = (mvS m).2.1 ∧ z.2.2.1 = nI (mvS m).2.2 ∧ FrV σ z.2.2.2 3 m) ?_ ?_
  · refine iter_cnt (f := fun z => B_X10_move_29 3 z.1 z.2.1 z.2.2.1 z.2.2.2.1 z.2.2.2.2) (fun u (ρ : St) => (nI (fldU (frU m) (mvI m) (mv0 m) u).1, (fldU (frU m) (mvI m) (mv0 m) u).2.1, nI (fldU (frU m) (mvI m) (mv0 m) u).2.2, nI u, ρ)) (fun u ρ => FrV σ ρ 3 m) (cn (m 2)) ?_ ?_ r.2 r1
    · rintro u ρ hu F
      have hB := mvF_ok hw u (by omega)
      have lt : nI u < m 2 := by rw [b2.1]; exact nI_lt hu (by omega)
      show Ret (B_X10_move_29 3 _ _ _ (nI u) ρ) _
      unfold B_X10_move_29
      rw [F.1.1.1.2.2.1, if_pos lt]
      refine Ret.bind (c_move41 hw hu hB F) ?_
      rintro z ⟨t', ht, z1, z2, z3, z4⟩
      rw [z1, z2, z3, nI_1]
      refine Ret.some ⟨z.2.2.2, ?_, z4⟩
      by_cases q : frU m u
      · rw [if_pos q] at ht
        rw [fldU_pos q, ht]
      · rw [if_neg q] at ht
        rw [fldU_neg q, ht]
    · rintro ρ F
      have nlt : ¬ nI (cn (m 2)) < m 2 := by
        conv => rhs; rhs; rw [b2.1]
        exact nI_nlt (Nat.le_refl _) (by omega)
      show Ret (B_X10_move_29 3 _ _ _ (nI (cn (m 2))) ρ) _
      unfold B_X10_move_29
      rw [F.1.1.1.2.2.1, if_neg nlt]
      exact ⟨_, rfl, rfl, rfl, rfl, F⟩
  · rintro z ⟨z1, z2, z3, z4⟩
    obtain ⟨t1, t2, t3⟩ : mvB (mvS m) := mvF_ok hw _ b2'
    have e1 : z.2.2.2 1 = σ 1 := z4.2 1 (by decide) (by decide)
    have hs1 : szC z.2.2.2 k := by unfold szC; rw [e1]; exact hs
    have T0 : TxC σ z.2.2.2 [] := (TxC.rf σ).g e1
    have fq : FrQ σ z.2.2.2 m := ⟨fun a ha => z4.2 a (by omega) (by omega), fun b _ => by rw [z4.2 0 (by decide) (by decide)], z4.1, by rw [z4.2 5 (by decide) (by decide)]; exact B5⟩
    rw [z1, z2, z3]
    unfold mvT
    by_cases c : (mvS m).2.1 < 0
    · have := c_sayA (σ := z.2.2.2) (L := []) (i := 50) (w := 21) (by decide) (by decide) (tx_eq (50, 21) (by decide)) hs1 (by rw [List.length_nil]; omega)
      rw [appC_nil, List.nil_append] at this
      rw [if_pos c, show (50 : Int32) = nI 50 from rfl, this, some_b, if_pos c]
      exact Ret.some ⟨T0.app, fq.app⟩
    · have ok1 : okN (mvS m).2.1 := by
        rcases t2 with e | ⟨u, u1, u2⟩
        · rw [e] at c; exact absurd (by decide) c
        · rw [u2]; exact okN_nI (by omega)
      have l1 := numL_len (v := (mvS m).2.1)
      have l2 := numL_len (v := nI (mvS m).2.2)
      have := c_nmsA (σ := z.2.2.2) (L := []) hs1 ok1 (okN_nI (n := (mvS m).2.2) (by omega)) (by rw [List.length_nil]; omega)
      rw [appC_nil, List.nil_append] at this
      rw [if_neg c, this, some_b, c_addA hs1 (by simp only [List.length_append, List.length_cons, List.length_nil]; omega), some_b, c_numA hs1 (okN_nI (by omega)) (by simp only [List.length_append, List.length_cons, List.length_nil]; omega), some_b, if_neg c]
      exact Ret.some ⟨T0.app, fq.app⟩
theorem m_move33 {m : Nat → Int32} {i : Nat} {t : Nat × Int32 × Nat} (R : Rok m) (hi : i < nU m) (hB : mvB t) {τ : St} (F : FB τ m) (x : Int32) : Ret (iter (fun z => B_X12_tellMove_33 (nI i) z.1 z.2.1 z.2.2.1 z.2.2.2.1 z.2.2.2.2) (dI t.1, t.2.1, nI t.2.2, (0 : Int32), τ)) (fun z => ∃ v, z = (dI (mvI m t (fr m i)).1, (mvI m t (fr m i)).2.1, nI (mvI m t (fr m i)).2.2, v) ∧ (v = τ ∨ ∃ w, v = up3 τ 20 0 47 w)) := by
  have hw := R.1
  have b0 := hw.1.1
  have b0' := b0.2
  have b02 := hw.1.2
  have b2' := hw.2.2.1.2
  have u6 := nU_6 R
  obtain ⟨fr1, fr2⟩ := fr_ok hi
  have hu6 : fr m i < 6 := by omega
  have lt0 : ∀ p, p < cn (m 0) → nI p < m 0 := fun p hp => by rw [b0.1]; exact nI_lt hp (by omega)
  by_cases s0 : m (110 + 8 * fr m i + 5) = 0
  · have eI : mvI m t (fr m i) = fldL (fun i => i) (mvP m (fr m i)) t (cn (m 0)) := by unfold mvI; rw [if_pos s0]
    rw [eI]
    refine iter_cnt (f := fun z => B_X12_tellMove_33 (nI i) z.1 z.2.1 z.2.2.1 z.2.2.2.1 z.2.2.2.2) (fun p (ρ : St) => (dI (fldL (fun i => i) (mvP m (fr m i)) t p).1, (fldL (fun i => i) (mvP m (fr m i)) t p).2.1, nI (fldL (fun i => i) (mvP m (fr m i)) t p).2.2, nI p, ρ)) (fun p ρ => ρ = τ ∨ ∃ w, ρ = up3 τ 20 0 47 w) (cn (m 0)) ?_ ?_ τ (Or.inl rfl)
    · rintro p ρ hp hρ
      have F1 : FB ρ m := by
        rcases hρ with e | ⟨w, e⟩
        · rw [e]; exact F
        · rw [e]; exact F.u47
      have hup : ∀ w, up3 ρ 20 0 47 w = up3 τ 20 0 47 w := fun w => by
        rcases hρ with e | ⟨w', e⟩
        · rw [e]
        · rw [e, up3_up]
      obtain ⟨hb1, -, -⟩ := mvL_ok (m := m) hu6 hB p (by omega)
      have eS : fldL (fun i => i) (mvP m (fr m i)) t (p + 1) = mvP m (fr m i) (fldL (fun i => i) (mvP m (fr m i)) t p) p := rfl
      rw [eS]
      generalize fldL (fun i => i) (mvP m (fr m i)) t p = t1 at hb1
      have hW := wnC_bd m (nI (fr m i)) p (cn (m 0))
      show Ret (B_X12_tellMove_33 (nI i) (dI t1.1) t1.2.1 (nI t1.2.2) (nI p) ρ) _
      unfold B_X12_tellMove_33 mvP
      have r38 : rdo ρ 20 38 6 (nI i) = some (nI (fr m i)) := by rw [rdo_nI (by omega) (by decide), F1.2.2.2.1 i hi]
      have e5 : F_X12_unit (nI (fr m i)) (5 : Int32) ρ = some (m (110 + 8 * fr m i + 5)) := by rw [show (5 : Int32) = nI 5 from rfl, m_unit (by omega) (by decide), F1.2.2.2.2.1]
      have e2 : F_X12_unit (nI (fr m i)) (2 : Int32) ρ = some (m (110 + 8 * fr m i + 2)) := by rw [show (2 : Int32) = nI 2 from rfl, m_unit (by omega) (by decide), F1.2.2.2.2.1]
      rw [m_rd0, some_b, F1.2.2.2.2.1, if_pos (lt0 p hp), r38, some_b, e5, some_b, if_pos s0, some_b, e2, some_b]
      by_cases c : nI p = m (110 + 8 * fr m i + 2)
      · rw [if_pos c, some_b, if_pos (show (-1 : Int32) < 0 by decide), if_pos c, nI_1]
        exact Ret.some ⟨ρ, rfl, hρ⟩
      · rw [if_neg c, some_b, m_coverWith R F1 hp, some_b, some_b, if_neg c]
        unfold cwR
        by_cases d : fbN m (nI (fr m i)) p (cn (m 0)) < cn (m 0)
        · rw [if_pos d, if_pos d]
          dsimp only
          rw [if_pos (show (-1 : Int32) < 0 by decide), nI_1]
          exact Ret.some ⟨_, rfl, Or.inr ⟨_, hup _⟩⟩
        · have hWl := wnC_lt (m := m) (x := nI (fr m i)) (g := p) (cn (m 0)) (by have := fbN_le m (nI (fr m i)) p (cn (m 0)); omega)
          rw [if_neg d, if_neg d]
          dsimp only
          rw [if_neg (show ¬ nI (wnC m (nI (fr m i)) p (cn (m 0))) < 0 from nI_pos (by omega))]
          have r38' : rdo (up3 ρ 20 0 47 (nI (qN m (nI (fr m i)) p (cn (m 0))))) 20 38 6 (nI i) = some (nI (fr m i)) := by rw [rdo_nI (by omega) (by decide), F1.u47.2.2.2.1 i hi]
          by_cases e : wnC m (nI (fr m i)) p (cn (m 0)) < t1.1
          · have eW : dI (wnC m (nI (fr m i)) p (cn (m 0))) = nI (wnC m (nI (fr m i)) p (cn (m 0))) := dI_fin hWl
            by_cases z : t1.1 < 1000000
            · rw [if_neg (fun y => (dI_neg hb1).mp y z), dI_fin z, if_pos (nI_lt e (by omega)), bindL_inl, r38', some_b, if_pos e, nI_1]
              refine Ret.some ⟨up3 ρ 20 0 47 (nI (qN m (nI (fr m i)) p (cn (m 0)))), ?_, Or.inr ⟨_, hup _⟩⟩
              rw [eW]
            · rw [if_pos ((dI_neg hb1).mpr z), bindL_inl, r38', some_b, if_pos e, nI_1]
              refine Ret.some ⟨up3 ρ 20 0 47 (nI (qN m (nI (fr m i)) p (cn (m 0)))), ?_, Or.inr ⟨_, hup _⟩⟩
              rw [eW]
          · have z : t1.1 < 1000000 := by omega
            rw [if_neg (fun y => (dI_neg hb1).mp y z), dI_fin z, if_neg (nI_nlt (by omega) (by omega)), bindL_inr, if_neg e, nI_1]
            refine Ret.some ⟨up3 ρ 20 0 47 (nI (qN m (nI (fr m i)) p (cn (m 0)))), ?_, Or.inr ⟨_, hup _⟩⟩
            rw [dI_fin z]
    · rintro ρ hρ
      have F1 : FB ρ m := by
        rcases hρ with e | ⟨w, e⟩
        · rw [e]; exact F
        · rw [e]; exact F.u47
      have nlt : ¬ nI (cn (m 0)) < m 0 := by
        conv => rhs; rhs; rw [b0.1]
        exact nI_nlt (Nat.le_refl _) (by omega)
      show Ret (B_X12_tellMove_33 (nI i) _ _ _ (nI (cn (m 0))) ρ) _
      unfold B_X12_tellMove_33
      rw [m_rd0, some_b, F1.2.2.2.2.1, if_neg nlt]
      exact ⟨_, rfl, ρ, rfl, hρ⟩
  · have eI : mvI m t (fr m i) = t := by unfold mvI; rw [if_neg s0]
    have r38 : rdo τ 20 38 6 (nI i) = some (nI (fr m i)) := by rw [rdo_nI (by omega) (by decide), F.2.2.2.1 i hi]
    have e5 : F_X12_unit (nI (fr m i)) (5 : Int32) τ = some (m (110 + 8 * fr m i + 5)) := by rw [show (5 : Int32) = nI 5 from rfl, m_unit (by omega) (by decide), F.2.2.2.2.1]
    have eB : B_X12_tellMove_33 (nI i) (dI t.1) t.2.1 (nI t.2.2) 0 τ = some (.inr (dI t.1, t.2.1, nI t.2.2, τ)) := by
      unfold B_X12_tellMove_33
      rw [m_rd0, some_b, F.2.2.2.2.1, if_pos (show (0 : Int32) < m 0 from lt0 0 (by omega)), r38, some_b, e5, some_b, if_neg s0]
    rw [iter_inr (f := fun z => B_X12_tellMove_33 (nI i) z.1 z.2.1 z.2.2.1 z.2.2.2.1 z.2.2.2.2) (a := (dI t.1, t.2.1, nI t.2.2, (0 : Int32), τ)) eB, eI]
    exact Ret.some ⟨τ, rfl, Or.inl rfl⟩
theorem m_move {σ : St} {m : Nat → Int32} {k : Nat} (R : Rok m) (hm : σ 20 1 = m) (hS : StatM σ) (hs : szM σ k) (hk : k ≤ 100) : Ret (F_X12_tellMove σ) (AskM σ (mvT m)) := by
  have hw := R.1
  have b0' := hw.1.1.2
  have b02 := hw.1.2
  have b2' := hw.2.2.1.2
  have u6 := nU_6 R
  have f3 := wnC_bd m (-1) 0 (cn (m 0))
  have eS : mvS m = fldL (fr m) (mvI m) (mv0 m) (nU m) := fldU_L (frU m) (mvI m) (mv0 m) (cn (m 2))
  have hB : ∀ i, i ≤ nU m → mvB (fldL (fr m) (mvI m) (mv0 m) i) := by
    intro i
    induction i with
    | zero => intro _; exact mv0_ok m
    | succ i ih => intro hi; rw [fldL]; exact mvI_ok hw (by have := (fr_ok (m := m) (i := i) (by omega)).1; omega) (ih (by omega))
  unfold F_X12_tellMove
  refine Ret.bind (m_findBoth R hm) ?_
  rintro τ ⟨F, B⟩
  have T0 : TxM σ τ [] := (TxM.rf σ).fr (B.2.1 15 (by decide) (by decide) (by decide) (by decide)) (B.2.2 15 (by decide) (by decide))
  have hSt : StatM τ := hS.fr (B.2.1 19 (by decide) (by decide) (by decide) (by decide)) (B.2.1 17 (by decide) (by decide) (by decide) (by decide)) (B.2.1 18 (by decide) (by decide) (by decide) (by decide))
  rw [show F_X12_coverWith (-1 : Int32) (0 : Int32) τ = _ from m_coverWith (x := -1) (g := 0) R F (by omega), some_b]
  have e1 : (cwR m (-1) 0 τ).1 = dI (mv0 m).1 := by
    unfold cwR mv0
    by_cases c : fbN m (-1) 0 (cn (m 0)) < cn (m 0)
    · rw [if_pos c, if_pos c]; exact dI_far.symm
    · have hWl := wnC_lt (m := m) (x := -1) (g := 0) (cn (m 0)) (by have := fbN_le m (-1) 0 (cn (m 0)); omega)
      rw [if_neg c, if_neg c]; exact (dI_fin hWl).symm
  have e2 : ∃ w, (cwR m (-1) 0 τ).2 = up3 τ 20 0 47 w := by
    unfold cwR
    by_cases c : fbN m (-1) 0 (cn (m 0)) < cn (m 0)
    · rw [if_pos c]; exact ⟨_, rfl⟩
    · rw [if_neg c]; exact ⟨_, rfl⟩
  obtain ⟨w0, e2⟩ := e2
  rw [e1, e2]
  refine Ret.bind (Q := fun z => ∃ w, z = (dI (mvS m).1, (mvS m).2.1, nI (mvS m).2.2, up3 τ 20 0 47 w)) ?_ ?_
  · rw [eS]
    refine iter_cnt (f := fun z => B_X12_tellMove_21 z.1 z.2.1 z.2.2.1 z.2.2.2.1 z.2.2.2.2) (fun i (ρ : St) => (dI (fldL (fr m) (mvI m) (mv0 m) i).1, (fldL (fr m) (mvI m) (mv0 m) i).2.1, nI (fldL (fr m) (mvI m) (mv0 m) i).2.2, nI i, ρ)) (fun i ρ => ∃ w, ρ = up3 τ 20 0 47 w) (nU m) ?_ ?_ (up3 τ 20 0 47 w0) ⟨w0, rfl⟩
    · rintro i ρ hi ⟨w, hρ⟩
      have F1 : FB ρ m := by rw [hρ]; exact F.u47
      show Ret (B_X12_tellMove_21 _ _ _ (nI i) ρ) _
      unfold B_X12_tellMove_21
      rw [F1.2.1, if_pos (nI_lt hi (by omega))]
      refine Ret.bind (m_move33 R hi (hB i (by omega)) F1 0) ?_
      rintro z ⟨v, z1, z2⟩
      rw [z1]
      dsimp only
      rw [nI_1]
      refine Ret.some ⟨v, rfl, ?_⟩
      rcases z2 with e | ⟨w', e⟩
      · exact ⟨w, e.trans hρ⟩
      · exact ⟨w', by rw [e, hρ, up3_up]⟩
    · rintro ρ ⟨w, hρ⟩
      have F1 : FB ρ m := by rw [hρ]; exact F.u47
      show Ret (B_X12_tellMove_21 _ _ _ (nI (nU m)) ρ) _
      unfold B_X12_tellMove_21
      rw [F1.2.1, if_neg (nI_nlt (Nat.le_refl _) (by omega))]
      exact ⟨_, rfl, w, by rw [hρ]⟩
  · rintro z ⟨w, z1⟩
    obtain ⟨t1, t2, t3⟩ : mvB (mvS m) := mvF_ok hw _ b2'
    have T1 : TxM σ (up3 τ 20 0 47 w) [] := T0.fr (up3_j (by decide)) (up3_i (by decide))
    have s1 : szM (up3 τ 20 0 47 w) k := T1.sz hs
    have fq : FrM σ (up3 τ 20 0 47 w) := (FrM.fb B).u0 (by decide)
    rw [z1]
    dsimp only
    unfold mvT
    by_cases c : (mvS m).2.1 < 0
    · rw [if_pos c, show (21 : Int32) = nI 21 from rfl, AskM.say (by decide) hSt.u0 s1 hk, some_b, if_pos c]
      exact Ret.some ⟨T1.app, fq.app⟩
    · have ok1 : okN (mvS m).2.1 := by
        rcases t2 with e | ⟨u, u1, u2⟩
        · rw [e] at c; exact absurd (by decide) c
        · rw [u2]; exact okN_nI (by omega)
      have l1 := numL_len (v := (mvS m).2.1)
      have l2 := numL_len (v := nI (mvS m).2.2)
      have n1 := m_numA (σ := up3 τ 20 0 47 w) (L := []) s1 ok1 (by rw [List.length_nil]; omega)
      rw [appM_nil, List.nil_append] at n1
      have hv : dI (mvS m).1 = nI (mvS m).1 := by
        refine dI_fin ?_
        have key : ∀ n, n ≤ 6 → (fldU (frU m) (mvI m) (mv0 m) n).2.1 < 0 ∨ (fldU (frU m) (mvI m) (mv0 m) n).1 < 1000000 := by
          have hP : ∀ u (t : Nat × Int32 × Nat), u < 6 → (t.2.1 < 0 ∨ t.1 < 1000000) → ∀ p, (fldL (fun i => i) (mvP m u) t p).2.1 < 0 ∨ (fldL (fun i => i) (mvP m u) t p).1 < 1000000 := by
            intro u t hu ht p
            induction p with
            | zero => exact ht
            | succ p ih =>
              rw [fldL]
              generalize fldL (fun i => i) (mvP m u) t p = y at ih
              unfold mvP
              split
              · exact ih
              · split
                · exact ih
                · split
                  · rename_i c _
                    right
                    exact wnC_lt (cn (m 0)) (by have := fbN_le m (nI u) p (cn (m 0)); omega)
                  · exact ih
          intro n
          induction n with
          | zero => intro _; left; show (-1 : Int32) < 0; decide
          | succ n ih =>
            intro hn
            by_cases q : frU m n
            · rw [fldU_pos q]
              unfold mvI
              split
              · exact hP n _ (by omega) (ih (by omega)) _
              · exact ih (by omega)
            · rw [fldU_neg q]; exact ih (by omega)
        rcases key (cn (m 2)) b2' with z | z
        · exact absurd z c
        · exact z
      rw [if_neg c, n1, some_b, m_putA s1 (by omega), some_b, m_numA s1 (okN_nI (n := (mvS m).2.2) (by omega)) (by simp only [List.length_append, List.length_cons, List.length_nil]; omega), some_b, m_putA s1 (by simp only [List.length_append, List.length_cons, List.length_nil]; omega), some_b, hv, m_numA s1 (okN_nI (n := (mvS m).1) (by omega)) (by simp only [List.length_append, List.length_cons, List.length_nil]; omega), some_b, if_neg c]
      exact Ret.some ⟨T1.app, fq.app⟩
