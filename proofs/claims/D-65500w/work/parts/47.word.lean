/-! S2: the model's word -/
set_option maxRecDepth 100000
def lcP (h : Nat → Int32) (w l : Nat) : Prop := l ≤ wL w ∧ eqP h w l ∧ (l = wL w ∨ ¬ h l = wW w l)
theorem lcP_ex (h : Nat → Int32) (w : Nat) : ∃ l, lcP h w l := by
  have key : ∀ d l, l + d = wL w → eqP h w l → ∃ k, lcP h w k := by
    intro d
    induction d with
    | zero => intro l hl x; exact ⟨l, by omega, x, Or.inl (by omega)⟩
    | succ d ih =>
      intro l hl x
      by_cases q : h l = wW w l
      · refine ih (l + 1) (by omega) ?_
        intro k hk
        by_cases e : k = l
        · rw [e]; exact q
        · exact x k (by omega)
      · exact ⟨l, by omega, x, Or.inr q⟩
  exact key (wL w) 0 (by omega) (fun k hk => absurd hk (Nat.not_lt_zero k))
theorem lcP_max {h : Nat → Int32} {w l b : Nat} (x : lcP h w l) (hb : b ≤ wL w) (y : eqP h w b) : b ≤ l := by
  rcases Nat.lt_or_ge l b with q | q
  · exfalso
    rcases x.2.2 with e | e
    · omega
    · exact e (y l q)
  · exact q
theorem m_req {σ : St} {k : Nat} (hS : StatM σ) (h : k < 240) : rdo σ 20 17 240 (nI k) = some (reqL.getD k 0) := by
  rw [rdo_nI h (by decide), hS.2.1 k h]
theorem lp_f22 {σ : St} {n w l : Nat} {v : Int32} {h : Nat → Int32} (S : SrcM σ n h) (hS : StatM σ) (hw : w < 45) (x : lcP h w l) : iter (fun z => B_X12_findWord_22 (nI (pM w)) v z σ) (0 : Int32) = some (nI l) := by
  obtain ⟨t1, t2, t3, t4⟩ := w_tabM w hw
  have t6 := (w_tabC w hw).2.2.2.2.2
  have hn := S.2.1
  have lt : ∀ i, i < wL w → h i = wW w i → i < n := by
    intro i hi e
    refine S.2.2.1.lt ?_
    rw [e]
    intro z
    have := (t6 i hi).2.1
    rw [Int32.lt_iff_toInt_lt] at this z
    have e1 : (57 : Int32).toInt = 57 := by decide
    have e0 : (0 : Int32).toInt = 0 := by decide
    omega
  refine iter_row (f := fun z => B_X12_findWord_22 (nI (pM w)) v z σ) (fun i => nI i) l _ ?_ ?_ 0 (Nat.zero_le _)
  · intro i hi
    have hi2 := x.1
    obtain ⟨u1, u2⟩ := t4 i (by omega)
    have hin := lt i (by omega) (x.2.1 i hi)
    show B_X12_findWord_22 (nI (pM w)) v (nI i) σ = _
    unfold B_X12_findWord_22
    rw [nI_add, m_req hS (by omega), some_b, u1, if_neg u2, S.1, if_pos (nI_lt hin (by omega)), rdo_nI (by omega) (by decide), some_b, some_b, S.2.2.2 i hin, if_pos (x.2.1 i hi), nI_1]
  · show B_X12_findWord_22 (nI (pM w)) v (nI l) σ = _
    unfold B_X12_findWord_22
    have hl := x.1
    rw [nI_add, m_req hS (by omega), some_b]
    rcases x.2.2 with e | e
    · rw [e, t3, if_pos rfl]
    · have hlt : l < wL w ∨ l = wL w := by omega
      rcases hlt with hlt | hlt
      · obtain ⟨u1, u2⟩ := t4 l hlt
        rw [u1, if_neg u2, S.1]
        by_cases q : l < n
        · rw [if_pos (nI_lt q (by omega)), rdo_nI (by omega) (by decide), some_b, some_b, S.2.2.2 l q, if_neg e]
        · rw [if_neg (nI_nlt (by omega) (by omega))]
      · rw [hlt, t3, if_pos rfl]
theorem lp_f137 {σ : St} {w : Nat} {v : Int32} (hS : StatM σ) (hw : w < 45) : iter (fun z => B_X12_findWord_137 v z σ) (nI (pM w)) = some (nI (pM w + wL w)) := by
  obtain ⟨t1, t2, t3, t4⟩ := w_tabM w hw
  refine iter_row (f := fun z => B_X12_findWord_137 v z σ) (fun i => nI (pM w + i)) (wL w) _ ?_ ?_ 0 (Nat.zero_le _)
  · intro i hi
    obtain ⟨u1, u2⟩ := t4 i hi
    show B_X12_findWord_137 v (nI (pM w + i)) σ = _
    unfold B_X12_findWord_137
    rw [m_req hS (by omega), some_b, u1, if_neg u2, nI_1, Nat.add_assoc]
  · show B_X12_findWord_137 v (nI (pM w + wL w)) σ = _
    unfold B_X12_findWord_137
    rw [m_req hS (by omega), some_b, t3, if_pos rfl]
theorem StatM.u0 {σ : St} {i : Nat} {v : Int32} (hS : StatM σ) : StatM (up3 σ 20 0 i v) := by
  unfold StatM
  rw [up3_j (by decide), up3_j (by decide), up3_j (by decide)]
  exact hS
theorem StatM.fr {σ τ : St} (hS : StatM σ) (e19 : τ 20 19 = σ 20 19) (e17 : τ 20 17 = σ 20 17) (e18 : τ 20 18 = σ 20 18) : StatM τ := by
  unfold StatM
  rw [e19, e17, e18]
  exact hS
/-- what the model's search has found among the first w words -/
def Fnd (h : Nat → Int32) (w : Nat) (kd : Int32) (A : Nat) : Prop := (A = 0 ∨ ∃ v, v < w ∧ A ≤ wL v ∧ eqP h v A) ∧ (∀ v, v < w → ∀ b, b ≤ wL v → eqP h v b → b ≤ A) ∧ ((∃ v, v < w ∧ kd = nI v ∧ wd h A v) ∨ (kd = -1 ∧ ∀ v, v < w → ¬ wd h A v))
theorem Fnd.new {h : Nat → Int32} {w A l : Nat} {kd : Int32} (f : Fnd h w kd A) (x : lcP h w l) (c : A < l ∨ (l = wL w ∧ l = A)) : Fnd h (w + 1) (if l = wL w then nI w else -1) (max A l) := by
  have hA : max A l = l := by omega
  rw [hA]
  refine ⟨Or.inr ⟨w, by omega, x.1, x.2.1⟩, ?_, ?_⟩
  · intro v hv b hb y
    by_cases e : v = w
    · subst e; exact lcP_max x hb y
    · have := f.2.1 v (by omega) b hb y
      omega
  · by_cases q : l = wL w
    · rw [if_pos q]
      exact Or.inl ⟨w, by omega, rfl, q.symm, x.2.1⟩
    · rw [if_neg q]
      refine Or.inr ⟨rfl, ?_⟩
      intro v hv y
      by_cases e : v = w
      · subst e; exact q y.1.symm
      · have := f.2.1 v (by omega) l (by have := y.1; omega) y.2
        omega
theorem Fnd.old {h : Nat → Int32} {w A l : Nat} {kd : Int32} (f : Fnd h w kd A) (x : lcP h w l) (c : ¬ (A < l ∨ (l = wL w ∧ l = A))) : Fnd h (w + 1) kd (max A l) := by
  have hA : max A l = A := by omega
  rw [hA]
  refine ⟨?_, ?_, ?_⟩
  · rcases f.1 with e | ⟨v, h1, h2⟩
    · exact Or.inl e
    · exact Or.inr ⟨v, by omega, h2⟩
  · intro v hv b hb y
    by_cases e : v = w
    · subst e
      have := lcP_max x hb y
      omega
    · exact f.2.1 v (by omega) b hb y
  · rcases f.2.2 with ⟨v, h1, h2⟩ | ⟨h1, h2⟩
    · exact Or.inl ⟨v, by omega, h2⟩
    · refine Or.inr ⟨h1, ?_⟩
      intro v hv y
      by_cases e : v = w
      · subst e
        have := lcP_max x (b := A) (by have := y.1; omega) y.2
        have := y.1
        omega
      · exact h2 v (by omega) y
def FdS (σ : St) (kd : Int32) (A : Nat) : St := up3 (up3 σ 20 0 20 kd) 20 0 21 (nI A)
theorem FdS_kd {σ : St} {kd kd' : Int32} {A : Nat} : up3 (FdS σ kd A) 20 0 20 kd' = FdS σ kd' A := by
  unfold FdS
  funext a b c
  unfold up3
  by_cases e1 : a = 20 ∧ b = 0 ∧ c = 20
  · rw [if_pos e1, if_neg (by omega), if_pos e1]
  · rw [if_neg e1]
    by_cases e2 : a = 20 ∧ b = 0 ∧ c = 21
    · rw [if_pos e2, if_pos e2]
    · rw [if_neg e2, if_neg e2, if_neg e1, if_neg e1]
theorem FdS_at {σ : St} {kd : Int32} {A B : Nat} : up3 (FdS σ kd A) 20 0 21 (nI B) = FdS σ kd B := by
  unfold FdS
  rw [up3_up]
theorem m_fwStep {σ : St} {n w A : Nat} {kd : Int32} {h : Nat → Int32} (S : SrcM σ n h) (hS : StatM σ) (hw : w < 45) (hA : A ≤ 10) (f : Fnd h w kd A) : ∃ kd' A', B_X12_findWord_14 (nI (pM w)) (nI w) (FdS σ kd A) = some (.inl (nI (pM (w + 1)), nI (w + 1), FdS σ kd' A')) ∧ Fnd h (w + 1) kd' A' ∧ A' ≤ 10 := by
  obtain ⟨l, x⟩ := lcP_ex h w
  obtain ⟨t1, t2, t3, t4⟩ := w_tabM w hw
  have t5 := (w_tabC w hw).2.2.2.2.1
  have hl := x.1
  have S2 : ∀ k a, SrcM (FdS σ k a) n h := fun k a => (S.u0 (by decide)).u0 (by decide)
  have H2 : ∀ k a, StatM (FdS σ k a) := fun k a => hS.u0.u0
  have e21 : ∀ k a, FdS σ k a 20 0 21 = nI a := fun k a => up3_same _ _ _ _ _
  have hz : (if reqL.getD (pM w + l) 0 = 0 then some (1 : Int32) else some 0) = some (if l = wL w then 1 else 0) := by
    by_cases q : l = wL w
    · rw [if_pos q, q, t3, if_pos rfl]
    · obtain ⟨u1, u2⟩ := t4 l (by omega)
      rw [if_neg q, u1, if_neg u2]
  have hmx : ∀ k, (if FdS σ k A 20 0 21 < nI l then some (nI l) else some (FdS σ k A 20 0 21)) = some (nI (max A l)) := by
    intro k
    rw [e21]
    by_cases q : A < l
    · rw [if_pos (nI_lt q (by omega)), Nat.max_eq_right (by omega)]
    · rw [if_neg (nI_nlt (by omega) (by omega)), Nat.max_eq_left (by omega)]
  have hfin : ∀ k, B_X12_findWord_14 (nI (pM w)) (nI w) (FdS σ kd A) = ((some (FdS σ k A)).bind (fun z117 => Option.bind ((if (z117 20 0 21) < nI l then some (nI l) else some ((z117 20 0 21))) : Option (Int32)) (fun z134 => (nst (up3 z117 20 0 21 z134)).bind (fun s2008 => Option.bind (iter (fun z => B_X12_findWord_137 (nI w) z s2008) (nI (pM w))) (fun z152 => some (.inl ((z152 + (1 : Int32)), (nI w + (1 : Int32)), s2008))))))) → B_X12_findWord_14 (nI (pM w)) (nI w) (FdS σ kd A) = some (.inl (nI (pM (w + 1)), nI (w + 1), FdS σ k (max A l))) := by
    intro k e
    rw [e, some_b, hmx, some_b, nst_b, FdS_at, lp_f137 (H2 _ _) hw, some_b, nI_1, nI_1, t2]
  by_cases c : A < l ∨ (l = wL w ∧ l = A)
  · refine ⟨if l = wL w then nI w else -1, max A l, hfin _ ?_, f.new x c, by omega⟩
    unfold B_X12_findWord_14
    rw [if_pos (show nI w < (45 : Int32) from nI_lt (b := 45) hw (by decide)), lp_f22 (S2 _ _) (H2 _ _) hw x, some_b, nI_add, m_req (H2 _ _) (by omega), some_b, hz, some_b]
    have e1 : (if FdS σ kd A 20 0 21 < nI l then some (Sum.inl ()) else if (if l = wL w then (1 : Int32) else 0) = 0 then some (Sum.inr (FdS σ kd A)) else if nI l = FdS σ kd A 20 0 21 then some (Sum.inl ()) else some (Sum.inr (FdS σ kd A)) : Option (Unit ⊕ St)) = some (.inl ()) := by
      rw [e21]
      rcases c with c | ⟨c1, c2⟩
      · rw [if_pos (nI_lt c (by omega))]
      · rw [if_pos c1, if_neg (show ¬ (1 : Int32) = 0 by decide), c2, if_pos rfl, if_neg (nI_nlt (Nat.le_refl _) (by omega))]
    have e2 : (if (if l = wL w then (1 : Int32) else 0) = 0 then some (-1 : Int32) else some (nI w)) = some (if l = wL w then nI w else -1) := by
      by_cases q : l = wL w
      · rw [if_pos q, if_pos q, if_neg (by decide)]
      · rw [if_neg q, if_neg q, if_pos rfl]
    rw [e1, bindL_inl, e2, some_b, nst_b, FdS_kd]
  · refine ⟨kd, max A l, hfin _ ?_, f.old x c, by omega⟩
    unfold B_X12_findWord_14
    rw [if_pos (show nI w < (45 : Int32) from nI_lt (b := 45) hw (by decide)), lp_f22 (S2 _ _) (H2 _ _) hw x, some_b, nI_add, m_req (H2 _ _) (by omega), some_b, hz, some_b]
    have e1 : (if FdS σ kd A 20 0 21 < nI l then some (Sum.inl ()) else if (if l = wL w then (1 : Int32) else 0) = 0 then some (Sum.inr (FdS σ kd A)) else if nI l = FdS σ kd A 20 0 21 then some (Sum.inl ()) else some (Sum.inr (FdS σ kd A)) : Option (Unit ⊕ St)) = some (.inr (FdS σ kd A)) := by
      rw [e21, if_neg (nI_nlt (by omega) (by omega))]
      by_cases q : l = wL w
      · have : ¬ nI l = nI A := by
          rw [nI_eq (by omega) (by omega)]
          intro z
          exact c (Or.inr ⟨q, z⟩)
        rw [if_pos q, if_neg (show ¬ (1 : Int32) = 0 by decide), if_neg this]
      · rw [if_neg q, if_pos rfl]
    rw [e1, bindL_inr]
theorem m_findWord {σ : St} {n L : Nat} {h : Nat → Int32} (S : SrcM σ n h) (hS : StatM σ) (x : LW h L) : Ret (F_X12_findWord σ) (fun τ => ∃ kd, τ = FdS σ kd L ∧ ((∃ w, w < 45 ∧ kd = nI w ∧ wd h L w) ∨ (kd = -1 ∧ ∀ w, w < 45 → ¬ wd h L w))) := by
  unfold F_X12_findWord
  rw [nst_b, nst_b, show up3 (up3 σ 20 0 20 (-1)) 20 0 21 0 = FdS σ (-1) 0 from rfl]
  refine Ret.bind (Q := fun τ => ∃ kd, τ = FdS σ kd L ∧ ((∃ w, w < 45 ∧ kd = nI w ∧ wd h L w) ∨ (kd = -1 ∧ ∀ w, w < 45 → ¬ wd h L w))) ?_ (fun b hb => Ret.some hb)
  refine iter_inv (fun w z => ∃ kd A, z = (nI (pM w), nI w, FdS σ kd A) ∧ Fnd h w kd A ∧ A ≤ 10) _ 45 ?_ ?_ 0 _ (Nat.zero_le _) ?_
  · rintro w z hw ⟨kd, A, rfl, f, hA⟩
    obtain ⟨kd', A', e, f', hA'⟩ := m_fwStep S hS hw hA f
    exact ⟨_, e, kd', A', rfl, f', hA'⟩
  · rintro z ⟨kd, A, rfl, f, hA⟩
    refine ⟨FdS σ kd A, ?_, ?_⟩
    · show B_X12_findWord_14 (nI (pM 45)) (nI 45) (FdS σ kd A) = _
      unfold B_X12_findWord_14
      rw [if_neg (show ¬ nI 45 < (45 : Int32) by decide)]
    · have hAL : A = L := by
        have h1 : pfx h A := by
          rcases f.1 with e | ⟨v, h1, h2, h3⟩
          · rw [e]; exact pfx_0 h
          · exact ⟨v, h1, h2, h3⟩
        have h2 := LW_le x h1
        obtain ⟨v, v1, v2, v3⟩ := x.1
        have := f.2.1 v v1 L v2 v3
        omega
      subst hAL
      exact ⟨kd, rfl, f.2.2⟩
  · refine ⟨-1, 0, by rw [w_end.2.2.2]; rfl, ⟨Or.inl rfl, fun v hv => absurd hv (Nat.not_lt_zero v), Or.inr ⟨rfl, fun v hv => absurd hv (Nat.not_lt_zero v)⟩⟩, by decide⟩
