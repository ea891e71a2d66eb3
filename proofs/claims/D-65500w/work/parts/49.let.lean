/-! S2: letters and answers -/
set_option maxRecDepth 100000
abbrev isY (c : Int32) : Prop := c = 121 ∨ c = 110
def runE (P : Int32 → Prop) (h : Nat → Int32) (a e : Nat) : Prop := a ≤ e ∧ (∀ i, a ≤ i → i < e → P (h i)) ∧ ¬ P (h e)
theorem runE_ex {P : Int32 → Prop} {h : Nat → Int32} {n a : Nat} (B : Byt h n) (hP : ¬ P (-1)) (ha : a ≤ n) : ∃ e, runE P h a e ∧ e ≤ n := by
  have key : ∀ d a, a + d = n → ∃ e, runE P h a e ∧ e ≤ n := by
    intro d
    induction d with
    | zero => intro a ha; exact ⟨a, ⟨Nat.le_refl _, fun i h1 h2 => by omega, by rw [B.2 a (by omega)]; exact hP⟩, by omega⟩
    | succ d ih =>
      intro a ha
      by_cases q : P (h a)
      · obtain ⟨e, e1, e2⟩ := ih (a + 1) (by omega)
        refine ⟨e, ⟨by have := e1.1; omega, ?_, e1.2.2⟩, e2⟩
        intro i h1 h2
        by_cases z : i = a
        · rw [z]; exact q
        · exact e1.2.1 i (by omega) h2
      · exact ⟨a, ⟨Nat.le_refl _, fun i h1 h2 => by omega, q⟩, by omega⟩
  exact key (n - a) a (by omega)
theorem runE_uniq {P : Int32 → Prop} {h : Nat → Int32} {a e e' : Nat} (x : runE P h a e) (y : runE P h a e') : e = e' := by
  rcases Nat.lt_trichotomy e e' with q | q | q
  · exact absurd (y.2.1 e x.1 q) x.2.2
  · exact q
  · exact absurd (x.2.1 e' y.1 q) y.2.2
theorem lp_let {σ : St} {j n a e : Nat} {h : Nat → Int32} (S : SrcC σ j n h) (x : runE isL h a e) (he : e ≤ n) : iter (fun z => B_X2_letters_33 z) (up3 σ 2 0 8 (nI a)) = some (up3 σ 2 0 8 (nI e)) := by
  have hj := lenB_le (j := j)
  have hn := S.2.2.2.1
  have hx := x.1
  have S2 : ∀ b, SrcC (up3 σ 2 0 8 (nI b)) j n h := fun b => S.u0 (by decide) (by decide)
  have key := iter_row (f := fun z => B_X2_letters_33 z) (fun i => up3 σ 2 0 8 (nI (a + i))) (e - a) (up3 σ 2 0 8 (nI e)) ?_ ?_ 0 (Nat.zero_le _)
  · exact key
  · intro i hi
    show B_X2_letters_33 (up3 σ 2 0 8 (nI (a + i))) = _
    unfold B_X2_letters_33
    rw [c_here (S2 _) (up3_same _ _ _ _ _) (by omega), some_b, in_eqC, some_b, if_pos (x.2.1 (a + i) (by omega) (by omega)), if_neg (by decide), nst_b, up3_same, up3_up, nI_1, Nat.add_assoc]
  · show B_X2_letters_33 (up3 σ 2 0 8 (nI (a + (e - a)))) = _
    rw [show a + (e - a) = e by omega]
    unfold B_X2_letters_33
    rw [c_here (S2 _) (up3_same _ _ _ _ _) (by omega), some_b, in_eqC, some_b, if_neg x.2.2, if_pos rfl]
theorem c_letters {σ : St} {j n a e : Nat} {h : Nat → Int32} (S : SrcC σ j n h) (O : OkC σ a) (ha : a ≤ n) (x : runE isL h a e) (he : e ≤ n) : Ret (F_X2_letters σ) (fun τ => KpC σ τ ∧ τ 2 1 = σ 2 1 ∧ (isL (h a) → CuC τ n (.inl e) ∧ τ 2 0 13 = nI a ∧ τ 2 0 14 = nI e) ∧ (¬ isL (h a) → CuC τ n (.inr a))) := by
  have hj := lenB_le (j := j)
  have hn := S.2.2.2.1
  have hx := x.1
  unfold F_X2_letters
  have O1 : OkC (up3 σ 2 0 13 (nI a)) a := O.u0 (by decide) (by decide)
  have S1 : SrcC (up3 σ 2 0 13 (nI a)) j n h := S.u0 (by decide) (by decide)
  rw [nst_b, O.1, if_pos (by rw [O1.2]; decide), c_here S1 O1.1 (by omega), some_b, in_eqC, some_b]
  by_cases q : isL (h a)
  · rw [if_pos q, if_neg (by decide), some_b]
    have := lp_let S1 x he
    rw [up3_id O1.1] at this
    rw [this, some_b, nst_b]
    refine Ret.some ⟨(((KpC.rf σ).u0 (by decide) (by decide) (by decide)).u0 (by decide) (by decide) (by decide)).u0 (by decide) (by decide) (by decide), ?_, ?_, fun z => absurd q z⟩
    · rw [up3_j (by decide), up3_j (by decide), up3_j (by decide)]
    · intro _
      refine ⟨⟨(O1.at).u0 (by decide) (by decide), he⟩, ?_, ?_⟩
      · rw [up3_i (by decide), up3_i (by decide), up3_same]
      · rw [up3_same, up3_same]
  · rw [if_neg q, if_pos rfl]
    unfold F_X2_fail
    rw [if_pos (by rw [O1.2]; decide), nst_b, some_b, O1.1]
    have e0 : e = a := by
      rcases Nat.lt_or_ge a e with z | z
      · exact absurd (x.2.1 a (Nat.le_refl _) z) q
      · omega
    subst e0
    have := lp_let (S1.u0 (i := 9) (v := nI e) (by decide) (by decide)) x he
    rw [up3_id (by rw [up3_i (by decide)]; exact O1.1)] at this
    rw [some_b, this, some_b, nst_b]
    refine Ret.some ⟨(((KpC.rf σ).u0 (by decide) (by decide) (by decide)).u0 (by decide) (by decide) (by decide)).u0 (by decide) (by decide) (by decide), ?_, fun z => absurd z q, fun _ => (O1.bad ha (by omega)).u0 (by decide) (by decide)⟩
    rw [up3_j (by decide), up3_j (by decide), up3_j (by decide)]
theorem putj_app {σ : St} {h j a b c : Nat} {f : Nat → Int32} : putj σ h j f a b c = if a = h ∧ b = j then f c else σ a b c := by
  unfold putj
  by_cases e : a = h ∧ b = j
  · rw [if_pos e, if_pos e]
  · rw [if_neg e, if_neg e]
/-- the model's letters so far -/
def LtS (σ : St) (h : Nat → Int32) (a i : Nat) : St := up3 (up3 (putj σ 20 28 (fun k => if k < i then h (a + k) else σ 20 28 k)) 20 0 28 (nI i)) 20 0 21 (nI (a + i))
theorem m_takeLetter {σ : St} {n a i : Nat} {h : Nat → Int32} (S : SrcM (LtS σ h a i) n h) (hi : a + i < n) (hn : n ≤ 3200) : F_X12_takeLetter (LtS σ h a i) = some (LtS σ h a (i + 1)) := by
  unfold F_X12_takeLetter
  have e28 : LtS σ h a i 20 0 28 = nI i := by unfold LtS; rw [up3_i (by decide), up3_same]
  rw [m_here S (up3_same _ _ _ _ _) (by omega), some_b, e28, wro_nI (by omega) (by decide), some_b, up3_j (by decide), e28, nst_b, nI_1, up3_i (by decide), up3_j (by decide), show LtS σ h a i 20 0 21 = nI (a + i) from up3_same _ _ _ _ _, nst_b, nI_1]
  congr 1
  unfold LtS
  funext x y z
  simp only [up3, putj_app]
  grind
theorem LtS_0 {σ : St} {h : Nat → Int32} {a : Nat} (e : σ 20 0 21 = nI a) (e2 : σ 20 0 28 = 0) : LtS σ h a 0 = σ := by
  unfold LtS
  funext x y z
  unfold up3 putj
  by_cases c1 : x = 20 ∧ y = 0 ∧ z = 21
  · rw [if_pos c1, c1.1, c1.2.1, c1.2.2, e]
    rfl
  · rw [if_neg c1]
    by_cases c2 : x = 20 ∧ y = 0 ∧ z = 28
    · rw [if_pos c2, c2.1, c2.2.1, c2.2.2, e2]
      rfl
    · rw [if_neg c2]
      by_cases c3 : x = 20 ∧ y = 28
      · rw [if_pos c3, if_neg (Nat.not_lt_zero z), c3.1, c3.2]
      · rw [if_neg c3]
theorem LtS_kp {σ : St} {h : Nat → Int32} {a i : Nat} : KpM σ (LtS σ h a i) := by
  unfold LtS
  refine KpM.u0 (KpM.u0 ?_ (by decide)) (by decide)
  refine ⟨fun x hx => putj_g hx, fun x h1 h2 h3 h4 h5 h6 h7 => putj_j h5, fun x _ _ _ _ _ _ _ => ?_⟩
  rw [putj_j (by decide)]
theorem LtS_ok {σ : St} {h : Nat → Int32} {a i : Nat} (e : σ 20 0 19 = -1) : OkM (LtS σ h a i) (a + i) := ⟨up3_same _ _ _ _ _, by unfold LtS; rw [up3_i (by decide), up3_i (by decide), putj_j (by decide)]; exact e⟩
theorem LtS_let {σ : St} {h : Nat → Int32} {a i : Nat} : LtS σ h a i 20 0 28 = nI i ∧ ∀ k, k < i → LtS σ h a i 20 28 k = h (a + k) := by
  unfold LtS
  refine ⟨by rw [up3_i (by decide), up3_same], ?_⟩
  intro k hk
  rw [up3_j (by decide), up3_j (by decide), putj_row, if_pos hk]
theorem LtS_23 {σ : St} {h : Nat → Int32} {a i : Nat} : LtS σ h a i 20 23 = σ 20 23 := by
  unfold LtS
  rw [up3_j (by decide), up3_j (by decide), putj_j (by decide)]
theorem m_readWord {σ : St} {n a e : Nat} {h : Nat → Int32} (S : SrcM σ n h) (O : OkM σ a) (ha : a ≤ n) (hn : n ≤ 3200) (x : runE isL h a e) (he : e ≤ n) : Ret (F_X12_readWord σ) (fun τ => KpM σ τ ∧ τ 20 23 = σ 20 23 ∧ (isL (h a) → CuM τ n (.inl e) ∧ τ 20 0 28 = nI (e - a) ∧ ∀ k, k < e - a → τ 20 28 k = h (a + k)) ∧ (¬ isL (h a) → CuM τ n (.inr a))) := by
  have hx := x.1
  unfold F_X12_readWord
  have O1 : OkM (up3 σ 20 0 28 0) a := O.u0 (by decide) (by decide)
  have S1 : SrcM (up3 σ 20 0 28 0) n h := S.u0 (by decide)
  have K1 : KpM σ (up3 σ 20 0 28 0) := (KpM.rf σ).u0 (by decide)
  rw [nst_b, if_pos (by rw [O1.2]; decide), m_here S1 O1.1 (by omega), some_b, in_eq, some_b]
  by_cases q : isL (h a)
  · rw [if_pos q, if_neg (by decide), some_b]
    have key := iter_row (f := fun z => B_X12_readWord_34 z) (fun i => LtS (up3 σ 20 0 28 0) h a i) (e - a) (LtS (up3 σ 20 0 28 0) h a (e - a)) ?_ ?_ 0 (Nat.zero_le _)
    · rw [LtS_0 O1.1 (up3_same _ _ _ _ _)] at key
      rw [key, some_b]
      refine Ret.some ⟨K1.tr LtS_kp, by rw [LtS_23, up3_j (by decide)], ?_, fun z => absurd q z⟩
      intro _
      refine ⟨⟨?_, he⟩, LtS_let.1, LtS_let.2⟩
      have := LtS_ok (h := h) (a := a) (i := e - a) O1.2
      rw [show a + (e - a) = e by omega] at this
      exact this
    · intro i hi
      have S2 := (LtS_kp (h := h) (a := a) (i := i)).src S1
      show B_X12_readWord_34 (LtS (up3 σ 20 0 28 0) h a i) = _
      unfold B_X12_readWord_34
      have O2 := LtS_ok (h := h) (a := a) (i := i) O1.2
      rw [if_pos (by rw [O2.2]; decide), m_here S2 O2.1 (by omega), some_b, in_eq, some_b, if_pos (x.2.1 (a + i) (by omega) (by omega)), if_neg (by decide), m_takeLetter S2 (by omega) hn, some_b]
    · have S2 := (LtS_kp (h := h) (a := a) (i := e - a)).src S1
      show B_X12_readWord_34 (LtS (up3 σ 20 0 28 0) h a (e - a)) = _
      unfold B_X12_readWord_34
      have O2 := LtS_ok (h := h) (a := a) (i := e - a) O1.2
      rw [if_pos (by rw [O2.2]; decide), m_here S2 O2.1 (by omega), some_b, in_eq, some_b, show a + (e - a) = e by omega, if_neg x.2.2, if_pos rfl]
  · rw [if_neg q, if_pos rfl, nst_b, some_b, O1.1]
    have hneg : ¬ (up3 (up3 σ 20 0 28 0) 20 0 19 (nI a)) 20 0 19 < 0 := by rw [up3_same]; exact nI_pos (by omega)
    have e1 : iter (fun z => B_X12_readWord_34 z) (up3 (up3 σ 20 0 28 0) 20 0 19 (nI a)) = some (up3 (up3 σ 20 0 28 0) 20 0 19 (nI a)) := by
      refine iter_inr ?_
      unfold B_X12_readWord_34
      rw [if_neg hneg]
    rw [e1, some_b]
    refine Ret.some ⟨K1.u0 (by decide), by rw [up3_j (by decide), up3_j (by decide)], fun z => absurd z q, fun _ => O1.bad ha⟩
theorem lp_ans {σ : St} {j n a e : Nat} {h : Nat → Int32} (S : SrcC σ j n h) (x : runE isY h a e) (he : e ≤ n) : iter (fun z => B_X2_answers_14 z) (up3 σ 2 0 8 (nI a)) = some (up3 σ 2 0 8 (nI e)) := by
  have hj := lenB_le (j := j)
  have hn := S.2.2.2.1
  have hx := x.1
  have S2 : ∀ b, SrcC (up3 σ 2 0 8 (nI b)) j n h := fun b => S.u0 (by decide) (by decide)
  have key := iter_row (f := fun z => B_X2_answers_14 z) (fun i => up3 σ 2 0 8 (nI (a + i))) (e - a) (up3 σ 2 0 8 (nI e)) ?_ ?_ 0 (Nat.zero_le _)
  · exact key
  · intro i hi
    show B_X2_answers_14 (up3 σ 2 0 8 (nI (a + i))) = _
    unfold B_X2_answers_14
    rw [c_here (S2 _) (up3_same _ _ _ _ _) (by omega), some_b, some_b]
    rcases x.2.1 (a + i) (by omega) (by omega) with q | q
    · rw [if_pos q, bindL_inl, nst_b, up3_same, up3_up, nI_1, Nat.add_assoc]
    · rw [if_neg (by rw [q]; decide), if_pos q, bindL_inl, nst_b, up3_same, up3_up, nI_1, Nat.add_assoc]
  · show B_X2_answers_14 (up3 σ 2 0 8 (nI (a + (e - a)))) = _
    rw [show a + (e - a) = e by omega]
    unfold B_X2_answers_14
    rw [c_here (S2 _) (up3_same _ _ _ _ _) (by omega), some_b, some_b, if_neg (fun z => x.2.2 (Or.inl z)), if_neg (fun z => x.2.2 (Or.inr z)), bindL_inr]
theorem c_answers {σ : St} {j n a e : Nat} {h : Nat → Int32} (S : SrcC σ j n h) (O : OkC σ a) (ha : a ≤ n) (x : runE isY h (a + 1) e) (he : h a = 46 → e ≤ n) : Ret (F_X2_answers σ) (fun τ => KpC σ τ ∧ τ 2 1 = σ 2 1 ∧ (h a = 46 → CuC τ n (.inl e) ∧ τ 2 0 13 = nI (a + 1) ∧ τ 2 0 14 = nI e) ∧ (¬ h a = 46 → CuC τ n (.inr a))) := by
  have hj := lenB_le (j := j)
  have hn := S.2.2.2.1
  unfold F_X2_answers
  rw [c_take' S O ha, some_b]
  by_cases q : h a = 46
  · have he := he q
    rw [if_pos q, nst_b, up3_same]
    have := lp_ans ((S.u0 (i := 8) (v := nI (a + 1)) (by decide) (by decide)).u0 (i := 13) (v := nI (a + 1)) (by decide) (by decide)) x he
    rw [up3_id (by rw [up3_i (by decide), up3_same])] at this
    rw [this, some_b, nst_b]
    refine Ret.some ⟨((((KpC.rf σ).u0 (by decide) (by decide) (by decide)).u0 (by decide) (by decide) (by decide)).u0 (by decide) (by decide) (by decide)).u0 (by decide) (by decide) (by decide), ?_, ?_, fun z => absurd q z⟩
    · rw [up3_j (by decide), up3_j (by decide), up3_j (by decide), up3_j (by decide)]
    · intro _
      refine ⟨⟨(((O.at (b := a + 1)).u0 (by decide) (by decide)).at).u0 (by decide) (by decide), he⟩, ?_, ?_⟩
      · rw [up3_i (by decide), up3_i (by decide), up3_same]
      · rw [up3_same, up3_same]
  · obtain ⟨e2, x2, he2⟩ := runE_ex (P := isY) (a := a) S.2.2.2.2.1 (by decide) ha
    rw [if_neg q, nst_b]
    have O1 : up3 (up3 σ 2 0 9 (nI a)) 2 0 13 (up3 σ 2 0 9 (nI a) 2 0 8) 2 0 8 = nI a := by rw [up3_i (by decide), up3_i (by decide)]; exact O.1
    have := lp_ans ((S.u0 (i := 9) (v := nI a) (by decide) (by decide)).u0 (i := 13) (v := up3 σ 2 0 9 (nI a) 2 0 8) (by decide) (by decide)) x2 he2
    rw [up3_id O1] at this
    rw [this, some_b, nst_b]
    refine Ret.some ⟨((((KpC.rf σ).u0 (by decide) (by decide) (by decide)).u0 (by decide) (by decide) (by decide)).u0 (by decide) (by decide) (by decide)).u0 (by decide) (by decide) (by decide), ?_, fun z => absurd z q, ?_⟩
    · rw [up3_j (by decide), up3_j (by decide), up3_j (by decide), up3_j (by decide)]
    · intro _
      refine ⟨?_, ha, e2, by omega, ?_⟩
      · rw [up3_i (by decide), up3_i (by decide), up3_i (by decide), up3_same]
      · rw [up3_i (by decide), up3_same]
theorem m_readAnswers {σ : St} {n a e : Nat} {h : Nat → Int32} (S : SrcM σ n h) (O : OkM σ a) (ha : a ≤ n) (hn : n ≤ 3200) (x : runE isY h (a + 1) e) (he : h a = 46 → e ≤ n) : Ret (F_X12_readAnswers σ) (fun τ => KpM σ τ ∧ τ 20 23 = σ 20 23 ∧ (h a = 46 → CuM τ n (.inl e) ∧ τ 20 0 28 = nI (e - (a + 1)) ∧ ∀ k, k < e - (a + 1) → τ 20 28 k = h (a + 1 + k)) ∧ (¬ h a = 46 → CuM τ n (.inr a))) := by
  have hx := x.1
  unfold F_X12_readAnswers
  rw [m_expect S O ha, some_b]
  by_cases q : h a = 46
  · have he := he q
    rw [if_pos q, nst_b]
    have O1 : OkM (up3 (up3 σ 20 0 21 (nI (a + 1))) 20 0 28 0) (a + 1) := O.at.u0 (by decide) (by decide)
    have S1 : SrcM (up3 (up3 σ 20 0 21 (nI (a + 1))) 20 0 28 0) n h := (S.u0 (by decide)).u0 (by decide)
    have K1 : KpM σ (up3 (up3 σ 20 0 21 (nI (a + 1))) 20 0 28 0) := ((KpM.rf σ).u0 (by decide)).u0 (by decide)
    have e23 : (up3 (up3 σ 20 0 21 (nI (a + 1))) 20 0 28 0) 20 23 = σ 20 23 := by rw [up3_j (by decide), up3_j (by decide)]
    have e28 : (up3 (up3 σ 20 0 21 (nI (a + 1))) 20 0 28 0) 20 0 28 = 0 := up3_same _ _ _ _ _
    generalize (up3 (up3 σ 20 0 21 (nI (a + 1))) 20 0 28 0) = ρ at O1 S1 K1 e23 e28
    have key := iter_row (f := fun z => B_X12_readAnswers_11 z) (fun i => LtS ρ h (a + 1) i) (e - (a + 1)) (LtS ρ h (a + 1) (e - (a + 1))) ?_ ?_ 0 (Nat.zero_le _)
    · rw [LtS_0 O1.1 e28] at key
      rw [key, some_b]
      refine Ret.some ⟨K1.tr LtS_kp, by rw [LtS_23, e23], ?_, fun z => absurd q z⟩
      intro _
      refine ⟨⟨?_, he⟩, LtS_let.1, LtS_let.2⟩
      have := LtS_ok (h := h) (a := a + 1) (i := e - (a + 1)) O1.2
      rw [show a + 1 + (e - (a + 1)) = e by omega] at this
      exact this
    · intro i hi
      have S2 := (LtS_kp (h := h) (a := a + 1) (i := i)).src S1
      show B_X12_readAnswers_11 (LtS ρ h (a + 1) i) = _
      unfold B_X12_readAnswers_11
      have O2 := LtS_ok (h := h) (a := a + 1) (i := i) O1.2
      rw [if_pos (by rw [O2.2]; decide), m_here S2 O2.1 (by omega), some_b, some_b]
      rcases x.2.1 (a + 1 + i) (by omega) (by omega) with q | q
      · rw [if_pos q, bindL_inl, m_takeLetter S2 (by omega) hn, some_b]
      · rw [if_neg (by rw [q]; decide), if_pos q, bindL_inl, m_takeLetter S2 (by omega) hn, some_b]
    · have S2 := (LtS_kp (h := h) (a := a + 1) (i := e - (a + 1))).src S1
      show B_X12_readAnswers_11 (LtS ρ h (a + 1) (e - (a + 1))) = _
      unfold B_X12_readAnswers_11
      have O2 := LtS_ok (h := h) (a := a + 1) (i := e - (a + 1)) O1.2
      rw [if_pos (by rw [O2.2]; decide), m_here S2 O2.1 (by omega), some_b, some_b, show a + 1 + (e - (a + 1)) = e by omega, if_neg (fun z => x.2.2 (Or.inl z)), if_neg (fun z => x.2.2 (Or.inr z)), bindL_inr]
  · rw [if_neg q, nst_b]
    have hneg : ¬ (up3 (up3 σ 20 0 19 (nI a)) 20 0 28 0) 20 0 19 < 0 := by rw [up3_i (by decide), up3_same]; exact nI_pos (by omega)
    have e1 : iter (fun z => B_X12_readAnswers_11 z) (up3 (up3 σ 20 0 19 (nI a)) 20 0 28 0) = some (up3 (up3 σ 20 0 19 (nI a)) 20 0 28 0) := by
      refine iter_inr ?_
      unfold B_X12_readAnswers_11
      rw [if_neg hneg]
    rw [e1, some_b]
    refine Ret.some ⟨((KpM.rf σ).u0 (by decide)).u0 (by decide), by rw [up3_j (by decide), up3_j (by decide)], fun z => absurd z q, fun _ => (O.bad ha).u0 (by decide) (by decide)⟩
