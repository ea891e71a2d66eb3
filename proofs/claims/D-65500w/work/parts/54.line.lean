/-! S2: lines of proofs -/
set_option maxRecDepth 100000
abbrev ltP (c : Int32) : Prop := c = 112 ∨ c = 115 ∨ c = 97 ∨ c = 99
abbrev lFx (k : Int32) : Prop := k = 112 ∨ k = 115
def lDg (k : Int32) : Nat := if lFx k then 4 else 8
def lLs (k : Int32) : Nat := if lFx k then 2 else 0
abbrev lMn (h : Nat → Int32) (k : Int32) (i x : Nat) : Prop := k = 112 ∧ 0 < i ∧ h (x + 1) = 45
abbrev lOk (h : Nat → Int32) (k : Int32) (i x : Nat) : Prop := h x = 32 ∧ (lMn h k i x ∨ isD (h (x + 1)))
def lNx (h : Nat → Int32) (k : Int32) (i x : Nat) : Nat := if lMn h k i x then x + 2 else nmA h (lDg k) (x + 1)
def lVl (h : Nat → Int32) (k : Int32) (i x : Nat) : Int32 := if lMn h k i x then -1 else nI (nmV h (lDg k) (x + 1))
def lP (h : Nat → Int32) (k : Int32) (x0 : Nat) : Nat → Nat
  | 0 => x0
  | i + 1 => lNx h k i (lP h k x0 i)
abbrev lCt (h : Nat → Int32) (k : Int32) (i x : Nat) : Prop := i < lLs k ∨ (h x = 32 ∧ ¬ k = 115)
def lEnd (h : Nat → Int32) (k : Int32) (x0 K : Nat) : Prop := (∀ i, i < K → lCt h k i (lP h k x0 i) ∧ lOk h k i (lP h k x0 i)) ∧ ¬ (lCt h k K (lP h k x0 K) ∧ lOk h k K (lP h k x0 K))
theorem lDg_b (k : Int32) : 1 ≤ lDg k ∧ lDg k ≤ 8 := by
  unfold lDg
  by_cases q : lFx k
  · rw [if_pos q]; decide
  · rw [if_neg q]; decide
theorem lLs_b (k : Int32) : lLs k ≤ 2 := by
  unfold lLs
  by_cases q : lFx k
  · rw [if_pos q]; decide
  · rw [if_neg q]; decide
theorem lNx_b {h : Nat → Int32} {n : Nat} {k : Int32} {i x : Nat} (B : Byt h n) (q : lOk h k i x) : x + 2 ≤ lNx h k i x ∧ lNx h k i x ≤ n := by
  unfold lNx
  by_cases q2 : lMn h k i x
  · rw [if_pos q2]
    have : x + 1 < n := B.lt (by rw [q2.2.2]; decide)
    omega
  · rw [if_neg q2]
    have hm := nm_bd (d := lDg k) B (lDg_b k).1 (q.2.resolve_left q2)
    exact ⟨by have := hm.2.1; omega, hm.2.2⟩
theorem lP_bd {h : Nat → Int32} {n : Nat} {k : Int32} {x0 : Nat} (B : Byt h n) (hx : x0 ≤ n) : ∀ K, (∀ i, i < K → lCt h k i (lP h k x0 i) ∧ lOk h k i (lP h k x0 i)) → x0 + 2 * K ≤ lP h k x0 K ∧ lP h k x0 K ≤ n := by
  intro K
  induction K with
  | zero => intro _; exact ⟨Nat.le_refl _, hx⟩
  | succ K ih =>
    intro hA
    obtain ⟨h1, h2⟩ := ih (fun i hi => hA i (by omega))
    have hm := lNx_b B (hA K (by omega)).2
    rw [lP]
    omega
theorem lEnd_ex {h : Nat → Int32} {n : Nat} {k : Int32} {x0 : Nat} (B : Byt h n) (hx : x0 ≤ n) : ∃ K, lEnd h k x0 K := by
  have key : ∀ d K, K + d = n + 1 → (∀ i, i < K → lCt h k i (lP h k x0 i) ∧ lOk h k i (lP h k x0 i)) → ∃ K, lEnd h k x0 K := by
    intro d
    induction d with
    | zero =>
      intro K hK hA
      have := lP_bd B hx K hA
      omega
    | succ d ih =>
      intro K hK hA
      by_cases q : lCt h k K (lP h k x0 K) ∧ lOk h k K (lP h k x0 K)
      · refine ih (K + 1) (by omega) ?_
        intro i hi
        by_cases e : i = K
        · rw [e]; exact q
        · exact hA i (by omega)
      · exact ⟨K, hA, q⟩
  exact key (n + 1) 0 (by omega) (fun i hi => absurd hi (Nat.not_lt_zero i))
noncomputable def lK (h : Nat → Int32) (k : Int32) (x0 : Nat) : Nat := @dite _ (∃ K, lEnd h k x0 K) (Classical.propDecidable _) (fun e => Classical.choose e) (fun _ => 0)
theorem lK_end {h : Nat → Int32} {n : Nat} {k : Int32} {x0 : Nat} (B : Byt h n) (hx : x0 ≤ n) : lEnd h k x0 (lK h k x0) := by
  unfold lK
  rw [dif_pos (lEnd_ex B hx)]
  exact Classical.choose_spec (lEnd_ex B hx)
noncomputable abbrev lKx (h : Nat → Int32) (x : Nat) : Nat := lK h (h x) (x + 1)
noncomputable abbrev lPx (h : Nat → Int32) (x : Nat) : Nat := lP h (h x) (x + 1) (lKx h x)
/-- the cursor behind a line -/
noncomputable def lnS (h : Nat → Int32) (x : Nat) : Nat ⊕ Nat := if ltP (h x) then (if lCt h (h x) (lKx h x) (lPx h x) then .inr (if h (lPx h x) = 32 then lPx h x + 1 else lPx h x) else tkS h 59 (.inl (lPx h x))) else .inr x
theorem lnS_ok {h : Nat → Int32} {n x e : Nat} (B : Byt h n) (hx : x ≤ n) (q : lnS h x = .inl e) : ltP (h x) ∧ ¬ lCt h (h x) (lKx h x) (lPx h x) ∧ h (lPx h x) = 59 ∧ e = lPx h x + 1 ∧ x + 2 + 2 * lKx h x ≤ e ∧ e ≤ n := by
  unfold lnS at q
  by_cases q1 : ltP (h x)
  · rw [if_pos q1] at q
    by_cases q2 : lCt h (h x) (lKx h x) (lPx h x)
    · rw [if_pos q2] at q
      cases q
    · rw [if_neg q2] at q
      obtain ⟨a, a1, a2, a3⟩ := tkS_inl q
      injection a1 with a1
      rw [← a1] at a2 a3
      have hl : x < n := B.lt (by rcases q1 with z | z | z | z <;> rw [z] <;> decide)
      have hb := lP_bd B (show x + 1 ≤ n by omega) _ (lK_end (k := h x) B (show x + 1 ≤ n by omega)).1
      have hp : lPx h x < n := B.lt (by rw [a2]; decide)
      have hb1 : x + 1 + 2 * lKx h x ≤ lPx h x := hb.1
      exact ⟨q1, q2, a2, a3, by omega, by omega⟩
  · rw [if_neg q1] at q
    cases q
theorem c_keep {σ : St} {t l i a : Nat} {v : Int32} (O : OkC σ a) (ht : σ 2 0 12 = nI t) (ht2 : t < 3200) (hl : σ 2 0 11 = nI l) (hl2 : l < 3200) (hi : σ 2 4 l = nI i) : F_X2_keep v σ = some (up3 (up3 (up3 σ 2 0 12 (nI (t + 1))) 2 5 t v) 2 4 l (nI (i + 1))) := by
  unfold F_X2_keep
  rw [if_pos (by rw [O.2]; decide), nst_b, ht, nI_1, wro_nI ht2 (by decide), some_b, up3_j (by decide), up3_i (by decide), hl, rdo_nI hl2 (by decide), some_b, up3_j (by decide), up3_j (by decide), hi, nI_1, wro_nI hl2 (by decide), some_b]
theorem c_skK {σ : St} {v : Int32} (hw : ¬ σ 2 0 9 < 0) : F_X2_keep v σ = some σ := by unfold F_X2_keep; rw [if_neg hw]
/-- one item of a line -/
theorem c_lineItem {τ : St} {j n x t l i : Nat} {k : Int32} {h : Nat → Int32} (S : SrcC τ j n h) (O : OkC τ x) (hx : x ≤ n) (hl : τ 2 0 11 = nI l) (hl2 : l < 3200) (hi : τ 2 4 l = nI i) (hi2 : i < 5000) (ht : τ 2 0 12 = nI t) (ht2 : t < 3200) :
    (¬ lCt h k i x → B_X2_line_105 (nI (lLs k)) (if lFx k then 1 else 0) k τ = some (.inr τ)) ∧
    (lCt h k i x → lOk h k i x → B_X2_line_105 (nI (lLs k)) (if lFx k then 1 else 0) k τ = some (.inl (up3 (up3 (up3 (up3 τ 2 0 8 (nI (lNx h k i x))) 2 0 12 (nI (t + 1))) 2 5 t (lVl h k i x)) 2 4 l (nI (i + 1))))) ∧
    (lCt h k i x → ¬ lOk h k i x → ∃ b, b ≤ n ∧ B_X2_line_105 (nI (lLs k)) (if lFx k then 1 else 0) k τ = some (.inl (up3 (up3 τ 2 0 8 (nI b)) 2 0 9 (nI (if h x = 32 then x + 1 else x))))) := by
  have hj := lenB_le (j := j)
  have hn := S.2.2.2.1
  have hB := S.2.2.2.2.1
  have hls := lLs_b k
  have hdg := lDg_b k
  have hd : (if (if lFx k then (1 : Int32) else 0) = 0 then some (8 : Int32) else some 4) = some (nI (lDg k)) := by
    unfold lDg
    by_cases q : lFx k
    · rw [if_pos q, if_neg (by decide), if_pos q]; rfl
    · rw [if_neg q, if_pos rfl, if_neg q]; rfl
  have hct : (if nI i < nI (lLs k) then some (Sum.inl ()) else (F_X2_here τ).bind (fun r1008 => (if r1008 = (32 : Int32) then (if k = (115 : Int32) then some (.inr (.inr τ)) else some (.inl ())) else some (.inr (.inr τ)))) : Option (Unit ⊕ (St ⊕ St))) = (if lCt h k i x then some (.inl ()) else some (.inr (.inr τ))) := by
    rw [c_here S O.1 (by omega), some_b]
    by_cases q : i < lLs k
    · rw [if_pos (nI_lt q (by omega)), if_pos (Or.inl q)]
    · rw [if_neg (nI_nlt (by omega) (by omega))]
      by_cases q2 : h x = 32
      · rw [if_pos q2]
        by_cases q3 : k = 115
        · rw [if_pos q3, if_neg (fun z => z.elim q (fun z => z.2 q3))]
        · rw [if_neg q3, if_pos (Or.inr ⟨q2, q3⟩)]
      · rw [if_neg q2, if_neg (fun z => z.elim q (fun z => q2 z.1))]
  -- behind the blank
  have rest : ∀ s1009, SrcC s1009 j n h → OkC s1009 (x + 1) → x + 1 ≤ n → s1009 2 0 11 = nI l → s1009 2 4 l = nI i → s1009 2 0 12 = nI t → (bindL ((if k = (112 : Int32) then (rdo s1009 2 4 3200 (s1009 2 0 11)).bind (fun r1010 => (if 0 < r1010 then (F_X2_here s1009).bind (fun r1011 => (if r1011 = (45 : Int32) then (nst (up3 s1009 2 0 8 ((s1009 2 0 8) + (1 : Int32)))).bind (fun s1012 => (F_X2_keep (-1 : Int32) s1012).bind (fun s1013 => some (.inr (.inl s1013)))) else some (.inl ()))) else some (.inl ()))) else some (.inl ())) : Option ((Unit) ⊕ ((St) ⊕ (St)))) (fun z189 => (some (nI (lDg k))).bind (fun z201 => (F_X2_number z201 s1009).bind (fun q1014 => (F_X2_keep q1014.1 q1014.2).bind (fun s1017 => some (.inl s1017)))))) = some (.inl (if lMn h k i x then up3 (up3 (up3 (up3 s1009 2 0 8 (nI (x + 2))) 2 0 12 (nI (t + 1))) 2 5 t (-1)) 2 4 l (nI (i + 1)) else if isD (h (x + 1)) then up3 (up3 (up3 (up3 s1009 2 0 8 (nI (nmA h (lDg k) (x + 1)))) 2 0 12 (nI (t + 1))) 2 5 t (nI (nmV h (lDg k) (x + 1)))) 2 4 l (nI (i + 1)) else up3 s1009 2 0 9 (nI (x + 1)))) := by
    intro s S1 O1 hx1 hl1 hi1 ht1
    have num : ((some (nI (lDg k))).bind (fun z201 => (F_X2_number z201 s).bind (fun q1014 => (F_X2_keep q1014.1 q1014.2).bind (fun s1017 => (some (.inl s1017) : Option (St ⊕ St)))))) = some (.inl (if isD (h (x + 1)) then up3 (up3 (up3 (up3 s 2 0 8 (nI (nmA h (lDg k) (x + 1)))) 2 0 12 (nI (t + 1))) 2 5 t (nI (nmV h (lDg k) (x + 1)))) 2 4 l (nI (i + 1)) else up3 s 2 0 9 (nI (x + 1)))) := by
      rw [some_b, c_number S1 O1 hx1 hdg.1 hdg.2]
      by_cases q : isD (h (x + 1))
      · rw [if_pos q, some_b, if_pos q]
        dsimp only
        rw [c_keep (O1.at) (by rw [up3_i (by decide)]; exact ht1) ht2 (by rw [up3_i (by decide)]; exact hl1) hl2 (by rw [up3_j (by decide)]; exact hi1), some_b]
      · rw [if_neg q, some_b, if_neg q]
        dsimp only
        rw [c_skK (by rw [up3_same]; exact nI_pos (by omega)), some_b]
    by_cases q1 : k = 112
    · rw [if_pos q1, hl1, rdo_nI hl2 (by decide), some_b, hi1]
      by_cases q2 : 0 < i
      · rw [if_pos (show (0 : Int32) < nI i from nI_lt (a := 0) q2 (by omega)), c_here S1 O1.1 (by omega), some_b]
        by_cases q3 : h (x + 1) = 45
        · rw [if_pos q3, nst_b, O1.1, nI_1, c_keep (O1.at) (by rw [up3_i (by decide)]; exact ht1) ht2 (by rw [up3_i (by decide)]; exact hl1) hl2 (by rw [up3_j (by decide)]; exact hi1), some_b, bindL_inr, if_pos ⟨q1, q2, q3⟩]
        · rw [if_neg q3, bindL_inl, num, if_neg (show ¬ lMn h k i x from fun z => q3 z.2.2)]
      · rw [if_neg (show ¬ (0 : Int32) < nI i from nI_nlt (a := 0) (by omega) (by decide)), bindL_inl, num, if_neg (show ¬ lMn h k i x from fun z => q2 z.2.1)]
    · rw [if_neg q1, bindL_inl, num, if_neg (show ¬ lMn h k i x from fun z => q1 z.1)]
  refine ⟨?_, ?_, ?_⟩
  · intro q
    unfold B_X2_line_105
    rw [if_pos (by rw [O.2]; decide), hl, rdo_nI hl2 (by decide), some_b, hi, hct, if_neg q, bindL_inr]
  · intro q q2
    have hx2 : x < n := hB.lt (by rw [q2.1]; decide)
    unfold B_X2_line_105
    rw [if_pos (by rw [O.2]; decide), hl, rdo_nI hl2 (by decide), some_b, hi, hct, if_pos q, bindL_inl, c_blank S O hx, if_pos q2.1, some_b, hd]
    rw [rest _ (S.u0 (by decide) (by decide)) O.at (by omega) (by rw [up3_i (by decide)]; exact hl) (by rw [up3_j (by decide)]; exact hi) (by rw [up3_i (by decide)]; exact ht)]
    unfold lNx lVl
    by_cases q3 : lMn h k i x
    · rw [if_pos q3, if_pos q3, if_pos q3, up3_up]
    · rw [if_neg q3, if_neg q3, if_neg q3, if_pos (q2.2.resolve_left q3), up3_up]
  · intro q q2
    unfold B_X2_line_105
    rw [if_pos (by rw [O.2]; decide), hl, rdo_nI hl2 (by decide), some_b, hi, hct, if_pos q, bindL_inl, c_blank S O hx]
    by_cases q3 : h x = 32
    · have hx2 : x < n := hB.lt (by rw [q3]; decide)
      rw [if_pos q3, some_b, hd, rest _ (S.u0 (by decide) (by decide)) O.at (by omega) (by rw [up3_i (by decide)]; exact hl) (by rw [up3_j (by decide)]; exact hi) (by rw [up3_i (by decide)]; exact ht), if_neg (fun z => q2 ⟨q3, Or.inl z⟩), if_neg (fun z => q2 ⟨q3, Or.inr z⟩), if_pos q3]
      exact ⟨x + 1, by omega, rfl⟩
    · rw [if_neg q3, some_b, if_neg q3, hd]
      have hw : ¬ (up3 τ 2 0 9 (nI x)) 2 0 9 < 0 := by rw [up3_same]; exact nI_pos (by omega)
      have S2 : SrcC (up3 τ 2 0 9 (nI x)) j n h := S.u0 (by decide) (by decide)
      have at2 : (up3 τ 2 0 9 (nI x)) 2 0 8 = nI x := by rw [up3_i (by decide)]; exact O.1
      have l2 : (up3 τ 2 0 9 (nI x)) 2 0 11 = nI l := by rw [up3_i (by decide)]; exact hl
      have i2 : (up3 τ 2 0 9 (nI x)) 2 4 l = nI i := by rw [up3_j (by decide)]; exact hi
      have self : up3 (up3 τ 2 0 8 (nI x)) 2 0 9 (nI x) = up3 τ 2 0 9 (nI x) := by rw [up3_id O.1]
      have num : ((some (nI (lDg k))).bind (fun z201 => (F_X2_number z201 (up3 τ 2 0 9 (nI x))).bind (fun q1014 => (F_X2_keep q1014.1 q1014.2).bind (fun s1017 => (some (.inl s1017) : Option (St ⊕ St)))))) = some (.inl (up3 τ 2 0 9 (nI x))) := by
        rw [some_b, c_skN hw, some_b]
        dsimp only
        rw [c_skK hw, some_b]
      by_cases q4 : k = 112
      · rw [if_pos q4, l2, rdo_nI hl2 (by decide), some_b, i2]
        by_cases q5 : 0 < i
        · rw [if_pos (show (0 : Int32) < nI i from nI_lt (a := 0) q5 (by omega)), c_here S2 at2 (by omega), some_b]
          by_cases q6 : h x = 45
          · have hx2 : x < n := hB.lt (by rw [q6]; decide)
            have hw2 : ¬ (up3 (up3 τ 2 0 9 (nI x)) 2 0 8 (nI (x + 1))) 2 0 9 < 0 := by rw [up3_i (by decide)]; exact hw
            rw [if_pos q6, nst_b, at2, nI_1, c_skK hw2, some_b, bindL_inr, up3_ci (by decide)]
            exact ⟨x + 1, by omega, rfl⟩
          · rw [if_neg q6, bindL_inl, num]
            exact ⟨x, hx, by rw [self]⟩
        · rw [if_neg (show ¬ (0 : Int32) < nI i from nI_nlt (a := 0) (by omega) (by decide)), bindL_inl, num]
          exact ⟨x, hx, by rw [self]⟩
      · rw [if_neg q4, bindL_inl, num]
        exact ⟨x, hx, by rw [self]⟩
