/-! S2: arguments -/
set_option maxRecDepth 100000
theorem up3_ci {σ : St} {g j i i' : Nat} {v v' : Int32} (h : i ≠ i') : up3 (up3 σ g j i v) g j i' v' = up3 (up3 σ g j i' v') g j i v := by
  funext a b c
  simp only [up3]
  grind
/-- items of an argument: a blank, a minus if these may be, a number -/
def gY (h : Nat → Int32) (m : Bool) (x : Nat) : Nat := if m = true ∧ h (x + 1) = 45 then x + 2 else x + 1
def gV (h : Nat → Int32) (m : Bool) (x : Nat) : Int32 := if m = true ∧ h (x + 1) = 45 then -nI (nmV h 4 (gY h m x)) else nI (nmV h 4 (gY h m x))
def gOk (h : Nat → Int32) (m : Bool) (x : Nat) : Prop := h x = 32 ∧ isD (h (gY h m x))
def gP (h : Nat → Int32) (m : Bool) (x0 : Nat) : Nat → Nat
  | 0 => x0
  | i + 1 => nmA h 4 (gY h m (gP h m x0 i))
def gEnd (h : Nat → Int32) (m : Bool) (x0 K : Nat) : Prop := (∀ i, i < K → gOk h m (gP h m x0 i)) ∧ ¬ gOk h m (gP h m x0 K)
theorem gY_le (h : Nat → Int32) (m : Bool) (x : Nat) : x + 1 ≤ gY h m x ∧ gY h m x ≤ x + 2 := by
  unfold gY
  by_cases q : m = true ∧ h (x + 1) = 45
  · rw [if_pos q]; omega
  · rw [if_neg q]; omega
theorem gY_n {h : Nat → Int32} {n : Nat} {m : Bool} {x : Nat} (B : Byt h n) (q : h x = 32) : gY h m x ≤ n := by
  have hx : x < n := B.lt (by rw [q]; decide)
  unfold gY
  by_cases q2 : m = true ∧ h (x + 1) = 45
  · rw [if_pos q2]
    have : x + 1 < n := B.lt (by rw [q2.2]; decide)
    omega
  · rw [if_neg q2]; omega
theorem gP_bd {h : Nat → Int32} {n : Nat} {m : Bool} {x0 : Nat} (B : Byt h n) (hx : x0 ≤ n) : ∀ K, (∀ i, i < K → gOk h m (gP h m x0 i)) → x0 + 2 * K ≤ gP h m x0 K ∧ gP h m x0 K ≤ n := by
  intro K
  induction K with
  | zero => intro _; exact ⟨Nat.le_refl _, hx⟩
  | succ K ih =>
    intro hA
    obtain ⟨h1, h2⟩ := ih (fun i hi => hA i (by omega))
    have hk := hA K (by omega)
    have hm := nm_bd (d := 4) B (by decide) hk.2
    have hy := gY_le h m (gP h m x0 K)
    rw [gP]
    constructor
    · have h3 := hm.2.1
      show x0 + 2 * (K + 1) ≤ nmA h 4 (gY h m (gP h m x0 K))
      generalize nmA h 4 (gY h m (gP h m x0 K)) = y at h3
      omega
    · exact hm.2.2
theorem gEnd_ex {h : Nat → Int32} {n : Nat} {m : Bool} {x0 : Nat} (B : Byt h n) (hx : x0 ≤ n) : ∃ K, gEnd h m x0 K := by
  have key : ∀ d K, K + d = n + 1 → (∀ i, i < K → gOk h m (gP h m x0 i)) → ∃ K, gEnd h m x0 K := by
    intro d
    induction d with
    | zero =>
      intro K hK hA
      have := gP_bd B hx K hA
      omega
    | succ d ih =>
      intro K hK hA
      by_cases q : gOk h m (gP h m x0 K)
      · refine ih (K + 1) (by omega) ?_
        intro i hi
        by_cases e : i = K
        · rw [e]; exact q
        · exact hA i (by omega)
      · exact ⟨K, hA, q⟩
  exact key (n + 1) 0 (by omega) (fun i hi => absurd hi (Nat.not_lt_zero i))
noncomputable def gK (h : Nat → Int32) (m : Bool) (x0 : Nat) : Nat := @dite _ (∃ K, gEnd h m x0 K) (Classical.propDecidable _) (fun e => Classical.choose e) (fun _ => 0)
theorem gK_end {h : Nat → Int32} {n : Nat} {m : Bool} {x0 : Nat} (B : Byt h n) (hx : x0 ≤ n) : gEnd h m x0 (gK h m x0) := by
  unfold gK
  rw [dif_pos (gEnd_ex B hx)]
  exact Classical.choose_spec (gEnd_ex B hx)
noncomputable def gL (h : Nat → Int32) (m : Bool) (x0 : Nat) : Nat ⊕ Nat := if h (gP h m x0 (gK h m x0)) = 32 then .inr (gY h m (gP h m x0 (gK h m x0))) else .inl (gP h m x0 (gK h m x0))
def tkS (h : Nat → Int32) (x : Int32) : Nat ⊕ Nat → Nat ⊕ Nat := Sum.elim (fun a => if h a = x then .inl (a + 1) else .inr a) Sum.inr
theorem c_tkS {σ : St} {j n : Nat} {x : Int32} {h : Nat → Int32} {c : Nat ⊕ Nat} (S : SrcC σ j n h) (O : CuC σ n c) (hx : ¬ x < 0) : ∃ τ, F_X2_take x σ = some τ ∧ KpC σ τ ∧ (∀ b, b ≠ 0 → τ 2 b = σ 2 b) ∧ (∀ i, i ≠ 8 → i ≠ 9 → τ 2 0 i = σ 2 0 i) ∧ CuC τ n (tkS h x c) := by
  have hj := lenB_le (j := j)
  have hn := S.2.2.2.1
  cases c with
  | inr w => exact ⟨σ, c_skT (CuC.neg O (by omega)), KpC.rf σ, fun _ _ => rfl, fun _ _ _ => rfl, O⟩
  | inl a =>
    obtain ⟨O1, O2⟩ : OkC σ a ∧ a ≤ n := O
    refine ⟨_, c_take' S O1 O2, ?_⟩
    show _ ∧ _ ∧ _ ∧ CuC _ n (if h a = x then .inl (a + 1) else .inr a)
    by_cases q : h a = x
    · have ha : a < n := S.2.2.2.2.1.lt (by rw [q]; exact hx)
      rw [if_pos q, if_pos q]
      exact ⟨(KpC.rf σ).u0 (by decide) (by decide) (by decide), fun b hb => up3_j hb, fun i h8 _ => up3_i h8, O1.at, by omega⟩
    · rw [if_neg q, if_neg q]
      exact ⟨(KpC.rf σ).u0 (by decide) (by decide) (by decide), fun b hb => up3_j hb, fun i _ h9 => up3_i h9, O1.bad O2 (by omega)⟩
theorem m_tkS {σ : St} {n : Nat} {x : Int32} {h : Nat → Int32} {c : Nat ⊕ Nat} (S : SrcM σ n h) (O : CuM σ n c) (hx : ¬ x < 0) : ∃ τ, F_X12_expect x σ = some τ ∧ KpM σ τ ∧ (∀ b, b ≠ 0 → τ 20 b = σ 20 b) ∧ (∀ i, i ≠ 21 → i ≠ 19 → τ 20 0 i = σ 20 0 i) ∧ CuM τ n (tkS h x c) := by
  have hn := S.2.1
  cases c with
  | inr w => exact ⟨σ, m_skT (CuM.neg O (by omega)), KpM.rf σ, fun _ _ => rfl, fun _ _ _ => rfl, O⟩
  | inl a =>
    obtain ⟨O1, O2⟩ : OkM σ a ∧ a ≤ n := O
    refine ⟨_, m_expect S O1 O2, ?_⟩
    show _ ∧ _ ∧ _ ∧ CuM _ n (if h a = x then .inl (a + 1) else .inr a)
    by_cases q : h a = x
    · have ha : a < n := S.2.2.1.lt (by rw [q]; exact hx)
      rw [if_pos q, if_pos q]
      exact ⟨(KpM.rf σ).u0 (by decide), fun b hb => up3_j hb, fun i h8 _ => up3_i h8, O1.at, by omega⟩
    · rw [if_neg q, if_neg q]
      exact ⟨(KpM.rf σ).u0 (by decide), fun b hb => up3_j hb, fun i _ h9 => up3_i h9, O1.bad O2⟩
/-- one item of the component -/
def ItC (f : St → Option (St ⊕ St)) (h : Nat → Int32) (m : Bool) (j n : Nat) : Prop := (∀ τ, ¬ τ 2 0 9 < 0 → f τ = some (.inr τ)) ∧ ∀ τ x t, SrcC τ j n h → OkC τ x → x ≤ n → τ 2 0 12 = nI t → t < 3200 → (¬ h x = 32 → f τ = some (.inr τ)) ∧ (gOk h m x → f τ = some (.inl (up3 (up3 (up3 τ 2 0 8 (nI (nmA h 4 (gY h m x)))) 2 0 12 (nI (t + 1))) 2 5 t (gV h m x)))) ∧ (h x = 32 → ¬ isD (h (gY h m x)) → ∃ v, f τ = some (.inl (up3 (up3 (up3 (up3 τ 2 0 8 (nI (gY h m x))) 2 0 9 (nI (gY h m x))) 2 0 12 (nI (t + 1))) 2 5 t v)))
theorem c_item1 {h : Nat → Int32} {j n : Nat} : ItC (fun z => B_X2_argument_6 z) h true j n := by
  refine ⟨?_, ?_⟩
  · intro τ hw
    show B_X2_argument_6 τ = _
    unfold B_X2_argument_6
    rw [if_neg hw]
  intro τ x t S O hx ht ht2
  have hj := lenB_le (j := j)
  have hn := S.2.2.2.1
  have hB := S.2.2.2.2.1
  have e0 : ∀ (K : St → Option (St ⊕ St)), h x = 32 → h (x + 1) = 45 ∨ ¬ h (x + 1) = 45 → True := fun _ _ _ => trivial
  have body : h x = 32 → B_X2_argument_6 τ = (F_X2_number 4 (up3 τ 2 0 8 (nI (gY h true x)))).bind (fun q1006 => (nst (up3 q1006.2 2 0 12 ((q1006.2 2 0 12) + (1 : Int32)))).bind (fun s1009 => Option.bind ((if (if h (x + 1) = 45 then (1 : Int32) else 0) = 0 then some (q1006.1) else some ((-q1006.1))) : Option (Int32)) (fun z92 => (wro s1009 2 5 3200 (q1006.2 2 0 12) z92).bind (fun s1010 => some (.inl s1010))))) := by
    intro q
    have hx2 : x < n := hB.lt (by rw [q]; decide)
    unfold B_X2_argument_6
    rw [if_pos (by rw [O.2]; decide), c_here S O.1 (by omega), some_b, if_pos q, nst_b, O.1, nI_1, c_here (S.u0 (by decide) (by decide)) (up3_same _ _ _ _ _) (by omega), some_b]
    unfold gY
    by_cases q2 : h (x + 1) = 45
    · rw [if_pos q2, some_b, if_neg (show ¬ (1 : Int32) = 0 by decide), nst_b, some_b, up3_same, up3_up, nI_1, if_pos ⟨rfl, q2⟩, if_pos q2]
    · rw [if_neg q2, some_b, if_pos rfl, some_b, if_neg (fun z => q2 z.2), if_neg q2]
  refine ⟨?_, ?_, ?_⟩
  · intro q
    show B_X2_argument_6 τ = _
    unfold B_X2_argument_6
    rw [if_pos (by rw [O.2]; decide), c_here S O.1 (by omega), some_b, if_neg q]
  · intro q
    have hy := gY_n (m := true) hB q.1
    show B_X2_argument_6 τ = _
    rw [body q.1, show (4 : Int32) = nI 4 from rfl, c_number (S.u0 (by decide) (by decide)) O.at hy (by decide) (by decide), if_pos q.2, some_b]
    dsimp only
    rw [nst_b, up3_up, up3_i (by decide), ht, nI_1]
    have e : (if (if h (x + 1) = 45 then (1 : Int32) else 0) = 0 then some (nI (nmV h 4 (gY h true x))) else some (-nI (nmV h 4 (gY h true x)))) = some (gV h true x) := by
      unfold gV
      by_cases q2 : h (x + 1) = 45
      · rw [if_pos q2, if_neg (by decide), if_pos ⟨rfl, q2⟩]
      · rw [if_neg q2, if_pos rfl, if_neg (fun z => q2 z.2)]
    rw [e, some_b, wro_nI ht2 (by decide), some_b]
  · intro q q2
    have hy := gY_n (m := true) hB q
    show ∃ v, B_X2_argument_6 τ = _
    rw [body q, show (4 : Int32) = nI 4 from rfl, c_number (S.u0 (by decide) (by decide)) O.at hy (by decide) (by decide), if_neg q2, some_b]
    dsimp only
    rw [nst_b, up3_i (by decide), up3_i (by decide), ht, nI_1]
    have e : (if (if h (x + 1) = 45 then (1 : Int32) else 0) = 0 then some (0 : Int32) else some (-0)) = some 0 := by
      by_cases q2 : h (x + 1) = 45
      · rw [if_pos q2, if_neg (by decide)]; rfl
      · rw [if_neg q2, if_pos rfl]
    rw [e, some_b, wro_nI ht2 (by decide), some_b]
    exact ⟨_, rfl⟩
theorem c_item2 {h : Nat → Int32} {j n : Nat} : ItC (fun z => B_X2_argument_116 z) h false j n := by
  refine ⟨?_, ?_⟩
  · intro τ hw
    show B_X2_argument_116 τ = _
    unfold B_X2_argument_116
    rw [if_neg hw]
  intro τ x t S O hx ht ht2
  have hj := lenB_le (j := j)
  have hn := S.2.2.2.1
  have hB := S.2.2.2.2.1
  have hy : gY h false x = x + 1 := by unfold gY; rw [if_neg (fun z => absurd z.1 (by decide))]
  have hv : gV h false x = nI (nmV h 4 (x + 1)) := by unfold gV; rw [if_neg (fun z => absurd z.1 (by decide)), hy]
  rw [hy, hv]
  unfold gOk
  rw [hy]
  have S2 : SrcC (up3 (up3 τ 2 0 8 (nI (x + 1))) 2 0 12 (nI (t + 1))) j n h := (S.u0 (by decide) (by decide)).u0 (by decide) (by decide)
  have O2 : OkC (up3 (up3 τ 2 0 8 (nI (x + 1))) 2 0 12 (nI (t + 1))) (x + 1) := O.at.u0 (by decide) (by decide)
  refine ⟨?_, ?_, ?_⟩
  · intro q
    show B_X2_argument_116 τ = _
    unfold B_X2_argument_116
    rw [if_pos (by rw [O.2]; decide), c_here S O.1 (by omega), some_b, if_neg q]
  · intro q
    have hx2 : x < n := hB.lt (by rw [q.1]; decide)
    show B_X2_argument_116 τ = _
    unfold B_X2_argument_116
    rw [if_pos (by rw [O.2]; decide), c_here S O.1 (by omega), some_b, if_pos q.1, nst_b, nst_b, O.1, nI_1, up3_i (by decide), ht, nI_1, show (4 : Int32) = nI 4 from rfl, c_number S2 O2 (by omega) (by decide) (by decide), if_pos q.2, some_b]
    dsimp only
    rw [wro_nI ht2 (by decide), some_b, up3_ci (by decide), up3_up]
  · intro q q2
    have hx2 : x < n := hB.lt (by rw [q]; decide)
    show ∃ v, B_X2_argument_116 τ = _
    unfold B_X2_argument_116
    rw [if_pos (by rw [O.2]; decide), c_here S O.1 (by omega), some_b, if_pos q, nst_b, nst_b, O.1, nI_1, up3_i (by decide), ht, nI_1, show (4 : Int32) = nI 4 from rfl, c_number S2 O2 (by omega) (by decide) (by decide), if_neg q2, some_b]
    dsimp only
    rw [wro_nI ht2 (by decide), some_b, up3_ci (by decide)]
    exact ⟨_, rfl⟩
theorem c_items {f : St → Option (St ⊕ St)} {σ : St} {j n t0 : Nat} {m : Bool} {h : Nat → Int32} {c : Nat ⊕ Nat} (F : ItC f h m j n) (S : SrcC σ j n h) (hn : n ≤ 3200) (O : CuC σ n c) (ht' : ∀ x0, c = .inl x0 → σ 2 0 12 = nI t0 ∧ t0 ≤ 1599) : Ret (iter f σ) (fun τ => KpC σ τ ∧ τ 2 1 = σ 2 1 ∧ τ 2 0 16 = σ 2 0 16 ∧ CuC τ n (Sum.elim (gL h m) Sum.inr c) ∧ ∀ x0 e, c = .inl x0 → gL h m x0 = .inl e → τ 2 0 12 = nI (t0 + gK h m x0) ∧ (∀ i, i < t0 → τ 2 5 i = σ 2 5 i) ∧ ∀ i, i < gK h m x0 → τ 2 5 (t0 + i) = gV h m (gP h m x0 i)) := by
  have hj := lenB_le (j := j)
  have hB := S.2.2.2.2.1
  cases c with
  | inr w =>
    refine ⟨σ, iter_inr (F.1 σ (CuC.neg O (by omega))), KpC.rf σ, rfl, rfl, O, ?_⟩
    intro x0 e hc
    cases hc
  | inl x0 =>
    obtain ⟨O1, O2⟩ : OkC σ x0 ∧ x0 ≤ n := O
    obtain ⟨ht, ht0⟩ := ht' x0 rfl
    obtain ⟨g1, g2⟩ := gK_end (m := m) hB O2
    obtain ⟨b1, b2⟩ := gP_bd hB O2 _ g1
    show Ret (iter f σ) (fun τ => _ ∧ _ ∧ _ ∧ CuC τ n (gL h m x0) ∧ _)
    obtain ⟨τ, ⟨k1, k2, k3, k4, k5, k6, k7⟩, e⟩ := iter_to (f := f) (fun i τ => KpC σ τ ∧ τ 2 1 = σ 2 1 ∧ τ 2 0 16 = σ 2 0 16 ∧ OkC τ (gP h m x0 i) ∧ τ 2 0 12 = nI (t0 + i) ∧ (∀ k, k < t0 → τ 2 5 k = σ 2 5 k) ∧ ∀ k, k < i → τ 2 5 (t0 + k) = gV h m (gP h m x0 k)) (gK h m x0) (by
      rintro i τ hi ⟨k1, k2, k3, k4, k5, k6, k7⟩
      have hb := gP_bd hB O2 i (fun q hq => g1 q (by omega))
      have := (F.2 τ _ _ (k1.src S) k4 hb.2 k5 (by omega)).2.1 (g1 i hi)
      refine ⟨_, this, ((k1.u0 (by decide) (by decide) (by decide)).u0 (by decide) (by decide) (by decide)).uj (by decide), ?_, ?_, (k4.at.u0 (by decide) (by decide)).uj (by decide), ?_, ?_, ?_⟩
      · rw [up3_j (by decide), up3_j (by decide), up3_j (by decide), k2]
      · rw [up3_j (by decide), up3_i (by decide), up3_i (by decide), k3]
      · rw [up3_j (by decide), up3_same, Nat.add_assoc]
      · intro k hk
        rw [up3_i (by omega), up3_j (by decide), up3_j (by decide), k6 k hk]
      · intro k hk
        by_cases z : k = i
        · rw [z, up3_same]
        · rw [up3_i (by omega), up3_j (by decide), up3_j (by decide), k7 k (by omega)]) σ ⟨KpC.rf σ, rfl, rfl, O1, ht, fun _ _ => rfl, fun k hk => absurd hk (Nat.not_lt_zero k)⟩
    rw [e]
    obtain ⟨f1, f2, f3⟩ := F.2 τ _ _ (k1.src S) k4 b2 k5 (by omega)
    unfold gL
    by_cases q : h (gP h m x0 (gK h m x0)) = 32
    · have q2 : ¬ isD (h (gY h m (gP h m x0 (gK h m x0)))) := fun z => g2 ⟨q, z⟩
      obtain ⟨v, f4⟩ := f3 q q2
      have hy := gY_n (m := m) hB q
      have C : CuC (up3 (up3 (up3 (up3 τ 2 0 8 (nI (gY h m (gP h m x0 (gK h m x0))))) 2 0 9 (nI (gY h m (gP h m x0 (gK h m x0))))) 2 0 12 (nI (t0 + gK h m x0 + 1))) 2 5 (t0 + gK h m x0) v) n (.inr (gY h m (gP h m x0 (gK h m x0)))) := ((k4.at.bad hy (by omega)).u0 (by decide) (by decide)).uj (by decide)
      rw [iter_inl f4, if_pos q]
      refine ⟨_, iter_inr (F.1 _ (C.neg (by omega))), (((k1.u0 (by decide) (by decide) (by decide)).u0 (by decide) (by decide) (by decide)).u0 (by decide) (by decide) (by decide)).uj (by decide), ?_, ?_, C, ?_⟩
      · rw [up3_j (by decide), up3_j (by decide), up3_j (by decide), up3_j (by decide), k2]
      · rw [up3_j (by decide), up3_i (by decide), up3_i (by decide), up3_i (by decide), k3]
      · intro x1 e hx1 he
        injection hx1 with hx1
        subst hx1
        rw [if_pos q] at he
        cases he
    · rw [if_neg q]
      refine ⟨τ, iter_inr (f1 q), k1, k2, k3, ⟨k4, b2⟩, ?_⟩
      intro x1 e hx1 he
      injection hx1 with hx1
      subst hx1
      exact ⟨k5, k6, k7⟩
/-- one item of the model -/
def ItM (f : St → Option (St ⊕ St)) (h : Nat → Int32) (m : Bool) (A n : Nat) : Prop := (∀ τ, ¬ τ 20 0 19 < 0 → f τ = some (.inr τ)) ∧ ∀ τ x t, SrcM τ n h → OkM τ x → x ≤ n → τ 20 0 A = nI t → t < 1700 → (¬ h x = 32 → f τ = some (.inr τ)) ∧ (gOk h m x → f τ = some (.inl (up3 (up3 (up3 τ 20 0 21 (nI (nmA h 4 (gY h m x)))) 20 A t (gV h m x)) 20 0 A (nI (t + 1))))) ∧ (h x = 32 → ¬ isD (h (gY h m x)) → ∃ v, f τ = some (.inl (up3 (up3 (up3 (up3 τ 20 0 21 (nI (gY h m x))) 20 0 19 (nI (gY h m x))) 20 A t v) 20 0 A (nI (t + 1)))))
theorem m_item1 {h : Nat → Int32} {n : Nat} : ItM (fun z => B_X12_readArgument_11 z) h true 30 n := by
  refine ⟨?_, ?_⟩
  · intro τ hw
    show B_X12_readArgument_11 τ = _
    unfold B_X12_readArgument_11
    rw [if_neg hw]
  intro τ x t S O hx ht ht2
  have hn := S.2.1
  have hB := S.2.2.1
  have body : h x = 32 → B_X12_readArgument_11 τ = (F_X12_readNumber 4 (up3 τ 20 0 21 (nI (gY h true x)))).bind (fun q1007 => Option.bind ((if (if h (x + 1) = 45 then (1 : Int32) else 0) = 0 then some (q1007.1) else some ((-q1007.1))) : Option (Int32)) (fun z90 => (wro q1007.2 20 30 1700 (q1007.2 20 0 30) z90).bind (fun s1010 => (nst (up3 s1010 20 0 30 ((s1010 20 0 30) + (1 : Int32)))).bind (fun s1011 => some (.inl s1011))))) := by
    intro q
    have hx2 : x < n := hB.lt (by rw [q]; decide)
    unfold B_X12_readArgument_11
    rw [if_pos (by rw [O.2]; decide), m_here S O.1 (by omega), some_b, if_pos q, nst_b, O.1, nI_1, m_here (S.u0 (by decide)) (up3_same _ _ _ _ _) (by omega), some_b]
    unfold gY
    by_cases q2 : h (x + 1) = 45
    · rw [if_pos q2, some_b, if_neg (show ¬ (1 : Int32) = 0 by decide), nst_b, some_b, up3_same, up3_up, nI_1, if_pos ⟨rfl, q2⟩, if_pos q2]
    · rw [if_neg q2, some_b, if_pos rfl, some_b, if_neg (fun z => q2 z.2), if_neg q2]
  refine ⟨?_, ?_, ?_⟩
  · intro q
    show B_X12_readArgument_11 τ = _
    unfold B_X12_readArgument_11
    rw [if_pos (by rw [O.2]; decide), m_here S O.1 (by omega), some_b, if_neg q]
  · intro q
    have hy := gY_n (m := true) hB q.1
    show B_X12_readArgument_11 τ = _
    rw [body q.1, show (4 : Int32) = nI 4 from rfl, m_number (S.u0 (by decide)) O.at hy (by decide) (by decide), if_pos q.2, some_b]
    dsimp only
    have e : (if (if h (x + 1) = 45 then (1 : Int32) else 0) = 0 then some (nI (nmV h 4 (gY h true x))) else some (-nI (nmV h 4 (gY h true x)))) = some (gV h true x) := by
      unfold gV
      by_cases q2 : h (x + 1) = 45
      · rw [if_pos q2, if_neg (by decide), if_pos ⟨rfl, q2⟩]
      · rw [if_neg q2, if_pos rfl, if_neg (fun z => q2 z.2)]
    rw [e, some_b, up3_up, up3_i (by decide), ht, wro_nI ht2 (by decide), some_b, nst_b, up3_j (by decide), up3_i (by decide), ht, nI_1]
  · intro q q2
    have hy := gY_n (m := true) hB q
    show ∃ v, B_X12_readArgument_11 τ = _
    rw [body q, show (4 : Int32) = nI 4 from rfl, m_number (S.u0 (by decide)) O.at hy (by decide) (by decide), if_neg q2, some_b]
    dsimp only
    have e : (if (if h (x + 1) = 45 then (1 : Int32) else 0) = 0 then some (0 : Int32) else some (-0)) = some 0 := by
      by_cases q2 : h (x + 1) = 45
      · rw [if_pos q2, if_neg (by decide)]; rfl
      · rw [if_neg q2, if_pos rfl]
    rw [e, some_b, up3_i (by decide), up3_i (by decide), ht, wro_nI ht2 (by decide), some_b, nst_b, up3_j (by decide), up3_i (by decide), up3_i (by decide), ht, nI_1]
    exact ⟨_, rfl⟩
theorem m_item2 {h : Nat → Int32} {n : Nat} : ItM (fun z => B_X12_readArgument_121 z) h false 32 n := by
  refine ⟨?_, ?_⟩
  · intro τ hw
    show B_X12_readArgument_121 τ = _
    unfold B_X12_readArgument_121
    rw [if_neg hw]
  intro τ x t S O hx ht ht2
  have hn := S.2.1
  have hB := S.2.2.1
  have hy : gY h false x = x + 1 := by unfold gY; rw [if_neg (fun z => absurd z.1 (by decide))]
  have hv : gV h false x = nI (nmV h 4 (x + 1)) := by unfold gV; rw [if_neg (fun z => absurd z.1 (by decide)), hy]
  rw [hy, hv]
  unfold gOk
  rw [hy]
  refine ⟨?_, ?_, ?_⟩
  · intro q
    show B_X12_readArgument_121 τ = _
    unfold B_X12_readArgument_121
    rw [if_pos (by rw [O.2]; decide), m_here S O.1 (by omega), some_b, if_neg q]
  · intro q
    have hx2 : x < n := hB.lt (by rw [q.1]; decide)
    show B_X12_readArgument_121 τ = _
    unfold B_X12_readArgument_121
    rw [if_pos (by rw [O.2]; decide), m_here S O.1 (by omega), some_b, if_pos q.1, nst_b, O.1, nI_1, show (4 : Int32) = nI 4 from rfl, m_number (S.u0 (by decide)) O.at (by omega) (by decide) (by decide), if_pos q.2, some_b]
    dsimp only
    rw [up3_i (by decide), ht, wro_nI ht2 (by decide), some_b, nst_b, up3_up, up3_j (by decide), up3_i (by decide), ht, nI_1]
  · intro q q2
    have hx2 : x < n := hB.lt (by rw [q]; decide)
    show ∃ v, B_X12_readArgument_121 τ = _
    unfold B_X12_readArgument_121
    rw [if_pos (by rw [O.2]; decide), m_here S O.1 (by omega), some_b, if_pos q, nst_b, O.1, nI_1, show (4 : Int32) = nI 4 from rfl, m_number (S.u0 (by decide)) O.at (by omega) (by decide) (by decide), if_neg q2, some_b]
    dsimp only
    rw [up3_i (by decide), ht, wro_nI ht2 (by decide), some_b, nst_b, up3_j (by decide), up3_i (by decide), up3_i (by decide), ht, nI_1]
    exact ⟨_, rfl⟩
theorem m_items {f : St → Option (St ⊕ St)} {σ : St} {n A : Nat} {m : Bool} {h : Nat → Int32} {c : Nat ⊕ Nat} (F : ItM f h m A n) (hA : A = 30 ∨ A = 32) (S : SrcM σ n h) (hn : n ≤ 3200) (O : CuM σ n c) (ht : σ 20 0 A = 0) : Ret (iter f σ) (fun τ => KpM σ τ ∧ (∀ b, b ≠ 0 → b ≠ A → τ 20 b = σ 20 b) ∧ (∀ i, i ≠ 21 → i ≠ 19 → i ≠ A → τ 20 0 i = σ 20 0 i) ∧ CuM τ n (Sum.elim (gL h m) Sum.inr c) ∧ ∀ x0 e, c = .inl x0 → gL h m x0 = .inl e → τ 20 0 A = nI (gK h m x0) ∧ ∀ i, i < gK h m x0 → τ 20 A i = gV h m (gP h m x0 i)) := by
  have hB := S.2.2.1
  have hA0 : A ≠ 0 := by omega
  have u0 : ∀ {τ : St} {v : Int32}, KpM σ τ → KpM σ (up3 τ 20 0 A v) := fun k => k.u0 (by omega)
  have uj : ∀ {τ : St} {i : Nat} {v : Int32}, KpM σ τ → KpM σ (up3 τ 20 A i v) := fun k => k.uj (by omega)
  cases c with
  | inr w =>
    refine ⟨σ, iter_inr (F.1 σ (CuM.neg O (by omega))), KpM.rf σ, fun _ _ _ => rfl, fun _ _ _ _ => rfl, O, ?_⟩
    intro x0 e hc
    cases hc
  | inl x0 =>
    obtain ⟨O1, O2⟩ : OkM σ x0 ∧ x0 ≤ n := O
    obtain ⟨g1, g2⟩ := gK_end (m := m) hB O2
    obtain ⟨b1, b2⟩ := gP_bd hB O2 _ g1
    show Ret (iter f σ) (fun τ => _ ∧ _ ∧ _ ∧ CuM τ n (gL h m x0) ∧ _)
    obtain ⟨τ, ⟨k1, k2, k3, k4, k5, k7⟩, e⟩ := iter_to (f := f) (fun i τ => KpM σ τ ∧ (∀ b, b ≠ 0 → b ≠ A → τ 20 b = σ 20 b) ∧ (∀ i, i ≠ 21 → i ≠ 19 → i ≠ A → τ 20 0 i = σ 20 0 i) ∧ OkM τ (gP h m x0 i) ∧ τ 20 0 A = nI i ∧ ∀ k, k < i → τ 20 A k = gV h m (gP h m x0 k)) (gK h m x0) (by
      rintro i τ hi ⟨k1, k2, k3, k4, k5, k7⟩
      have hb := gP_bd hB O2 i (fun q hq => g1 q (by omega))
      have := (F.2 τ _ _ (k1.src S) k4 hb.2 k5 (by omega)).2.1 (g1 i hi)
      refine ⟨_, this, u0 (uj (k1.u0 (by decide))), ?_, ?_, (k4.at.uj (by omega)).u0 (by omega) (by omega), up3_same _ _ _ _ _, ?_⟩
      · intro b hb0 hbA
        rw [up3_j hb0, up3_j hbA, up3_j hb0, k2 b hb0 hbA]
      · intro k h1 h2 h3
        rw [up3_i h3, up3_j (fun z => hA0 z.symm), up3_i h1, k3 k h1 h2 h3]
      · intro k hk
        by_cases z : k = i
        · rw [z, up3_j (by omega), up3_same]
        · rw [up3_j (by omega), up3_i z, up3_j (by omega), k7 k (by omega)]) σ ⟨KpM.rf σ, fun _ _ _ => rfl, fun _ _ _ _ => rfl, O1, ht, fun k hk => absurd hk (Nat.not_lt_zero k)⟩
    rw [e]
    obtain ⟨f1, f2, f3⟩ := F.2 τ _ _ (k1.src S) k4 b2 k5 (by omega)
    unfold gL
    by_cases q : h (gP h m x0 (gK h m x0)) = 32
    · have q2 : ¬ isD (h (gY h m (gP h m x0 (gK h m x0)))) := fun z => g2 ⟨q, z⟩
      obtain ⟨v, f4⟩ := f3 q q2
      have hy := gY_n (m := m) hB q
      have C : CuM (up3 (up3 (up3 (up3 τ 20 0 21 (nI (gY h m (gP h m x0 (gK h m x0))))) 20 0 19 (nI (gY h m (gP h m x0 (gK h m x0))))) 20 A (gK h m x0) v) 20 0 A (nI (gK h m x0 + 1))) n (.inr (gY h m (gP h m x0 (gK h m x0)))) := ((k4.at.bad hy).uj (by omega)).u0 (by omega) (by omega)
      rw [iter_inl f4, if_pos q]
      refine ⟨_, iter_inr (F.1 _ (C.neg (by omega))), u0 (uj ((k1.u0 (by decide)).u0 (by decide))), ?_, ?_, C, ?_⟩
      · intro b hb0 hbA
        rw [up3_j hb0, up3_j hbA, up3_j hb0, up3_j hb0, k2 b hb0 hbA]
      · intro k h1 h2 h3
        rw [up3_i h3, up3_j (fun z => hA0 z.symm), up3_i h2, up3_i h1, k3 k h1 h2 h3]
      · intro x1 e hx1 he
        injection hx1 with hx1
        subst hx1
        rw [if_pos q] at he
        cases he
    · rw [if_neg q]
      refine ⟨τ, iter_inr (f1 q), k1, k2, k3, ⟨k4, b2⟩, ?_⟩
      intro x1 e hx1 he
      injection hx1 with hx1
      subst hx1
      exact ⟨k5, k7⟩
