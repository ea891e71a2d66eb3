/-! S6: the way through a tree by answers -/
set_option maxRecDepth 100000
/-- a sound tree of N nodes behind place b -/
def TrW (m : Nat → Int32) (b N : Nat) : Prop := N ≤ 127 ∧ b + 129 ≤ 1533 ∧ offN m b N ≤ 200 ∧ (∀ i, i < N → m (b + 1 + i) = -1 ∨ ∃ s r, s ≤ 2 ∧ 1 ≤ r ∧ r ≤ 9 ∧ m (b + 1 + i) = nI (10 * s + r)) ∧ (∀ i, i < N → 1 ≤ dueN m b i) ∧ dueN m b N = 0
theorem WW.tree {m : Nat → Int32} (hw : WF m) (hww : WW m) {k : Nat} (hk : k < cn (m 7)) : TrW m (508 + 128 * k) (cn (m (508 + 128 * k))) := by
  obtain ⟨u1, u2, u3, u4, u5⟩ := hww.2.2.1 k hk
  have := hw.2.2.2.2.2.1.2
  exact ⟨u1.2, by omega, u2, u3, u4, u5⟩
/-- where the tree from node x on ends -/
def bhR (m : Nat → Int32) (b x e : Nat) : Prop := x < e ∧ dueN m b e + 1 = dueN m b x ∧ ∀ i, x ≤ i → i < e → dueN m b x ≤ dueN m b i
theorem due_step {m : Nat → Int32} {b i : Nat} : (m (b + 1 + i) < 0 ∧ dueN m b (i + 1) = dueN m b i + 1) ∨ (¬ m (b + 1 + i) < 0 ∧ dueN m b (i + 1) = dueN m b i - 1) := by
  rw [dueN]
  by_cases q : m (b + 1 + i) < 0
  · exact Or.inl ⟨q, by rw [if_pos q]⟩
  · exact Or.inr ⟨q, by rw [if_neg q]⟩
theorem bh_ex {m : Nat → Int32} {b N x : Nat} (T : TrW m b N) (hx : x < N) : ∃ e, bhR m b x e ∧ e ≤ N := by
  obtain ⟨-, -, -, -, t5, t6⟩ := T
  have key : ∀ d i, i + d = N → x ≤ i → dueN m b x ≤ dueN m b i → (∀ z, x ≤ z → z ≤ i → dueN m b x ≤ dueN m b z) → ∃ e, bhR m b x e ∧ e ≤ N := by
    intro d
    induction d with
    | zero =>
      intro i hi hxi h1 h2
      have := t5 x hx
      have e : i = N := by omega
      subst e
      omega
    | succ d ih =>
      intro i hi hxi h1 h2
      by_cases q : dueN m b x ≤ dueN m b (i + 1)
      · refine ih (i + 1) (by omega) (by omega) q ?_
        intro z z1 z2
        by_cases e : z = i + 1
        · rw [e]; exact q
        · exact h2 z z1 (by omega)
      · refine ⟨i + 1, ⟨by omega, ?_, fun z z1 z2 => h2 z z1 (by omega)⟩, by omega⟩
        have := t5 i (by omega)
        rcases due_step (m := m) (b := b) (i := i) with ⟨s1, s2⟩ | ⟨s1, s2⟩ <;> omega
  exact key (N - x) x (by omega) (Nat.le_refl _) (Nat.le_refl _) (fun z z1 z2 => by rw [show z = x by omega]; exact Nat.le_refl _)
noncomputable def bhF (m : Nat → Int32) (b x : Nat) : Nat := @dite _ (∃ e, bhR m b x e) (Classical.propDecidable _) (fun h => Classical.choose h) (fun _ => 0)
theorem bhR_uniq {m : Nat → Int32} {b x e e' : Nat} (h : bhR m b x e) (k : bhR m b x e') : e = e' := by
  rcases Nat.lt_trichotomy e e' with q | q | q
  · have := k.2.2 e (by have := h.1; omega) q; have := h.2.1; omega
  · exact q
  · have := h.2.2 e' (by have := k.1; omega) q; have := k.2.1; omega
theorem bhF_ok {m : Nat → Int32} {b N x : Nat} (T : TrW m b N) (hx : x < N) : bhR m b x (bhF m b x) ∧ bhF m b x ≤ N := by
  obtain ⟨e, e1, e2⟩ := bh_ex T hx
  have h1 : bhR m b x (bhF m b x) := by
    unfold bhF
    rw [dif_pos ⟨e, e1⟩]
    exact Classical.choose_spec (⟨e, e1⟩ : ∃ e, bhR m b x e)
  exact ⟨h1, by rw [bhR_uniq h1 e1]; exact e2⟩
theorem due_le {m : Nat → Int32} {b : Nat} : ∀ i, dueN m b i ≤ i + 1 := by
  intro i
  induction i with
  | zero => exact Nat.le_refl _
  | succ i ih => rcases due_step (m := m) (b := b) (i := i) with ⟨s1, s2⟩ | ⟨s1, s2⟩ <;> omega
theorem m_behind {σ : St} {m : Nat → Int32} {b N x : Nat} (hm : σ 20 1 = m) (T : TrW m b N) (hx : x < N) : F_X12_behindTree (nI (b + 1)) (nI x) σ = some (nI (bhF m b x)) := by
  obtain ⟨⟨r1, r2, r3⟩, r4⟩ := bhF_ok T hx
  obtain ⟨t1, t2, t3, t4, t5, t6⟩ := T
  unfold F_X12_behindTree
  generalize bhF m b x = e at *
  have key := iter_row (f := fun z => B_X12_behindTree_5 (nI (b + 1)) z.1 z.2 σ) (fun i => (nI (dueN m b (x + i) + 1 - dueN m b x), nI (x + i))) (e - x) (nI e) ?_ ?_ 0 (Nat.zero_le _)
  · have e1 : dueN m b (x + 0) + 1 - dueN m b x = 1 := by
      show dueN m b x + 1 - dueN m b x = 1
      omega
    rw [e1] at key
    rw [show ((1 : Int32), nI x) = (nI 1, nI (x + 0)) from rfl, key, some_b]
  · intro i hi
    show B_X12_behindTree_5 (nI (b + 1)) (nI (dueN m b (x + i) + 1 - dueN m b x)) (nI (x + i)) σ = _
    have h1 := r3 (x + i) (by omega) (by omega)
    have h2 := due_le (m := m) (b := b) (x + i)
    have h3 := due_le (m := m) (b := b) (x + (i + 1))
    have h5 := t5 x hx
    have h6 : dueN m b x ≤ dueN m b (x + i + 1) + 1 := by
      have := t5 (x + i) (by omega)
      rcases due_step (m := m) (b := b) (i := x + i) with ⟨s1, s2⟩ | ⟨s1, s2⟩ <;> omega
    unfold B_X12_behindTree_5
    rw [if_pos (show (0 : Int32) < nI _ from nI_lt (a := 0) (by omega) (by omega)), nI_add, m_rd (by omega), some_b, hm, ite_bind, nmo_b, nI_1]
    rcases due_step (m := m) (b := b) (i := x + i) with ⟨s1, s2⟩ | ⟨s1, s2⟩
    · rw [if_pos s1, nI_1, show x + (i + 1) = x + i + 1 by omega, s2, show dueN m b (x + i) + 1 + 1 - dueN m b x = dueN m b (x + i) + 1 - dueN m b x + 1 by omega]
    · have h7 := t5 (x + i) (by omega)
      rw [if_neg s1, nI_c1 (by omega), show x + (i + 1) = x + i + 1 by omega, s2, show dueN m b (x + i) - 1 + 1 - dueN m b x = dueN m b (x + i) + 1 - dueN m b x - 1 by omega]
  · show B_X12_behindTree_5 (nI (b + 1)) (nI (dueN m b (x + (e - x)) + 1 - dueN m b x)) (nI (x + (e - x))) σ = _
    unfold B_X12_behindTree_5
    rw [show x + (e - x) = e by omega, show dueN m b e + 1 - dueN m b x = 0 by omega, if_neg (by decide)]
/-- the bytes of a tree -/
def TrB (c : Nat → Nat → Int32) (m : Nat → Int32) (b k N : Nat) : Prop := ∀ i, i < N → TN (fun j => c 10 (200 * k + j)) (offN m b i) (m (b + 1 + i))
theorem TrB.at {c : Nat → Nat → Int32} {m : Nat → Int32} {b k N i : Nat} (T : TrB c m b k N) (hi : i < N) : (m (b + 1 + i) < 0 ∧ c 10 (200 * k + offN m b i) = 63) ∨ (¬ m (b + 1 + i) < 0 ∧ c 10 (200 * k + offN m b i) = 33) := by
  rcases T i hi with ⟨h1, h2⟩ | ⟨h1, h2, -⟩
  · exact Or.inl ⟨h1, h2⟩
  · exact Or.inr ⟨h1, h2⟩
theorem off_lt {m : Nat → Int32} {b N i : Nat} (T : TrW m b N) (hi : i < N) : offN m b i < 200 ∧ (¬ m (b + 1 + i) < 0 → offN m b i + 2 < 200) := by
  have h1 := offN_step (m := m) (b := b) (n := N) hi
  have h2 := T.2.2.1
  refine ⟨by omega, ?_⟩
  intro q
  have := offN_node (m := m) (b := b) (n := N) hi q
  omega
theorem c_behind {σ : St} {g k : Nat} {m : Nat → Int32} {b N x : Nat} (T : TrW m b N) (TB : TrB (σ g) m b k N) (hk : k < 8) (hx : x < N) : F_X4_behind g (nI (200 * k + offN m b x)) σ = some (nI (200 * k + offN m b (bhF m b x))) := by
  obtain ⟨⟨r1, r2, r3⟩, r4⟩ := bhF_ok T hx
  have T0 := T
  obtain ⟨t1, t2, t3, t4, t5, t6⟩ := T
  unfold F_X4_behind
  generalize bhF m b x = e at *
  have key := iter_row (f := fun z => B_X4_behind_4 g z.1 z.2 σ) (fun i => (nI (dueN m b (x + i) + 1 - dueN m b x), nI (200 * k + offN m b (x + i)))) (e - x) (nI (200 * k + offN m b e)) ?_ ?_ 0 (Nat.zero_le _)
  · have e1 : dueN m b (x + 0) + 1 - dueN m b x = 1 := by
      show dueN m b x + 1 - dueN m b x = 1
      omega
    rw [e1] at key
    rw [show ((1 : Int32), nI (200 * k + offN m b x)) = (nI 1, nI (200 * k + offN m b (x + 0))) from rfl, key, some_b]
  · intro i hi
    show B_X4_behind_4 g (nI (dueN m b (x + i) + 1 - dueN m b x)) (nI (200 * k + offN m b (x + i))) σ = _
    have h1 := r3 (x + i) (by omega) (by omega)
    have h2 := due_le (m := m) (b := b) (x + i)
    have h5 := t5 x hx
    have ho := off_lt T0 (i := x + i) (by omega)
    have eo : offN m b (x + (i + 1)) = offN m b (x + i) + (if m (b + 1 + (x + i)) < 0 then 1 else 3) := rfl
    unfold B_X4_behind_4
    rw [if_pos (show (0 : Int32) < nI _ from nI_lt (a := 0) (by omega) (by omega)), rdo_nI (by omega) (by decide), some_b, eo]
    rcases due_step (m := m) (b := b) (i := x + i) with ⟨s1, s2⟩ | ⟨s1, s2⟩
    · have q : σ g 10 (200 * k + offN m b (x + i)) = 63 := by
        rcases TB.at (i := x + i) (by omega) with z | z
        · exact z.2
        · exact absurd s1 z.1
      rw [q, if_pos rfl, some_b, nmo_b, some_b, if_pos rfl, some_b, nmo_b, nI_1, nI_1, if_pos s1, show x + (i + 1) = x + i + 1 by omega, s2, show dueN m b (x + i) + 1 + 1 - dueN m b x = dueN m b (x + i) + 1 - dueN m b x + 1 by omega, Nat.add_assoc]
    · have q : σ g 10 (200 * k + offN m b (x + i)) = 33 := by
        rcases TB.at (i := x + i) (by omega) with z | z
        · exact absurd z.1 s1
        · exact z.2
      have h7 := t5 (x + i) (by omega)
      rw [q, if_neg (by decide), some_b, nmo_b, some_b, if_neg (by decide), some_b, nmo_b, nI_c1 (by omega), show (3 : Int32) = nI 3 from rfl, nI_add, if_neg s1, show x + (i + 1) = x + i + 1 by omega, s2, show dueN m b (x + i) - 1 + 1 - dueN m b x = dueN m b (x + i) + 1 - dueN m b x - 1 by omega, Nat.add_assoc]
  · show B_X4_behind_4 g (nI (dueN m b (x + (e - x)) + 1 - dueN m b x)) (nI (200 * k + offN m b (x + (e - x)))) σ = _
    unfold B_X4_behind_4
    rw [show x + (e - x) = e by omega, show dueN m b e + 1 - dueN m b x = 0 by omega, if_neg (by decide)]
/-- the node behind i answers -/
noncomputable def wkN (m : Nat → Int32) (b : Nat) (y : Nat → Int32) : Nat → Nat
  | 0 => 0
  | i + 1 => if y i = 121 then wkN m b y i + 1 else bhF m b (wkN m b y i + 1)
def wkE (m : Nat → Int32) (b : Nat) (y : Nat → Int32) (K u : Nat) : Prop := (∀ i, i < u → m (b + 1 + wkN m b y i) < 0) ∧ u ≤ K ∧ (u = K ∨ ¬ m (b + 1 + wkN m b y u) < 0)
theorem wkE_ex (m : Nat → Int32) (b : Nat) (y : Nat → Int32) (K : Nat) : ∃ u, wkE m b y K u := by
  have key : ∀ d u, u + d = K → (∀ i, i < u → m (b + 1 + wkN m b y i) < 0) → ∃ u, wkE m b y K u := by
    intro d
    induction d with
    | zero => intro u hu h; exact ⟨u, h, by omega, Or.inl (by omega)⟩
    | succ d ih =>
      intro u hu h
      by_cases q : m (b + 1 + wkN m b y u) < 0
      · refine ih (u + 1) (by omega) ?_
        intro i hi
        by_cases e : i = u
        · rw [e]; exact q
        · exact h i (by omega)
      · exact ⟨u, h, by omega, Or.inr q⟩
  exact key K 0 (by omega) (fun i hi => absurd hi (Nat.not_lt_zero i))
theorem wk_lt {m : Nat → Int32} {b N : Nat} {y : Nat → Int32} (T : TrW m b N) (hN : 1 ≤ N) : ∀ u, (∀ i, i < u → m (b + 1 + wkN m b y i) < 0) → wkN m b y u < N := by
  intro u
  induction u with
  | zero => intro _; exact hN
  | succ u ih =>
    intro h
    have h1 := ih (fun i hi => h i (by omega))
    have hq := h u (by omega)
    obtain ⟨t1, t2, t3, t4, t5, t6⟩ := T
    have hd := t5 _ h1
    have hd2 : dueN m b (wkN m b y u + 1) = dueN m b (wkN m b y u) + 1 := by
      rcases due_step (m := m) (b := b) (i := wkN m b y u) with ⟨s1, s2⟩ | ⟨s1, s2⟩
      · exact s2
      · exact absurd hq s1
    have hlt : wkN m b y u + 1 < N := by
      rcases Nat.lt_or_ge (wkN m b y u + 1) N with z | z
      · exact z
      · have : wkN m b y u + 1 = N := by omega
        rw [this, t6] at hd2
        omega
    rw [wkN]
    by_cases e : y u = 121
    · rw [if_pos e]; exact hlt
    · rw [if_neg e]
      obtain ⟨⟨r1, r2, r3⟩, r4⟩ := bhF_ok ⟨t1, t2, t3, t4, t5, t6⟩ hlt
      rcases Nat.lt_or_ge (bhF m b (wkN m b y u + 1)) N with z | z
      · exact z
      · have : bhF m b (wkN m b y u + 1) = N := by omega
        rw [this, t6] at r2
        omega
/-- questions ahead of a node -/
def qcN (m : Nat → Int32) (b : Nat) : Nat → Nat
  | 0 => 0
  | i + 1 => qcN m b i + (if m (b + 1 + i) < 0 then 1 else 0)
theorem qcN_le (m : Nat → Int32) (b : Nat) : ∀ i, qcN m b i ≤ i := by
  intro i
  induction i with
  | zero => exact Nat.le_refl _
  | succ i ih =>
    rw [qcN]
    by_cases q : m (b + 1 + i) < 0
    · rw [if_pos q]; omega
    · rw [if_neg q]; omega
theorem m_lead {σ : St} {m y : Nat → Int32} {k K u N : Nat} (hm : σ 20 1 = m) (hk : k < 8) (T : TrW m (508 + 128 * k) N) (hN : 1 ≤ N) (hK : K ≤ 3200) (h28 : σ 20 0 28 = nI K) (hy : ∀ i, i < K → σ 20 28 i = y i) (U : wkE m (508 + 128 * k) y K u) : F_X12_lead (nI k) σ = some (up3 (up3 (up3 σ 20 0 42 (m (508 + 128 * k + 1 + wkN m (508 + 128 * k) y u))) 20 0 44 (if u < K then 1 else 0)) 20 0 43 (nI (qcN m (508 + 128 * k) (wkN m (508 + 128 * k) y u)))) := by
  have T0 := T
  obtain ⟨t1, t2, t3, t4, t5, t6⟩ := T
  obtain ⟨u1, u2, u3⟩ := U
  have hlt := wk_lt (y := y) T0 hN
  unfold F_X12_lead
  rw [nmo_b, show (508 : Int32) = nI 508 from rfl, show (128 : Int32) = nI 128 from rfl, pk_mul, nI_add, nI_1]
  generalize 508 + 128 * k = b at *
  have key := iter_row (f := fun z => B_X12_lead_17 (nI (b + 1)) z.1 z.2 σ) (fun i => (nI (wkN m b y i), nI i)) u (nI (wkN m b y u), nI u) ?_ ?_ 0 (Nat.zero_le _)
  · rw [show ((0 : Int32), (0 : Int32)) = (nI (wkN m b y 0), nI 0) from rfl, key, some_b]
    dsimp only
    have hl := hlt u u1
    have hq := qcN_le m b (wkN m b y u)
    rw [nI_add, m_rd (by omega), some_b, hm, nst_b, up3_i (by decide), h28]
    have ef : (if nI u < nI K then some (1 : Int32) else some 0) = some (if u < K then 1 else 0) := by
      by_cases z : u < K
      · rw [if_pos (nI_lt z (by omega)), if_pos z]
      · rw [if_neg (nI_nlt (by omega) (by omega)), if_neg z]
    rw [ef, some_b, zro_ite, some_b, nst_b, nst_b]
    have k2 := iter_row (f := fun z => B_X12_lead_108 (nI (b + 1)) (nI (wkN m b y u)) z.1 z.2) (fun i => (nI i, up3 (up3 (up3 σ 20 0 42 (m (b + 1 + wkN m b y u))) 20 0 44 (if u < K then 1 else 0)) 20 0 43 (nI (qcN m b i)))) (wkN m b y u) (up3 (up3 (up3 σ 20 0 42 (m (b + 1 + wkN m b y u))) 20 0 44 (if u < K then 1 else 0)) 20 0 43 (nI (qcN m b (wkN m b y u)))) ?_ ?_ 0 (Nat.zero_le _)
    · rw [show ((0 : Int32), up3 (up3 (up3 σ 20 0 42 (m (b + 1 + wkN m b y u))) 20 0 44 (if u < K then 1 else 0)) 20 0 43 0) = (nI 0, up3 (up3 (up3 σ 20 0 42 (m (b + 1 + wkN m b y u))) 20 0 44 (if u < K then 1 else 0)) 20 0 43 (nI (qcN m b 0))) from rfl, k2, some_b]
    · intro i hi
      show B_X12_lead_108 (nI (b + 1)) (nI (wkN m b y u)) (nI i) (up3 (up3 (up3 σ 20 0 42 (m (b + 1 + wkN m b y u))) 20 0 44 (if u < K then 1 else 0)) 20 0 43 (nI (qcN m b i))) = _
      unfold B_X12_lead_108
      rw [if_pos (nI_lt hi (by omega)), nI_add, m_rd (by omega), some_b, up3_j (by decide), up3_j (by decide), up3_j (by decide), hm, ite_bind, nst_b, up3_same, up3_up, nI_1, qcN]
      by_cases q : m (b + 1 + i) < 0
      · rw [if_pos q, if_pos q, nI_1]
      · rw [if_neg q, if_neg q, show (0 : Int32) = nI 0 from rfl, nI_add]
    · show B_X12_lead_108 (nI (b + 1)) (nI (wkN m b y u)) (nI (wkN m b y u)) _ = _
      unfold B_X12_lead_108
      rw [if_neg (nI_nlt (Nat.le_refl _) (by omega))]
  · intro i hi
    have hl := hlt i (fun q hq => u1 q (by omega))
    have hl2 := hlt (i + 1) (fun q hq => u1 q (by omega))
    show B_X12_lead_17 (nI (b + 1)) (nI (wkN m b y i)) (nI i) σ = _
    unfold B_X12_lead_17
    rw [nI_add, m_rd (by omega), some_b, hm, if_pos (u1 i hi), h28, if_pos (nI_lt (by omega) (by omega)), rdo_nI (by omega) (by decide), some_b, hy i (by omega), nI_1, nI_1, wkN]
    by_cases q : y i = 121
    · rw [if_pos q, some_b, if_pos q]
    · have hlt1 : wkN m b y i + 1 < N := by
        rw [wkN, if_neg q] at hl2
        rcases Nat.lt_or_ge (wkN m b y i + 1) N with z | z
        · exact z
        · have hd := t5 _ hl
          have e : wkN m b y i + 1 = N := by omega
          rcases due_step (m := m) (b := b) (i := wkN m b y i) with ⟨s1, s2⟩ | ⟨s1, s2⟩
          · rw [e, t6] at s2; omega
          · exact absurd (u1 i hi) s1
      rw [if_neg q, m_behind hm T0 hlt1, some_b, some_b, if_neg q]
  · have hl := hlt u u1
    show B_X12_lead_17 (nI (b + 1)) (nI (wkN m b y u)) (nI u) σ = _
    unfold B_X12_lead_17
    rw [nI_add, m_rd (by omega), some_b, hm]
    by_cases q : m (b + 1 + wkN m b y u) < 0
    · have : u = K := u3.resolve_right (fun z => z q)
      rw [if_pos q, h28, this, if_neg (nI_nlt (Nat.le_refl _) (by omega))]
    · rw [if_neg q]
/-- questions counted by bytes -/
def bqc (c : Nat → Int32) (k : Nat) : Nat → Nat
  | 0 => 0
  | i + 1 => bqc c k i + (if c (200 * k + i) = 63 then 1 else 0)
theorem bqc_off {c : Nat → Nat → Int32} {m : Nat → Int32} {b k N : Nat} (T : TrW m b N) (TB : TrB c m b k N) : ∀ i, i ≤ N → bqc (c 10) k (offN m b i) = qcN m b i := by
  intro i
  induction i with
  | zero => intro _; rfl
  | succ i ih =>
    intro hi
    have h1 := ih (by omega)
    rw [offN, qcN]
    rcases TB i (by omega) with ⟨h2, h3⟩ | ⟨h2, h3, h4, h5⟩
    · have h3 : c 10 (200 * k + offN m b i) = 63 := h3
      rw [if_pos h2, if_pos h2, bqc, h3, if_pos rfl, h1]
    · have h3 : c 10 (200 * k + offN m b i) = 33 := h3
      have h4 : c 10 (200 * k + (offN m b i + 1)) = m (b + 1 + i) / 10 + 48 := h4
      have h5 : c 10 (200 * k + (offN m b i + 2)) = m (b + 1 + i) - m (b + 1 + i) / 10 * 10 + 48 := h5
      rcases T.2.2.2.1 i (by omega) with e | ⟨s, r, s1, r1, r2, e⟩
      · rw [e] at h2; exact absurd (by decide) h2
      · obtain ⟨d1, d2⟩ := dig10 s (by omega) r (by omega)
        rw [e] at h4 h5
        rw [d1] at h4
        rw [d2] at h5
        have k1 : ¬ c 10 (200 * k + (offN m b i + 1)) = 63 := by
          rw [h4, show (63 : Int32) = nI 63 from rfl, nI_eq (by omega) (by decide)]
          omega
        have k2 : ¬ c 10 (200 * k + (offN m b i + 2)) = 63 := by
          rw [h5, show (63 : Int32) = nI 63 from rfl, nI_eq (by omega) (by decide)]
          omega
        have k0 : ¬ c 10 (200 * k + offN m b i) = 63 := by rw [h3]; decide
        rw [if_neg h2, if_neg h2, bqc, bqc, bqc, if_neg k0, if_neg k1, if_neg k2, h1]
theorem bqc_le (c : Nat → Int32) (k : Nat) : ∀ i, bqc c k i ≤ i := by
  intro i
  induction i with
  | zero => exact Nat.le_refl _
  | succ i ih =>
    rw [bqc]
    by_cases q : c (200 * k + i) = 63
    · rw [if_pos q]; omega
    · rw [if_neg q]; omega
/-- only the asker's numbers changed -/
theorem c_goes {σ : St} {g j k K u N a : Nat} {m y : Nat → Int32} (hg : g ≠ 6) (hk : k < 8) (T : TrW m (508 + 128 * k) N) (TB : TrB (σ g) m (508 + 128 * k) k N) (hN : 1 ≤ N) (ha : a + K ≤ lenB j) (hy : ∀ i, i < K → σ 0 j (a + i) = y i) (U : wkE m (508 + 128 * k) y K u) : Ret (F_X4_goes g (nI k) j (nI a) (nI (a + K)) σ) (fun z => (∀ x, x ≠ 6 → z.2 x = σ x) ∧ (m (508 + 128 * k + 1 + wkN m (508 + 128 * k) y u) < 0 → z.1 = 0 ∧ z.2 6 0 3 = 0 ∧ z.2 6 0 0 = nI (qcN m (508 + 128 * k) (wkN m (508 + 128 * k) y u))) ∧ (¬ m (508 + 128 * k + 1 + wkN m (508 + 128 * k) y u) < 0 → (u < K → z.1 = 0 ∧ z.2 6 0 3 = 1) ∧ (u = K → z.1 = 1) ∧ z.2 6 0 1 = m (508 + 128 * k + 1 + wkN m (508 + 128 * k) y u) / 10 ∧ z.2 6 0 2 = m (508 + 128 * k + 1 + wkN m (508 + 128 * k) y u) - m (508 + 128 * k + 1 + wkN m (508 + 128 * k) y u) / 10 * 10)) := by
  have hj := lenB_le (j := j)
  have T0 := T
  obtain ⟨t1, t2, t3, t4, t5, t6⟩ := T
  obtain ⟨u1, u2, u3⟩ := U
  have hlt := wk_lt (y := y) T0 hN
  unfold F_X4_goes
  rw [nmo_b, nst_b, zro_0, some_b, nst_b, show (200 : Int32) = nI 200 from rfl, pk_mul]
  have G0 : ∀ x, x ≠ 6 → (up3 (up3 σ 6 0 0 (-1)) 6 0 3 0) x = σ x := fun x hx => by rw [up3_g hx, up3_g hx]
  have E3 : (up3 (up3 σ 6 0 0 (-1)) 6 0 3 0) 6 0 3 = 0 := up3_same _ _ _ _ _
  generalize (up3 (up3 σ 6 0 0 (-1)) 6 0 3 0) = ρ at G0 E3
  generalize hb : 508 + 128 * k = b at *
  have hl := hlt u u1
  have ho := off_lt T0 hl
  have stp : ∀ i, i < u → B_X4_goes_31 g j (nI (200 * k)) (nI (a + K)) (nI (200 * k + offN m b (wkN m b y i))) (nI (a + i)) ρ = some (.inl (nI (200 * k + offN m b (wkN m b y (i + 1))), nI (a + (i + 1)))) := by
    intro i hi
    have hl1 := hlt i (fun q hq => u1 q (by omega))
    have hl2 := hlt (i + 1) (fun q hq => u1 q (by omega))
    have ho1 := off_lt T0 hl1
    have q63 : ρ g 10 (200 * k + offN m b (wkN m b y i)) = 63 := by
      rw [G0 g hg]
      rcases TB.at hl1 with z | z
      · exact z.2
      · exact absurd (u1 i hi) z.1
    unfold B_X4_goes_31
    rw [rdo_nI (by omega) (by decide), some_b, if_pos q63, if_neg (by rw [nI_eq (by omega) (by omega)]; omega), rdo_nI (by omega) (by omega), some_b, G0 0 (by decide), hy i (by omega), nI_1, nI_1, wkN, Nat.add_assoc a i 1]
    have eo : 200 * k + offN m b (wkN m b y i) + 1 = 200 * k + offN m b (wkN m b y i + 1) := by
      rw [offN, if_pos (u1 i hi), Nat.add_assoc]
    rw [eo]
    by_cases q : y i = 121
    · rw [if_pos q, some_b, if_pos q]
    · have hlt1 : wkN m b y i + 1 < N := by
        rcases Nat.lt_or_ge (wkN m b y i + 1) N with z | z
        · exact z
        · have hd := t5 _ hl1
          have e : wkN m b y i + 1 = N := by omega
          rcases due_step (m := m) (b := b) (i := wkN m b y i) with ⟨s1, s2⟩ | ⟨s1, s2⟩
          · rw [e, t6] at s2; omega
          · exact absurd (u1 i hi) s1
      rw [if_neg q, c_behind T0 (by rw [G0 g hg]; exact TB) hk hlt1, some_b, some_b, if_neg q]
  have st0 : (nI (200 * k), nI a) = (nI (200 * k + offN m b (wkN m b y 0)), nI (a + 0)) := rfl
  by_cases q : m (b + 1 + wkN m b y u) < 0
  · have huK : u = K := u3.resolve_right (fun z => z q)
    have q63 : ρ g 10 (200 * k + offN m b (wkN m b y u)) = 63 := by
      rw [G0 g hg]
      rcases TB.at hl with z | z
      · exact z.2
      · exact absurd q z.1
    have hbq := bqc_off T0 TB (wkN m b y u) (by omega)
    have k2 : iter (fun z => B_X4_goes_57 g (nI (200 * k + offN m b (wkN m b y u))) z.1 z.2) (nI (200 * k), up3 ρ 6 0 0 0) = some (up3 ρ 6 0 0 (nI (qcN m b (wkN m b y u)))) := by
      have k3 := iter_row (f := fun z => B_X4_goes_57 g (nI (200 * k + offN m b (wkN m b y u))) z.1 z.2) (fun i => (nI (200 * k + i), up3 ρ 6 0 0 (nI (bqc (σ g 10) k i)))) (offN m b (wkN m b y u)) (up3 ρ 6 0 0 (nI (qcN m b (wkN m b y u)))) ?_ ?_ 0 (Nat.zero_le _)
      · exact k3
      · intro i hi
        show B_X4_goes_57 g (nI (200 * k + offN m b (wkN m b y u))) (nI (200 * k + i)) (up3 ρ 6 0 0 (nI (bqc (σ g 10) k i))) = _
        unfold B_X4_goes_57
        rw [if_pos (nI_lt (by omega) (by omega)), rdo_nI (by omega) (by decide), some_b, up3_g hg, G0 g hg, ite_bind, nst_b, up3_same, up3_up, nI_1, bqc, Nat.add_assoc]
        by_cases z : σ g 10 (200 * k + i) = 63
        · rw [if_pos z, if_pos z, nI_1]
        · rw [if_neg z, if_neg z, show (0 : Int32) = nI 0 from rfl, nI_add]
      · show B_X4_goes_57 g (nI (200 * k + offN m b (wkN m b y u))) (nI (200 * k + offN m b (wkN m b y u))) (up3 ρ 6 0 0 (nI (bqc (σ g 10) k (offN m b (wkN m b y u))))) = _
        unfold B_X4_goes_57
        rw [if_neg (nI_nlt (Nat.le_refl _) (by omega)), hbq]
    have key := iter_row (f := fun z => B_X4_goes_31 g j (nI (200 * k)) (nI (a + K)) z.1 z.2 ρ) (fun i => (nI (200 * k + offN m b (wkN m b y i)), nI (a + i))) u (.inr (0, up3 ρ 6 0 0 (nI (qcN m b (wkN m b y u))))) stp ?_ 0 (Nat.zero_le _)
    · rw [st0, key, bindL_inr]
      have a3 : up3 ρ 6 0 0 (nI (qcN m b (wkN m b y u))) 6 0 3 = 0 := by rw [up3_i (by decide), E3]
      have a0 : up3 ρ 6 0 0 (nI (qcN m b (wkN m b y u))) 6 0 0 = nI (qcN m b (wkN m b y u)) := up3_same _ _ _ _ _
      exact Ret.some ⟨fun x hx => (up3_g hx).trans (G0 x hx), fun _ => ⟨rfl, a3, a0⟩, fun z => absurd q z⟩
    · show B_X4_goes_31 g j (nI (200 * k)) (nI (a + K)) (nI (200 * k + offN m b (wkN m b y u))) (nI (a + u)) ρ = _
      unfold B_X4_goes_31
      rw [rdo_nI (by omega) (by decide), some_b, if_pos q63, huK, if_pos rfl, nst_b]
      rw [huK] at k2
      rw [k2, some_b]
  · have q33 : ¬ ρ g 10 (200 * k + offN m b (wkN m b y u)) = 63 := by
      rw [G0 g hg]
      rcases TB.at hl with z | z
      · exact absurd z.1 q
      · rw [z.2]; decide
    have key := iter_row (f := fun z => B_X4_goes_31 g j (nI (200 * k)) (nI (a + K)) z.1 z.2 ρ) (fun i => (nI (200 * k + offN m b (wkN m b y i)), nI (a + i))) u (.inl (nI (200 * k + offN m b (wkN m b y u)), nI (a + u))) stp ?_ 0 (Nat.zero_le _)
    · have ho2 := ho.2 q
      rw [st0, key, bindL_inl]
      dsimp only
      have ef : (if nI (a + u) < nI (a + K) then some (1 : Int32) else some 0) = some (if u < K then 1 else 0) := by
        by_cases z : u < K
        · rw [if_pos (nI_lt (by omega) (by omega)), if_pos z]
        · rw [if_neg (nI_nlt (by omega) (by omega)), if_neg z]
      rcases TB (wkN m b y u) hl with ⟨z, -⟩ | ⟨-, z1, z2, z3⟩
      · exact absurd z q
      · have z2 : σ g 10 (200 * k + (offN m b (wkN m b y u) + 1)) = m (b + 1 + wkN m b y u) / 10 + 48 := z2
        have z3 : σ g 10 (200 * k + (offN m b (wkN m b y u) + 2)) = m (b + 1 + wkN m b y u) - m (b + 1 + wkN m b y u) / 10 * 10 + 48 := z3
        have c48 : ∀ v : Int32, v + 48 - 48 = v := fun v => Int32.add_sub_cancel v 48
        rw [ef, some_b, zro_ite, some_b, nst_b, nI_1, show (2 : Int32) = nI 2 from rfl, nI_add, rdo_nI (by omega) (by decide), some_b, up3_g hg, G0 g hg, Nat.add_assoc (200 * k), z2, nst_b, rdo_nI (by omega) (by decide), some_b, up3_g hg, up3_g hg, G0 g hg, Nat.add_assoc (200 * k), z3, nst_b, up3_i (by decide), up3_i (by decide), up3_same, c48, c48]
        have gg : ∀ x, x ≠ 6 → (up3 (up3 (up3 ρ 6 0 3 (if u < K then 1 else 0)) 6 0 1 (m (b + 1 + wkN m b y u) / 10)) 6 0 2 (m (b + 1 + wkN m b y u) - m (b + 1 + wkN m b y u) / 10 * 10)) x = σ x := fun x hx => by rw [up3_g hx, up3_g hx, up3_g hx, G0 x hx]
        have s1 : (up3 (up3 (up3 ρ 6 0 3 (if u < K then 1 else 0)) 6 0 1 (m (b + 1 + wkN m b y u) / 10)) 6 0 2 (m (b + 1 + wkN m b y u) - m (b + 1 + wkN m b y u) / 10 * 10)) 6 0 1 = m (b + 1 + wkN m b y u) / 10 := by rw [up3_i (by decide), up3_same]
        have s3 : (up3 (up3 (up3 ρ 6 0 3 (if u < K then 1 else 0)) 6 0 1 (m (b + 1 + wkN m b y u) / 10)) 6 0 2 (m (b + 1 + wkN m b y u) - m (b + 1 + wkN m b y u) / 10 * 10)) 6 0 3 = (if u < K then 1 else 0) := by rw [up3_i (by decide), up3_i (by decide), up3_same]
        have s2 : (up3 (up3 (up3 ρ 6 0 3 (if u < K then 1 else 0)) 6 0 1 (m (b + 1 + wkN m b y u) / 10)) 6 0 2 (m (b + 1 + wkN m b y u) - m (b + 1 + wkN m b y u) / 10 * 10)) 6 0 2 = m (b + 1 + wkN m b y u) - m (b + 1 + wkN m b y u) / 10 * 10 := up3_same _ _ _ _ _
        by_cases z : u < K
        · rw [if_neg (show ¬ (if u < K then (1 : Int32) else 0) = 0 by rw [if_pos z]; decide)]
          refine Ret.some ⟨gg, fun y => absurd y q, fun _ => ⟨fun _ => ⟨rfl, ?_⟩, fun e => by omega, s1, s2⟩⟩
          exact s3.trans (if_pos z)
        · rw [if_pos (show (if u < K then (1 : Int32) else 0) = 0 by rw [if_neg z])]
          exact Ret.some ⟨gg, fun y => absurd y q, fun _ => ⟨fun y => absurd y z, fun _ => rfl, s1, s2⟩⟩
    · show B_X4_goes_31 g j (nI (200 * k)) (nI (a + K)) (nI (200 * k + offN m b (wkN m b y u))) (nI (a + u)) ρ = _
      unfold B_X4_goes_31
      rw [rdo_nI (by omega) (by decide), some_b, if_neg q33]
