/-! S2: arguments, whole -/
set_option maxRecDepth 100000
noncomputable def agS (h : Nat → Int32) (c : Nat ⊕ Nat) : Nat ⊕ Nat := tkS h 59 (Sum.elim (gL h false) Sum.inr (tkS h 99 (tkS h 59 (Sum.elim (gL h true) Sum.inr (tkS h 102 c)))))
theorem tkS_inl {h : Nat → Int32} {x : Int32} {c : Nat ⊕ Nat} {e : Nat} (q : tkS h x c = .inl e) : ∃ a, c = .inl a ∧ h a = x ∧ e = a + 1 := by
  cases c with
  | inr w => cases q
  | inl a =>
    have q : (if h a = x then Sum.inl (a + 1) else Sum.inr a) = (Sum.inl e : Nat ⊕ Nat) := q
    by_cases z : h a = x
    · rw [if_pos z] at q
      injection q with q
      exact ⟨a, rfl, z, q.symm⟩
    · rw [if_neg z] at q
      cases q
theorem gL_inl {h : Nat → Int32} {m : Bool} {c : Nat ⊕ Nat} {e : Nat} (q : Sum.elim (gL h m) Sum.inr c = .inl e) : ∃ x0, c = .inl x0 ∧ gL h m x0 = .inl e ∧ e = gP h m x0 (gK h m x0) := by
  cases c with
  | inr w => cases q
  | inl a =>
    have q : gL h m a = .inl e := q
    refine ⟨a, rfl, q, ?_⟩
    unfold gL at q
    by_cases z : h (gP h m a (gK h m a)) = 32
    · rw [if_pos z] at q
      cases q
    · rw [if_neg z] at q
      injection q with q
      exact q.symm
/-- an argument's numbers: x1 behind the flows, x2 where the places begin -/
noncomputable abbrev agK1 (h : Nat → Int32) (a : Nat) : Nat := gK h true (a + 1)
noncomputable abbrev agX2 (h : Nat → Int32) (a : Nat) : Nat := gP h true (a + 1) (agK1 h a) + 2
noncomputable abbrev agK2 (h : Nat → Int32) (a : Nat) : Nat := gK h false (agX2 h a)
theorem agS_inl {h : Nat → Int32} {a e : Nat} (q : agS h (.inl a) = .inl e) : tkS h 102 (.inl a) = .inl (a + 1) ∧ gL h true (a + 1) = .inl (gP h true (a + 1) (agK1 h a)) ∧ tkS h 99 (tkS h 59 (Sum.elim (gL h true) Sum.inr (tkS h 102 (.inl a)))) = .inl (agX2 h a) ∧ gL h false (agX2 h a) = .inl (gP h false (agX2 h a) (agK2 h a)) := by
  unfold agS at q
  obtain ⟨a1, q1, q2, q3⟩ := tkS_inl q
  obtain ⟨x2, r1, r2, r3⟩ := gL_inl q1
  obtain ⟨a3, s1, s2, s3⟩ := tkS_inl r1
  obtain ⟨a4, t1, t2, t3⟩ := tkS_inl s1
  obtain ⟨x0, u1, u2, u3⟩ := gL_inl t1
  obtain ⟨a5, v1, v2, v3⟩ := tkS_inl u1
  injection v1 with v1
  subst v1
  subst v3
  have e2 : x2 = agX2 h a := by rw [s3, t3, u3]
  refine ⟨u1, ?_, ?_, ?_⟩
  · rw [u2, u3]
  · rw [r1, e2]
  · rw [← e2, r2, r3, e2]
theorem c_argument {σ : St} {j n a : Nat} {h : Nat → Int32} (S : SrcC σ j n h) (O : OkC σ a) (hn : n ≤ 3200) (ha : a ≤ n) (ha1 : 1 ≤ a) (ht : σ 2 0 12 = 0) : Ret (F_X2_argument σ) (fun τ => KpC σ τ ∧ τ 2 1 = σ 2 1 ∧ CuC τ n (agS h (.inl a)) ∧ ∀ e, agS h (.inl a) = .inl e → τ 2 0 16 = nI (agK1 h a) ∧ τ 2 0 12 = nI (agK1 h a + agK2 h a) ∧ (∀ i, i < agK1 h a → τ 2 5 i = gV h true (gP h true (a + 1) i)) ∧ ∀ i, i < agK2 h a → τ 2 5 (agK1 h a + i) = gV h false (gP h false (agX2 h a) i)) := by
  have hB := S.2.2.2.2.1
  unfold F_X2_argument
  obtain ⟨s1, a1, a2, a3, a4, a5⟩ := c_tkS (x := 102) (c := .inl a) S ⟨O, ha⟩ (by decide)
  rw [a1, some_b]
  have S1 := a2.src S
  refine Ret.bind (c_items (t0 := 0) c_item1 S1 hn a5 (fun x0 _ => ⟨by rw [a4 12 (by decide) (by decide)]; exact ht, by decide⟩)) ?_
  rintro s2 ⟨b1, b2, b3, b4, b5⟩
  rw [nst_b]
  have K3 : KpC σ (up3 s2 2 0 16 (s2 2 0 12)) := (a2.tr b1).u0 (by decide) (by decide) (by decide)
  obtain ⟨s4, c1, c2, c3, c4, c5⟩ := c_tkS (x := 59) (K3.src S) (b4.u0 (by decide) (by decide)) (by decide)
  rw [c1, some_b]
  obtain ⟨s5, d1, d2, d3, d4, d5⟩ := c_tkS (x := 99) ((K3.tr c2).src S) c5 (by decide)
  rw [d1, some_b]
  have K5 := (K3.tr c2).tr d2
  have told5 : ∀ x0, tkS h 99 (tkS h 59 (Sum.elim (gL h true) Sum.inr (tkS h 102 (.inl a)))) = .inl x0 → (tkS h 102 (.inl a) = .inl (a + 1) ∧ gL h true (a + 1) = .inl (gP h true (a + 1) (agK1 h a))) ∧ (s5 2 0 12 = nI (agK1 h a) ∧ agK1 h a ≤ 1599) := by
    intro x0 hx
    obtain ⟨a3', p1, p2, p3⟩ := tkS_inl hx
    obtain ⟨a4', t1, t2, t3⟩ := tkS_inl p1
    obtain ⟨x0', u1, u2, u3⟩ := gL_inl t1
    obtain ⟨a5', v1, v2, v3⟩ := tkS_inl u1
    injection v1 with v1
    subst v1
    subst v3
    have hl : a < n := hB.lt (by rw [v2]; decide)
    have hb := gP_bd hB (show a + 1 ≤ n by omega) _ (gK_end (m := true) hB (show a + 1 ≤ n by omega)).1
    refine ⟨⟨u1, by rw [u2, u3]⟩, ?_, by have h1 := hb.1; have h2 := hb.2; simp only [agK1]; omega⟩
    rw [d4 12 (by decide) (by decide), c4 12 (by decide) (by decide), up3_i (by decide), (b5 (a + 1) _ u1 u2).1, Nat.zero_add]
  refine Ret.bind (c_items (t0 := agK1 h a) c_item2 (K5.src S) hn d5 (fun x0 hx => (told5 x0 hx).2)) ?_
  rintro s6 ⟨e1, e2, e3, e4, e5⟩
  obtain ⟨s7, f1, f2, f3, f4, f5⟩ := c_tkS (x := 59) ((K5.tr e1).src S) e4 (by decide)
  rw [f1, some_b]
  refine Ret.some ⟨(K5.tr e1).tr f2, ?_, f5, ?_⟩
  · rw [f3 1 (by decide), e2, d3 1 (by decide), c3 1 (by decide), up3_j (by decide), b2, a3 1 (by decide)]
  · intro e he
    obtain ⟨q1, q2, q3, q4⟩ := agS_inl he
    obtain ⟨g1, g2, g3⟩ := e5 _ _ q3 q4
    obtain ⟨h1, h2, h3⟩ := b5 _ _ q1 q2
    refine ⟨?_, ?_, ?_, ?_⟩
    · rw [f4 16 (by decide) (by decide), e3, d4 16 (by decide) (by decide), c4 16 (by decide) (by decide), up3_same, h1, Nat.zero_add]
    · rw [f4 12 (by decide) (by decide), g1]
    · intro i hi
      rw [f3 5 (by decide), g2 i hi, d3 5 (by decide), c3 5 (by decide), up3_j (by decide)]
      have := h3 i hi
      rw [Nat.zero_add] at this
      exact this
    · intro i hi
      rw [f3 5 (by decide)]
      exact g3 i hi
theorem m_readArgument {σ : St} {n a : Nat} {h : Nat → Int32} (S : SrcM σ n h) (O : OkM σ a) (hn : n ≤ 3200) (ha : a ≤ n) : Ret (F_X12_readArgument σ) (fun τ => KpM σ τ ∧ τ 20 23 = σ 20 23 ∧ CuM τ n (agS h (.inl a)) ∧ ∀ e, agS h (.inl a) = .inl e → τ 20 0 30 = nI (agK1 h a) ∧ τ 20 0 32 = nI (agK2 h a) ∧ (∀ i, i < agK1 h a → τ 20 30 i = gV h true (gP h true (a + 1) i)) ∧ ∀ i, i < agK2 h a → τ 20 32 i = gV h false (gP h false (agX2 h a) i)) := by
  unfold F_X12_readArgument
  obtain ⟨s1, a1, a2, a3, a4, a5⟩ := m_tkS (x := 102) (c := .inl a) S ⟨O, ha⟩ (by decide)
  rw [a1, some_b, nst_b]
  have K1 : KpM σ (up3 s1 20 0 30 0) := a2.u0 (by decide)
  refine Ret.bind (m_items m_item1 (Or.inl rfl) (K1.src S) hn (a5.u0 (by decide) (by decide)) (up3_same _ _ _ _ _)) ?_
  rintro s2 ⟨b1, b2, b3, b4, b5⟩
  have K2 := K1.tr b1
  obtain ⟨s4, c1, c2, c3, c4, c5⟩ := m_tkS (x := 59) (K2.src S) b4 (by decide)
  rw [c1, some_b]
  obtain ⟨s5, d1, d2, d3, d4, d5⟩ := m_tkS (x := 99) ((K2.tr c2).src S) c5 (by decide)
  rw [d1, some_b, nst_b]
  have K5 : KpM σ (up3 s5 20 0 32 0) := ((K2.tr c2).tr d2).u0 (by decide)
  refine Ret.bind (m_items m_item2 (Or.inr rfl) (K5.src S) hn (d5.u0 (by decide) (by decide)) (up3_same _ _ _ _ _)) ?_
  rintro s6 ⟨e1, e2, e3, e4, e5⟩
  obtain ⟨s7, f1, f2, f3, f4, f5⟩ := m_tkS (x := 59) ((K5.tr e1).src S) e4 (by decide)
  rw [f1, some_b]
  refine Ret.some ⟨(K5.tr e1).tr f2, ?_, f5, ?_⟩
  · rw [f3 23 (by decide), e2 23 (by decide) (by decide), up3_j (by decide), d3 23 (by decide), c3 23 (by decide), b2 23 (by decide) (by decide), up3_j (by decide), a3 23 (by decide)]
  · intro e he
    obtain ⟨q1, q2, q3, q4⟩ := agS_inl he
    obtain ⟨g1, g3⟩ := e5 _ _ q3 q4
    obtain ⟨h1, h3⟩ := b5 _ _ q1 q2
    refine ⟨?_, ?_, ?_, ?_⟩
    · rw [f4 30 (by decide) (by decide), e3 30 (by decide) (by decide) (by decide), up3_i (by decide), d4 30 (by decide) (by decide), c4 30 (by decide) (by decide), h1]
    · rw [f4 32 (by decide) (by decide), g1]
    · intro i hi
      rw [f3 30 (by decide), e2 30 (by decide) (by decide), up3_j (by decide), d3 30 (by decide), c3 30 (by decide)]
      exact h3 i hi
    · intro i hi
      rw [f3 32 (by decide)]
      exact g3 i hi
