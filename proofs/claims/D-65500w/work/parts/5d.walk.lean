/-! S6: a name that is taken; the way through a tree -/
set_option maxRecDepth 100000
def sam (m : Nat → Int32) (q k : Nat) (y : Nat → Int32) : Prop := m (392 + 13 * q) = nI k ∧ ∀ i, i < k → m (392 + 13 * q + 1 + i) = y i
noncomputable def samI (m : Nat → Int32) (q k : Nat) (y : Nat → Int32) : Int32 := @ite _ (sam m q k y) (Classical.propDecidable _) 1 0
def tkn (m : Nat → Int32) (p k : Nat) (y : Nat → Int32) (P : Nat) : Prop := ∃ q, q < P ∧ q ≠ p ∧ sam m q k y
noncomputable def tknI (m : Nat → Int32) (p k : Nat) (y : Nat → Int32) (P : Nat) : Int32 := @ite _ (tkn m p k y P) (Classical.propDecidable _) 1 0
theorem c_isNamed {σ : St} {h j q k a : Nat} {m y : Nat → Int32} (hww : WW m) (H : HH (σ h) m) (hq : q < 8) (hk : k ≤ 12) (ha : a + k ≤ lenB j) (hy : ∀ i, i < k → σ 0 j (a + i) = y i) : F_X3_isNamed h (nI q) j (nI a) (nI k) σ = some (samI m q k y) := by
  have hj := lenB_le (j := j)
  obtain ⟨n1, n2⟩ := H.2.2.1.1 q hq
  have hb := (hww.1 q hq).1
  unfold F_X3_isNamed samI
  rw [rdo_nI hq (by decide), some_b, n1]
  by_cases e : m (392 + 13 * q) = nI k
  · rw [if_pos e]
    have hcn : cn (m (392 + 13 * q)) = k := by rw [e, cn_nI (by omega)]
    by_cases s : ∀ i, i < k → m (392 + 13 * q + 1 + i) = y i
    · rw [if_pos ⟨e, s⟩]
      have key := iter_row (f := fun z => B_X3_isNamed_16 h j (nI q) (nI a) (nI k) z σ) (fun i => nI i) k (.inl ()) ?_ ?_ 0 (Nat.zero_le _)
      · rw [show (0 : Int32) = nI 0 from rfl, key, bindL_inl]
      · intro i hi
        show B_X3_isNamed_16 h j (nI q) (nI a) (nI k) (nI i) σ = _
        unfold B_X3_isNamed_16
        rw [if_pos (nI_lt hi (by omega)), show (12 : Int32) = nI 12 from rfl, pk_mul, nI_add, rdo_nI (by omega) (by decide), some_b, nI_add, rdo_nI (by omega) (by omega), some_b, n2 i (by omega), hy i hi, if_pos (s i hi), nI_1]
      · show B_X3_isNamed_16 h j (nI q) (nI a) (nI k) (nI k) σ = _
        unfold B_X3_isNamed_16
        rw [if_neg (nI_nlt (Nat.le_refl _) (by omega))]
    · rw [if_neg (fun z => s z.2)]
      have hx : ∃ i, i < k ∧ ¬ m (392 + 13 * q + 1 + i) = y i := by
        rcases Classical.em (∃ i, i < k ∧ ¬ m (392 + 13 * q + 1 + i) = y i) with z | z
        · exact z
        · exfalso
          apply s
          intro i hi
          rcases Classical.em (m (392 + 13 * q + 1 + i) = y i) with w | w
          · exact w
          · exact absurd ⟨i, hi, w⟩ z
      obtain ⟨i0, ⟨i1, i2⟩, i3⟩ := pk_least _ hx
      have key := iter_row (f := fun z => B_X3_isNamed_16 h j (nI q) (nI a) (nI k) z σ) (fun i => nI i) i0 (.inr 0) ?_ ?_ 0 (Nat.zero_le _)
      · rw [show (0 : Int32) = nI 0 from rfl, key, bindL_inr]
        rfl
      · intro i hi
        have hs : m (392 + 13 * q + 1 + i) = y i := by
          rcases Classical.em (m (392 + 13 * q + 1 + i) = y i) with w | w
          · exact w
          · exact absurd ⟨by omega, w⟩ (i3 i hi)
        show B_X3_isNamed_16 h j (nI q) (nI a) (nI k) (nI i) σ = _
        unfold B_X3_isNamed_16
        rw [if_pos (nI_lt (by omega) (by omega)), show (12 : Int32) = nI 12 from rfl, pk_mul, nI_add, rdo_nI (by omega) (by decide), some_b, nI_add, rdo_nI (by omega) (by omega), some_b, n2 i (by omega), hy i (by omega), if_pos hs, nI_1]
      · show B_X3_isNamed_16 h j (nI q) (nI a) (nI k) (nI i0) σ = _
        unfold B_X3_isNamed_16
        rw [if_pos (nI_lt i1 (by omega)), show (12 : Int32) = nI 12 from rfl, pk_mul, nI_add, rdo_nI (by omega) (by decide), some_b, nI_add, rdo_nI (by omega) (by omega), some_b, n2 i0 (by omega), hy i0 i1, if_neg i2]
  · rw [if_neg e, if_neg (fun z => e z.1)]
theorem samI_01 (m : Nat → Int32) (q k : Nat) (y : Nat → Int32) : (samI m q k y = 1 ∧ sam m q k y) ∨ (samI m q k y = 0 ∧ ¬ sam m q k y) := by
  unfold samI
  by_cases s : sam m q k y
  · rw [if_pos s]; exact Or.inl ⟨rfl, s⟩
  · rw [if_neg s]; exact Or.inr ⟨rfl, s⟩
theorem c_refusedName {σ : St} {j p k a : Nat} {m y : Nat → Int32} (hw : WF m) (hww : WW m) (H : HH (σ 3) m) (hp : p < 2147483648) (hj0 : j = 1 ∨ j = 2 ∨ j = 3) (h6 : σ 2 0 6 = nI j) (h13 : σ 2 0 13 = nI a) (h14 : σ 2 0 14 = nI (a + k)) (ha : a + k ≤ lenB j) (hy : ∀ i, i < k → σ 0 j (a + i) = y i) : F_X0_refusedName (nI p) σ = some (if p < cn (m 0) then (if 12 < k then 23 else if tknI m p k y (cn (m 0)) = 1 then 24 else 3) else 5) := by
  have hj := lenB_le (j := j)
  have b0 := hw.1.1
  have b0' := b0.2
  unfold F_X0_refusedName
  rw [h14, h13, nI_sub (by omega), Nat.add_sub_cancel_left, nmo_b, c_isPlace hw H.1 hp, some_b]
  by_cases q : p < cn (m 0)
  · rw [if_pos q, if_neg (by decide), if_pos q]
    by_cases q2 : 12 < k
    · rw [if_pos (show (12 : Int32) < nI k from nI_lt (a := 12) q2 (by omega)), if_pos q2]
    · rw [if_neg (show ¬ (12 : Int32) < nI k from nI_nlt (a := 12) (by omega) (by decide)), if_neg q2]
      have z28 : σ 3 0 28 = nI (cn (m 0)) := H.1.1.1.trans b0.1
      have stp : ∀ c, c < cn (m 0) → ¬ (c ≠ p ∧ sam m c k y) → B_X0_refusedName_41 (nI k) (nI p) (nI c) σ = some (.inl (nI (c + 1))) := by
        intro c hc hn
        unfold B_X0_refusedName_41
        rw [z28, if_pos (nI_lt hc (by omega))]
        by_cases e : c = p
        · rw [e, if_pos rfl, nI_1]
        · rw [if_neg (by rw [nI_eq (by omega) (by omega)]; exact e), h6, dyb_nI hj0, some_b, h13, c_isNamed hww H (by omega) (by omega) ha hy, some_b]
          rcases samI_01 m c k y with ⟨s1, s2⟩ | ⟨s1, s2⟩
          · exact absurd ⟨e, s2⟩ hn
          · rw [s1, if_pos rfl, nI_1]
      unfold tknI
      by_cases t : tkn m p k y (cn (m 0))
      · obtain ⟨c, ⟨c1, c2, c3⟩, c4⟩ := pk_least _ t
        rw [if_pos t, if_pos rfl]
        have key := iter_row (f := fun z => B_X0_refusedName_41 (nI k) (nI p) z σ) (fun i => nI i) c (.inr 24) ?_ ?_ 0 (Nat.zero_le _)
        · rw [show (0 : Int32) = nI 0 from rfl, key, bindL_inr]
        · intro i hi
          exact stp i (by omega) (fun z => c4 i hi ⟨by omega, z⟩)
        · show B_X0_refusedName_41 (nI k) (nI p) (nI c) σ = _
          unfold B_X0_refusedName_41
          rw [z28, if_pos (nI_lt c1 (by omega)), if_neg (by rw [nI_eq (by omega) (by omega)]; exact c2), h6, dyb_nI hj0, some_b, h13, c_isNamed hww H (by omega) (by omega) ha hy, some_b]
          rcases samI_01 m c k y with ⟨s1, s2⟩ | ⟨s1, s2⟩
          · rw [s1, if_neg (by decide)]
          · exact absurd c3 s2
      · rw [if_neg t, if_neg (by decide)]
        have key := iter_row (f := fun z => B_X0_refusedName_41 (nI k) (nI p) z σ) (fun i => nI i) (cn (m 0)) (.inl ()) ?_ ?_ 0 (Nat.zero_le _)
        · rw [show (0 : Int32) = nI 0 from rfl, key, bindL_inl]
        · intro i hi
          exact stp i hi (fun z => t ⟨i, hi, z⟩)
        · show B_X0_refusedName_41 (nI k) (nI p) (nI (cn (m 0))) σ = _
          unfold B_X0_refusedName_41
          rw [z28, if_neg (nI_nlt (Nat.le_refl _) (by omega))]
  · rw [if_neg q, if_pos rfl, if_neg q]
theorem lp_tk49 {σ : St} {q k : Nat} {m y : Nat → Int32} {v1 v2 : Int32} (hm : σ 20 1 = m) (hq : q < 8) (hk : k ≤ 12) (h28 : σ 20 0 28 = nI k) (hy : ∀ i, i < k → σ 20 28 i = y i) : ∀ d i, i + d = k → iter (fun z => B_X12_isTaken_49 v1 v2 (nI q) z.1 z.2 σ) ((1 : Int32), nI i) = some (@ite _ (∀ x, i ≤ x → x < k → m (392 + 13 * q + 1 + x) = y x) (Classical.propDecidable _) (1 : Int32) 0) := by
  intro d
  induction d with
  | zero =>
    intro i hi
    rw [if_pos (fun x h1 h2 => by omega)]
    refine iter_inr ?_
    show B_X12_isTaken_49 v1 v2 (nI q) 1 (nI i) σ = _
    unfold B_X12_isTaken_49
    rw [h28, if_neg (nI_nlt (by omega) (by omega))]
  | succ d ih =>
    intro i hi
    have step : B_X12_isTaken_49 v1 v2 (nI q) 1 (nI i) σ = some (.inl (if m (392 + 13 * q + 1 + i) = y i then 1 else 0, nI (i + 1))) := by
      unfold B_X12_isTaken_49
      rw [h28, if_pos (nI_lt (by omega) (by omega)), if_neg (by decide), show (392 : Int32) = nI 392 from rfl, show (13 : Int32) = nI 13 from rfl, pk_mul, nI_add, nI_1, nI_add, m_rd (by omega), some_b, rdo_nI (by omega) (by decide), some_b, hm, hy i (by omega), ite_bind, nI_1]
    rw [iter_inl (show (fun z : Int32 × Int32 => B_X12_isTaken_49 v1 v2 (nI q) z.1 z.2 σ) (1, nI i) = _ from step)]
    by_cases e : m (392 + 13 * q + 1 + i) = y i
    · rw [if_pos e, ih (i + 1) (by omega)]
      congr 1
      by_cases s : ∀ x, i + 1 ≤ x → x < k → m (392 + 13 * q + 1 + x) = y x
      · rw [if_pos s, if_pos]
        intro x h1 h2
        by_cases z : x = i
        · rw [z]; exact e
        · exact s x (by omega) h2
      · rw [if_neg s, if_neg]
        intro z
        exact s (fun x h1 h2 => z x (by omega) h2)
    · rw [if_neg e, if_neg (fun z => e (z i (Nat.le_refl _) (by omega)))]
      refine iter_inr ?_
      show B_X12_isTaken_49 v1 v2 (nI q) 0 (nI (i + 1)) σ = _
      unfold B_X12_isTaken_49
      rw [if_pos rfl]
      by_cases z : nI (i + 1) < σ 20 0 28
      · rw [if_pos z]
      · rw [if_neg z]
theorem m_isTaken {σ : St} {p k : Nat} {m y : Nat → Int32} (hw : WF m) (hm : σ 20 1 = m) (hp : p < 2147483648) (hk : k ≤ 12) (h28 : σ 20 0 28 = nI k) (hy : ∀ i, i < k → σ 20 28 i = y i) : F_X12_isTaken (nI p) σ = some (tknI m p k y (cn (m 0))) := by
  have b0 := hw.1.1
  have b0' := b0.2
  unfold F_X12_isTaken
  have key := iter_row (f := fun z => B_X12_isTaken_4 (nI p) z.1 z.2 σ) (fun c => (tknI m p k y c, nI c)) (cn (m 0)) (tknI m p k y (cn (m 0))) ?_ ?_ 0 (Nat.zero_le _)
  · have e0 : tknI m p k y 0 = 0 := by
      unfold tknI
      rw [if_neg]
      rintro ⟨q, q1, -⟩
      omega
    rw [e0] at key
    rw [show ((0 : Int32), (0 : Int32)) = ((0 : Int32), nI 0) from rfl, key, some_b]
    unfold tknI
    by_cases t : tkn m p k y (cn (m 0))
    · rw [if_pos t, zro_1]; rfl
    · rw [if_neg t, zro_0]; rfl
  · intro c hc
    show B_X12_isTaken_4 (nI p) (tknI m p k y c) (nI c) σ = _
    unfold B_X12_isTaken_4
    rw [m_rd0, some_b, hm]
    rw [if_pos (by rw [b0.1]; exact nI_lt hc (by omega)), show (392 : Int32) = nI 392 from rfl, show (13 : Int32) = nI 13 from rfl, pk_mul, nI_add, m_rd (by omega), some_b, hm, h28]
    have fl : ∃ f, (if nI c = nI p then some (0 : Int32) else if m (392 + 13 * c) = nI k then some 1 else some 0) = some f ∧ iter (fun z => B_X12_isTaken_49 (nI p) (tknI m p k y c) (nI c) z.1 z.2 σ) (f, (0 : Int32)) = some (@ite _ (c ≠ p ∧ sam m c k y) (Classical.propDecidable _) 1 0) := by
      have z0 : iter (fun z => B_X12_isTaken_49 (nI p) (tknI m p k y c) (nI c) z.1 z.2 σ) ((0 : Int32), (0 : Int32)) = some 0 := by
        refine iter_inr ?_
        show B_X12_isTaken_49 (nI p) (tknI m p k y c) (nI c) 0 0 σ = _
        unfold B_X12_isTaken_49
        rw [if_pos rfl]
        by_cases z : (0 : Int32) < σ 20 0 28
        · rw [if_pos z]
        · rw [if_neg z]
      by_cases e : c = p
      · refine ⟨0, by rw [e, if_pos rfl], ?_⟩
        rw [z0, if_neg (fun z => z.1 e)]
      · rw [if_neg (by rw [nI_eq (by omega) (by omega)]; exact e)]
        by_cases e2 : m (392 + 13 * c) = nI k
        · refine ⟨1, by rw [if_pos e2], ?_⟩
          rw [show (0 : Int32) = nI 0 from rfl, lp_tk49 hm (by omega) hk h28 hy k 0 (by omega)]
          congr 1
          by_cases s : ∀ x, 0 ≤ x → x < k → m (392 + 13 * c + 1 + x) = y x
          · rw [if_pos s, if_pos ⟨e, e2, fun i hi => s i (Nat.zero_le _) hi⟩]
          · rw [if_neg s, if_neg (fun z => s (fun x _ hx => z.2.2 x hx))]
            rfl
        · refine ⟨0, by rw [if_neg e2], ?_⟩
          rw [z0, if_neg (fun z => e2 z.2.1)]
    obtain ⟨f, f1, f2⟩ := fl
    rw [f1, some_b, f2, some_b, nI_1]
    have e : (if tknI m p k y c = 0 then (if (@ite _ (c ≠ p ∧ sam m c k y) (Classical.propDecidable _) (1 : Int32) 0) = 0 then some (0 : Int32) else some 1) else some 1) = some (tknI m p k y (c + 1)) := by
      unfold tknI
      by_cases t : tkn m p k y c
      · have t2 : tkn m p k y (c + 1) := by
          obtain ⟨q, q1, q2⟩ := t
          exact ⟨q, by omega, q2⟩
        rw [if_pos t, if_neg (by decide), if_pos t2]
      · rw [if_neg t, if_pos rfl]
        by_cases s : c ≠ p ∧ sam m c k y
        · rw [if_pos s, if_neg (by decide), if_pos ⟨c, by omega, s⟩]
        · rw [if_neg s, if_pos rfl, if_neg]
          rintro ⟨q, q1, q2⟩
          by_cases z : q = c
          · subst z; exact s q2
          · exact t ⟨q, by omega, q2⟩
    rw [e, some_b]
  · show B_X12_isTaken_4 (nI p) _ (nI (cn (m 0))) σ = _
    unfold B_X12_isTaken_4
    rw [m_rd0, some_b, hm, if_neg]
    rw [b0.1]
    rw [cn_nI (by omega)]
    exact nI_nlt (Nat.le_refl _) (by omega)
