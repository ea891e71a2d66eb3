/-! S5: seconds: the money, the whole house -/
set_option maxRecDepth 100000
theorem mv7_ne {m : Nat → Int32} {u i : Nat} (h : i ≠ 110 + 8 * u + 5) : mv7 m u i = mv6 m u i := by
  unfold mv7 mvE
  by_cases z : mv6 m u (110 + 8 * u + 3) = 0 ∧ mv6 m u (110 + 8 * u + 2) = tgt m u
  · rw [if_pos z, setm_ne h]
  · rw [if_neg z]
theorem mvU_ne {m : Nat → Int32} (hw : WF m) {u i : Nat} (hu : u < cn (m 2)) (h5 : i ≠ 5) (h6 : i ≠ 6) (hun : i < 110 + 8 * u + 2 ∨ 110 + 8 * u + 5 < i) (hc : ∀ c, c < 30 → i ≠ 160 + 6 * c + 4 ∧ i ≠ 160 + 6 * c + 5) : mvU m u i = m i := by
  have h3 := hw.2.2.2.1.2
  obtain ⟨-, -, -, -, -, -, -, -, hb⟩ := hw.2.2.2.2.2.2.2.2.1 u hu
  by_cases e0 : m (110 + 8 * u + 5) = 0 ∨ m (110 + 8 * u + 5) = 4
  · rw [mvU_H e0]
    unfold mvH
    rw [setm_ne (by omega)]
  by_cases e3 : m (110 + 8 * u + 5) = 3
  · obtain ⟨t1, t2, -⟩ := hb (Or.inr e3)
    rw [mvU_A e3]
    unfold mvA mv4
    rw [setm_ne (hc _ (by omega)).2, setm_ne h6, setm_ne (by omega)]
  rw [mvU_Q (fun z => e0 (Or.inl z)) (fun z => e0 (Or.inr z)) e3]
  by_cases hs : stuck m u
  · rw [mvQ_pos hs]
  · rw [mvQ_neg hs, mv7_ne (by omega)]
    unfold mv6
    by_cases e2 : m (110 + 8 * u + 5) = 2
    · obtain ⟨t1, t2, -⟩ := hb (Or.inl e2)
      rw [if_pos e2]
      unfold mvG
      rw [setm_ne (hc _ (by omega)).1, mv5_ne (by omega) (by omega) (by omega) h5]
    · rw [if_neg e2, mv5_ne (by omega) (by omega) (by omega) h5]
theorem mv6_5 {m : Nat → Int32} {u : Nat} : mv6 m u 5 = m 5 + 1 := by
  have e : mv5 m u 5 = m 5 + 1 := by
    unfold mv5 mvF mv4 mv3
    rw [setm_eq, setm_ne (by omega), setm_ne (by omega), mv1_ne (by omega) (by omega)]
  unfold mv6 mvG
  by_cases e2 : m (110 + 8 * u + 5) = 2
  · rw [if_pos e2, setm_ne (by omega), e]
  · rw [if_neg e2, e]
theorem mv6_4 {m : Nat → Int32} {u : Nat} (hu : u < 6) : mv6 m u (110 + 8 * u + 4) = m (110 + 8 * u + 4) + 1 := by
  have e : mv5 m u (110 + 8 * u + 4) = m (110 + 8 * u + 4) + 1 := by
    unfold mv5 mvF mv4 mv3
    rw [setm_ne (by omega), setm_eq, setm_ne (by omega), mv1_ne (by omega) (by omega)]
  unfold mv6 mvG
  by_cases e2 : m (110 + 8 * u + 5) = 2
  · rw [if_pos e2, setm_ne (by omega), e]
  · rw [if_neg e2, e]
theorem mv6_f {m : Nat → Int32} {u q : Nat} (hu : u < 6) : mv6 m u (160 + 6 * q + 4) = if m (110 + 8 * u + 5) = 2 ∧ q = cn (m (110 + 8 * u + 6)) then m (160 + 6 * q + 4) + 1 else m (160 + 6 * q + 4) := by
  have e : mv5 m u (160 + 6 * q + 4) = m (160 + 6 * q + 4) := mv5_ne (by omega) (by omega) (by omega) (by omega)
  unfold mv6 mvG
  by_cases e2 : m (110 + 8 * u + 5) = 2
  · rw [if_pos e2]
    by_cases eq : q = cn (m (110 + 8 * u + 6))
    · rw [if_pos ⟨e2, eq⟩, ← eq, setm_eq, e]
    · rw [if_neg (fun z => eq z.2), setm_ne (by omega), e]
  · rw [if_neg e2, if_neg (fun z => e2 z.1), e]
/-- a row's times and money; k units have had this second -/
def WG (m : Nat → Int32) (k : Nat) : Prop :=
  (∀ u, u < cn (m 2) → cn (m (110 + 8 * u + 4)) ≤ cn (m 4) + (if u < k then 1 else 0)) ∧
  bd (m 5) (6 * cn (m 4) + k) ∧ bd (m 6) (12 * cn (m 4) + 2 * k) ∧
  (∀ q, q < cn (m 3) → m (160 + 6 * q + 4) = nI (cn (m (160 + 6 * q + 4))) ∧ m (160 + 6 * q + 5) = nI (cn (m (160 + 6 * q + 5)))) ∧
  sumN (fun q => cn (m (160 + 6 * q + 4))) (cn (m 3)) ≤ cn (m 5) ∧ sumN (fun q => cn (m (160 + 6 * q + 5))) (cn (m 3)) = cn (m 6) ∧
  (∀ u, u < cn (m 2) → m (110 + 8 * u + 5) = 0 ∨ m (110 + 8 * u + 5) = 4 → m (110 + 8 * u + 3) = 0 ∧ m (110 + 8 * u + 2) = m (110 + 8 * u)) ∧
  sumN (fun q => cn (m (160 + 6 * q + 3))) (cn (m 3)) ≤ 6
theorem sumN_mem {f : Nat → Nat} : ∀ {n k : Nat}, k < n → f k ≤ sumN f n := by
  intro n
  induction n with
  | zero => intro k h; omega
  | succ n ih =>
    intro k h
    rw [sumN]
    by_cases e : k = n
    · subst e; omega
    · have := ih (k := k) (by omega)
      omega
theorem WG.mono {m : Nat → Int32} {k : Nat} (h : WG m k) : WG m (k + 1) := by
  obtain ⟨g1, g2, g3, g4, g5, g6, g7, g8⟩ := h
  refine ⟨fun u hu => ?_, ⟨g2.1, by have := g2.2; omega⟩, ⟨g3.1, by have := g3.2; omega⟩, g4, g5, g6, g7, g8⟩
  have := g1 u hu
  by_cases e : u < k
  · rw [if_pos e] at this; rw [if_pos (by omega)]; exact this
  · rw [if_neg e] at this; omega
theorem sumN_set {f g : Nat → Nat} {n i d : Nat} (hi : i < n) (h1 : g i = f i + d) (h2 : ∀ k, k ≠ i → g k = f k) : sumN g n = sumN f n + d := by
  have e : g = updN f i (f i + d) := by
    funext k
    unfold updN
    by_cases z : k = i
    · rw [if_pos z, z, h1]
    · rw [if_neg z, h2 k z]
  have := sumN_upd (f := f) (v := f i + d) hi
  rw [e]
  omega
theorem bd_add {x : Int32} {n d : Nat} (h : bd x n) (hn : n + d < 2147483648) : bd (x + nI d) (n + d) ∧ cn (x + nI d) = cn x + d := by
  have h2 := h.2
  rw [h.1, nI_add, cn_nI (k := cn x) (by omega), cn_nI (by omega)]
  exact ⟨bd_nI (by omega) (by omega), rfl⟩
theorem mvU_ok {m : Nat → Int32} (hw : WF m) {u : Nat} (hg : WG m u) (hu : u < cn (m 2)) (hk : cn (m 4) < 1003600) : WF (mvU m u) ∧ WG (mvU m u) (u + 1) := by
  have hU := hw.2.2.1.2
  have h3 := hw.2.2.2.1.2
  obtain ⟨-, -, -, -, b4, b5, -, -, hb⟩ := hw.2.2.2.2.2.2.2.2.1 u hu
  obtain ⟨g1, g2, g3, g4, g5, g6, g7, g8⟩ := hg
  have hwk := g1 u hu
  rw [if_neg (Nat.lt_irrefl u)] at hwk
  have e2 : mvU m u 2 = m 2 := mvU_ne hw hu (by decide) (by decide) (by omega) (by intro c hc; omega)
  have e3 : mvU m u 3 = m 3 := mvU_ne hw hu (by decide) (by decide) (by omega) (by intro c hc; omega)
  have e4 : mvU m u 4 = m 4 := mvU_ne hw hu (by decide) (by decide) (by omega) (by intro c hc; omega)
  have eo : ∀ v w, v < 6 → v ≠ u → w < 8 → mvU m u (110 + 8 * v + w) = m (110 + 8 * v + w) := fun v w hv hn hw' => mvU_ne hw hu (by omega) (by omega) (by omega) (by intro c hc; omega)
  have eo0 : ∀ v, v < 6 → mvU m u (110 + 8 * v) = m (110 + 8 * v) := fun v hv => mvU_ne hw hu (by omega) (by omega) (by omega) (by intro c hc; omega)
  have e8 : ∀ q, q < 30 → mvU m u (160 + 6 * q + 3) = m (160 + 6 * q + 3) := fun q hq => mvU_ne hw hu (by omega) (by omega) (by omega) (by intro c hc; omega)
  have G8 : sumN (fun q => cn (mvU m u (160 + 6 * q + 3))) (cn (mvU m u 3)) ≤ 6 := by
    rw [e3, sumN_congr (g := fun q => cn (m (160 + 6 * q + 3))) (fun q hq => by rw [e8 q (by omega)])]
    exact g8
  have G1 : cn (mvU m u (110 + 8 * u + 4)) ≤ cn (m 4) + 1 → ∀ v, v < cn (mvU m u 2) → cn (mvU m u (110 + 8 * v + 4)) ≤ cn (mvU m u 4) + (if v < u + 1 then 1 else 0) := by
    intro h v hv
    rw [e2] at hv
    rw [e4]
    by_cases ev : v = u
    · subst ev; rw [if_pos (by omega)]; exact h
    · rw [eo v 4 (by omega) ev (by decide)]
      have := g1 v hv
      by_cases z : v < u
      · rw [if_pos z] at this; rw [if_pos (by omega)]; exact this
      · rw [if_neg z] at this; rw [if_neg (by omega)]; exact this
  have G7 : (mvU m u (110 + 8 * u + 5) = 0 ∨ mvU m u (110 + 8 * u + 5) = 4 → mvU m u (110 + 8 * u + 3) = 0 ∧ mvU m u (110 + 8 * u + 2) = m (110 + 8 * u)) → ∀ v, v < cn (mvU m u 2) → mvU m u (110 + 8 * v + 5) = 0 ∨ mvU m u (110 + 8 * v + 5) = 4 → mvU m u (110 + 8 * v + 3) = 0 ∧ mvU m u (110 + 8 * v + 2) = mvU m u (110 + 8 * v) := by
    intro h v hv
    rw [e2] at hv
    rw [eo0 v (by omega)]
    by_cases ev : v = u
    · subst ev; exact h
    · rw [eo v 5 (by omega) ev (by decide), eo v 3 (by omega) ev (by decide), eo v 2 (by omega) ev (by decide)]
      exact g7 v hv
  by_cases e0 : m (110 + 8 * u + 5) = 0 ∨ m (110 + 8 * u + 5) = 4
  · -- at home
    have eU := mvU_H e0
    have ne : ∀ i, i ≠ 110 + 8 * u + 4 → mvU m u i = m i := by
      intro i hi
      rw [eU]
      unfold mvH
      rw [setm_ne hi]
    have ev : bd (if 2 < m (110 + 8 * u + 4) then m (110 + 8 * u + 4) - 2 else 0) (cn (m (110 + 8 * u + 4))) := by
      have b := b4.2
      by_cases z : 2 < m (110 + 8 * u + 4)
      · rw [if_pos z]
        have z2 := (bd_lt (k := 2) b4 (by decide) (by decide)).mp z
        have e : m (110 + 8 * u + 4) - 2 = nI (cn (m (110 + 8 * u + 4)) - 2) := by
          rw [show (2 : Int32) = nI 2 from rfl, ← nI_sub (by omega), ← b4.1]
        rw [e]
        exact bd_nI (by omega) (by omega)
      · rw [if_neg z]
        exact bd_nI (k := 0) (by omega) (by omega)
    have ew : mvU m u (110 + 8 * u + 4) = if 2 < m (110 + 8 * u + 4) then m (110 + 8 * u + 4) - 2 else 0 := by
      rw [eU]
      unfold mvH
      rw [setm_eq]
    constructor
    · rw [eU]
      exact hw.un4 hu ⟨ev.1, by have := ev.2; have := b4.2; omega⟩
    · refine ⟨G1 (by rw [ew]; have := ev.2; omega), ?_, ?_, ?_, ?_, ?_, G7 ?_, G8⟩
      · rw [ne 5 (by omega), e4]; exact ⟨g2.1, by have := g2.2; omega⟩
      · rw [ne 6 (by omega), e4]; exact ⟨g3.1, by have := g3.2; omega⟩
      · intro q hq
        rw [e3] at hq
        rw [ne _ (by omega), ne _ (by omega)]
        exact g4 q hq
      · rw [e3, ne 5 (by omega), sumN_congr (g := fun q => cn (m (160 + 6 * q + 4))) (fun q hq => by rw [ne _ (by omega)])]
        exact g5
      · rw [e3, ne 6 (by omega), sumN_congr (g := fun q => cn (m (160 + 6 * q + 5))) (fun q hq => by rw [ne _ (by omega)])]
        exact g6
      · rw [ne _ (by omega), ne _ (by omega), ne _ (by omega)]
        exact g7 u hu
  by_cases es : m (110 + 8 * u + 5) = 3
  · -- at a call
    have eU := mvU_A es
    obtain ⟨t1, t2, -⟩ := hb (Or.inr es)
    have ne : ∀ i, i ≠ 110 + 8 * u + 4 → i ≠ 6 → i ≠ 160 + 6 * cn (m (110 + 8 * u + 6)) + 5 → mvU m u i = m i := by
      intro i h1 h2 h3
      rw [eU]
      unfold mvA mv4
      rw [setm_ne h3, setm_ne h2, setm_ne h1]
    have ew : mvU m u (110 + 8 * u + 4) = m (110 + 8 * u + 4) + nI 1 := by
      rw [eU]
      unfold mvA mv4
      rw [setm_ne (by omega), setm_ne (by omega), setm_eq]
      rfl
    have e6 : mvU m u 6 = m 6 + nI 2 := by
      rw [eU]
      unfold mvA mv4
      rw [setm_ne (by omega), setm_eq]
      rfl
    have ec : mvU m u (160 + 6 * cn (m (110 + 8 * u + 6)) + 5) = m (160 + 6 * cn (m (110 + 8 * u + 6)) + 5) + nI 2 := by
      rw [eU]
      unfold mvA mv4
      rw [setm_eq]
      rfl
    have bw := bd_add (d := 1) ⟨b4.1, Nat.le_refl (cn (m (110 + 8 * u + 4)))⟩ (by omega)
    have b6 := bd_add (d := 2) g3 (by omega)
    have hbill := sumN_mem (f := fun q => cn (m (160 + 6 * q + 5))) t2
    have hg32 := g3.2
    have hbill : cn (m (160 + 6 * cn (m (110 + 8 * u + 6)) + 5)) ≤ cn (m 6) := by rw [← g6]; exact hbill
    have bc := bd_add (x := m (160 + 6 * cn (m (110 + 8 * u + 6)) + 5)) (d := 2) ⟨(g4 _ t2).2, Nat.le_refl _⟩ (by omega)
    constructor
    · rw [eU]
      unfold mvA mv4
      have w1 : WF (setm m (110 + 8 * u + 4) (m (110 + 8 * u + 4) + 1)) := hw.un4 hu (show bd (m (110 + 8 * u + 4) + nI 1) 1003600 from ⟨bw.1.1, by have := bw.1.2; omega⟩)
      refine (w1.sc6).ca5 ?_
      rw [setm_ne (by omega), setm_ne (by omega)]
      exact t2
    · refine ⟨G1 (by rw [ew, bw.2]; omega), ?_, ?_, ?_, ?_, ?_, G7 ?_, G8⟩
      · rw [ne 5 (by omega) (by omega) (by omega), e4]; exact ⟨g2.1, by have := g2.2; omega⟩
      · rw [e6, e4]; exact ⟨b6.1.1, by have := b6.1.2; omega⟩
      · intro q hq
        rw [e3] at hq
        rw [ne (160 + 6 * q + 4) (by omega) (by omega) (by omega)]
        refine ⟨(g4 q hq).1, ?_⟩
        by_cases eq : q = cn (m (110 + 8 * u + 6))
        · rw [eq, ec]; exact bc.1.1
        · rw [ne _ (by omega) (by omega) (by omega)]; exact (g4 q hq).2
      · rw [e3, ne 5 (by omega) (by omega) (by omega), sumN_congr (g := fun q => cn (m (160 + 6 * q + 4))) (fun q hq => by rw [ne _ (by omega) (by omega) (by omega)])]
        exact g5
      · rw [e3, e6, b6.2, ← g6]
        exact sumN_set (f := fun q => cn (m (160 + 6 * q + 5))) (g := fun q => cn (mvU m u (160 + 6 * q + 5))) t2 (by show cn (mvU m u _) = _; rw [ec, bc.2]) (fun k hk' => by show cn (mvU m u _) = _; rw [ne _ (by omega) (by omega) (by omega)])
      · rw [ne (110 + 8 * u + 5) (by omega) (by omega) (by omega), es]
        intro z
        rcases z with z | z <;> exact absurd z (by decide)
  have eU := mvU_Q (fun z => e0 (Or.inl z)) (fun z => e0 (Or.inr z)) es
  by_cases hs : stuck m u
  · rw [eU, mvQ_pos hs]
    exact ⟨hw, WG.mono ⟨g1, g2, g3, g4, g5, g6, g7, g8⟩⟩
  · rw [mvQ_neg hs] at eU
    have w7 := hw.wmv7 hu hs (by omega)
    have bw := bd_add (d := 1) ⟨b4.1, Nat.le_refl (cn (m (110 + 8 * u + 4)))⟩ (by omega)
    have b5' := bd_add (d := 1) g2 (by omega)
    have hg22 := g2.2
    have ew : mvU m u (110 + 8 * u + 4) = m (110 + 8 * u + 4) + nI 1 := by rw [eU, mv7_ne (by omega), mv6_4 (by omega)]; rfl
    have e5 : mvU m u 5 = m 5 + nI 1 := by rw [eU, mv7_ne (by omega), mv6_5]; rfl
    have e6 : mvU m u 6 = m 6 := by rw [eU, mv7_ne (by omega), mv6_ne (by omega) (by omega) (by omega) (by omega) (by omega)]
    have ec : ∀ q, mvU m u (160 + 6 * q + 5) = m (160 + 6 * q + 5) := fun q => by rw [eU, mv7_ne (by omega), mv6_ne (by omega) (by omega) (by omega) (by omega) (by omega)]
    have ef : ∀ q, mvU m u (160 + 6 * q + 4) = if m (110 + 8 * u + 5) = 2 ∧ q = cn (m (110 + 8 * u + 6)) then m (160 + 6 * q + 4) + 1 else m (160 + 6 * q + 4) := fun q => by rw [eU, mv7_ne (by omega), mv6_f (by omega)]
    have hbill : ∀ q, q < cn (m 3) → bd (m (160 + 6 * q + 4) + nI 1) (cn (m (160 + 6 * q + 4)) + 1) ∧ cn (m (160 + 6 * q + 4) + nI 1) = cn (m (160 + 6 * q + 4)) + 1 := by
      intro q hq
      have := sumN_mem (f := fun q => cn (m (160 + 6 * q + 4))) hq
      have : cn (m (160 + 6 * q + 4)) ≤ cn (m 5) := Nat.le_trans this g5
      exact bd_add ⟨(g4 q hq).1, Nat.le_refl _⟩ (by omega)
    constructor
    · rw [eU]; exact w7
    · refine ⟨G1 (by rw [ew, bw.2]; omega), ?_, ?_, ?_, ?_, ?_, G7 ?_, G8⟩
      · rw [e5, e4]; exact ⟨b5'.1.1, by have := b5'.1.2; omega⟩
      · rw [e6, e4]; exact ⟨g3.1, by have := g3.2; omega⟩
      · intro q hq
        rw [e3] at hq
        rw [ec q]
        refine ⟨?_, (g4 q hq).2⟩
        rw [ef q]
        by_cases z : m (110 + 8 * u + 5) = 2 ∧ q = cn (m (110 + 8 * u + 6))
        · rw [if_pos z]; exact (hbill q hq).1.1
        · rw [if_neg z]; exact (g4 q hq).1
      · rw [e3, e5, b5'.2]
        by_cases z : m (110 + 8 * u + 5) = 2
        · obtain ⟨t1, t2, -⟩ := hb (Or.inl z)
          rw [sumN_set (f := fun q => cn (m (160 + 6 * q + 4))) (g := fun q => cn (mvU m u (160 + 6 * q + 4))) (d := 1) t2 (by show cn (mvU m u _) = _; rw [ef, if_pos ⟨z, rfl⟩]; exact (hbill _ t2).2) (fun k hk' => by show cn (mvU m u _) = _; rw [ef, if_neg (fun y => hk' y.2)])]
          omega
        · rw [sumN_congr (g := fun q => cn (m (160 + 6 * q + 4))) (fun q hq => by rw [ef, if_neg (fun y => z y.1)])]
          omega
      · rw [e3, e6, sumN_congr (g := fun q => cn (m (160 + 6 * q + 5))) (fun q hq => by rw [ec])]
        exact g6
      · rw [eU]
        unfold mv7 mvE
        obtain ⟨a, -, -, -, -⟩ := mv6_st (m := m) (show u < 6 by omega)
        by_cases zz : mv6 m u (110 + 8 * u + 3) = 0 ∧ mv6 m u (110 + 8 * u + 2) = tgt m u
        · rw [if_pos zz, setm_eq, setm_ne (by omega), setm_ne (by omega)]
          by_cases z : m (110 + 8 * u + 5) = 2
          · rw [if_pos z]
            intro y
            rcases y with y | y <;> exact absurd y (by decide)
          · intro _
            refine ⟨zz.1, zz.2.trans ?_⟩
            unfold tgt
            rw [if_neg z]
        · rw [if_neg zz, a]
          intro y
          exact absurd y e0
