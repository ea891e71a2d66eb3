/-! S5: the model's next place; rows put into the state -/
set_option maxRecDepth 100000
/-- the model's state with another row -/
def putr (σ : St) (m : Nat → Int32) : St := fun a b => if a = 20 ∧ b = 1 then m else σ a b
theorem putr_row {σ : St} {m : Nat → Int32} : putr σ m 20 1 = m := by unfold putr; rw [if_pos ⟨rfl, rfl⟩]
theorem putr_j {σ : St} {m : Nat → Int32} {a b : Nat} (h : b ≠ 1) : putr σ m a b = σ a b := by unfold putr; rw [if_neg (fun z => h z.2)]
theorem putr_g {σ : St} {m : Nat → Int32} {a : Nat} (h : a ≠ 20) : putr σ m a = σ a := by funext b; unfold putr; rw [if_neg (fun z => h z.1)]
theorem putr_self (σ : St) : putr σ (σ 20 1) = σ := by
  funext a b
  unfold putr
  by_cases h : a = 20 ∧ b = 1
  · rw [if_pos h, h.1, h.2]
  · rw [if_neg h]
theorem putr_up {σ : St} {m : Nat → Int32} {i : Nat} {v : Int32} : up3 (putr σ m) 20 1 i v = putr σ (setm m i v) := by
  funext a b
  by_cases h : a = 20 ∧ b = 1
  · obtain ⟨rfl, rfl⟩ := h
    rw [up3_row, putr_row, putr_row]
  · rw [up3_ne _ _ h]
    unfold putr
    rw [if_neg h, if_neg h]
theorem putr_putr {σ : St} {m m' : Nat → Int32} : putr (putr σ m) m' = putr σ m' := by
  funext a b
  unfold putr
  by_cases h : a = 20 ∧ b = 1
  · rw [if_pos h, if_pos h]
  · rw [if_neg h, if_neg h, if_neg h]
theorem m_setUnit {σ : St} {m : Nat → Int32} {u w : Nat} {v : Int32} (hu : u < 100) (hw : w < 8) : F_X12_setUnit (nI u) (nI w) v (putr σ m) = some (putr σ (setm m (110 + 8 * u + w) v)) := by
  unfold F_X12_setUnit
  rw [i32_lit, i32_lit, nI_mul', nI_add, nI_add, wro_nI (by omega) (by decide), some_b, putr_up]
theorem m_setCall {σ : St} {m : Nat → Int32} {u w : Nat} {v : Int32} (hu : u < 100) (hw : w < 8) : F_X12_setCall (nI u) (nI w) v (putr σ m) = some (putr σ (setm m (160 + 6 * u + w) v)) := by
  unfold F_X12_setCall
  rw [i32_lit, i32_lit, nI_mul', nI_add, nI_add, wro_nI (by omega) (by decide), some_b, putr_up]
theorem m_wr {σ : St} {m : Nat → Int32} {k : Nat} {v : Int32} (h : k < 1532) : wro (putr σ m) 20 1 1532 (nI k) v = some (putr σ (setm m k v)) := by
  rw [wro_nI h (by decide), putr_up]
/-- the model's table for a row -/
def TabR (σ : St) (m : Nat → Int32) : Prop := ∀ p q, p < cn (m 0) → q < cn (m 0) → σ 20 34 (8 * p + q) = dI (DD m p q)
theorem TabM.r {σ : St} (h : TabM σ) : TabR σ (σ 20 1) := h
def nxP (m : Nat → Int32) (p g k q : Nat) : Prop := DD m p g < 1000000 ∧ ∃ j, j < k ∧ nxK m j p g q
theorem nxP_stay {m : Nat → Int32} {p g k : Nat} (h : DD m p g < 1000000 → ∀ q, ¬ nxK m k p g q) : ∀ q, nxP m p g (k + 1) q ↔ nxP m p g k q := by
  intro q
  constructor
  · rintro ⟨h0, j, hj, hn⟩
    by_cases e : j = k
    · subst e; exact absurd hn (h h0 q)
    · exact ⟨h0, j, by omega, hn⟩
  · rintro ⟨h0, j, hj, hn⟩
    exact ⟨h0, j, by omega, hn⟩
theorem nxP_add {m : Nat → Int32} {p g k q : Nat} (h0 : DD m p g < 1000000) (hn : nxK m k p g q) (hu : ∀ r, arcK m k p r → r = q) : ∀ r, nxP m p g (k + 1) r ↔ (nxP m p g k r ∨ r = q) := by
  intro r
  constructor
  · rintro ⟨h0, j, hj, hr⟩
    by_cases e : j = k
    · subst e; exact Or.inr (hu r hr.1)
    · exact Or.inl ⟨h0, j, by omega, hr⟩
  · rintro (⟨h0, j, hj, hr⟩ | rfl)
    · exact ⟨h0, j, by omega, hr⟩
    · exact ⟨h0, k, by omega, hn⟩
theorem nxP_nx {m : Nat → Int32} {p g : Nat} : nxP m p g (cn (m 1)) = nx m p g := rfl
theorem nxP_0 {m : Nat → Int32} {p g q : Nat} : ¬ nxP m p g 0 q := by
  rintro ⟨-, j, hj, -⟩
  omega
/-- a street at hand: what both loops ask of it -/
theorem nx_try {m : Nat → Int32} (hw : WF m) {k p g : Nat} (hk : k < cn (m 1)) (hp : p < cn (m 0)) (hg : g < cn (m 0)) :
    (¬ (stOpen m k ∧ (m (10 + 5 * k) = nI p ∨ (m (10 + 5 * k + 3) = 0 ∧ m (10 + 5 * k + 1) = nI p))) ∧ ∀ q, ¬ nxK m k p g q) ∨
    ((stOpen m k ∧ (m (10 + 5 * k) = nI p ∨ (m (10 + 5 * k + 3) = 0 ∧ m (10 + 5 * k + 1) = nI p))) ∧ ∃ q, q < cn (m 0) ∧ (if m (10 + 5 * k) = nI p then m (10 + 5 * k + 1) else m (10 + 5 * k)) = nI q ∧
      ((dI (DD m q g) < 0 ∧ (DD m p g < 1000000 → ∀ r, ¬ nxK m k p g r)) ∨
       (¬ dI (DD m q g) < 0 ∧ ¬ m (10 + 5 * k + 2) + dI (DD m q g) = dI (DD m p g) ∧ (DD m p g < 1000000 → ∀ r, ¬ nxK m k p g r)) ∨
       (¬ dI (DD m q g) < 0 ∧ m (10 + 5 * k + 2) + dI (DD m q g) = dI (DD m p g) ∧ 0 < dI (DD m p g) ∧ DD m p g < 1000000 ∧ nxK m k p g q ∧ ∀ r, arcK m k p r → r = q))) := by
  have hP2 := hw.1.1.2
  have b1 := DD_bd hw hp hg
  obtain ⟨s1, s2, s3⟩ := sec_lt hw hk
  rcases goes_arc hw hk (show p < 8 by omega) with ⟨q, ha, hq8, hgo, hq, hu⟩ | ⟨hn, hgo⟩
  · refine Or.inr ⟨hgo, q, (arcK_lt hw hk ha).2.1, hq, ?_⟩
    have b2 := DD_bd hw (arcK_lt hw hk ha).2.1 hg
    by_cases e1 : DD m q g < 1000000
    · have n1 : ¬ dI (DD m q g) < 0 := fun z => (dI_neg b2.1).mp z e1
      by_cases e2 : DD m p g < 1000000
      · rw [dI_fin e1, dI_fin e2, s3, nI_add]
        rw [dI_fin e1] at n1
        by_cases e3 : sec m k + DD m q g = DD m p g
        · exact Or.inr (Or.inr ⟨n1, by rw [e3], nI_lt (a := 0) (by omega) (by omega), e2, ⟨ha, e3⟩, hu⟩)
        · refine Or.inr (Or.inl ⟨n1, fun z => e3 ((nI_eq (by omega) (by omega)).mp z), fun _ r hr => ?_⟩)
          have := hu r hr.1
          subst this
          exact e3 hr.2
      · refine Or.inr (Or.inl ⟨n1, fun z => ?_, fun z => absurd z e2⟩)
        have n2 := (dI_neg b1.1).mpr e2
        rw [← z, dI_fin e1, s3, nI_add] at n2
        exact nI_pos (by omega) n2
    · refine Or.inl ⟨(dI_neg b2.1).mpr e1, fun e2 r hr => ?_⟩
      have := hu r hr.1
      subst this
      have := hr.2
      omega
  · exact Or.inl ⟨hgo, fun q hq => hn q hq.1⟩
theorem m_nextPlace {σ : St} {m : Nat → Int32} {p g : Nat} (hw : WF m) (hm : σ 20 1 = m) (hT : TabR σ m) (hp : p < cn (m 0)) (hg : g < cn (m 0)) : F_X12_nextPlace (nI p) (nI g) σ = some (nxI m p g) := by
  have hS := hw.2.1
  have hS2 := hS.2
  have hP2 := hw.1.1.2
  unfold F_X12_nextPlace
  have key : Ret (iter (fun z => B_X12_nextPlace_5 (nI p) (nI g) z.1 z.2 σ) (-1, nI 0)) (fun r => r = nxI m p g) := by
    refine iter_cnt (f := fun z => B_X12_nextPlace_5 (nI p) (nI g) z.1 z.2 σ) (fun k (a : Int32) => (a, nI k)) (fun k a => lsI (nxP m p g k) a) (cn (m 1)) ?_ ?_ (-1) (Or.inl ⟨rfl, fun q => nxP_0⟩)
    · rintro k a hk hI
      show Ret (B_X12_nextPlace_5 (nI p) (nI g) a (nI k) σ) _
      unfold B_X12_nextPlace_5
      rw [m_rd1, some_b, hm, if_pos ((bd_lt hS (by decide) (by omega)).mpr hk), m_goesFrom (by omega), some_b, nI_1, hm]
      rcases nx_try hw hk hp hg with ⟨h1, h2⟩ | ⟨h1, q, hq, h2, h3⟩
      · rw [if_neg h1, if_pos rfl]
        exact Ret.some ⟨_, rfl, hI.stay (nxP_stay (fun _ => h2))⟩
      · rw [if_pos h1, if_neg (by decide), m_otherEnd (by omega), some_b, hm, h2, show (8 : Int32) = nI 8 from rfl, nI_mul', nI_add, rdo_nI (by omega) (by decide), some_b, hT q g hq hg]
        rcases h3 with ⟨h3, h4⟩ | ⟨h3, h4, h5⟩ | ⟨h3, h4, -, h5, h6, h7⟩
        · rw [if_pos h3]
          exact Ret.some ⟨_, rfl, hI.stay (nxP_stay h4)⟩
        · rw [if_neg h3, m_street2 (by omega), some_b, nI_mul', nI_add, rdo_nI (by omega) (by decide), some_b, hT p g hp hg, hm, if_neg h4]
          exact Ret.some ⟨_, rfl, hI.stay (nxP_stay h5)⟩
        · rw [if_neg h3, m_street2 (by omega), some_b, nI_mul', nI_add, rdo_nI (by omega) (by decide), some_b, hT p g hp hg, hm, if_pos h4]
          obtain ⟨l1, l2⟩ := hI.add (show q < 8 by omega) (nxP_add h5 h6 h7)
          by_cases c1 : a < 0
          · rw [if_pos c1, bindL_inl]
            exact Ret.some ⟨_, rfl, l1 (Or.inl c1)⟩
          · rw [if_neg c1]
            by_cases c2 : nI q < a
            · rw [if_pos c2, bindL_inl]
              exact Ret.some ⟨_, rfl, l1 (Or.inr c2)⟩
            · rw [if_neg c2, bindL_inr]
              exact Ret.some ⟨_, rfl, l2 c1 c2⟩
    · rintro a hI
      show Ret (B_X12_nextPlace_5 (nI p) (nI g) a (nI (cn (m 1))) σ) _
      unfold B_X12_nextPlace_5
      rw [m_rd1, some_b, hm, if_neg (fun z => Nat.lt_irrefl _ ((bd_lt hS (by decide) (by omega)).mp z))]
      exact Ret.some hI.eq
  obtain ⟨z, e, hz⟩ := key
  rw [show ((-1 : Int32), (0 : Int32)) = (-1, nI 0) from rfl, e, some_b, hz]
/-- where a unit goes -/
def tgt (m : Nat → Int32) (u : Nat) : Int32 := if m (110 + 8 * u + 5) = 2 then m (160 + 6 * cn (m (110 + 8 * u + 6))) else m (110 + 8 * u)
theorem tgt_lt {m : Nat → Int32} (hw : WF m) {u : Nat} (hu : u < cn (m 2)) : bd (tgt m u) 7 ∧ cn (tgt m u) < cn (m 0) := by
  obtain ⟨⟨a1, a2⟩, -, -, -, -, -, -, -, hb⟩ := hw.2.2.2.2.2.2.2.2.1 u hu
  unfold tgt
  by_cases e : m (110 + 8 * u + 5) = 2
  · rw [if_pos e]
    exact (hw.2.2.2.2.2.2.2.2.2.2 _ (hb (Or.inl e)).2.1).1
  · rw [if_neg e]
    exact ⟨a1, a2⟩
theorem m_targetOf {σ : St} {m : Nat → Int32} {u : Nat} (hw : WF m) (hm : σ 20 1 = m) (hu : u < cn (m 2)) : F_X12_targetOf (nI u) σ = some (tgt m u) := by
  have hU := hw.2.2.1.2
  obtain ⟨-, -, -, -, -, -, -, -, hb⟩ := hw.2.2.2.2.2.2.2.2.1 u hu
  unfold F_X12_targetOf tgt
  rw [m_unit5 (by omega), some_b, hm]
  by_cases e : m (110 + 8 * u + 5) = 2
  · obtain ⟨h1, h2, -⟩ := hb (Or.inl e)
    have h3 := h1.2
    rw [if_pos e, if_pos e, m_unit6 (by omega), some_b, hm]
    have e2 : F_X12_call (m (110 + 8 * u + 6)) 0 σ = some (m (160 + 6 * cn (m (110 + 8 * u + 6)))) := by
      have := m_call0 (σ := σ) (u := cn (m (110 + 8 * u + 6))) (by omega)
      rw [← h1.1, hm] at this
      exact this
    rw [e2, some_b]
  · rw [if_neg e, if_neg e, m_unit0 (by omega), some_b, hm]
/-- the row behind a step of a unit to g -/
noncomputable def stepR (m : Nat → Int32) (u p g : Nat) : Nat → Int32 := setm (setm m (110 + 8 * u + 2) (nxI m p g)) (110 + 8 * u + 3) (nI (DD m p g - DD m (cn (nxI m p g)) g))
theorem m_takesStep {σ : St} {m : Nat → Int32} {u p g : Nat} (hw : WF m) (hT : TabR σ m) (hu : u < cn (m 2)) (ep : cn (m (110 + 8 * u + 2)) = p) (eg : cn (tgt m u) = g) : F_X12_takesStep (nI u) (putr σ m) = some (if nxI m p g < 0 then (0, putr σ m) else (1, putr σ (stepR m u p g))) := by
  have hU := hw.2.2.1.2
  have hS := hw.2.1
  have hS2 := hS.2
  have hP2 := hw.1.1.2
  obtain ⟨-, -, ⟨p1, p2⟩, -, -, -, -, -, -⟩ := hw.2.2.2.2.2.2.2.2.1 u hu
  obtain ⟨g1, g2⟩ := tgt_lt hw hu
  rw [ep] at p2
  rw [eg] at g2
  have e1 : m (110 + 8 * u + 2) = nI p := by rw [← ep]; exact p1.1
  have e2 : tgt m u = nI g := by rw [← eg]; exact g1.1
  have hm : (putr σ m) 20 1 = m := putr_row
  have hT' : ∀ p q, p < cn (m 0) → q < cn (m 0) → putr σ m 20 34 (8 * p + q) = dI (DD m p q) := fun p q hp hq => by rw [putr_j (by decide)]; exact hT p q hp hq
  unfold F_X12_takesStep
  rw [m_unit2 (by omega), some_b, hm, m_targetOf hw hm hu, some_b, e1, e2, show (8 : Int32) = nI 8 from rfl, nI_mul', nI_add, rdo_nI (by omega) (by decide), some_b, hT' p g p2 g2]
  have key : Ret (iter (fun z => B_X12_takesStep_35 (dI (DD m p g)) (nI g) (nI p) (nI u) z.1 z.2.1 z.2.2 (putr σ m)) (-1, nI 0, nI 0)) (fun r => r.1 = nxI m p g ∧ (r.1 < 0 ∨ r.2 = nI (DD m p g - DD m (cn r.1) g))) := by
    refine iter_cnt (f := fun z => B_X12_takesStep_35 (dI (DD m p g)) (nI g) (nI p) (nI u) z.1 z.2.1 z.2.2 (putr σ m)) (fun k (a : Int32 × Int32) => (a.1, a.2, nI k)) (fun k a => lsI (nxP m p g k) a.1 ∧ (a.1 < 0 ∨ a.2 = nI (DD m p g - DD m (cn a.1) g))) (cn (m 1)) ?_ ?_ (-1, nI 0) ⟨Or.inl ⟨rfl, fun q => nxP_0⟩, Or.inl (show (-1 : Int32) < 0 by decide)⟩
    · rintro k ⟨a, b⟩ hk ⟨hI, hb⟩
      show Ret (B_X12_takesStep_35 (dI (DD m p g)) (nI g) (nI p) (nI u) a b (nI k) (putr σ m)) _
      unfold B_X12_takesStep_35
      rw [m_rd1, some_b, hm, if_pos ((bd_lt hS (by decide) (by omega)).mpr hk), m_goesFrom (by omega), some_b, nI_1, hm]
      rcases nx_try hw hk p2 g2 with ⟨h1, h2⟩ | ⟨h1, q, hq, h2, h3⟩
      · rw [if_neg h1, if_pos rfl]
        exact Ret.some ⟨(a, b), rfl, hI.stay (nxP_stay (fun _ => h2)), hb⟩
      · rw [if_pos h1, if_neg (by decide), m_otherEnd (by omega), some_b, hm, h2, show (8 : Int32) = nI 8 from rfl, nI_mul', nI_add, rdo_nI (by omega) (by decide), some_b, hT' q g hq g2]
        rcases h3 with ⟨h3, h4⟩ | ⟨h3, h4, h5⟩ | ⟨h3, h4, h40, h5, h6, h7⟩
        · rw [if_pos h3]
          by_cases h0 : 0 < dI (DD m p g)
          · rw [if_pos h0, some_b, if_pos rfl]
            exact Ret.some ⟨(a, b), rfl, hI.stay (nxP_stay h4), hb⟩
          · rw [if_neg h0, some_b, if_pos rfl]
            exact Ret.some ⟨(a, b), rfl, hI.stay (nxP_stay h4), hb⟩
        · rw [if_neg h3, m_street2 (by omega), some_b, hm, if_neg h4]
          by_cases h0 : 0 < dI (DD m p g)
          · rw [if_pos h0, some_b, if_pos rfl]
            exact Ret.some ⟨(a, b), rfl, hI.stay (nxP_stay h5), hb⟩
          · rw [if_neg h0, some_b, if_pos rfl]
            exact Ret.some ⟨(a, b), rfl, hI.stay (nxP_stay h5), hb⟩
        · rw [if_neg h3, m_street2 (by omega), some_b, hm, if_pos h4, if_pos h40, some_b, if_neg (by decide)]
          obtain ⟨l1, l2⟩ := hI.add (show q < 8 by omega) (nxP_add h5 h6 h7)
          have hsec : m (10 + 5 * k + 2) = nI (DD m p g - DD m (cn (nI q)) g) := by
            rw [(sec_lt hw hk).2.2, cn_nI (by omega)]
            have := h6.2
            rw [show DD m p g - DD m q g = sec m k by omega]
          by_cases c1 : a < 0
          · rw [if_pos c1, bindL_inl, some_b]
            exact Ret.some ⟨(nI q, _), rfl, l1 (Or.inl c1), Or.inr hsec⟩
          · rw [if_neg c1]
            by_cases c2 : nI q < a
            · rw [if_pos c2, bindL_inl, some_b]
              exact Ret.some ⟨(nI q, _), rfl, l1 (Or.inr c2), Or.inr hsec⟩
            · rw [if_neg c2, bindL_inr]
              exact Ret.some ⟨(a, b), rfl, l2 c1 c2, hb⟩
    · rintro ⟨a, b⟩ ⟨hI, hb⟩
      show Ret (B_X12_takesStep_35 (dI (DD m p g)) (nI g) (nI p) (nI u) a b (nI (cn (m 1))) (putr σ m)) _
      unfold B_X12_takesStep_35
      rw [m_rd1, some_b, hm, if_neg (fun z => Nat.lt_irrefl _ ((bd_lt hS (by decide) (by omega)).mp z))]
      exact Ret.some ⟨hI.eq, hb⟩
  obtain ⟨z, e, hz1, hz2⟩ := key
  rw [show ((-1 : Int32), (0 : Int32), (0 : Int32)) = (-1, nI 0, nI 0) from rfl, e, some_b]
  by_cases hn : nxI m p g < 0
  · rw [hz1, if_pos hn, if_pos hn]
  · rw [hz1, if_neg hn, if_neg hn]
    rw [hz1] at hz2
    rw [show (2 : Int32) = nI 2 from rfl, show (3 : Int32) = nI 3 from rfl, m_setUnit (by omega) (by decide), some_b, m_setUnit (by omega) (by decide), some_b, hz2.resolve_left hn]
    rfl
