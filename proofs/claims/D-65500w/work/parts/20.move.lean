/-! S5: the next place on a way -/
set_option maxRecDepth 100000
theorem ltF {n : Nat} (h : n < 1000000) : nI n < (1000000 : Int32) := nI_lt (b := 1000000) h (by decide)
theorem nltF {n : Nat} (h : 1000000 ≤ n) (h2 : n < 2147483648) : ¬ nI n < (1000000 : Int32) := nI_nlt (b := 1000000) h h2
/-- a loop with a counter and something else -/
theorem iter_cnt {α β A : Type} {f : α → Option (α ⊕ β)} (mk : Nat → A → α) (I : Nat → A → Prop) {Q : β → Prop} (n : Nat) (hs : ∀ k a, k < n → I k a → Ret (f (mk k a)) (SumP (fun z => ∃ b, z = mk (k + 1) b ∧ I (k + 1) b) Q)) (he : ∀ a, I n a → Ret (f (mk n a)) (SumP (fun _ => False) Q)) : ∀ a, I 0 a → Ret (iter f (mk 0 a)) Q := by
  intro a ha
  refine iter_inv (f := f) (fun k z => ∃ b, z = mk k b ∧ I k b) Q n ?_ ?_ 0 _ (Nat.zero_le _) ⟨a, rfl, ha⟩
  · rintro k z hk ⟨b, rfl, hb⟩
    exact hs k b hk hb
  · rintro z ⟨b, rfl, hb⟩
    obtain ⟨y, ey, hy⟩ := he b hb
    cases y with
    | inl w => exact absurd hy (fun z => z)
    | inr w => exact ⟨w, ey, hy⟩
noncomputable def leastI (P : Nat → Prop) : Int32 := @dite _ (∃ q, P q ∧ ∀ r, r < q → ¬ P r) (Classical.propDecidable _) (fun h => nI (Classical.choose h)) (fun _ => -1)
theorem leastI_of {P : Nat → Prop} {q : Nat} (h : P q) (hl : ∀ r, r < q → ¬ P r) : leastI P = nI q := by
  have hx : ∃ q, P q ∧ ∀ r, r < q → ¬ P r := ⟨q, h, hl⟩
  unfold leastI
  rw [dif_pos hx]
  obtain ⟨h1, h2⟩ := Classical.choose_spec hx
  rcases Nat.lt_trichotomy (Classical.choose hx) q with h3 | h3 | h3
  · exact absurd h1 (hl _ h3)
  · rw [h3]
  · exact absurd h (h2 q h3)
theorem leastI_none {P : Nat → Prop} (h : ∀ q, ¬ P q) : leastI P = -1 := by
  unfold leastI
  rw [dif_neg (fun ⟨q, hq, _⟩ => h q hq)]
theorem least_ex {P : Nat → Prop} : ∀ n, (∃ q, q < n ∧ P q) → ∃ q, P q ∧ ∀ r, r < q → ¬ P r := by
  intro n
  induction n with
  | zero => rintro ⟨q, h, -⟩; omega
  | succ n ih =>
    rintro ⟨q, h, hq⟩
    by_cases e : ∃ r, r < n ∧ P r
    · exact ih e
    · refine ⟨q, hq, fun r hr hp => e ⟨r, by omega, hp⟩⟩
theorem leastI_cases (P : Nat → Prop) : (∃ q, P q ∧ (∀ r, r < q → ¬ P r) ∧ leastI P = nI q) ∨ ((∀ q, ¬ P q) ∧ leastI P = -1) := by
  by_cases h : ∃ q, P q
  · obtain ⟨q, hq⟩ := h
    obtain ⟨r, h1, h2⟩ := least_ex (q + 1) ⟨q, by omega, hq⟩
    exact Or.inl ⟨r, h1, h2, leastI_of h1 h2⟩
  · exact Or.inr ⟨fun q hq => h ⟨q, hq⟩, leastI_none (fun q hq => h ⟨q, hq⟩)⟩
/-- q is a next place from p on the way to g, by street k -/
def nxK (m : Nat → Int32) (k p g q : Nat) : Prop := arcK m k p q ∧ sec m k + DD m q g = DD m p g
def nx (m : Nat → Int32) (p g q : Nat) : Prop := DD m p g < 1000000 ∧ ∃ k, k < cn (m 1) ∧ nxK m k p g q
theorem nx_lt {m : Nat → Int32} (hw : WF m) {p g q : Nat} (h : nx m p g q) : q < cn (m 0) := by
  obtain ⟨-, k, hk, ha, -⟩ := h
  exact (arcK_lt hw hk ha).2.1
noncomputable def nxI (m : Nat → Int32) (p g : Nat) : Int32 := leastI (nx m p g)
theorem lp_np30 {h p g q : Nat} {m : Nat → Int32} (hw : WF m) (hp : p < cn (m 0)) (hg : g < cn (m 0)) (hq : q < cn (m 0)) : ∀ τ : St, HC (τ h) m → KnC (τ h) m → Ret (iter (fun z => B_X3_nextPlace_30 h (nI (DD m p g)) (nI p) (nI g) (nI q) z.1 z.2) (nI 0, τ)) (SumP (fun υ => (FrK τ υ h ∧ KnC (υ h) m) ∧ ∀ k, k < cn (m 1) → ¬ nxK m k p g q) (SumP (fun _ => False) (SumP (fun _ => False) (fun r => r.1 = nI q ∧ (FrK τ r.2 h ∧ KnC (r.2 h) m) ∧ ∃ k, k < cn (m 1) ∧ nxK m k p g q)))) := by
  intro τ hc hK
  have hS := hw.2.1
  have hS2 := hS.2
  have hP2 := hw.1.1.2
  have bq := (DD_bd hw hq hg).1
  have bp := (DD_bd hw hp hg).1
  refine iter_cnt (f := fun z => B_X3_nextPlace_30 h (nI (DD m p g)) (nI p) (nI g) (nI q) z.1 z.2) (fun k (υ : St) => (nI k, υ)) (fun k υ => (FrK τ υ h ∧ KnC (υ h) m) ∧ ∀ j, j < k → ¬ nxK m j p g q) (cn (m 1)) ?_ ?_ τ ⟨⟨FrK.rf _ _, hK⟩, fun j hj => by omega⟩
  · rintro k υ hk ⟨⟨hF, hK2⟩, hI⟩
    have hc2 := hc.frK hF
    obtain ⟨s1, s2, s3⟩ := sec_lt hw hk
    show Ret (B_X3_nextPlace_30 h (nI (DD m p g)) (nI p) (nI g) (nI q) (nI k) υ) _
    unfold B_X3_nextPlace_30
    rw [hc2.1.2.1, if_pos ((bd_lt hS (by decide) (by omega)).mpr hk), c_leads hw hc2 hk (by omega) (by omega), some_b, nI_1]
    by_cases ha : arcK m k p q
    · have e1 : ldN m k p q = sec m k := by unfold ldN; rw [if_pos ha]
      rw [e1, if_pos (ltF (n := sec m k) (by omega)), rdo_nI (by omega) (by decide), some_b, (hc2.2.1 k hk).2.2.1, s3]
      refine Ret.bind (c_far hw hc2 hK2 hq hg) (fun r hr => ?_)
      obtain ⟨e2, hF2, hK3, -⟩ := hr
      rw [e2, nI_add]
      by_cases e : sec m k + DD m q g = DD m p g
      · rw [e, if_pos rfl]
        exact Ret.some ⟨rfl, ⟨hF.tr hF2, hK3⟩, k, hk, ha, e⟩
      · rw [if_neg (fun z => e ((nI_eq (by omega) (by omega)).mp z))]
        refine Ret.some ⟨_, rfl, ⟨hF.tr hF2, hK3⟩, fun j hj hn => ?_⟩
        by_cases ej : j = k
        · subst ej; exact e hn.2
        · exact hI j (by omega) hn
    · have e1 : ldN m k p q = 1000000 := by unfold ldN; rw [if_neg ha]
      rw [e1, if_neg (nltF (n := 1000000) (by decide) (by decide))]
      refine Ret.some ⟨_, rfl, ⟨hF, hK2⟩, fun j hj hn => ?_⟩
      by_cases ej : j = k
      · subst ej; exact ha hn.1
      · exact hI j (by omega) hn
  · rintro υ ⟨⟨hF, hK2⟩, hI⟩
    show Ret (B_X3_nextPlace_30 h (nI (DD m p g)) (nI p) (nI g) (nI q) (nI (cn (m 1))) υ) _
    unfold B_X3_nextPlace_30
    rw [(hc.frK hF).1.2.1, if_neg (fun z => Nat.lt_irrefl _ ((bd_lt hS (by decide) (by omega)).mp z))]
    exact Ret.some ⟨⟨hF, hK2⟩, hI⟩
theorem c_nextPlace {σ : St} {h p g : Nat} {m : Nat → Int32} (hw : WF m) (hc : HC (σ h) m) (hk : KnC (σ h) m) (hp : p < cn (m 0)) (hg : g < cn (m 0)) : Ret (F_X3_nextPlace h (nI p) (nI g) σ) (fun r => r.1 = nxI m p g ∧ FrK σ r.2 h ∧ KnC (r.2 h) m) := by
  have hP := hw.1.1
  have hP2 := hP.2
  have bp := (DD_bd hw hp hg).1
  unfold F_X3_nextPlace
  refine Ret.bind (c_far hw hc hk hp hg) (fun r hr => ?_)
  obtain ⟨e1, hF, hK, -⟩ := hr
  rw [e1]
  by_cases hd : DD m p g < 1000000
  · rw [if_pos (ltF hd)]
    have key : Ret (iter (fun z => B_X3_nextPlace_18 h (nI (DD m p g)) (nI p) (nI g) z.1 z.2) (nI 0, r.2)) (SumP (fun υ => (FrK σ υ h ∧ KnC (υ h) m) ∧ nxI m p g = -1) (fun z => z.1 = nxI m p g ∧ FrK σ z.2 h ∧ KnC (z.2 h) m)) := by
      refine iter_cnt (f := fun z => B_X3_nextPlace_18 h (nI (DD m p g)) (nI p) (nI g) z.1 z.2) (fun k (υ : St) => (nI k, υ)) (fun q υ => (FrK σ υ h ∧ KnC (υ h) m) ∧ ∀ j, j < q → ¬ nx m p g j) (cn (m 0)) ?_ ?_ r.2 ⟨⟨hF, hK⟩, fun j hj => by omega⟩
      · rintro q υ hq ⟨⟨hF1, hK1⟩, hI⟩
        have hc1 := hc.frK hF1
        show Ret (B_X3_nextPlace_18 h (nI (DD m p g)) (nI p) (nI g) (nI q) υ) _
        unfold B_X3_nextPlace_18
        rw [hc1.1.1, if_pos ((bd_lt hP (by decide) (by omega)).mpr hq), nI_1]
        obtain ⟨z, ez, hz⟩ := lp_np30 hw hp hg hq υ hc1 hK1
        rw [show ((0 : Int32), υ) = (nI 0, υ) from rfl, ez]
        rcases z with w | w | w | w
        · obtain ⟨⟨hF2, hK2⟩, hn⟩ := hz
          refine Ret.some ⟨_, rfl, ⟨hF1.tr hF2, hK2⟩, fun j hj hx => ?_⟩
          by_cases ej : j = q
          · subst ej
            obtain ⟨-, k, hk1, hk2⟩ := hx
            exact hn k hk1 hk2
          · exact hI j (by omega) hx
        · exact absurd hz (fun z => z)
        · exact absurd hz (fun z => z)
        · obtain ⟨e3, ⟨hF2, hK2⟩, hx⟩ := hz
          exact Ret.some ⟨e3.trans (leastI_of (P := nx m p g) ⟨hd, hx⟩ hI).symm, hF1.tr hF2, hK2⟩
      · rintro υ ⟨⟨hF1, hK1⟩, hI⟩
        show Ret (B_X3_nextPlace_18 h (nI (DD m p g)) (nI p) (nI g) (nI (cn (m 0))) υ) _
        unfold B_X3_nextPlace_18
        rw [(hc.frK hF1).1.1, if_neg (fun z => Nat.lt_irrefl _ ((bd_lt hP (by decide) (by omega)).mp z))]
        exact Ret.some ⟨⟨hF1, hK1⟩, leastI_none (fun q hq => hI q (nx_lt hw hq) hq)⟩
    obtain ⟨z, ez, hz⟩ := key
    rw [show ((0 : Int32), r.2) = (nI 0, r.2) from rfl, ez]
    rcases z with w | w
    · exact Ret.some ⟨hz.2.symm, hz.1⟩
    · exact Ret.some hz
  · rw [if_neg (nltF (n := DD m p g) (by omega) (by omega))]
    exact Ret.some ⟨(leastI_none (P := nx m p g) (fun q hq => hd hq.1)).symm, hF, hK⟩
/-- the model's other end of a street -/
theorem m_otherEnd {σ : St} {k : Nat} {y : Int32} (hk : k < 20) : F_X12_otherEnd (nI k) y σ = some (if σ 20 1 (10 + 5 * k) = y then σ 20 1 (10 + 5 * k + 1) else σ 20 1 (10 + 5 * k)) := by
  unfold F_X12_otherEnd
  rw [m_street0 (by omega), some_b]
  by_cases e : σ 20 1 (10 + 5 * k) = y
  · rw [if_pos e, if_pos e, m_street1 (by omega), some_b]
  · rw [if_neg e, if_neg e, some_b]
/-- a street that goes from p: to q -/
theorem goes_arc {m : Nat → Int32} (hw : WF m) {k p : Nat} (hk : k < cn (m 1)) (hp : p < 8) : (∃ q, arcK m k p q ∧ q < 8 ∧ (stOpen m k ∧ (m (10 + 5 * k) = nI p ∨ (m (10 + 5 * k + 3) = 0 ∧ m (10 + 5 * k + 1) = nI p))) ∧ (if m (10 + 5 * k) = nI p then m (10 + 5 * k + 1) else m (10 + 5 * k)) = nI q ∧ ∀ r, arcK m k p r → r = q) ∨ ((∀ q, ¬ arcK m k p q) ∧ ¬ (stOpen m k ∧ (m (10 + 5 * k) = nI p ∨ (m (10 + 5 * k + 3) = 0 ∧ m (10 + 5 * k + 1) = nI p)))) := by
  obtain ⟨⟨f1, f2⟩, ⟨t1, t2⟩, hne, -, hln, -⟩ := hw.2.2.2.2.2.2.2.1 k hk
  have f3 := f1.2
  have t3 := t1.2
  have bf := bd_eq (k := p) f1 (by decide) (by omega)
  have bt := bd_eq (k := p) t1 (by decide) (by omega)
  have hne2 : cn (m (10 + 5 * k)) ≠ cn (m (10 + 5 * k + 1)) := fun e => hne (by rw [f1.1, t1.1, e])
  by_cases ho : stOpen m k
  · by_cases h1 : m (10 + 5 * k) = nI p
    · have h2 := bf.mp h1
      refine Or.inl ⟨cn (m (10 + 5 * k + 1)), ⟨ho, Or.inl ⟨h2, rfl⟩⟩, by omega, ⟨ho, Or.inl h1⟩, by rw [if_pos h1]; exact t1.1, fun r hr => ?_⟩
      rcases hr.2 with ⟨-, e⟩ | ⟨-, e, e2⟩
      · exact e.symm
      · omega
    · by_cases h2 : m (10 + 5 * k + 3) = 0 ∧ m (10 + 5 * k + 1) = nI p
      · have h3 := bt.mp h2.2
        refine Or.inl ⟨cn (m (10 + 5 * k)), ⟨ho, Or.inr ⟨h2.1, rfl, h3⟩⟩, by omega, ⟨ho, Or.inr h2⟩, by rw [if_neg h1]; exact f1.1, fun r hr => ?_⟩
        rcases hr.2 with ⟨e, -⟩ | ⟨-, e, -⟩
        · exact absurd (bf.mpr e) h1
        · exact e.symm
      · refine Or.inr ⟨fun q hq => ?_, fun z => ?_⟩
        · rcases hq.2 with ⟨e, -⟩ | ⟨e0, -, e⟩
          · exact h1 (bf.mpr e)
          · exact h2 ⟨e0, bt.mpr e⟩
        · rcases z.2 with z | z
          · exact h1 z
          · exact h2 z
  · exact Or.inr ⟨fun q hq => ho hq.1, fun z => ho z.1⟩
/-- the least so far -/
def lsI (P : Nat → Prop) (x : Int32) : Prop := (x = -1 ∧ ∀ q, ¬ P q) ∨ ∃ q, q < 8 ∧ x = nI q ∧ P q ∧ ∀ r, r < q → ¬ P r
theorem lsI.eq {P : Nat → Prop} {x : Int32} (h : lsI P x) : x = leastI P := by
  rcases h with ⟨e, h⟩ | ⟨q, -, e, h1, h2⟩
  · rw [e, leastI_none h]
  · rw [e, leastI_of h1 h2]
theorem lsI.stay {P Q : Nat → Prop} {x : Int32} (h : lsI P x) (hpq : ∀ q, Q q ↔ P q) : lsI Q x := by
  rcases h with ⟨e, h⟩ | ⟨q, h0, e, h1, h2⟩
  · exact Or.inl ⟨e, fun q hq => h q ((hpq q).mp hq)⟩
  · exact Or.inr ⟨q, h0, e, (hpq q).mpr h1, fun r hr hq => h2 r hr ((hpq r).mp hq)⟩
/-- another one comes: it is less, or not -/
theorem lsI.add {P Q : Nat → Prop} {x : Int32} {q : Nat} (h : lsI P x) (hq : q < 8) (hpq : ∀ r, Q r ↔ (P r ∨ r = q)) : ((x < 0 ∨ nI q < x) → lsI Q (nI q)) ∧ (¬ x < 0 → ¬ nI q < x → lsI Q x) := by
  rcases h with ⟨rfl, h⟩ | ⟨r, h0, rfl, h1, h2⟩
  · refine ⟨fun _ => Or.inr ⟨q, hq, rfl, (hpq q).mpr (Or.inr rfl), fun r hr hz => ?_⟩, fun z => absurd (by decide) z⟩
    rcases (hpq r).mp hz with z | z
    · exact h r z
    · omega
  · have hlt : nI q < nI r ↔ q < r := nI_ltI (by omega) (by omega)
    constructor
    · rintro (z | z)
      · exact absurd z (nI_pos (by omega))
      · have z := hlt.mp z
        refine Or.inr ⟨q, hq, rfl, (hpq q).mpr (Or.inr rfl), fun s hs hz => ?_⟩
        rcases (hpq s).mp hz with y | y
        · exact h2 s (by omega) y
        · omega
    · intro _ z
      refine Or.inr ⟨r, h0, rfl, (hpq r).mpr (Or.inl h1), fun s hs hz => ?_⟩
      rcases (hpq s).mp hz with y | y
      · exact h2 s hs y
      · subst y; exact z (hlt.mpr hs)
