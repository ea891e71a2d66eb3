/-! S3: waiting calls, counts, joins -/
set_option maxRecDepth 100000
theorem srvI_cases {m : Nat → Int32} (hw : WF m) (q : Nat) : (∃ u, u < 6 ∧ srv m q u ∧ srvI m q = nI u) ∨ ((∀ u, ¬ srv m q u) ∧ srvI m q = -1) := by
  by_cases h : ∃ u, srv m q u
  · obtain ⟨u, hu⟩ := h
    have := hw.2.2.1.2
    exact Or.inl ⟨u, by have := hu.1; omega, hu, srvI_of hw hu⟩
  · exact Or.inr ⟨fun u hu => h ⟨u, hu⟩, srvI_none (fun u hu => h ⟨u, hu⟩)⟩
theorem m_unitOf {σ : St} {q : Nat} (hw : WF (σ 20 1)) (hq : q < 2147483648) : F_X12_unitOf (nI q) σ = some (srvI (σ 20 1) q) := by
  have hU := hw.2.2.1
  have hU2 := hU.2
  generalize hm : σ 20 1 = m at hw hU hU2
  have key : Ret (iter (fun z => B_X12_unitOf_4 (nI q) z.1 z.2 σ) (-1, nI 0)) (fun r => r = srvI m q) := by
    refine iter_inv (f := fun z => B_X12_unitOf_4 (nI q) z.1 z.2 σ) (fun k a => a.2 = nI k ∧ ((∃ u, u < k ∧ srv m q u ∧ a.1 = nI u) ∨ ((∀ u, u < k → ¬ srv m q u) ∧ a.1 = -1))) _ (cn (m 2)) ?_ ?_ 0 _ (Nat.zero_le _) ⟨rfl, Or.inr ⟨fun u hu => by omega, rfl⟩⟩
    · rintro k ⟨r, a⟩ hk ⟨ea, hI⟩
      have ea : a = nI k := ea
      subst ea
      have hstay : ¬ srv m q k → ((∃ u, u < k + 1 ∧ srv m q u ∧ r = nI u) ∨ ((∀ u, u < k + 1 → ¬ srv m q u) ∧ r = -1)) := by
        intro hn
        rcases hI with ⟨u, h1, h2, h3⟩ | ⟨h1, h2⟩
        · exact Or.inl ⟨u, by omega, h2, h3⟩
        · refine Or.inr ⟨fun u hu hsu => ?_, h2⟩
          by_cases e : u = k
          · subst e; exact hn hsu
          · exact h1 u (by omega) hsu
      show Ret (B_X12_unitOf_4 (nI q) r (nI k) σ) _
      unfold B_X12_unitOf_4
      simp (disch := omega) only [i32_lit, m_rd, m_unit, some_b, in_eq, hm, nI_add]
      rw [if_pos ((bd_lt hU (by decide) (by omega)).mpr hk)]
      obtain ⟨-, -, -, -, -, hst, -⟩ := hw.2.2.2.2.2.2.2.2.1 k hk
      by_cases hb : busy m k
      · have hin : ¬ m (110 + 8 * k + 5) < nI 2 ∧ ¬ nI 3 < m (110 + 8 * k + 5) := by
          rcases hb with e | e <;> rw [e] <;> decide
        rw [if_pos hin, if_neg (by decide)]
        by_cases hs : m (110 + 8 * k + 6) = nI q
        · rw [if_pos hs, some_b]
          exact Ret.some ⟨rfl, Or.inl ⟨k, by omega, ⟨hk, hb, hs⟩, rfl⟩⟩
        · rw [if_neg hs, some_b]
          exact Ret.some ⟨rfl, hstay (fun z => hs z.2.2)⟩
      · have hin : ¬ (¬ m (110 + 8 * k + 5) < nI 2 ∧ ¬ nI 3 < m (110 + 8 * k + 5)) := by
          intro ⟨z1, z2⟩
          rw [bd_gt hst (by decide) (by decide)] at z1
          rw [bd_lt hst (by decide) (by decide)] at z2
          apply hb
          by_cases e : cn (m (110 + 8 * k + 5)) = 2
          · exact Or.inl ((bd_eq (k := 2) hst (by decide) (by decide)).mpr e)
          · exact Or.inr ((bd_eq (k := 3) hst (by decide) (by decide)).mpr (by omega))
        rw [if_neg hin, if_pos (by rfl), some_b]
        exact Ret.some ⟨rfl, hstay (fun z => hb z.2.1)⟩
    · rintro ⟨r, a⟩ ⟨ea, hI⟩
      have ea : a = nI (cn (m 2)) := ea
      subst ea
      refine ⟨r, ?_, ?_⟩
      · show B_X12_unitOf_4 (nI q) r (nI (cn (m 2))) σ = _
        unfold B_X12_unitOf_4
        simp (disch := omega) only [i32_lit, m_rd, some_b, hm]
        rw [if_neg]
        rw [bd_lt hU (by decide) (by omega)]
        omega
      · rcases hI with ⟨u, h1, h2, h3⟩ | ⟨h1, h2⟩
        · exact h3.trans (srvI_of hw h2).symm
        · exact h2.trans (srvI_none (fun u hu => h1 u hu.1 hu)).symm
  unfold F_X12_unitOf
  obtain ⟨z, e, hz⟩ := key
  rw [show ((-1 : Int32), (0 : Int32)) = (-1, nI 0) from rfl, e, some_b, hz]
/-- a waiting call -/
def wtC (m : Nat → Int32) (q : Nat) : Prop := opC m q ∧ ∀ u, ¬ srv m q u
noncomputable def wtI (m : Nat → Int32) (q : Nat) : Int32 := @ite _ (wtC m q) (Classical.propDecidable _) 1 0
theorem wtI_pos {m : Nat → Int32} {q : Nat} (h : wtC m q) : wtI m q = 1 := by unfold wtI; rw [if_pos h]
theorem wtI_neg {m : Nat → Int32} {q : Nat} (h : ¬ wtC m q) : wtI m q = 0 := by unfold wtI; rw [if_neg h]
theorem c_waits {σ : St} {h q : Nat} {m : Nat → Int32} (hw : WF m) (hc : HC (σ h) m) (hq : q < 2147483648) : F_X3_waits h (nI q) σ = some (wtI m q) := by
  unfold F_X3_waits
  rw [c_isOpen hw hc hq, some_b, c_serves hw hc hq, some_b]
  by_cases ho : opC m q
  · rw [if_pos ho, if_neg (by decide)]
    rcases srvI_cases hw q with ⟨u, h1, h2, h3⟩ | ⟨h1, h2⟩
    · rw [h3, if_neg (nI_pos (by omega)), wtI_neg (fun z => z.2 u h2)]
    · rw [h2, if_pos (by decide), wtI_pos ⟨ho, h1⟩]
  · rw [if_neg ho, if_pos rfl, wtI_neg (fun z => ho z.1)]
theorem m_isWaiting {σ : St} {q : Nat} (hw : WF (σ 20 1)) (hq : q < cn (σ 20 1 3)) : F_X12_isWaiting (nI q) σ = some (wtI (σ 20 1) q) := by
  have h3 := hw.2.2.2.1.2
  unfold F_X12_isWaiting
  rw [show (3 : Int32) = nI 3 from rfl, m_call (by omega) (by decide), some_b, m_unitOf hw (by omega), some_b]
  by_cases ho : σ 20 1 (160 + 6 * q + 3) = 1
  · rw [if_pos ho]
    rcases srvI_cases hw q with ⟨u, h1, h2, h3⟩ | ⟨h1, h2⟩
    · rw [h3, if_neg (nI_pos (by omega)), wtI_neg (fun z => z.2 u h2)]
    · rw [h2, if_pos (by decide), wtI_pos ⟨⟨hq, ho⟩, h1⟩]
  · rw [if_neg ho, wtI_neg (fun z => ho z.1.2)]
/-- a unit has a call's skill -/
abbrev hsk (m : Nat → Int32) (u q : Nat) : Prop := ((m (110 + 8 * u + 1) >>> (m (160 + 6 * q + 1) &&& 31)) &&& 1) = 1
theorem c_has {σ : St} {h u q : Nat} {m : Nat → Int32} (hw : WF m) (hc : HC (σ h) m) (hu : u < cn (m 2)) (hq : q < cn (m 3)) : F_X3_has h (nI u) (nI q) σ = some (if hsk m u q then 1 else 0) := by
  have hU := hw.2.2.1.2
  have h3 := hw.2.2.2.1.2
  obtain ⟨-, c16, -⟩ := hc.2.2.1 u hu
  obtain ⟨-, c23, -⟩ := hc.2.2.2 q hq
  unfold F_X3_has
  rw [rdo_nI (by omega) (by decide), some_b, rdo_nI (by omega) (by decide), some_b, c16, c23]
  by_cases e : hsk m u q
  · rw [if_pos e, if_pos e]
  · rw [if_neg e, if_neg e]
theorem m_hasSkill {σ : St} {u q : Nat} (hu : u < 6) (hq : q < 30) : F_X12_hasSkill (nI u) (nI q) σ = some (if hsk (σ 20 1) u q then 1 else 0) := by
  unfold F_X12_hasSkill
  rw [show F_X12_unit (nI u) (1 : Int32) σ = some (σ 20 1 (110 + 8 * u + 1)) from m_unit (w := 1) (by omega) (by decide), some_b, show F_X12_call (nI q) (1 : Int32) σ = some (σ 20 1 (160 + 6 * q + 1)) from m_call (w := 1) (by omega) (by decide), some_b]
  by_cases e : hsk (σ 20 1) u q
  · rw [if_pos e, if_pos e]
  · rw [if_neg e, if_neg e]
/-- sums of zeros and ones -/
def sumI (f : Nat → Int32) : Nat → Int32
  | 0 => 0
  | k + 1 => sumI f k + f k
theorem sumI_congr {f g : Nat → Int32} : ∀ {n : Nat}, (∀ k, k < n → f k = g k) → sumI f n = sumI g n := by
  intro n
  induction n with
  | zero => intro _; rfl
  | succ n ih => intro h; rw [sumI, sumI, ih (fun k hk => h k (by omega)), h n (by omega)]
abbrev opI (m : Nat → Int32) (q : Nat) : Int32 := m (160 + 6 * q + 3)
abbrev frI (m : Nat → Int32) (u : Nat) : Int32 := if frU m u then 1 else 0
theorem m_openCalls {σ : St} (hw : WF (σ 20 1)) : F_X12_openCalls σ = some (sumI (opI (σ 20 1)) (cn (σ 20 1 3))) := by
  have h3 := hw.2.2.2.1
  have h32 := h3.2
  generalize hm : σ 20 1 = m at hw h3 h32
  unfold F_X12_openCalls
  have key := iter_row (f := fun z => B_X12_openCalls_4 z.1 z.2 σ) (fun k => (sumI (opI m) k, nI k)) (cn (m 3)) (sumI (opI m) (cn (m 3))) ?_ ?_ 0 (Nat.zero_le _)
  · rw [show ((0 : Int32), (0 : Int32)) = (sumI (opI m) 0, nI 0) from rfl, key, some_b]
  · intro k hk
    show B_X12_openCalls_4 (sumI (opI m) k) (nI k) σ = _
    unfold B_X12_openCalls_4
    simp (disch := omega) only [i32_lit, m_rd, m_call, some_b, nmo_b, hm, nI_add]
    rw [if_pos ((bd_lt h3 (by decide) (by omega)).mpr hk)]
    rfl
  · show B_X12_openCalls_4 (sumI (opI m) (cn (m 3))) (nI (cn (m 3))) σ = _
    unfold B_X12_openCalls_4
    simp (disch := omega) only [i32_lit, m_rd, some_b, hm]
    rw [if_neg]
    rw [bd_lt h3 (by decide) (by omega)]
    omega
theorem c_many0 {σ : St} {h : Nat} {m : Nat → Int32} (hw : WF m) (hc : HC (σ h) m) : F_X3_many h 0 σ = some (sumI (opI m) (cn (m 3))) := by
  have h3 := hw.2.2.2.1
  have h32 := h3.2
  have hU := hw.2.2.1
  have hU2 := hU.2
  have k1 := iter_row (f := fun z => B_X3_many_4 h 0 z.1 z.2 σ) (fun k => (sumI (opI m) k, nI k)) (cn (m 3)) (sumI (opI m) (cn (m 3))) ?_ ?_ 0 (Nat.zero_le _)
  · unfold F_X3_many
    rw [show ((0 : Int32), (0 : Int32)) = (sumI (opI m) 0, nI 0) from rfl, k1, some_b]
    have k2 : iter (fun z => B_X3_many_56 h 0 z.1 z.2 σ) (sumI (opI m) (cn (m 3)), 0) = some (sumI (opI m) (cn (m 3))) := by
      refine iter_inr ?_
      show B_X3_many_56 h 0 (sumI (opI m) (cn (m 3))) 0 σ = _
      unfold B_X3_many_56
      rw [if_neg (show ¬ (0 : Int32) = 2 by decide)]
      grind
    rw [k2, some_b]
  · intro k hk
    show B_X3_many_4 h 0 (sumI (opI m) k) (nI k) σ = _
    unfold B_X3_many_4
    obtain ⟨-, -, -, ho⟩ := hw.2.2.2.2.2.2.2.2.2.2 k hk
    rw [hc.1.2.2.2.1, if_pos ((bd_lt h3 (by decide) (by omega)).mpr hk), if_pos (by decide), if_pos rfl, c_isOpen hw hc (by omega), some_b]
    have e0 : (if (if opC m k then (1 : Int32) else 0) = 0 then (0 : Int32) else 1) = opI m k := by
      rcases ho with e | e <;> simp [opC, opI, hk, e]
    rw [ite_bind, nmo_b, e0, i32_lit, nI_add]
    rfl
  · show B_X3_many_4 h 0 (sumI (opI m) (cn (m 3))) (nI (cn (m 3))) σ = _
    unfold B_X3_many_4
    rw [hc.1.2.2.2.1, if_neg]
    rw [bd_lt h3 (by decide) (by omega)]
    omega
theorem c_many1 {σ : St} {h : Nat} {m : Nat → Int32} (hw : WF m) (hc : HC (σ h) m) : F_X3_many h 1 σ = some (sumI (wtI m) (cn (m 3))) := by
  have h3 := hw.2.2.2.1
  have h32 := h3.2
  have k1 := iter_row (f := fun z => B_X3_many_4 h 1 z.1 z.2 σ) (fun k => (sumI (wtI m) k, nI k)) (cn (m 3)) (sumI (wtI m) (cn (m 3))) ?_ ?_ 0 (Nat.zero_le _)
  · unfold F_X3_many
    rw [show ((0 : Int32), (0 : Int32)) = (sumI (wtI m) 0, nI 0) from rfl, k1, some_b]
    have k2 : iter (fun z => B_X3_many_56 h 1 z.1 z.2 σ) (sumI (wtI m) (cn (m 3)), 0) = some (sumI (wtI m) (cn (m 3))) := by
      refine iter_inr ?_
      show B_X3_many_56 h 1 (sumI (wtI m) (cn (m 3))) 0 σ = _
      unfold B_X3_many_56
      rw [if_neg (show ¬ (1 : Int32) = 2 by decide)]
      grind
    rw [k2, some_b]
  · intro k hk
    show B_X3_many_4 h 1 (sumI (wtI m) k) (nI k) σ = _
    unfold B_X3_many_4
    rw [hc.1.2.2.2.1, if_pos ((bd_lt h3 (by decide) (by omega)).mpr hk), if_pos (by decide), if_neg (by decide), c_waits hw hc (by omega), some_b]
    have e0 : (if wtI m k = 0 then (0 : Int32) else 1) = wtI m k := by
      by_cases e : wtC m k
      · rw [wtI_pos e]; decide
      · rw [wtI_neg e]; decide
    rw [ite_bind, nmo_b, e0, i32_lit, nI_add]
    rfl
  · show B_X3_many_4 h 1 (sumI (wtI m) (cn (m 3))) (nI (cn (m 3))) σ = _
    unfold B_X3_many_4
    rw [hc.1.2.2.2.1, if_neg]
    rw [bd_lt h3 (by decide) (by omega)]
    omega
theorem frI_01 (m : Nat → Int32) (u : Nat) : (if frI m u = 0 then (0 : Int32) else 1) = frI m u := by
  unfold frI
  by_cases e : frU m u
  · rw [if_pos e]; decide
  · rw [if_neg e]; decide
theorem c_many2 {σ : St} {h : Nat} {m : Nat → Int32} (hw : WF m) (hc : HC (σ h) m) : F_X3_many h 2 σ = some (sumI (frI m) (cn (m 2))) := by
  have hU := hw.2.2.1
  have hU2 := hU.2
  have k1 := iter_row (f := fun z => B_X3_many_56 h 2 z.1 z.2 σ) (fun k => (sumI (frI m) k, nI k)) (cn (m 2)) (sumI (frI m) (cn (m 2))) ?_ ?_ 0 (Nat.zero_le _)
  · unfold F_X3_many
    have k2 : iter (fun z => B_X3_many_4 h 2 z.1 z.2 σ) (0, 0) = some 0 := by
      refine iter_inr ?_
      show B_X3_many_4 h 2 0 0 σ = _
      unfold B_X3_many_4
      rw [if_neg (show ¬ (2 : Int32) < 2 by decide)]
      grind
    rw [k2, some_b, show ((0 : Int32), (0 : Int32)) = (sumI (frI m) 0, nI 0) from rfl, k1, some_b]
  · intro k hk
    show B_X3_many_56 h 2 (sumI (frI m) k) (nI k) σ = _
    unfold B_X3_many_56
    rw [hc.1.2.2.1, if_pos ((bd_lt hU (by decide) (by omega)).mpr hk), if_pos rfl, c_isFree hw hc hk, some_b]
    rw [ite_bind, nmo_b, frI_01, i32_lit, nI_add]
    rfl
  · show B_X3_many_56 h 2 (sumI (frI m) (cn (m 2))) (nI (cn (m 2))) σ = _
    unfold B_X3_many_56
    rw [hc.1.2.2.1, if_neg]
    rw [bd_lt hU (by decide) (by omega)]
    omega
theorem m_state4 {σ : St} (hw : WF (σ 20 1)) : iter (fun z => B_X12_state_9 z.1 z.2 σ) (0, 0) = some (sumI (wtI (σ 20 1)) (cn (σ 20 1 3))) := by
  have h3 := hw.2.2.2.1
  have h32 := h3.2
  refine iter_row (f := fun z => B_X12_state_9 z.1 z.2 σ) (fun k => (sumI (wtI (σ 20 1)) k, nI k)) (cn (σ 20 1 3)) _ ?_ ?_ 0 (Nat.zero_le _)
  · intro k hk
    show B_X12_state_9 (sumI (wtI (σ 20 1)) k) (nI k) σ = _
    unfold B_X12_state_9
    rw [show (3 : Int32) = nI 3 from rfl, m_rd (by decide), some_b, if_pos ((bd_lt h3 (by decide) (by omega)).mpr hk), m_isWaiting hw hk, some_b]
    have e0 : (if wtI (σ 20 1) k = 0 then (0 : Int32) else 1) = wtI (σ 20 1) k := by
      by_cases e : wtC (σ 20 1) k
      · rw [wtI_pos e]; decide
      · rw [wtI_neg e]; decide
    rw [ite_bind, nmo_b, e0, i32_lit, nI_add]
    rfl
  · show B_X12_state_9 _ (nI (cn (σ 20 1 3))) σ = _
    unfold B_X12_state_9
    rw [show (3 : Int32) = nI 3 from rfl, m_rd (by decide), some_b, if_neg]
    rw [bd_lt h3 (by decide) (by omega)]
    omega
theorem m_state5 {σ : St} (hw : WF (σ 20 1)) : iter (fun z => B_X12_state_50 z.1 z.2 σ) (0, 0) = some (sumI (frI (σ 20 1)) (cn (σ 20 1 2))) := by
  have hU := hw.2.2.1
  have hU2 := hU.2
  refine iter_row (f := fun z => B_X12_state_50 z.1 z.2 σ) (fun k => (sumI (frI (σ 20 1)) k, nI k)) (cn (σ 20 1 2)) _ ?_ ?_ 0 (Nat.zero_le _)
  · intro k hk
    show B_X12_state_50 (sumI (frI (σ 20 1)) k) (nI k) σ = _
    unfold B_X12_state_50
    rw [show (2 : Int32) = nI 2 from rfl, m_rd (by decide), some_b, if_pos ((bd_lt hU (by decide) (by omega)).mpr hk), m_isFree (by omega), some_b]
    rw [ite_bind, nmo_b, frI_01, i32_lit, nI_add]
    rfl
  · show B_X12_state_50 _ (nI (cn (σ 20 1 2))) σ = _
    unfold B_X12_state_50
    rw [show (2 : Int32) = nI 2 from rfl, m_rd (by decide), some_b, if_neg]
    rw [bd_lt hU (by decide) (by omega)]
    omega
/-- the first open call at a place that needs a skill -/
def jnC (m : Nat → Int32) (p d : Int32) (q : Nat) : Prop := opC m q ∧ m (160 + 6 * q) = p ∧ m (160 + 6 * q + 1) = d
noncomputable def jnI (m : Nat → Int32) (p d : Int32) : Int32 := @dite _ (∃ q, jnC m p d q ∧ ∀ r, r < q → ¬ jnC m p d r) (Classical.propDecidable _) (fun h => nI (Classical.choose h)) (fun _ => -1)
theorem jnI_of {m : Nat → Int32} {p d : Int32} {q : Nat} (h : jnC m p d q) (hf : ∀ r, r < q → ¬ jnC m p d r) : jnI m p d = nI q := by
  have hx : ∃ q, jnC m p d q ∧ ∀ r, r < q → ¬ jnC m p d r := ⟨q, h, hf⟩
  unfold jnI
  rw [dif_pos hx]
  have hs := Classical.choose_spec hx
  congr 1
  rcases Nat.lt_trichotomy (Classical.choose hx) q with h1 | h1 | h1
  · exact absurd hs.1 (hf _ h1)
  · exact h1
  · exact absurd h (hs.2 q h1)
theorem jnI_none {m : Nat → Int32} {p d : Int32} (h : ∀ q, ¬ jnC m p d q) : jnI m p d = -1 := by
  unfold jnI
  rw [dif_neg (fun ⟨q, hq, _⟩ => h q hq)]
theorem jnI_cases (m : Nat → Int32) (p d : Int32) : (∃ q, jnC m p d q ∧ (∀ r, r < q → ¬ jnC m p d r) ∧ jnI m p d = nI q) ∨ ((∀ q, ¬ jnC m p d q) ∧ jnI m p d = -1) := by
  by_cases h : ∃ q, jnC m p d q
  · obtain ⟨q, h1, h2⟩ := pk_least _ h
    exact Or.inl ⟨q, h1, h2, jnI_of h1 h2⟩
  · exact Or.inr ⟨fun q hq => h ⟨q, hq⟩, jnI_none (fun q hq => h ⟨q, hq⟩)⟩
theorem c_alike {σ : St} {h : Nat} {m : Nat → Int32} {p d : Int32} (hw : WF m) (hc : HC (σ h) m) : F_X3_alike h p d σ = some (jnI m p d) := by
  have h3 := hw.2.2.2.1
  have h32 := h3.2
  have key : Ret (iter (fun z => B_X3_alike_2 h p d z σ) (nI 0)) (SumP (fun _ => ∀ q, ¬ jnC m p d q) (fun r => r = jnI m p d)) := by
    refine iter_inv (f := fun z => B_X3_alike_2 h p d z σ) (fun k a => a = nI k ∧ ∀ q, q < k → ¬ jnC m p d q) _ (cn (m 3)) ?_ ?_ 0 (nI 0) (Nat.zero_le _) ⟨rfl, fun u hu => by omega⟩
    · rintro k a hk ⟨rfl, hI⟩
      obtain ⟨c22, c23, -⟩ := hc.2.2.2 k hk
      show Ret (B_X3_alike_2 h p d (nI k) σ) _
      unfold B_X3_alike_2
      rw [hc.1.2.2.2.1, if_pos ((bd_lt h3 (by decide) (by omega)).mpr hk), c_isOpen hw hc (by omega), some_b]
      simp (disch := omega) only [rdo_nI, some_b, c22, c23]
      by_cases hj : jnC m p d k
      · rw [if_pos hj.1, if_neg (by decide), if_pos hj.2.1, if_pos hj.2.2]
        exact Ret.some (show nI k = jnI m p d from (jnI_of hj hI).symm)
      · have hI2 : nI k + 1 = nI (k + 1) ∧ ∀ u, u < k + 1 → ¬ jnC m p d u := by
          refine ⟨nI_1 k, fun u hu hsu => ?_⟩
          by_cases e : u = k
          · subst e; exact hj hsu
          · exact hI u (by omega) hsu
        by_cases h1 : opC m k
        · rw [if_pos h1, if_neg (by decide)]
          by_cases h2 : m (160 + 6 * k) = p
          · rw [if_pos h2, if_neg (fun z => hj ⟨h1, h2, z⟩)]
            exact Ret.some hI2
          · rw [if_neg h2]
            exact Ret.some hI2
        · rw [if_neg h1, if_pos rfl]
          exact Ret.some hI2
    · rintro a ⟨rfl, hI⟩
      refine ⟨.inl (), ?_, fun u hu => hI u hu.1.1 hu⟩
      show B_X3_alike_2 h p d (nI (cn (m 3))) σ = _
      unfold B_X3_alike_2
      rw [hc.1.2.2.2.1, if_neg]
      rw [bd_lt h3 (by decide) (by omega)]
      omega
  unfold F_X3_alike
  obtain ⟨z, e, hz⟩ := key
  rw [show (0 : Int32) = nI 0 from rfl, e]
  cases z with
  | inl _ => rw [bindL_inl, jnI_none hz]
  | inr r => rw [bindL_inr, hz]
theorem m_joins {σ : St} {p d : Int32} (hw : WF (σ 20 1)) : F_X12_joins p d σ = some (jnI (σ 20 1) p d) := by
  have h3 := hw.2.2.2.1
  have h32 := h3.2
  generalize hm : σ 20 1 = m at hw h3 h32
  have key : Ret (iter (fun z => B_X12_joins_2 p d z σ) (nI 0)) (SumP (fun _ => ∀ q, ¬ jnC m p d q) (fun r => r = jnI m p d)) := by
    refine iter_inv (f := fun z => B_X12_joins_2 p d z σ) (fun k a => a = nI k ∧ ∀ q, q < k → ¬ jnC m p d q) _ (cn (m 3)) ?_ ?_ 0 (nI 0) (Nat.zero_le _) ⟨rfl, fun u hu => by omega⟩
    · rintro k a hk ⟨rfl, hI⟩
      show Ret (B_X12_joins_2 p d (nI k) σ) _
      unfold B_X12_joins_2
      simp (disch := omega) only [m_rd0, m_rd1, m_rd2, m_rd3, m_rd4, m_rd5, m_rd6, m_rd7, m_rd8, m_unit0, m_unit1, m_unit2, m_unit3, m_unit4, m_unit5, m_unit6, m_street0, m_street1, m_street2, m_street3, m_street4, m_call0, m_call1, m_call2, m_call3, m_call4, m_call5, some_b, hm, nI_1]
      rw [if_pos ((bd_lt h3 (by decide) (by omega)).mpr hk)]
      by_cases hj : jnC m p d k
      · rw [if_pos hj.1.2, if_pos hj.2.1, if_pos hj.2.2]
        exact Ret.some (show nI k = jnI m p d from (jnI_of hj hI).symm)
      · have hI2 : nI (k + 1) = nI (k + 1) ∧ ∀ u, u < k + 1 → ¬ jnC m p d u := by
          refine ⟨rfl, fun u hu hsu => ?_⟩
          by_cases e : u = k
          · subst e; exact hj hsu
          · exact hI u (by omega) hsu
        by_cases h1 : m (160 + 6 * k + 3) = 1
        · rw [if_pos h1]
          by_cases h2 : m (160 + 6 * k) = p
          · rw [if_pos h2, if_neg (fun z => hj ⟨⟨hk, h1⟩, h2, z⟩)]
            exact Ret.some hI2
          · rw [if_neg h2]
            exact Ret.some hI2
        · rw [if_neg h1]
          exact Ret.some hI2
    · rintro a ⟨rfl, hI⟩
      refine ⟨.inl (), ?_, fun u hu => hI u hu.1.1 hu⟩
      show B_X12_joins_2 p d (nI (cn (m 3))) σ = _
      unfold B_X12_joins_2
      simp (disch := omega) only [i32_lit, m_rd, some_b, hm]
      rw [if_neg]
      rw [bd_lt h3 (by decide) (by omega)]
      omega
  unfold F_X12_joins
  obtain ⟨z, e, hz⟩ := key
  rw [show (0 : Int32) = nI 0 from rfl, e]
  cases z with
  | inl _ => rw [bindL_inl, jnI_none hz]
  | inr r => rw [bindL_inr, hz]
