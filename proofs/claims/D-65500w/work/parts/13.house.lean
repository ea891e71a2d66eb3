/-! S3: the house: the model's row of numbers m is what both are held to -/
set_option maxRecDepth 100000
theorem nI_mul' (a b : Nat) : nI a * nI b = nI (a * b) := pk_mul a b
/-- the model's reads -/
theorem m_rd {σ : St} {k : Nat} (h : k < 1532) : rdo σ 20 1 1532 (nI k) = some (σ 20 1 k) := rdo_nI h (by decide)
theorem m_unit {σ : St} {u w : Nat} (hu : u < 100) (hw : w < 8) : F_X12_unit (nI u) (nI w) σ = some (σ 20 1 (110 + 8 * u + w)) := by
  unfold F_X12_unit
  rw [i32_lit, i32_lit, nI_mul', nI_add, nI_add, m_rd (by omega), some_b]
theorem m_street {σ : St} {u w : Nat} (hu : u < 100) (hw : w < 8) : F_X12_street (nI u) (nI w) σ = some (σ 20 1 (10 + 5 * u + w)) := by
  unfold F_X12_street
  rw [i32_lit, i32_lit, nI_mul', nI_add, nI_add, m_rd (by omega), some_b]
theorem m_call {σ : St} {u w : Nat} (hu : u < 100) (hw : w < 8) : F_X12_call (nI u) (nI w) σ = some (σ 20 1 (160 + 6 * u + w)) := by
  unfold F_X12_call
  rw [i32_lit, i32_lit, nI_mul', nI_add, nI_add, m_rd (by omega), some_b]
theorem m_rd0 {σ : St} : rdo σ 20 1 1532 0 = some (σ 20 1 0) := m_rd (k := 0) (by decide)
theorem m_rd1 {σ : St} : rdo σ 20 1 1532 1 = some (σ 20 1 1) := m_rd (k := 1) (by decide)
theorem m_rd2 {σ : St} : rdo σ 20 1 1532 2 = some (σ 20 1 2) := m_rd (k := 2) (by decide)
theorem m_rd3 {σ : St} : rdo σ 20 1 1532 3 = some (σ 20 1 3) := m_rd (k := 3) (by decide)
theorem m_rd4 {σ : St} : rdo σ 20 1 1532 4 = some (σ 20 1 4) := m_rd (k := 4) (by decide)
theorem m_rd5 {σ : St} : rdo σ 20 1 1532 5 = some (σ 20 1 5) := m_rd (k := 5) (by decide)
theorem m_rd6 {σ : St} : rdo σ 20 1 1532 6 = some (σ 20 1 6) := m_rd (k := 6) (by decide)
theorem m_rd7 {σ : St} : rdo σ 20 1 1532 7 = some (σ 20 1 7) := m_rd (k := 7) (by decide)
theorem m_rd8 {σ : St} : rdo σ 20 1 1532 8 = some (σ 20 1 8) := m_rd (k := 8) (by decide)
theorem m_unit0 {σ : St} {u : Nat} (hu : u < 100) : F_X12_unit (nI u) 0 σ = some (σ 20 1 (110 + 8 * u)) := m_unit (w := 0) hu (by decide)
theorem m_unit1 {σ : St} {u : Nat} (hu : u < 100) : F_X12_unit (nI u) 1 σ = some (σ 20 1 (110 + 8 * u + 1)) := m_unit (w := 1) hu (by decide)
theorem m_unit2 {σ : St} {u : Nat} (hu : u < 100) : F_X12_unit (nI u) 2 σ = some (σ 20 1 (110 + 8 * u + 2)) := m_unit (w := 2) hu (by decide)
theorem m_unit3 {σ : St} {u : Nat} (hu : u < 100) : F_X12_unit (nI u) 3 σ = some (σ 20 1 (110 + 8 * u + 3)) := m_unit (w := 3) hu (by decide)
theorem m_unit4 {σ : St} {u : Nat} (hu : u < 100) : F_X12_unit (nI u) 4 σ = some (σ 20 1 (110 + 8 * u + 4)) := m_unit (w := 4) hu (by decide)
theorem m_unit5 {σ : St} {u : Nat} (hu : u < 100) : F_X12_unit (nI u) 5 σ = some (σ 20 1 (110 + 8 * u + 5)) := m_unit (w := 5) hu (by decide)
theorem m_unit6 {σ : St} {u : Nat} (hu : u < 100) : F_X12_unit (nI u) 6 σ = some (σ 20 1 (110 + 8 * u + 6)) := m_unit (w := 6) hu (by decide)
theorem m_street0 {σ : St} {u : Nat} (hu : u < 100) : F_X12_street (nI u) 0 σ = some (σ 20 1 (10 + 5 * u)) := m_street (w := 0) hu (by decide)
theorem m_street1 {σ : St} {u : Nat} (hu : u < 100) : F_X12_street (nI u) 1 σ = some (σ 20 1 (10 + 5 * u + 1)) := m_street (w := 1) hu (by decide)
theorem m_street2 {σ : St} {u : Nat} (hu : u < 100) : F_X12_street (nI u) 2 σ = some (σ 20 1 (10 + 5 * u + 2)) := m_street (w := 2) hu (by decide)
theorem m_street3 {σ : St} {u : Nat} (hu : u < 100) : F_X12_street (nI u) 3 σ = some (σ 20 1 (10 + 5 * u + 3)) := m_street (w := 3) hu (by decide)
theorem m_street4 {σ : St} {u : Nat} (hu : u < 100) : F_X12_street (nI u) 4 σ = some (σ 20 1 (10 + 5 * u + 4)) := m_street (w := 4) hu (by decide)
theorem m_call0 {σ : St} {u : Nat} (hu : u < 100) : F_X12_call (nI u) 0 σ = some (σ 20 1 (160 + 6 * u)) := m_call (w := 0) hu (by decide)
theorem m_call1 {σ : St} {u : Nat} (hu : u < 100) : F_X12_call (nI u) 1 σ = some (σ 20 1 (160 + 6 * u + 1)) := m_call (w := 1) hu (by decide)
theorem m_call2 {σ : St} {u : Nat} (hu : u < 100) : F_X12_call (nI u) 2 σ = some (σ 20 1 (160 + 6 * u + 2)) := m_call (w := 2) hu (by decide)
theorem m_call3 {σ : St} {u : Nat} (hu : u < 100) : F_X12_call (nI u) 3 σ = some (σ 20 1 (160 + 6 * u + 3)) := m_call (w := 3) hu (by decide)
theorem m_call4 {σ : St} {u : Nat} (hu : u < 100) : F_X12_call (nI u) 4 σ = some (σ 20 1 (160 + 6 * u + 4)) := m_call (w := 4) hu (by decide)
theorem m_call5 {σ : St} {u : Nat} (hu : u < 100) : F_X12_call (nI u) 5 σ = some (σ 20 1 (160 + 6 * u + 5)) := m_call (w := 5) hu (by decide)
abbrev hrs (m : Nat → Int32) : Int32 := m 4 / 3600 - m 4 / 3600 / 24 * 24
abbrev inHours (m : Nat → Int32) (k : Nat) : Prop := m (340 + 2 * k) = m (340 + 2 * k + 1) ∨ (m (340 + 2 * k) < m (340 + 2 * k + 1) ∧ ¬ hrs m < m (340 + 2 * k) ∧ hrs m < m (340 + 2 * k + 1)) ∨ (¬ m (340 + 2 * k) < m (340 + 2 * k + 1) ∧ (¬ hrs m < m (340 + 2 * k) ∨ hrs m < m (340 + 2 * k + 1)))
/-- a street is open now -/
abbrev stOpen (m : Nat → Int32) (k : Nat) : Prop := m (10 + 5 * k + 4) = 1 ∧ inHours m k
theorem m_isOpenNow {σ : St} {k : Nat} (hk : k < 20) : F_X12_isOpenNow (nI k) σ = some (if stOpen (σ 20 1) k then 1 else 0) := by
  unfold F_X12_isOpenNow
  generalize e : σ 20 1 = m
  simp (disch := omega) only [i32_lit, nI_mul', nI_add, m_rd, m_street, some_b, nmo_b, e]
  unfold stOpen inHours hrs
  simp only [i32_lit]
  grind
abbrev cn (x : Int32) : Nat := x.toNatClampNeg
/-- a bounded number -/
def bd (x : Int32) (n : Nat) : Prop := x = nI (cn x) ∧ cn x ≤ n
theorem cn_nI {k : Nat} (h : k < 2147483648) : cn (nI k) = k := nI_clamp h
theorem bd_nI {k n : Nat} (h : k ≤ n) (hn : n < 2147483648) : bd (nI k) n := by
  unfold bd cn
  rw [nI_clamp (by omega)]
  exact ⟨rfl, h⟩
theorem bd_ex {x : Int32} {n : Nat} (h : bd x n) : ∃ k, k ≤ n ∧ x = nI k := ⟨cn x, h.2, h.1⟩
theorem bd_lt {x : Int32} {n k : Nat} (h : bd x n) (hn : n < 2147483648) (hk : k < 2147483648) : nI k < x ↔ k < cn x := by
  have h2 := h.2
  rw [h.1, nI_ltI (by omega) (by omega), cn_nI (by omega)]
theorem bd_gt {x : Int32} {n k : Nat} (h : bd x n) (hn : n < 2147483648) (hk : k < 2147483648) : x < nI k ↔ cn x < k := by
  have h2 := h.2
  rw [h.1, nI_ltI (by omega) (by omega), cn_nI (by omega)]
theorem bd_eq {x : Int32} {n k : Nat} (h : bd x n) (hn : n < 2147483648) (hk : k < 2147483648) : x = nI k ↔ cn x = k := by
  have h2 := h.2
  rw [h.1, nI_eq (by omega) (by omega), cn_nI (by omega)]
theorem in_eq (x lo hi : Int32) (σ : St) : F_X12_in x lo hi σ = some (if ¬ x < lo ∧ ¬ hi < x then 1 else 0) := by
  unfold F_X12_in
  grind
theorem in_eqC (x lo hi : Int32) (σ : St) : F_X0_in x lo hi σ = some (if ¬ x < lo ∧ ¬ hi < x then 1 else 0) := by
  unfold F_X0_in
  grind
theorem zro_ite {c : Prop} [Decidable c] : zro (if c then 1 else 0) = some (if c then 1 else 0) := by
  by_cases h : c <;> simp [h, zro_0, zro_1]
/-- x is a place below the number n -/
theorem in_cnt {x n : Int32} {N : Nat} (hn : bd n N) (hN : N < 1073741824) : (¬ x < 0 ∧ ¬ n - 1 < x) ↔ ∃ k, k < cn n ∧ x = nI k := by
  have h2 := hn.2
  have e := hn.1
  constructor
  · intro ⟨h0, h1⟩
    obtain ⟨k, hk, rfl⟩ := nI_of h0
    refine ⟨k, ?_, rfl⟩
    rcases Nat.lt_or_ge k (cn n) with q | q
    · exact q
    · exfalso
      apply h1
      by_cases hz : cn n = 0
      · rw [e, hz]
        show nI 0 - 1 < nI k
        rw [show nI 0 - 1 = -nI 1 from rfl]
        rw [Int32.lt_iff_toInt_lt, sb_negT (by decide), nI_toInt hk]
        omega
      · rw [e, i32_lit, nI_sub (by omega), nI_ltI (by omega) hk]
        omega
  · rintro ⟨k, hk, rfl⟩
    refine ⟨nI_pos (by omega), ?_⟩
    rw [e, i32_lit, nI_sub (by omega), nI_ltI (by omega) (by omega)]
    omega
theorem in_cntN {n : Int32} {N k : Nat} (hn : bd n N) (hN : N < 1073741824) (hk : k < 2147483648) : (¬ nI k < 0 ∧ ¬ n - 1 < nI k) ↔ k < cn n := by
  rw [in_cnt hn hN]
  constructor
  · rintro ⟨j, hj, e⟩
    have h2 := hn.2
    rw [nI_eq hk (by omega)] at e
    omega
  · intro h
    exact ⟨k, h, rfl⟩
/-- a sound row of numbers -/
def busy (m : Nat → Int32) (u : Nat) : Prop := m (110 + 8 * u + 5) = 2 ∨ m (110 + 8 * u + 5) = 3
def WF (m : Nat → Int32) : Prop :=
  (bd (m 0) 8 ∧ 2 ≤ cn (m 0)) ∧ bd (m 1) 20 ∧ bd (m 2) 6 ∧ bd (m 3) 30 ∧ bd (m 4) 1003600 ∧ bd (m 7) 8 ∧ bd (m 8) 4 ∧
  (∀ k, k < cn (m 1) → (bd (m (10 + 5 * k)) 7 ∧ cn (m (10 + 5 * k)) < cn (m 0)) ∧ (bd (m (10 + 5 * k + 1)) 7 ∧ cn (m (10 + 5 * k + 1)) < cn (m 0)) ∧ ¬ m (10 + 5 * k) = m (10 + 5 * k + 1) ∧ (bd (m (10 + 5 * k + 2)) 999 ∧ 1 ≤ cn (m (10 + 5 * k + 2))) ∧ (m (10 + 5 * k + 3) = 0 ∨ m (10 + 5 * k + 3) = 1) ∧ (m (10 + 5 * k + 4) = 0 ∨ m (10 + 5 * k + 4) = 1) ∧ bd (m (340 + 2 * k)) 23 ∧ bd (m (340 + 2 * k + 1)) 23) ∧
  (∀ u, u < cn (m 2) → (bd (m (110 + 8 * u)) 7 ∧ cn (m (110 + 8 * u)) < cn (m 0)) ∧ bd (m (110 + 8 * u + 1)) 7 ∧ (bd (m (110 + 8 * u + 2)) 7 ∧ cn (m (110 + 8 * u + 2)) < cn (m 0)) ∧ bd (m (110 + 8 * u + 3)) 999 ∧ bd (m (110 + 8 * u + 4)) 1003600 ∧ bd (m (110 + 8 * u + 5)) 4 ∧ bd (m (380 + 2 * u)) 99999999 ∧ bd (m (380 + 2 * u + 1)) 99999999 ∧ (busy m u → bd (m (110 + 8 * u + 6)) 29 ∧ cn (m (110 + 8 * u + 6)) < cn (m 3) ∧ m (160 + 6 * cn (m (110 + 8 * u + 6)) + 3) = 1)) ∧
  (∀ u v, u < cn (m 2) → v < cn (m 2) → busy m u → busy m v → m (110 + 8 * u + 6) = m (110 + 8 * v + 6) → u = v) ∧
  (∀ q, q < cn (m 3) → (bd (m (160 + 6 * q)) 7 ∧ cn (m (160 + 6 * q)) < cn (m 0)) ∧ bd (m (160 + 6 * q + 1)) 2 ∧ (bd (m (160 + 6 * q + 2)) 9 ∧ 1 ≤ cn (m (160 + 6 * q + 2))) ∧ (m (160 + 6 * q + 3) = 0 ∨ m (160 + 6 * q + 3) = 1))
/-- a house of the component (its cells c) is the row m: numbers, streets, units, calls -/
def HC (c : Nat → Nat → Int32) (m : Nat → Int32) : Prop :=
  (c 0 28 = m 0 ∧ c 0 29 = m 1 ∧ c 0 30 = m 2 ∧ c 0 31 = m 3 ∧ c 0 32 = m 4 ∧ c 0 33 = m 5 ∧ c 0 34 = m 6 ∧ c 0 35 = m 7 ∧ c 0 36 = m 8) ∧
  (∀ k, k < cn (m 1) → c 1 k = m (10 + 5 * k) ∧ c 2 k = m (10 + 5 * k + 1) ∧ c 3 k = m (10 + 5 * k + 2) ∧ c 4 k = m (10 + 5 * k + 3) ∧ c 5 k = 1 - m (10 + 5 * k + 4) ∧ c 6 k = m (340 + 2 * k) ∧ c 7 k = m (340 + 2 * k + 1)) ∧
  (∀ u, u < cn (m 2) → c 15 u = m (110 + 8 * u) ∧ c 16 u = m (110 + 8 * u + 1) ∧ c 17 u = m (110 + 8 * u + 2) ∧ c 18 u = m (110 + 8 * u + 3) ∧ c 19 u = m (110 + 8 * u + 4) ∧ c 20 u = m (110 + 8 * u + 5) ∧ c 8 u = m (380 + 2 * u) ∧ c 9 u = m (380 + 2 * u + 1) ∧ (busy m u → c 21 u = m (110 + 8 * u + 6))) ∧
  (∀ q, q < cn (m 3) → c 22 q = m (160 + 6 * q) ∧ c 23 q = m (160 + 6 * q + 1) ∧ c 24 q = m (160 + 6 * q + 2) ∧ c 27 q = 1 - m (160 + 6 * q + 3) ∧ c 25 q = m (160 + 6 * q + 4) ∧ c 26 q = m (160 + 6 * q + 5))
theorem c_isOpenStreet {σ : St} {h k : Nat} {m : Nat → Int32} (hw : WF m) (hc : HC (σ h) m) (hk : k < cn (m 1)) : F_X3_isOpenStreet h (nI k) σ = some (if stOpen m k then 1 else 0) := by
  have hS := hw.2.1.2
  obtain ⟨-, -, -, -, -, hop, -, -⟩ := hw.2.2.2.2.2.2.2.1 k hk
  obtain ⟨-, -, -, -, c5, c6, c7⟩ := hc.2.1 k hk
  have c32 := hc.1.2.2.2.2.1
  unfold F_X3_isOpenStreet
  simp (disch := omega) only [rdo_nI, some_b, nmo_b, ite_bind, c5, c6, c7, c32]
  unfold stOpen inHours hrs
  rcases hop with e | e <;> rw [e] <;> grind
