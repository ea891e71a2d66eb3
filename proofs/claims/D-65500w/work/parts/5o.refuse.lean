/-! S8: refusals: the spec and the component -/
set_option maxRecDepth 100000
theorem inC_nI {a lo hi : Nat} {σ : St} (ha : a < 2147483648) (hlo : lo < 2147483648) (hhi : hi < 2147483648) : F_X0_in (nI a) (nI lo) (nI hi) σ = some (if lo ≤ a ∧ a ≤ hi then 1 else 0) := by
  rw [in_eqC]
  by_cases q : lo ≤ a ∧ a ≤ hi
  · have h : ¬ nI a < nI lo ∧ ¬ nI hi < nI a := ⟨nI_nlt q.1 ha, nI_nlt q.2 hhi⟩
    rw [if_pos q, if_pos h]
  · have h : ¬ (¬ nI a < nI lo ∧ ¬ nI hi < nI a) := fun z => q ⟨by
      rcases Nat.lt_or_ge a lo with y | y
      · exact absurd (nI_lt y hlo) z.1
      · exact y, by
      rcases Nat.lt_or_ge hi a with y | y
      · exact absurd (nI_lt y ha) z.2
      · exact y⟩
    rw [if_neg q, if_neg h]
theorem inM_nI {a lo hi : Nat} {σ : St} (ha : a < 2147483648) (hlo : lo < 2147483648) (hhi : hi < 2147483648) : F_X12_in (nI a) (nI lo) (nI hi) σ = some (if lo ≤ a ∧ a ≤ hi then 1 else 0) := by
  rw [in_eq]
  by_cases q : lo ≤ a ∧ a ≤ hi
  · have h : ¬ nI a < nI lo ∧ ¬ nI hi < nI a := ⟨nI_nlt q.1 ha, nI_nlt q.2 hhi⟩
    rw [if_pos q, if_pos h]
  · have h : ¬ (¬ nI a < nI lo ∧ ¬ nI hi < nI a) := fun z => q ⟨by
      rcases Nat.lt_or_ge a lo with y | y
      · exact absurd (nI_lt y hlo) z.1
      · exact y, by
      rcases Nat.lt_or_ge hi a with y | y
      · exact absurd (nI_lt y ha) z.2
      · exact y⟩
    rw [if_neg q, if_neg h]
/-- the answers of refusals: 0 for none, k + 1 for the model's word k -/
def sidL : List Nat := [3, 32, 1, 2, 4, 5, 6, 7, 8, 9, 10, 11, 12, 13, 14, 15, 16, 17, 18, 26, 27, 28, 50, 52, 47, 48, 49, 29, 30, 19, 31, 20, 22, 21, 23, 24, 25]
abbrev sid (r : Nat) : Int32 := nI (sidL.getD r 0)
def cod (r : Nat) : Int32 := if r = 0 then -1 else nI (r - 1)
noncomputable def rfCall (m : Nat → Int32) (p d : Nat) : Nat := if jnI m (nI p) (nI d) < 0 ∧ (sumI (opI m) (cn (m 3)) = 6 ∨ cn (m 3) = 30) then 7 else 0
noncomputable def rfGo (m : Nat → Int32) (u c : Nat) : Nat := if u < cn (m 2) then (if opC m c then (if frU m u then (if wtI m c = 1 then (if hsk m u c then (if wyN m u (cpl m c) < 1000000 then 0 else 18) else 10) else 17) else 16) else 15) else 11
noncomputable def wkU (m : Nat → Int32) (b : Nat) (y : Nat → Int32) (K : Nat) : Nat := Classical.choose (wkE_ex m b y K)
theorem wkU_ok (m : Nat → Int32) (b : Nat) (y : Nat → Int32) (K : Nat) : wkE m b y K (wkU m b y K) := Classical.choose_spec (wkE_ex m b y K)
noncomputable abbrev wkV (m : Nat → Int32) (k : Nat) (y : Nat → Int32) (K : Nat) : Int32 := m (508 + 128 * k + 1 + wkN m (508 + 128 * k) y (wkU m (508 + 128 * k) y K))
noncomputable abbrev wkQ (m : Nat → Int32) (k : Nat) (y : Nat → Int32) (K : Nat) : Nat := qcN m (508 + 128 * k) (wkN m (508 + 128 * k) y (wkU m (508 + 128 * k) y K))
noncomputable def rfRep (m : Nat → Int32) (p k : Nat) (y : Nat → Int32) (K : Nat) : Nat := if p < cn (m 0) then (if k < cn (m 7) then (if wkV m k y K < 0 then 32 else if wkU m (508 + 128 * k) y K < K then 33 else rfCall m p (cn (wkV m k y K) / 10)) else 31) else 5
noncomputable def rfNam (m : Nat → Int32) (p k : Nat) (y : Nat → Int32) : Nat := if p < cn (m 0) then (if 12 < k then 34 else if tknI m p k y (cn (m 0)) = 1 then 35 else 0) else 5
/-- a command's refusal; y, K: letters behind it; dp: how deep its tree is -/
noncomputable def rfS (m : Nat → Int32) (s : Nat) (d : Int32) (w : Nat) (A : Nat → Nat) (y : Nat → Int32) (K dp : Nat) : Nat :=
  if w = 0 then (if 2 ≤ A 0 ∧ A 0 ≤ 8 then 0 else 4)
  else if w = 1 ∨ w = 2 then (if A 0 < cn (m 0) ∧ A 1 < cn (m 0) ∧ ¬ A 0 = A 1 then (if 1 ≤ A 2 ∧ A 2 ≤ 999 then (if cn (m 1) = 20 then 7 else 0) else 6) else 5)
  else if w = 3 ∨ w = 4 then (if A 0 < cn (m 1) then (if m (10 + 5 * A 0 + 4) = (if w = 4 then 1 else 0) then 9 else 0) else 8)
  else if w = 5 then (if A 0 < cn (m 0) then (if 1 ≤ A 1 ∧ A 1 ≤ 7 then (if cn (m 2) = 6 then 7 else 0) else 10) else 5)
  else if w = 6 ∨ w = 7 then (if A 0 < cn (m 2) then (if m (110 + 8 * A 0 + 5) = 0 ∨ m (110 + 8 * A 0 + 5) = 4 then (if m (110 + 8 * A 0 + 5) = (if w = 6 then 4 else 0) then 9 else 0) else 12) else 11)
  else if w = 8 then (if A 0 < cn (m 2) then (if A 1 < cn (m 0) then (if m (110 + 8 * A 0 + 5) = 4 then 13 else if m (110 + 8 * A 0) = nI (A 1) then 9 else 0) else 5) else 11)
  else if w = 9 then (if A 0 < cn (m 0) then (if A 1 ≤ 2 then (if 1 ≤ A 2 ∧ A 2 ≤ 9 then rfCall m (A 0) (A 1) else 14) else 10) else 5)
  else if w = 11 then rfGo m (A 0) (A 1)
  else if w = 12 then (if opC m (A 0) then 0 else 15)
  else if w = 13 then (if 6 < dp then 29 else if cn (m 7) = 8 then 7 else 0)
  else if w = 14 then rfRep m (A 0) (A 1) y K
  else if w = 15 then rfNam m (A 0) K y
  else if w = 16 then (if A 0 < cn (m 1) then (if A 1 ≤ 23 ∧ A 2 ≤ 23 then 0 else 36) else 8)
  else if w = 17 then (if A 0 < cn (m 2) then (if A 1 < A 2 then 0 else 6) else 11)
  else if w = 19 then (if 1 ≤ A 0 ∧ A 0 ≤ 3600 then (if cn (m 4) + A 0 ≤ 1000000 then 0 else 6) else 6)
  else if w = 20 then (if s = 0 then 19 else 0)
  else if w = 21 then (if d = 0 then 0 else 20)
  else if w = 22 then (if d = 0 then 21 else 0)
  else 0
theorem sumI_open {m : Nat → Int32} (hw : WF m) : ∀ n, n ≤ cn (m 3) → sumI (opI m) n = nI (sumN (fun q => cn (m (160 + 6 * q + 3))) n) := by
  intro n
  induction n with
  | zero => intro _; rfl
  | succ n ih =>
    intro hn
    rw [sumI, sumN, ih (by omega)]
    rcases (hw.2.2.2.2.2.2.2.2.2.2 n (by omega)).2.2.2 with e | e
    · show nI _ + m (160 + 6 * n + 3) = nI (_ + cn (m (160 + 6 * n + 3)))
      rw [e, show (0 : Int32) = nI 0 from rfl, nI_add]
      rfl
    · show nI _ + m (160 + 6 * n + 3) = nI (_ + cn (m (160 + 6 * n + 3)))
      rw [e, show (1 : Int32) = nI 1 from rfl, nI_add]
      rfl
theorem rfCall_0 {m : Nat → Int32} (R : Rok m) {p d : Nat} (h : rfCall m p d = 0) : jnI m (nI p) (nI d) < 0 → cn (m 3) < 30 ∧ sumN (fun q => cn (m (160 + 6 * q + 3))) (cn (m 3)) < 6 := by
  intro hj
  have b3 := R.1.2.2.2.1.2
  have g8 := R.2.1.2.2.2.2.2.2.2
  unfold rfCall at h
  by_cases q : jnI m (nI p) (nI d) < 0 ∧ (sumI (opI m) (cn (m 3)) = 6 ∨ cn (m 3) = 30)
  · rw [if_pos q] at h
    exact absurd h (by decide)
  · refine ⟨?_, ?_⟩
    · rcases Nat.lt_or_ge (cn (m 3)) 30 with z | z
      · exact z
      · exact absurd ⟨hj, Or.inr (by omega)⟩ q
    · rcases Nat.lt_or_ge (sumN (fun q => cn (m (160 + 6 * q + 3))) (cn (m 3))) 6 with z | z
      · exact z
      · exfalso
        apply q
        refine ⟨hj, Or.inl ?_⟩
        rw [sumI_open R.1 _ (Nat.le_refl _)]
        have : sumN (fun q => cn (m (160 + 6 * q + 3))) (cn (m 3)) = 6 := Nat.le_antisymm g8 z
        rw [this]
        rfl
theorem c_refCall {σ : St} {m : Nat → Int32} {p d : Nat} (hw : WF m) (H : HH (σ 3) m) : F_X0_refusedCall (nI p) (nI d) σ = some (sid (rfCall m p d)) := by
  have b3 := hw.2.2.2.1
  have b3' := b3.2
  have z31 : σ 3 0 31 = nI (cn (m 3)) := H.1.1.2.2.2.1.trans b3.1
  unfold F_X0_refusedCall rfCall
  rw [c_alike hw H.1, some_b, c_many0 hw H.1, some_b, z31]
  by_cases q1 : jnI m (nI p) (nI d) < 0
  · rw [if_pos q1]
    by_cases q2 : sumI (opI m) (cn (m 3)) = 6
    · rw [if_pos q2, if_pos ⟨q1, Or.inl q2⟩]; rfl
    · rw [if_neg q2]
      by_cases q3 : cn (m 3) = 30
      · rw [if_pos (by rw [q3]; rfl), if_pos ⟨q1, Or.inr q3⟩]; rfl
      · rw [if_neg (by rw [show (30 : Int32) = nI 30 from rfl, nI_eq (by omega) (by decide)]; exact q3), if_neg (fun z => z.2.elim q2 q3)]; rfl
  · rw [if_neg q1, if_neg (fun z => q1 z.1)]; rfl
/-- what is known of the words behind a command -/
def BtC (σ : St) (w : Nat) (j a K dp n : Nat) (y : Nat → Int32) : Prop := (w = 14 ∨ w = 15 → (j = 1 ∨ j = 2 ∨ j = 3) ∧ σ 2 0 6 = nI j ∧ σ 2 0 13 = nI a ∧ σ 2 0 14 = nI (a + K) ∧ a + K ≤ lenB j ∧ ∀ i, i < K → σ 0 j (a + i) = y i) ∧ (w = 13 → σ 2 0 15 = nI dp ∧ dp < 10000 ∧ σ 2 0 13 = nI a ∧ σ 2 0 14 = nI n ∧ a ≤ n ∧ n ≤ 4006)
/-- the asker's answer behind a report that is not refused -/
def AkC (τ : St) (m : Nat → Int32) (k : Nat) (y : Nat → Int32) (K : Nat) : Prop := τ 6 0 1 = wkV m k y K / 10 ∧ τ 6 0 2 = wkV m k y K - wkV m k y K / 10 * 10
theorem HW.tree {c : Nat → Nat → Int32} {m : Nat → Int32} (h : HW c m) {k : Nat} (hk : k < cn (m 7)) : TrB c m (508 + 128 * k) k (cn (m (508 + 128 * k))) := (h.2.2 k hk).2
theorem WW.n1 {m : Nat → Int32} (hww : WW m) {k : Nat} (hk : k < cn (m 7)) : 1 ≤ cn (m (508 + 128 * k)) := by
  have h := (hww.2.2.1 k hk).2.2.2.2
  rcases Nat.eq_zero_or_pos (cn (m (508 + 128 * k))) with z | z
  · rw [z] at h
    have h : (1 : Nat) = 0 := h
    omega
  · exact z
theorem wkV_lf {m : Nat → Int32} (hw : WF m) (hww : WW m) {k K : Nat} {y : Nat → Int32} (hk : k < cn (m 7)) (h : ¬ wkV m k y K < 0) : ∃ s r, s ≤ 2 ∧ 1 ≤ r ∧ r ≤ 9 ∧ wkV m k y K = nI (10 * s + r) ∧ wkV m k y K / 10 = nI s ∧ wkV m k y K - wkV m k y K / 10 * 10 = nI r ∧ cn (wkV m k y K) / 10 = s := by
  have T := hww.tree hw hk
  have hl := wk_lt (y := y) T (hww.n1 hk) _ (wkU_ok m (508 + 128 * k) y K).1
  have d10 : ∀ s, s < 3 → ∀ r, r < 10 → nI (10 * s + r) / 10 = nI s ∧ nI (10 * s + r) - nI (10 * s + r) / 10 * 10 = nI r := by decide +kernel
  rcases T.2.2.2.1 _ hl with e | ⟨s, r, s1, r1, r2, e⟩
  · have e : wkV m k y K = -1 := e
    rw [e] at h
    exact absurd (by decide) h
  · have e : wkV m k y K = nI (10 * s + r) := e
    obtain ⟨d1, d2⟩ := d10 s (by omega) r (by omega)
    refine ⟨s, r, s1, r1, r2, e, by rw [e, d1], by rw [e, d2], ?_⟩
    rw [e, cn_nI (by omega)]
    omega
theorem c_refReport {σ : St} {m : Nat → Int32} {p k j a K : Nat} {y : Nat → Int32} (hw : WF m) (hww : WW m) (H : HH (σ 3) m) (hp : p < 2147483648) (hk : k < 2147483648) (hj : j = 1 ∨ j = 2 ∨ j = 3) (h6 : σ 2 0 6 = nI j) (h13 : σ 2 0 13 = nI a) (h14 : σ 2 0 14 = nI (a + K)) (ha : a + K ≤ lenB j) (hy : ∀ i, i < K → σ 0 j (a + i) = y i) : Ret (F_X0_refusedReport (nI p) (nI k) σ) (fun z => z.1 = sid (rfRep m p k y K) ∧ HH (z.2 3) m ∧ (∀ x, x ≠ 6 → z.2 x = σ x) ∧ (rfRep m p k y K = 32 → z.2 6 0 0 = nI (wkQ m k y K)) ∧ (rfRep m p k y K = 0 → AkC z.2 m k y K)) := by
  have b7 := hw.2.2.2.2.2.1
  have b7' := b7.2
  have z35 : σ 3 0 35 = nI (cn (m 7)) := H.1.1.2.2.2.2.2.2.2.1.trans b7.1
  unfold F_X0_refusedReport rfRep
  rw [c_isPlace hw H.1 hp, some_b]
  by_cases q1 : p < cn (m 0)
  · rw [if_pos q1, if_neg (by decide), z35, if_pos q1]
    by_cases q2 : k < cn (m 7)
    · rw [if_pos (nI_lt q2 (by omega)), if_pos q2, h6, dyb_nI hj, some_b, h13, h14]
      have T := hww.tree hw q2
      refine Ret.bind (c_goes (by decide) (by omega) T (H.2.2.1.tree q2) (hww.n1 q2) ha hy (wkU_ok m (508 + 128 * k) y K)) ?_
      rintro z ⟨z1, z2, z3⟩
      have H2 : HH (z.2 3) m := by rw [z1 3 (by decide)]; exact H
      by_cases q3 : wkV m k y K < 0
      · obtain ⟨y1, y2, y3⟩ := z2 q3
        rw [y1, if_pos rfl, y2, if_pos rfl, if_pos q3]
        exact Ret.some ⟨rfl, H2, z1, fun _ => y3, fun e => absurd e (by decide)⟩
      · obtain ⟨y1, y2, y3, y4⟩ := z3 q3
        rw [if_neg q3]
        by_cases q4 : wkU m (508 + 128 * k) y K < K
        · obtain ⟨x1, x2⟩ := y1 q4
          rw [x1, if_pos rfl, x2, if_neg (by decide), if_pos q4]
          exact Ret.some ⟨rfl, H2, z1, fun e => absurd e (by decide), fun e => absurd e (by decide)⟩
        · have x1 := y2 (by have := (wkU_ok m (508 + 128 * k) y K).2.1; omega)
          obtain ⟨s, r, s1, r1, r2, e1, e2, e3, e4⟩ := wkV_lf hw hww q2 q3
          have y3 : z.2 6 0 1 = wkV m k y K / 10 := y3
          rw [x1, if_neg (by decide), y3, e2, c_refCall hw H2, some_b, if_neg q4, e4]
          refine Ret.some ⟨rfl, H2, z1, fun e => ?_, fun _ => ⟨y3, y4⟩⟩
          exfalso
          unfold rfCall at e
          by_cases z : jnI m (nI p) (nI s) < 0 ∧ (sumI (opI m) (cn (m 3)) = 6 ∨ cn (m 3) = 30)
          · rw [if_pos z] at e; exact absurd e (by decide)
          · rw [if_neg z] at e; exact absurd e (by decide)
    · rw [if_neg (nI_nlt (by omega) (by omega)), if_neg q2]
      exact Ret.some ⟨rfl, H, fun _ _ => rfl, fun e => absurd e (by decide), fun e => absurd e (by decide)⟩
  · rw [if_neg q1, if_pos rfl, if_neg q1]
    exact Ret.some ⟨rfl, H, fun _ _ => rfl, fun e => absurd e (by decide), fun e => absurd e (by decide)⟩
theorem c_refGo {σ : St} {m : Nat → Int32} {u c : Nat} (hw : WF m) (H : HH (σ 3) m) (hu : u < 2147483648) (hc : c < 2147483648) : Ret (F_X0_refusedGo (nI u) (nI c) σ) (fun z => z.1 = sid (rfGo m u c) ∧ HH (z.2 3) m ∧ ∀ x, x ≠ 3 → z.2 x = σ x) := by
  have b2 := hw.2.2.1.2
  have b3 := hw.2.2.2.1.2
  unfold F_X0_refusedGo rfGo
  rw [c_isUnit hw H.1 hu, some_b]
  by_cases q1 : u < cn (m 2)
  · rw [if_pos q1, if_neg (by decide), c_isOpen hw H.1 hc, some_b, if_pos q1]
    by_cases q2 : opC m c
    · rw [if_pos q2, if_neg (by decide), c_isFree hw H.1 q1, some_b, if_pos q2]
      by_cases q3 : frU m u
      · rw [if_pos q3, if_neg (by decide), c_waits hw H.1 hc, some_b, if_pos q3]
        by_cases q4 : wtC m c
        · obtain ⟨c1, -, -, -⟩ := hw.2.2.2.2.2.2.2.2.2.2 c q2.1
          rw [wtI_pos q4, if_neg (by decide), c_has hw H.1 q1 q2.1, some_b, if_pos rfl]
          by_cases q5 : hsk m u c
          · rw [if_pos q5, if_neg (by decide), rdo_nI (by omega) (by decide), some_b, (H.1.2.2.2 c q2.1).1, c1.1.1, if_pos q5]
            refine Ret.bind (c_wayH hw H q1 c1.2) ?_
            rintro r ⟨r1, r2, r3⟩
            have hwb := (wyN_bd hw q1 c1.2).1
            rw [r1]
            by_cases q6 : wyN m u (cpl m c) < 1000000
            · rw [if_pos (show nI (wyN m u (cn (m (160 + 6 * c)))) < (1000000 : Int32) from nI_lt (b := 1000000) q6 (by decide)), if_pos q6]
              exact Ret.some ⟨rfl, r2, fun x hx => r3.g hx⟩
            · rw [if_neg (show ¬ nI (wyN m u (cn (m (160 + 6 * c)))) < (1000000 : Int32) from nI_nlt (b := 1000000) (Nat.le_of_not_lt q6) (by omega)), if_neg q6]
              exact Ret.some ⟨rfl, r2, fun x hx => r3.g hx⟩
          · rw [if_neg q5, if_pos rfl, if_neg q5]
            exact Ret.some ⟨rfl, H, fun _ _ => rfl⟩
        · rw [wtI_neg q4, if_pos rfl, if_neg (by decide)]
          exact Ret.some ⟨rfl, H, fun _ _ => rfl⟩
      · rw [if_neg q3, if_pos rfl, if_neg q3]
        exact Ret.some ⟨rfl, H, fun _ _ => rfl⟩
    · rw [if_neg q2, if_pos rfl, if_neg q2]
      exact Ret.some ⟨rfl, H, fun _ _ => rfl⟩
  · rw [if_neg q1, if_pos rfl, if_neg q1]
    exact Ret.some ⟨rfl, H, fun _ _ => rfl⟩
