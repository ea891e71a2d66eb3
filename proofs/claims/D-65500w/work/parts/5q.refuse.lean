/-! S8: refusals of the model, whole -/
set_option maxRecDepth 100000
def KpF (σ τ : St) : Prop := (∀ a, a ≠ 20 → τ a = σ a) ∧ (∀ b, b ≠ 0 → b ≠ 34 → τ 20 b = σ 20 b) ∧ ∀ i, i ≠ 42 → i ≠ 43 → i ≠ 44 → τ 20 0 i = σ 20 0 i
theorem KpF.rf (σ : St) : KpF σ σ := ⟨fun _ _ => rfl, fun _ _ _ => rfl, fun _ _ _ _ => rfl⟩
def RfM (σ : St) (m : Nat → Int32) (w : Nat) (A : Nat → Nat) (y : Nat → Int32) (K : Nat) (rs : Nat) (z : Int32 × St) : Prop := z.1 = cod rs ∧ KpF σ z.2 ∧ (w = 14 → rs = 32 → z.2 20 0 43 = nI (wkQ m (A 1) y K)) ∧ (w = 14 → rs = 0 → z.2 20 0 42 = wkV m (A 1) y K) ∧ (w = 11 → rs = 0 → TabR z.2 m)
theorem RfM.st {σ : St} {m : Nat → Int32} {w : Nat} {A : Nat → Nat} {y : Nat → Int32} {K rs : Nat} {v : Int32} (hv : v = cod rs) (hw : w ≠ 14 ∧ w ≠ 11) : RfM σ m w A y K rs (v, σ) := ⟨hv, KpF.rf σ, fun e => absurd e hw.1, fun e => absurd e hw.1, fun e => absurd e hw.2⟩
def BtM (σ : St) (w K dp : Nat) (y : Nat → Int32) : Prop := (w = 14 ∨ w = 15 → σ 20 0 28 = nI K ∧ K ≤ 3200 ∧ ∀ i, i < K → σ 20 28 i = y i) ∧ (w = 13 → σ 20 0 25 = nI dp ∧ dp < 10000)
theorem m_refGo {σ : St} {m : Nat → Int32} {u c : Nat} (hw : WF m) (hm : σ 20 1 = m) (hu : u < 2147483648) (hc : c < 2147483648) : Ret (F_X12_refusalOfGo (nI u) (nI c) σ) (fun z => z.1 = cod (rfGo m u c) ∧ KpF σ z.2 ∧ (rfGo m u c = 0 → TabR z.2 m)) := by
  have b2 := hw.2.2.1.2
  have b3 := hw.2.2.2.1.2
  have hwm : WF (σ 20 1) := by rw [hm]; exact hw
  unfold F_X12_refusalOfGo rfGo
  rw [m_isUnit hwm hu, some_b, hm]
  by_cases q1 : u < cn (m 2)
  · rw [if_pos q1, if_neg (by decide), m_isOpenCall hwm hc, some_b, hm, if_pos q1]
    by_cases q2 : opC m c
    · rw [if_pos q2, if_neg (by decide), m_isFree (by omega), some_b, hm, if_pos q2]
      by_cases q3 : frU m u
      · rw [if_pos q3, if_neg (by decide), m_isWaiting hwm (by rw [hm]; exact q2.1), some_b, hm, if_pos q3]
        by_cases q4 : wtC m c
        · obtain ⟨c1, -, -, -⟩ := hw.2.2.2.2.2.2.2.2.2.2 c q2.1
          have hc30 : c < 30 := by have := q2.1; omega
          rw [wtI_pos q4, if_neg (by decide), m_hasSkill (by omega) hc30, some_b, hm, if_pos rfl]
          by_cases q5 : hsk m u c
          · rw [if_pos q5, if_neg (by decide), if_pos q5]
            refine Ret.bind (m_findDistances hwm) ?_
            rintro τ ⟨t1, t2⟩
            have mt : τ 20 1 = m := by rw [t1 20 1 (by omega)]; exact hm
            have hT : TabR τ m := by have := t2.r; rw [mt] at this; exact this
            have hwb := (wyN_bd hw q1 c1.2).1
            rw [show (0 : Int32) = nI 0 from rfl, m_call (by omega) (by decide), some_b, mt, Nat.add_zero, c1.1.1, m_wayOf hw mt hT q1 c1.2, some_b]
            have kf : KpF σ τ := ⟨fun a ha => by funext b; exact t1 a b (fun z => ha z.1), fun b h0 h34 => t1 20 b (fun z => h34 z.2), fun i _ _ _ => by rw [t1 20 0 (by omega)]⟩
            by_cases q6 : wyN m u (cpl m c) < 1000000
            · rw [if_neg (show ¬ dI (wyN m u (cn (m (160 + 6 * c)))) < nI 0 from fun z => (dI_neg hwb).mp z q6), if_pos q6]
              exact Ret.some ⟨rfl, kf, fun _ => hT⟩
            · rw [if_pos (show dI (wyN m u (cn (m (160 + 6 * c)))) < nI 0 from (dI_neg hwb).mpr q6), if_neg q6]
              exact Ret.some ⟨rfl, kf, fun _ => hT⟩
          · rw [if_neg q5, if_pos rfl, if_neg q5]
            exact Ret.some ⟨rfl, KpF.rf σ, fun e => absurd e (by decide)⟩
        · rw [wtI_neg q4, if_pos rfl, if_neg (by decide)]
          exact Ret.some ⟨rfl, KpF.rf σ, fun e => absurd e (by decide)⟩
      · rw [if_neg q3, if_pos rfl, if_neg q3]
        exact Ret.some ⟨rfl, KpF.rf σ, fun e => absurd e (by decide)⟩
    · rw [if_neg q2, if_pos rfl, if_neg q2]
      exact Ret.some ⟨rfl, KpF.rf σ, fun e => absurd e (by decide)⟩
  · rw [if_neg q1, if_pos rfl, if_neg q1]
    exact Ret.some ⟨rfl, KpF.rf σ, fun e => absurd e (by decide)⟩
theorem m_refReport {σ : St} {m : Nat → Int32} {p k K : Nat} {y : Nat → Int32} (hw : WF m) (hww : WW m) (hm : σ 20 1 = m) (hp : p < 2147483648) (hk : k < 2147483648) (h28 : σ 20 0 28 = nI K) (hK : K ≤ 3200) (hy : ∀ i, i < K → σ 20 28 i = y i) : Ret (F_X12_refusalOfReport (nI p) (nI k) σ) (fun z => z.1 = cod (rfRep m p k y K) ∧ KpF σ z.2 ∧ (rfRep m p k y K = 32 → z.2 20 0 43 = nI (wkQ m k y K)) ∧ (rfRep m p k y K = 0 → z.2 20 0 42 = wkV m k y K)) := by
  have b7 := hw.2.2.2.2.2.1
  have b7' := b7.2
  have b3' := hw.2.2.2.1.2
  have hwm : WF (σ 20 1) := by rw [hm]; exact hw
  unfold F_X12_refusalOfReport rfRep
  rw [m_isPlace hwm hp, some_b, hm]
  by_cases q1 : p < cn (m 0)
  · rw [if_pos q1, if_neg (by decide), m_rd7, some_b, hm, if_pos q1]
    by_cases q2 : k < cn (m 7)
    · have hlt : nI k < m 7 := by rw [b7.1]; exact nI_lt q2 (by omega)
      rw [if_pos hlt, if_pos q2, m_lead hm (by omega) (hww.tree hw q2) (hww.n1 q2) hK h28 hy (wkU_ok m (508 + 128 * k) y K), some_b]
      have e42 : up3 (up3 (up3 σ 20 0 42 (wkV m k y K)) 20 0 44 (if wkU m (508 + 128 * k) y K < K then 1 else 0)) 20 0 43 (nI (wkQ m k y K)) 20 0 42 = wkV m k y K := by rw [up3_i (by decide), up3_i (by decide), up3_same]
      have e44 : up3 (up3 (up3 σ 20 0 42 (wkV m k y K)) 20 0 44 (if wkU m (508 + 128 * k) y K < K then 1 else 0)) 20 0 43 (nI (wkQ m k y K)) 20 0 44 = (if wkU m (508 + 128 * k) y K < K then 1 else 0) := by rw [up3_i (by decide), up3_same]
      have e43 : up3 (up3 (up3 σ 20 0 42 (wkV m k y K)) 20 0 44 (if wkU m (508 + 128 * k) y K < K then 1 else 0)) 20 0 43 (nI (wkQ m k y K)) 20 0 43 = nI (wkQ m k y K) := up3_same _ _ _ _ _
      have kf : KpF σ (up3 (up3 (up3 σ 20 0 42 (wkV m k y K)) 20 0 44 (if wkU m (508 + 128 * k) y K < K then 1 else 0)) 20 0 43 (nI (wkQ m k y K))) := ⟨fun a ha => by rw [up3_g ha, up3_g ha, up3_g ha], fun b h0 _ => by rw [up3_j h0, up3_j h0, up3_j h0], fun i h1 h2 h3 => by rw [up3_i h2, up3_i h3, up3_i h1]⟩
      have mt : up3 (up3 (up3 σ 20 0 42 (wkV m k y K)) 20 0 44 (if wkU m (508 + 128 * k) y K < K then 1 else 0)) 20 0 43 (nI (wkQ m k y K)) 20 1 = m := by rw [kf.2.1 1 (by decide) (by decide)]; exact hm
      generalize up3 (up3 (up3 σ 20 0 42 (wkV m k y K)) 20 0 44 (if wkU m (508 + 128 * k) y K < K then 1 else 0)) 20 0 43 (nI (wkQ m k y K)) = τ at e42 e44 e43 kf mt
      rw [e42, e44]
      by_cases q3 : wkV m k y K < 0
      · rw [if_pos q3, if_pos q3]
        exact Ret.some ⟨rfl, kf, fun _ => e43, fun e => absurd e (by decide)⟩
      · rw [if_neg q3, if_neg q3]
        by_cases q4 : wkU m (508 + 128 * k) y K < K
        · rw [if_pos q4, if_neg (by decide), if_pos q4]
          exact Ret.some ⟨rfl, kf, fun e => absurd e (by decide), fun e => absurd e (by decide)⟩
        · obtain ⟨s, r, s1, r1, r2, e1, e2, e3, e4⟩ := wkV_lf hw hww q2 q3
          rw [if_neg q4, if_pos rfl, if_neg q4, e2, e4, m_joins (by rw [mt]; exact hw), some_b, mt, m_openCalls (by rw [mt]; exact hw), some_b, mt, m_rd3, some_b, mt]
          unfold rfCall
          by_cases j1 : jnI m (nI p) (nI s) < 0
          · rw [if_pos j1]
            by_cases j2 : sumI (opI m) (cn (m 3)) = 6
            · rw [if_pos j2, if_pos ⟨j1, Or.inl j2⟩]
              exact Ret.some ⟨rfl, kf, fun e => absurd e (by decide), fun e => absurd e (by decide)⟩
            · rw [if_neg j2]
              have b3 := hw.2.2.2.1
              by_cases j3 : cn (m 3) = 30
              · rw [if_pos (show m 3 = 30 by rw [b3.1, j3]; rfl), if_pos ⟨j1, Or.inr j3⟩]
                exact Ret.some ⟨rfl, kf, fun e => absurd e (by decide), fun e => absurd e (by decide)⟩
              · rw [if_neg (show ¬ m 3 = 30 by rw [b3.1, show (30 : Int32) = nI 30 from rfl, nI_eq (by omega) (by decide)]; exact j3), if_neg (fun z => z.2.elim j2 j3)]
                exact Ret.some ⟨rfl, kf, fun e => absurd e (by decide), fun _ => e42⟩
          · rw [if_neg j1, if_neg (fun z => j1 z.1)]
            exact Ret.some ⟨rfl, kf, fun e => absurd e (by decide), fun _ => e42⟩
    · have hlt : ¬ nI k < m 7 := by rw [b7.1]; exact nI_nlt (by omega) (by omega)
      rw [if_neg hlt, if_neg q2]
      exact Ret.some ⟨rfl, KpF.rf σ, fun e => absurd e (by decide), fun e => absurd e (by decide)⟩
  · rw [if_neg q1, if_pos rfl, if_neg q1]
    exact Ret.some ⟨rfl, KpF.rf σ, fun e => absurd e (by decide), fun e => absurd e (by decide)⟩
theorem m_refusal {σ : St} {m : Nat → Int32} {s w K dp : Nat} {d : Int32} {A : Nat → Nat} {y : Nat → Int32} (R : Rok m) (hm : σ 20 1 = m) (h2 : σ 20 0 2 = nI s) (hs6 : s ≤ 6) (h5 : σ 20 0 5 = d) (hkd : σ 20 0 20 = nI w) (hw22 : w ≤ 22) (hA : ∀ i, i < plC w → σ 20 23 i = nI (A i) ∧ A i ≤ 99999999) (BT : BtM σ w K dp y) : Ret (F_X12_refusal σ) (RfM σ m w A y K (rfS m s d w A y K dp)) := by
  have hw := R.1
  have hwm : WF (σ 20 1) := by rw [hm]; exact hw
  have b0 := hw.1.1.2
  have b1 := hw.2.1
  have b1' := b1.2
  have b2 := hw.2.2.1
  have b2' := b2.2
  have b3 := hw.2.2.2.1
  have b3' := b3.2
  have b4 := hw.2.2.2.2.1
  have b4' := b4.2
  have b7 := hw.2.2.2.2.2.1
  have b7' := b7.2
  have r0 : rdo σ 20 23 3 (0 : Int32) = some (σ 20 23 0) := rd3 (k := 0) (by decide)
  have r1 : rdo σ 20 23 3 (1 : Int32) = some (σ 20 23 1) := rd3 (k := 1) (by decide)
  have r2 : rdo σ 20 23 3 (2 : Int32) = some (σ 20 23 2) := rd3 (k := 2) (by decide)
  have pl : ∀ k, k < 2147483648 → F_X12_isPlace (nI k) σ = some (if k < cn (m 0) then 1 else 0) := fun k hk => by rw [m_isPlace hwm hk, hm]
  have un : ∀ k, k < 2147483648 → F_X12_isUnit (nI k) σ = some (if k < cn (m 2) then 1 else 0) := fun k hk => by rw [m_isUnit hwm hk, hm]
  unfold F_X12_refusal
  rw [r0, some_b, r1, some_b, r2, some_b, hkd]
  have hcs : w = 0 ∨ (w = 1 ∨ w = 2) ∨ (w = 3 ∨ w = 4) ∨ w = 5 ∨ (w = 6 ∨ w = 7) ∨ w = 8 ∨ w = 9 ∨ w = 10 ∨ w = 11 ∨ w = 12 ∨ w = 13 ∨ w = 14 ∨ w = 15 ∨ w = 16 ∨ w = 17 ∨ w = 18 ∨ w = 19 ∨ w = 20 ∨ w = 21 ∨ w = 22 := by omega
  rcases hcs with e | e | e | e | e | e | e | e | e | e | e | e | e | e | e | e | e | e | e | e
  · subst e
    obtain ⟨a0, a0'⟩ := hA 0 (by decide +kernel)
    have eS : rfS m s d 0 A y K dp = if 2 ≤ A 0 ∧ A 0 ≤ 8 then 0 else 4 := rfl
    have h1 : F_X12_in (nI (A 0)) 2 8 σ = some (if 2 ≤ A 0 ∧ A 0 ≤ 8 then 1 else 0) := inM_nI (lo := 2) (hi := 8) (by omega) (by decide) (by decide)
    rw [a0, h1, some_b, eS]
    by_cases q : 2 ≤ A 0 ∧ A 0 ≤ 8
    · rw [if_pos q, if_pos q]; exact Ret.of rfl (RfM.st (v := -1) rfl (by decide))
    · rw [if_neg q, if_neg q]; exact Ret.of rfl (RfM.st (v := 3) rfl (by decide))
  · have p3 : plC w = 3 := by rcases e with e | e <;> subst e <;> decide +kernel
    obtain ⟨a0, a0'⟩ := hA 0 (by omega)
    obtain ⟨a1, a1'⟩ := hA 1 (by omega)
    obtain ⟨a2, a2'⟩ := hA 2 (by omega)
    have eS : rfS m s d w A y K dp = if A 0 < cn (m 0) ∧ A 1 < cn (m 0) ∧ ¬ A 0 = A 1 then (if 1 ≤ A 2 ∧ A 2 ≤ 999 then (if cn (m 1) = 20 then 7 else 0) else 6) else 5 := by rcases e with e | e <;> subst e <;> rfl
    have h1 : F_X12_in (nI (A 2)) 1 999 σ = some (if 1 ≤ A 2 ∧ A 2 ≤ 999 then 1 else 0) := inM_nI (lo := 1) (hi := 999) (by omega) (by decide) (by decide)
    have wn : w ≠ 14 ∧ w ≠ 11 := by omega
    have eF : ∀ (X : Option (Int32 × St)), X = ((F_X12_isPlace (nI (A 0)) σ).bind (fun r37 => (if r37 = 0 then some ((4 : Int32), σ) else (F_X12_isPlace (nI (A 1)) σ).bind (fun r38 => (if r38 = 0 then some ((4 : Int32), σ) else (if (nI (A 0)) = (nI (A 1)) then some ((4 : Int32), σ) else (F_X12_in (nI (A 2)) (1 : Int32) (999 : Int32) σ).bind (fun r39 => (if r39 = 0 then some ((5 : Int32), σ) else (rdo σ 20 1 1532 (1 : Int32)).bind (fun r40 => (if r40 = (20 : Int32) then some ((6 : Int32), σ) else some ((-1 : Int32), σ))))))))))) → Ret X (RfM σ m w A y K (rfS m s d w A y K dp)) := by
      intro X eX
      rw [eX, pl _ (by omega), some_b, pl _ (by omega), some_b, h1, some_b, m_rd1, some_b, hm]
      have n10 : ¬ (1 : Int32) = 0 := by decide
      by_cases q1 : A 0 < cn (m 0)
      · rw [if_pos q1, if_neg n10]
        by_cases q2 : A 1 < cn (m 0)
        · rw [if_pos q2, if_neg n10]
          by_cases q3 : A 0 = A 1
          · rw [if_pos (show nI (A 0) = nI (A 1) by rw [q3]), eS, if_neg (fun z => z.2.2 q3)]; exact Ret.some (RfM.st rfl wn)
          · have q : A 0 < cn (m 0) ∧ A 1 < cn (m 0) ∧ ¬ A 0 = A 1 := ⟨q1, q2, q3⟩
            rw [if_neg (show ¬ nI (A 0) = nI (A 1) by rw [nI_eq (by omega) (by omega)]; exact q3)]
            by_cases q4 : 1 ≤ A 2 ∧ A 2 ≤ 999
            · rw [if_pos q4, if_neg n10]
              by_cases q5 : cn (m 1) = 20
              · rw [if_pos (show m 1 = 20 by rw [b1.1, q5]; rfl), eS, if_pos q, if_pos q4, if_pos q5]; exact Ret.some (RfM.st rfl wn)
              · rw [if_neg (show ¬ m 1 = 20 by rw [b1.1, show (20 : Int32) = nI 20 from rfl, nI_eq (by omega) (by decide)]; exact q5), eS, if_pos q, if_pos q4, if_neg q5]; exact Ret.some (RfM.st rfl wn)
            · rw [if_neg q4, if_pos rfl, eS, if_pos q, if_neg q4]; exact Ret.some (RfM.st rfl wn)
        · rw [if_neg q2, if_pos rfl, eS, if_neg (fun z => q2 z.2.1)]; exact Ret.some (RfM.st rfl wn)
      · rw [if_neg q1, if_pos rfl, eS, if_neg (fun z => q1 z.1)]; exact Ret.some (RfM.st rfl wn)
    rw [a0, a1, a2]
    exact eF _ (by rcases e with e | e <;> subst e <;> rfl)
  · have p1 : plC w = 1 := by rcases e with e | e <;> subst e <;> decide +kernel
    obtain ⟨a0, a0'⟩ := hA 0 (by omega)
    have eS : rfS m s d w A y K dp = if A 0 < cn (m 1) then (if m (10 + 5 * A 0 + 4) = (if w = 4 then 1 else 0) then 9 else 0) else 8 := by rcases e with e | e <;> subst e <;> rfl
    have wn : w ≠ 14 ∧ w ≠ 11 := by omega
    have hr : rdo σ 20 1 1532 (1 : Int32) = some (m 1) := by rw [m_rd1, hm]
    rw [a0, eS]
    by_cases q1 : A 0 < cn (m 1)
    · have ho := (hw.2.2.2.2.2.2.2.1 (A 0) q1).2.2.2.2.2.1
      have hlt : nI (A 0) < m 1 := by rw [b1.1]; exact nI_lt q1 (by omega)
      have hs4 : F_X12_street (nI (A 0)) 4 σ = some (m (10 + 5 * A 0 + 4)) := by rw [m_street4 (by omega), hm]
      simp only [hr, some_b, if_pos hlt, hs4]
      rw [if_pos q1]
      rcases e with e | e <;> subst e <;> rcases ho with ho | ho <;> rw [ho]
      · exact Ret.of rfl (RfM.st (v := 8) rfl wn)
      · exact Ret.of rfl (RfM.st (v := -1) rfl wn)
      · exact Ret.of rfl (RfM.st (v := -1) rfl wn)
      · exact Ret.of rfl (RfM.st (v := 8) rfl wn)
    · have hlt : ¬ nI (A 0) < m 1 := by rw [b1.1]; exact nI_nlt (by omega) (by omega)
      simp only [hr, some_b, if_neg hlt]
      rw [if_neg q1]
      rcases e with e | e <;> subst e <;> exact Ret.of rfl (RfM.st (v := 7) rfl wn)
  · subst e
    obtain ⟨a0, a0'⟩ := hA 0 (by decide +kernel)
    obtain ⟨a1, a1'⟩ := hA 1 (by decide +kernel)
    have eS : rfS m s d 5 A y K dp = if A 0 < cn (m 0) then (if 1 ≤ A 1 ∧ A 1 ≤ 7 then (if cn (m 2) = 6 then 7 else 0) else 10) else 5 := rfl
    have h1 : F_X12_in (nI (A 1)) 1 7 σ = some (if 1 ≤ A 1 ∧ A 1 ≤ 7 then 1 else 0) := inM_nI (lo := 1) (hi := 7) (by omega) (by decide) (by decide)
    have hr : rdo σ 20 1 1532 (2 : Int32) = some (m 2) := by rw [m_rd2, hm]
    rw [a0, a1, pl _ (by omega), h1, hr, eS]
    by_cases q1 : A 0 < cn (m 0)
    · rw [if_pos q1, if_pos q1]
      by_cases q4 : 1 ≤ A 1 ∧ A 1 ≤ 7
      · rw [if_pos q4, if_pos q4]
        by_cases q5 : cn (m 2) = 6
        · rw [if_pos q5, show m 2 = 6 by rw [b2.1, q5]; rfl]; exact Ret.of rfl (RfM.st (v := 6) rfl (by decide))
        · have : ¬ m 2 = 6 := by rw [b2.1, show (6 : Int32) = nI 6 from rfl, nI_eq (by omega) (by decide)]; exact q5
          simp only [some_b, if_neg this]
          rw [if_neg q5]; exact Ret.of rfl (RfM.st (v := -1) rfl (by decide))
      · rw [if_neg q4, if_neg q4]; exact Ret.of rfl (RfM.st (v := 9) rfl (by decide))
    · rw [if_neg q1, if_neg q1]; exact Ret.of rfl (RfM.st (v := 4) rfl (by decide))
  · have p1 : plC w = 1 := by rcases e with e | e <;> subst e <;> decide +kernel
    obtain ⟨a0, a0'⟩ := hA 0 (by omega)
    have eS : rfS m s d w A y K dp = if A 0 < cn (m 2) then (if m (110 + 8 * A 0 + 5) = 0 ∨ m (110 + 8 * A 0 + 5) = 4 then (if m (110 + 8 * A 0 + 5) = (if w = 6 then 4 else 0) then 9 else 0) else 12) else 11 := by rcases e with e | e <;> subst e <;> rfl
    have wn : w ≠ 14 ∧ w ≠ 11 := by omega
    rw [a0, eS]
    by_cases q1 : A 0 < cn (m 2)
    · have hs5 : F_X12_unit (nI (A 0)) 5 σ = some (m (110 + 8 * A 0 + 5)) := by rw [m_unit5 (by omega), hm]
      rw [if_pos q1, un _ (by omega), if_pos q1, hs5]
      by_cases q2 : m (110 + 8 * A 0 + 5) = 0
      · rw [q2, if_pos (Or.inl rfl)]
        rcases e with e | e <;> subst e <;> exact Ret.of rfl (RfM.st rfl wn)
      · by_cases q3 : m (110 + 8 * A 0 + 5) = 4
        · rw [q3, if_pos (Or.inr rfl)]
          rcases e with e | e <;> subst e <;> exact Ret.of rfl (RfM.st rfl wn)
        · have q23 : ¬ (m (110 + 8 * A 0 + 5) = 0 ∨ m (110 + 8 * A 0 + 5) = 4) := fun z => z.elim q2 q3
          rw [if_neg q23]
          simp only [some_b, if_neg q2, if_neg q3]
          rcases e with e | e <;> subst e <;> exact Ret.of rfl (RfM.st (v := 11) rfl wn)
    · rw [if_neg q1, un _ (by omega), if_neg q1]
      rcases e with e | e <;> subst e <;> exact Ret.of rfl (RfM.st (v := 10) rfl wn)
  · subst e
    obtain ⟨a0, a0'⟩ := hA 0 (by decide +kernel)
    obtain ⟨a1, a1'⟩ := hA 1 (by decide +kernel)
    have eS : rfS m s d 8 A y K dp = if A 0 < cn (m 2) then (if A 1 < cn (m 0) then (if m (110 + 8 * A 0 + 5) = 4 then 13 else if m (110 + 8 * A 0) = nI (A 1) then 9 else 0) else 5) else 11 := rfl
    rw [a0, a1, un (A 0) (by omega), pl (A 1) (by omega), eS]
    by_cases q1 : A 0 < cn (m 2)
    · have hs5 : F_X12_unit (nI (A 0)) 5 σ = some (m (110 + 8 * A 0 + 5)) := by rw [m_unit5 (by omega), hm]
      have hs0 : F_X12_unit (nI (A 0)) 0 σ = some (m (110 + 8 * A 0)) := by rw [m_unit0 (by omega), hm]
      rw [if_pos q1, if_pos q1, hs5, hs0]
      by_cases q2 : A 1 < cn (m 0)
      · rw [if_pos q2, if_pos q2]
        by_cases q3 : m (110 + 8 * A 0 + 5) = 4
        · rw [if_pos q3, q3]; exact Ret.of rfl (RfM.st (v := 12) rfl (by decide))
        · by_cases q4 : m (110 + 8 * A 0) = nI (A 1)
          · simp only [some_b, if_neg q3, q4, if_true]; exact Ret.of rfl (RfM.st (v := 8) rfl (by decide))
          · simp only [some_b, if_neg q3, if_neg q4]; exact Ret.of rfl (RfM.st (v := -1) rfl (by decide))
      · rw [if_neg q2, if_neg q2]; exact Ret.of rfl (RfM.st (v := 4) rfl (by decide))
    · rw [if_neg q1, if_neg q1]; exact Ret.of rfl (RfM.st (v := 10) rfl (by decide))
  · subst e
    obtain ⟨a0, a0'⟩ := hA 0 (by decide +kernel)
    obtain ⟨a1, a1'⟩ := hA 1 (by decide +kernel)
    obtain ⟨a2, a2'⟩ := hA 2 (by decide +kernel)
    have eS : rfS m s d 9 A y K dp = if A 0 < cn (m 0) then (if A 1 ≤ 2 then (if 1 ≤ A 2 ∧ A 2 ≤ 9 then rfCall m (A 0) (A 1) else 14) else 10) else 5 := rfl
    have h1 : F_X12_in (nI (A 1)) 0 2 σ = some (if A 1 ≤ 2 then 1 else 0) := by
      have := inM_nI (a := A 1) (lo := 0) (hi := 2) (σ := σ) (by omega) (by decide) (by decide)
      by_cases q : A 1 ≤ 2
      · rw [if_pos q]; rw [if_pos ⟨Nat.zero_le _, q⟩] at this; exact this
      · rw [if_neg q]; rw [if_neg (fun z => q z.2)] at this; exact this
    have h2' : F_X12_in (nI (A 2)) 1 9 σ = some (if 1 ≤ A 2 ∧ A 2 ≤ 9 then 1 else 0) := inM_nI (lo := 1) (hi := 9) (by omega) (by decide) (by decide)
    have hjn : F_X12_joins (nI (A 0)) (nI (A 1)) σ = some (jnI m (nI (A 0)) (nI (A 1))) := by rw [m_joins hwm, hm]
    have hop : F_X12_openCalls σ = some (sumI (opI m) (cn (m 3))) := by rw [m_openCalls hwm, hm]
    have hr : rdo σ 20 1 1532 (3 : Int32) = some (m 3) := by rw [m_rd3, hm]
    rw [a0, a1, a2, pl _ (by omega), h1, h2', hjn, hop, hr, eS]
    by_cases q1 : A 0 < cn (m 0)
    · rw [if_pos q1, if_pos q1]
      by_cases q2 : A 1 ≤ 2
      · rw [if_pos q2, if_pos q2]
        by_cases q3 : 1 ≤ A 2 ∧ A 2 ≤ 9
        · rw [if_pos q3, if_pos q3]
          by_cases j1 : jnI m (nI (A 0)) (nI (A 1)) < 0
          · by_cases j2 : sumI (opI m) (cn (m 3)) = 6
            · have eR : rfCall m (A 0) (A 1) = 7 := by unfold rfCall; rw [if_pos ⟨j1, Or.inl j2⟩]
              rw [eR]
              simp only [some_b, if_pos j1, if_pos j2]
              exact Ret.of rfl (RfM.st (v := 6) rfl (by decide))
            · by_cases j3 : cn (m 3) = 30
              · have m3 : m 3 = 30 := by rw [b3.1, j3]; rfl
                have eR : rfCall m (A 0) (A 1) = 7 := by unfold rfCall; rw [if_pos ⟨j1, Or.inr j3⟩]
                rw [eR]
                simp only [some_b, if_pos j1, if_neg j2, if_pos m3]
                exact Ret.of rfl (RfM.st (v := 6) rfl (by decide))
              · have m3 : ¬ m 3 = 30 := by rw [b3.1, show (30 : Int32) = nI 30 from rfl, nI_eq (by omega) (by decide)]; exact j3
                have eR : rfCall m (A 0) (A 1) = 0 := by unfold rfCall; rw [if_neg (fun z => z.2.elim j2 j3)]
                rw [eR]
                simp only [some_b, if_pos j1, if_neg j2, if_neg m3]
                exact Ret.of rfl (RfM.st (v := -1) rfl (by decide))
          · have eR : rfCall m (A 0) (A 1) = 0 := by unfold rfCall; rw [if_neg (fun z => j1 z.1)]
            rw [eR]
            simp only [some_b, if_neg j1]
            exact Ret.of rfl (RfM.st (v := -1) rfl (by decide))
        · rw [if_neg q3, if_neg q3]; exact Ret.of rfl (RfM.st (v := 13) rfl (by decide))
      · rw [if_neg q2, if_neg q2]; exact Ret.of rfl (RfM.st (v := 9) rfl (by decide))
    · rw [if_neg q1, if_neg q1]; exact Ret.of rfl (RfM.st (v := 4) rfl (by decide))
  · subst e
    exact Ret.of rfl (RfM.st (v := -1) rfl (by decide))
  · subst e
    obtain ⟨a0, a0'⟩ := hA 0 (by decide +kernel)
    obtain ⟨a1, a1'⟩ := hA 1 (by decide +kernel)
    have eS : rfS m s d 11 A y K dp = rfGo m (A 0) (A 1) := rfl
    obtain ⟨z, z1, z2, z3, z4⟩ := m_refGo hw hm (u := A 0) (c := A 1) (by omega) (by omega)
    rw [a0, a1, z1, eS]
    exact Ret.of rfl ⟨z2, z3, fun e => absurd e (by decide), fun e => absurd e (by decide), fun _ => z4⟩
  · subst e
    obtain ⟨a0, a0'⟩ := hA 0 (by decide +kernel)
    have eS : rfS m s d 12 A y K dp = if opC m (A 0) then 0 else 15 := rfl
    have ho : F_X12_isOpenCall (nI (A 0)) σ = some (if opC m (A 0) then 1 else 0) := by rw [m_isOpenCall hwm (by omega), hm]
    rw [a0, ho, eS]
    by_cases q : opC m (A 0)
    · rw [if_pos q, if_pos q]; exact Ret.of rfl (RfM.st (v := -1) rfl (by decide))
    · rw [if_neg q, if_neg q]; exact Ret.of rfl (RfM.st (v := 14) rfl (by decide))
  · subst e
    obtain ⟨t1, t2⟩ := BT.2 rfl
    have eS : rfS m s d 13 A y K dp = if 6 < dp then 29 else if cn (m 7) = 8 then 7 else 0 := rfl
    have hr : rdo σ 20 1 1532 (7 : Int32) = some (m 7) := by rw [m_rd7, hm]
    rw [t1, hr, eS]
    by_cases q1 : 6 < dp
    · have : (6 : Int32) < nI dp := nI_lt (a := 6) q1 (by omega)
      simp only [if_pos this, if_pos q1]
      exact Ret.of rfl (RfM.st (v := 28) rfl (by decide))
    · have : ¬ (6 : Int32) < nI dp := nI_nlt (a := 6) (by omega) (by decide)
      by_cases q2 : cn (m 7) = 8
      · have m7 : m 7 = 8 := by rw [b7.1, q2]; rfl
        simp only [if_neg this, some_b, if_pos m7, if_neg q1, if_pos q2]
        exact Ret.of rfl (RfM.st (v := 6) rfl (by decide))
      · have m7 : ¬ m 7 = 8 := by rw [b7.1, show (8 : Int32) = nI 8 from rfl, nI_eq (by omega) (by decide)]; exact q2
        simp only [if_neg this, some_b, if_neg m7, if_neg q1, if_neg q2]
        exact Ret.of rfl (RfM.st (v := -1) rfl (by decide))
  · subst e
    obtain ⟨a0, a0'⟩ := hA 0 (by decide +kernel)
    obtain ⟨a1, a1'⟩ := hA 1 (by decide +kernel)
    obtain ⟨t1, t2, t3⟩ := BT.1 (Or.inl rfl)
    have eS : rfS m s d 14 A y K dp = rfRep m (A 0) (A 1) y K := rfl
    obtain ⟨z, z1, z2, z3, z4, z5⟩ := m_refReport hw R.2.2.1 hm (p := A 0) (k := A 1) (by omega) (by omega) t1 t2 t3
    rw [a0, a1, z1, eS]
    exact Ret.of rfl ⟨z2, z3, fun _ => z4, fun _ => z5, fun e => absurd e (by decide)⟩
  · subst e
    obtain ⟨a0, a0'⟩ := hA 0 (by decide +kernel)
    obtain ⟨t1, t2, t3⟩ := BT.1 (Or.inr rfl)
    have eS : rfS m s d 15 A y K dp = rfNam m (A 0) K y := rfl
    rw [a0, pl _ (by omega), t1, eS]
    unfold rfNam
    by_cases q1 : A 0 < cn (m 0)
    · rw [if_pos q1, if_pos q1]
      by_cases q2 : 12 < K
      · have : (12 : Int32) < nI K := nI_lt (a := 12) q2 (by omega)
        simp only [if_pos this, if_pos q2]
        exact Ret.of rfl (RfM.st (v := 33) rfl (by decide))
      · have : ¬ (12 : Int32) < nI K := nI_nlt (a := 12) (by omega) (by decide)
        have ht := m_isTaken hw hm (p := A 0) (by omega) (show K ≤ 12 by omega) t1 t3
        simp only [if_neg this, if_neg q2, ht]
        have h01 : tknI m (A 0) K y (cn (m 0)) = 0 ∨ tknI m (A 0) K y (cn (m 0)) = 1 := by
          unfold tknI
          by_cases z : tkn m (A 0) K y (cn (m 0))
          · rw [if_pos z]; exact Or.inr rfl
          · rw [if_neg z]; exact Or.inl rfl
        rcases h01 with z | z
        · rw [z]; exact Ret.of rfl (RfM.st (v := -1) rfl (by decide))
        · rw [z]; exact Ret.of rfl (RfM.st (v := 34) rfl (by decide))
    · rw [if_neg q1, if_neg q1]; exact Ret.of rfl (RfM.st (v := 4) rfl (by decide))
  · subst e
    obtain ⟨a0, a0'⟩ := hA 0 (by decide +kernel)
    obtain ⟨a1, a1'⟩ := hA 1 (by decide +kernel)
    obtain ⟨a2, a2'⟩ := hA 2 (by decide +kernel)
    have eS : rfS m s d 16 A y K dp = if A 0 < cn (m 1) then (if A 1 ≤ 23 ∧ A 2 ≤ 23 then 0 else 36) else 8 := rfl
    have hr : rdo σ 20 1 1532 (1 : Int32) = some (m 1) := by rw [m_rd1, hm]
    rw [a0, a1, a2, hr, some_b, eS]
    by_cases q1 : A 0 < cn (m 1)
    · have hlt : nI (A 0) < m 1 := by rw [b1.1]; exact nI_lt q1 (by omega)
      by_cases q2 : A 1 ≤ 23
      · have n2 : ¬ (23 : Int32) < nI (A 1) := nI_nlt (a := 23) q2 (by decide)
        by_cases q3 : A 2 ≤ 23
        · have n3 : ¬ (23 : Int32) < nI (A 2) := nI_nlt (a := 23) q3 (by decide)
          have q23 : A 1 ≤ 23 ∧ A 2 ≤ 23 := ⟨q2, q3⟩
          rw [if_pos q1, if_pos q23]
          simp only [if_pos hlt, if_neg n2, if_neg n3]
          exact Ret.of rfl (RfM.st (v := -1) rfl (by decide))
        · have n3 : (23 : Int32) < nI (A 2) := nI_lt (a := 23) (by omega) (by omega)
          have q23 : ¬ (A 1 ≤ 23 ∧ A 2 ≤ 23) := fun z => q3 z.2
          rw [if_pos q1, if_neg q23]
          simp only [if_pos hlt, if_neg n2, if_pos n3]
          exact Ret.of rfl (RfM.st (v := 35) rfl (by decide))
      · have n2 : (23 : Int32) < nI (A 1) := nI_lt (a := 23) (by omega) (by omega)
        have q23 : ¬ (A 1 ≤ 23 ∧ A 2 ≤ 23) := fun z => q2 z.1
        rw [if_pos q1, if_neg q23]
        simp only [if_pos hlt, if_pos n2]
        exact Ret.of rfl (RfM.st (v := 35) rfl (by decide))
    · have hlt : ¬ nI (A 0) < m 1 := by rw [b1.1]; exact nI_nlt (by omega) (by omega)
      simp only [if_neg hlt, if_neg q1]
      exact Ret.of rfl (RfM.st (v := 7) rfl (by decide))
  · subst e
    obtain ⟨a0, a0'⟩ := hA 0 (by decide +kernel)
    obtain ⟨a1, a1'⟩ := hA 1 (by decide +kernel)
    obtain ⟨a2, a2'⟩ := hA 2 (by decide +kernel)
    have eS : rfS m s d 17 A y K dp = if A 0 < cn (m 2) then (if A 1 < A 2 then 0 else 6) else 11 := rfl
    rw [a0, a1, a2, un _ (by omega), eS]
    by_cases q1 : A 0 < cn (m 2)
    · rw [if_pos q1, if_pos q1]
      by_cases q2 : A 1 < A 2
      · have n2 : nI (A 1) < nI (A 2) := nI_lt q2 (by omega)
        simp only [if_pos n2, if_pos q2]
        exact Ret.of rfl (RfM.st (v := -1) rfl (by decide))
      · have n2 : ¬ nI (A 1) < nI (A 2) := nI_nlt (by omega) (by omega)
        simp only [if_neg n2, if_neg q2]
        exact Ret.of rfl (RfM.st (v := 5) rfl (by decide))
    · rw [if_neg q1, if_neg q1]; exact Ret.of rfl (RfM.st (v := 10) rfl (by decide))
  · subst e
    exact Ret.of rfl (RfM.st (v := -1) rfl (by decide))
  · subst e
    obtain ⟨a0, a0'⟩ := hA 0 (by decide +kernel)
    have h4 := R.2.2.2
    have eS : rfS m s d 19 A y K dp = if 1 ≤ A 0 ∧ A 0 ≤ 3600 then (if cn (m 4) + A 0 ≤ 1000000 then 0 else 6) else 6 := rfl
    have h1 : F_X12_in (nI (A 0)) 1 3600 σ = some (if 1 ≤ A 0 ∧ A 0 ≤ 3600 then 1 else 0) := inM_nI (lo := 1) (hi := 3600) (by omega) (by decide) (by decide)
    have hr : rdo σ 20 1 1532 (4 : Int32) = some (m 4) := by rw [m_rd4, hm]
    rw [a0, h1, hr, eS]
    by_cases q1 : 1 ≤ A 0 ∧ A 0 ≤ 3600
    · rw [if_pos q1, if_pos q1]
      have e4 : m 4 + nI (A 0) = nI (cn (m 4) + A 0) := by
        conv => lhs; rw [b4.1]
        rw [nI_add]
      by_cases q2 : cn (m 4) + A 0 ≤ 1000000
      · have n2 : ¬ (1000000 : Int32) < nI (cn (m 4) + A 0) := nI_nlt (a := 1000000) q2 (by decide)
        simp only [some_b, e4, if_neg n2, if_pos q2]
        exact Ret.of rfl (RfM.st (v := -1) rfl (by decide))
      · have n2 : (1000000 : Int32) < nI (cn (m 4) + A 0) := nI_lt (a := 1000000) (by omega) (by omega)
        simp only [some_b, e4, if_pos n2, if_neg q2]
        exact Ret.of rfl (RfM.st (v := 5) rfl (by decide))
    · rw [if_neg q1, if_neg q1]; exact Ret.of rfl (RfM.st (v := 5) rfl (by decide))
  · subst e
    have eS : rfS m s d 20 A y K dp = if s = 0 then 19 else 0 := rfl
    rw [h2, eS]
    by_cases q : s = 0
    · rw [q, if_pos rfl]; exact Ret.of rfl (RfM.st (v := 18) rfl (by decide))
    · have : ¬ nI s = 0 := nI_ne0 (by omega) (by omega)
      simp only [if_neg this, if_neg q]
      exact Ret.of rfl (RfM.st (v := -1) rfl (by decide))
  · subst e
    have eS : rfS m s d 21 A y K dp = if d = 0 then 0 else 20 := rfl
    rw [h5, eS]
    by_cases q : d = 0
    · simp only [if_pos q]; exact Ret.of rfl (RfM.st (v := -1) rfl (by decide))
    · simp only [if_neg q]; exact Ret.of rfl (RfM.st (v := 19) rfl (by decide))
  · subst e
    have eS : rfS m s d 22 A y K dp = if d = 0 then 21 else 0 := rfl
    rw [h5, eS]
    by_cases q : d = 0
    · simp only [if_pos q]; exact Ret.of rfl (RfM.st (v := 20) rfl (by decide))
    · simp only [if_neg q]; exact Ret.of rfl (RfM.st (v := -1) rfl (by decide))
