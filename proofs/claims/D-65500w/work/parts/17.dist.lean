/-! S4: the component's table of distances -/
set_option maxRecDepth 100000
theorem imin_nI {a b : Nat} (ha : a < 2147483648) (hb : b < 2147483648) : imin (nI a) (nI b) = nI (min a b) := by
  unfold imin
  by_cases h : b < a
  · rw [if_pos (nI_lt h ha), Nat.min_eq_right (by omega)]
  · rw [if_neg (nI_nlt (by omega) hb), Nat.min_eq_left (by omega)]
noncomputable def ldN (m : Nat → Int32) (k p q : Nat) : Nat := @ite _ (arcK m k p q) (Classical.propDecidable _) (sec m k) 1000000
theorem ldN_lt {m : Nat → Int32} (hw : WF m) {k p q : Nat} (hk : k < cn (m 1)) : ldN m k p q ≤ 1000000 := by
  unfold ldN
  obtain ⟨-, h2, -⟩ := sec_lt hw hk
  by_cases h : arcK m k p q
  · rw [if_pos h]; show _ ≤ 1000000; omega
  · rw [if_neg h]; exact Nat.le_refl _
theorem c_leads {σ : St} {h k p q : Nat} {m : Nat → Int32} (hw : WF m) (hc : HC (σ h) m) (hk : k < cn (m 1)) (hp : p < 2147483648) (hq : q < 2147483648) : F_X3_leads h (nI k) (nI p) (nI q) σ = some (nI (ldN m k p q)) := by
  have hS := hw.2.1.2
  obtain ⟨⟨f1, -⟩, ⟨t1, -⟩, -, ⟨s1, -⟩, -⟩ := hw.2.2.2.2.2.2.2.1 k hk
  obtain ⟨c1, c2, c3, c4, -⟩ := hc.2.1 k hk
  have e1 : m (10 + 5 * k) = nI p ↔ cn (m (10 + 5 * k)) = p := bd_eq f1 (by decide) hp
  have e2 : m (10 + 5 * k) = nI q ↔ cn (m (10 + 5 * k)) = q := bd_eq f1 (by decide) hq
  have e3 : m (10 + 5 * k + 1) = nI p ↔ cn (m (10 + 5 * k + 1)) = p := bd_eq t1 (by decide) hp
  have e4 : m (10 + 5 * k + 1) = nI q ↔ cn (m (10 + 5 * k + 1)) = q := bd_eq t1 (by decide) hq
  have e5 : m (10 + 5 * k + 2) = nI (sec m k) := s1.1
  unfold F_X3_leads
  rw [c_isOpenStreet hw hc hk, some_b]
  simp (disch := omega) only [rdo_nI, some_b, c1, c2, c3, c4, e1, e2, e3, e4]
  unfold ldN
  by_cases ho : stOpen m k
  · rw [if_pos ho, if_neg (by decide)]
    by_cases a1 : cn (m (10 + 5 * k)) = p ∧ cn (m (10 + 5 * k + 1)) = q
    · rw [if_pos a1.1, if_pos a1.2, bindL_inr, some_b, if_neg (by decide), if_pos (show arcK m k p q from ⟨ho, Or.inl a1⟩), e5]
    · have e : bindL (if cn (m (10 + 5 * k)) = p then if cn (m (10 + 5 * k + 1)) = q then some (Sum.inr (1 : Int32)) else some (Sum.inl ()) else some (Sum.inl ())) (fun _ : Unit => if m (10 + 5 * k + 3) = 0 then if cn (m (10 + 5 * k)) = q then if cn (m (10 + 5 * k + 1)) = p then some (1 : Int32) else some 0 else some 0 else some 0) = (if m (10 + 5 * k + 3) = 0 then if cn (m (10 + 5 * k)) = q then if cn (m (10 + 5 * k + 1)) = p then some (1 : Int32) else some 0 else some 0 else some 0) := by
        by_cases b1 : cn (m (10 + 5 * k)) = p
        · rw [if_pos b1, if_neg (fun z => a1 ⟨b1, z⟩), bindL_inl]
        · rw [if_neg b1, bindL_inl]
      rw [e]
      by_cases a2 : m (10 + 5 * k + 3) = 0 ∧ cn (m (10 + 5 * k)) = q ∧ cn (m (10 + 5 * k + 1)) = p
      · rw [if_pos a2.1, if_pos a2.2.1, if_pos a2.2.2, some_b, if_neg (by decide), if_pos (show arcK m k p q from ⟨ho, Or.inr a2⟩), e5]
      · rw [if_neg (show ¬ arcK m k p q from fun z => z.2.elim a1 a2)]
        by_cases b1 : m (10 + 5 * k + 3) = 0
        · rw [if_pos b1]
          by_cases b2 : cn (m (10 + 5 * k)) = q
          · rw [if_pos b2, if_neg (fun z => a2 ⟨b1, b2, z⟩), some_b, if_pos rfl]
            rfl
          · rw [if_neg b2, some_b, if_pos rfl]
            rfl
        · rw [if_neg b1, some_b, if_pos rfl]
          rfl
  · rw [if_neg ho, if_pos rfl, some_b, if_pos rfl, if_neg (show ¬ arcK m k p q from fun z => ho z.1)]
    rfl
/-- all but one member of a group stays -/
def Fr (σ σ' : St) (h j : Nat) : Prop := ∀ a b, ¬ (a = h ∧ b = j) → σ' a b = σ a b
theorem Fr.rf (σ : St) (h j : Nat) : Fr σ σ h j := fun _ _ _ => rfl
theorem Fr.up {σ σ' : St} {h j : Nat} (k : Fr σ σ' h j) (i : Nat) (v : Int32) : Fr σ (up3 σ' h j i v) h j := by
  intro a b hab
  rw [up3_ne σ' v hab]
  exact k a b hab
theorem HC.fr {σ σ' : St} {h j : Nat} {m : Nat → Int32} (hc : HC (σ h) m) (k : Fr σ σ' h j) (hj : j = 28) : HC (σ' h) m := by
  subst hj
  have e : ∀ b, b ≠ 28 → σ' h b = σ h b := fun b hb => k h b (fun z => hb z.2)
  unfold HC at hc ⊢
  simp only [e 0 (by decide), e 1 (by decide), e 2 (by decide), e 3 (by decide), e 4 (by decide), e 5 (by decide), e 6 (by decide), e 7 (by decide), e 8 (by decide), e 9 (by decide), e 15 (by decide), e 16 (by decide), e 17 (by decide), e 18 (by decide), e 19 (by decide), e 20 (by decide), e 21 (by decide), e 22 (by decide), e 23 (by decide), e 24 (by decide), e 25 (by decide), e 26 (by decide), e 27 (by decide)]
  exact hc
theorem lp_35 {σ : St} {h p q : Nat} {m : Nat → Int32} (hw : WF m) (hc : HC (σ h) m) (hp : p < 8) (hq : q < 8) : iter (fun z => B_X3_measure_35 h (nI p) (nI q) z.1 z.2 σ) (nI (Lk m p q 0), nI 0) = some (nI (Lk m p q (cn (m 1)))) := by
  have hS := hw.2.1
  have hS2 := hS.2
  refine iter_row (f := fun z => B_X3_measure_35 h (nI p) (nI q) z.1 z.2 σ) (fun k => (nI (Lk m p q k), nI k)) (cn (m 1)) _ ?_ ?_ 0 (Nat.zero_le _)
  · intro k hk
    have h1 := Lk_far m p q k
    have h2 := ldN_lt hw (p := p) (q := q) hk
    show B_X3_measure_35 h (nI p) (nI q) (nI (Lk m p q k)) (nI k) σ = _
    unfold B_X3_measure_35
    rw [hc.1.2.1, if_pos ((bd_lt hS (by decide) (by omega)).mpr hk), c_leads hw hc hk (by omega) (by omega), some_b, imin_nI (by omega) (by omega), nmo_b, nI_1]
    rfl
  · show B_X3_measure_35 h (nI p) (nI q) _ (nI (cn (m 1))) σ = _
    unfold B_X3_measure_35
    rw [hc.1.2.1, if_neg]
    rw [bd_lt hS (by decide) (by omega)]
    omega
/-- the table as far as it is filled: rows ahead of p, and of row p what is ahead of q -/
def TabC (σ : St) (h P p q : Nat) (D E : Nat → Nat → Nat) : Prop := ∀ a b, a < P → b < P → σ h 28 (8 * a + b) = nI (if a < p ∨ (a = p ∧ b < q) then D a b else E a b)
theorem lp_12 {σ : St} {h p : Nat} {m : Nat → Int32} (hw : WF m) (hc : HC (σ h) m) (hp : p < cn (m 0)) : ∀ (τ : St), Fr σ τ h 28 → (∀ a b, a < p → b < cn (m 0) → τ h 28 (8 * a + b) = nI (D0 m a b)) → Ret (iter (fun z => B_X3_measure_12 h (nI p) z.1 z.2) (nI 0, τ)) (fun τ' => Fr σ τ' h 28 ∧ ∀ a b, a < p + 1 → b < cn (m 0) → τ' h 28 (8 * a + b) = nI (D0 m a b)) := by
  intro τ hτ hT
  have hP := hw.1.1
  have hP2 := hP.2
  refine iter_inv (f := fun z => B_X3_measure_12 h (nI p) z.1 z.2) (fun k a => a.1 = nI k ∧ Fr σ a.2 h 28 ∧ ∀ x y, (x < p ∨ (x = p ∧ y < k)) → y < cn (m 0) → a.2 h 28 (8 * x + y) = nI (D0 m x y)) _ (cn (m 0)) ?_ ?_ 0 (nI 0, τ) (Nat.zero_le _) ⟨rfl, hτ, fun x y hx hy => ?_⟩
  · rintro k ⟨c, τ⟩ hk ⟨e, hF, hI⟩
    dsimp only at *
    have e : c = nI k := e
    subst e
    have hc' := hc.fr hF rfl
    show Ret (B_X3_measure_12 h (nI p) (nI k) τ) _
    unfold B_X3_measure_12
    have hpk : nI p = nI k ↔ p = k := nI_eq (by omega) (by omega)
    have hl : (if p = k then (0 : Int32) else 1000000) = nI (Lk m p k 0) := by
      unfold Lk
      by_cases z : p = k
      · rw [if_pos z, if_pos z]; rfl
      · rw [if_neg z, if_neg z]; rfl
    rw [hc'.1.1, if_pos ((bd_lt hP (by decide) (by omega)).mpr hk), ite_bind]
    simp only [hpk]
    rw [hl, show (0 : Int32) = nI 0 from rfl, lp_35 hw hc' (by omega) (by omega), some_b, ite_bind]
    have hd : (if p = k then nI 0 else nI (Lk m p k (cn (m 1)))) = nI (D0 m p k) := by
      unfold D0
      by_cases z : p = k
      · rw [if_pos z, if_pos z]
      · rw [if_neg z, if_neg z]
    rw [hd, show (8 : Int32) = nI 8 from rfl, nI_mul', nI_add, wro_nI (by omega) (by decide), some_b, nI_1]
    refine Ret.some ⟨rfl, hF.up _ _, fun x y hx hy => ?_⟩
    show up3 τ h 28 (p * 8 + k) (nI (D0 m p k)) h 28 (8 * x + y) = _
    by_cases z : x = p ∧ y = k
    · obtain ⟨rfl, rfl⟩ := z
      rw [show 8 * x + y = x * 8 + y by omega, up3_same]
    · rw [up3_i (by omega)]
      exact hI x y (by omega) hy
  · rintro ⟨c, τ⟩ ⟨e, hF, hI⟩
    dsimp only at *
    have e : c = nI (cn (m 0)) := e
    subst e
    refine ⟨τ, ?_, hF, fun a b ha hb => hI a b (by omega) hb⟩
    show B_X3_measure_12 h (nI p) (nI (cn (m 0))) τ = _
    unfold B_X3_measure_12
    rw [(hc.fr hF rfl).1.1, if_neg]
    rw [bd_lt hP (by decide) (by omega)]
    omega
  · exact hT x y (by omega) hy
theorem lp_2 {σ : St} {h : Nat} {m : Nat → Int32} (hw : WF m) (hc : HC (σ h) m) : Ret (iter (fun z => B_X3_measure_2 h z.1 z.2) (nI 0, σ)) (fun τ' => Fr σ τ' h 28 ∧ ∀ a b, a < cn (m 0) → b < cn (m 0) → τ' h 28 (8 * a + b) = nI (D0 m a b)) := by
  have hP := hw.1.1
  have hP2 := hP.2
  refine iter_inv (f := fun z => B_X3_measure_2 h z.1 z.2) (fun k a => a.1 = nI k ∧ Fr σ a.2 h 28 ∧ ∀ x y, x < k → y < cn (m 0) → a.2 h 28 (8 * x + y) = nI (D0 m x y)) _ (cn (m 0)) ?_ ?_ 0 (nI 0, σ) (Nat.zero_le _) ⟨rfl, Fr.rf _ _ _, fun x y hx hy => by omega⟩
  · rintro k ⟨c, τ⟩ hk ⟨e, hF, hI⟩
    dsimp only at *
    have e : c = nI k := e
    subst e
    show Ret (B_X3_measure_2 h (nI k) τ) _
    unfold B_X3_measure_2
    rw [(hc.fr hF rfl).1.1, if_pos ((bd_lt hP (by decide) (by omega)).mpr hk), show (0 : Int32) = nI 0 from rfl]
    refine Ret.bind (lp_12 hw hc hk τ hF hI) (fun τ' hτ' => ?_)
    rw [nI_1]
    exact Ret.some ⟨rfl, hτ'.1, hτ'.2⟩
  · rintro ⟨c, τ⟩ ⟨e, hF, hI⟩
    dsimp only at *
    have e : c = nI (cn (m 0)) := e
    subst e
    refine ⟨τ, ?_, hF, fun a b ha hb => hI a b ha hb⟩
    show B_X3_measure_2 h (nI (cn (m 0))) τ = _
    unfold B_X3_measure_2
    rw [(hc.fr hF rfl).1.1, if_neg]
    rw [bd_lt hP (by decide) (by omega)]
    omega
abbrev Dn (D : Nat → Nat → Nat) (k : Nat) : Nat → Nat → Nat := fun p q => min (D p q) (D p k + D k q)
theorem lp_118 {σ : St} {h k p : Nat} {m : Nat → Int32} {D : Nat → Nat → Nat} (hw : WF m) (hc : HC (σ h) m) (hk : k < cn (m 0)) (hp : p < cn (m 0)) (hz : D k k = 0) (hD : ∀ a b, D a b ≤ 1000000) : ∀ (τ : St), Fr σ τ h 28 → (∀ a b, a < cn (m 0) → b < cn (m 0) → τ h 28 (8 * a + b) = nI (if a < p then Dn D k a b else D a b)) → Ret (iter (fun z => B_X3_measure_118 h (nI k) (nI p) z.1 z.2) (nI 0, τ)) (fun τ' => Fr σ τ' h 28 ∧ ∀ a b, a < cn (m 0) → b < cn (m 0) → τ' h 28 (8 * a + b) = nI (if a < p + 1 then Dn D k a b else D a b)) := by
  intro τ hτ hT
  have hP := hw.1.1
  have hP2 := hP.2
  refine iter_inv (f := fun z => B_X3_measure_118 h (nI k) (nI p) z.1 z.2) (fun q a => a.1 = nI q ∧ Fr σ a.2 h 28 ∧ ∀ x y, x < cn (m 0) → y < cn (m 0) → a.2 h 28 (8 * x + y) = nI (if x < p ∨ (x = p ∧ y < q) then Dn D k x y else D x y)) _ (cn (m 0)) ?_ ?_ 0 (nI 0, τ) (Nat.zero_le _) ⟨rfl, hτ, fun x y hx hy => ?_⟩
  · rintro q ⟨c, τ⟩ hq ⟨e, hF, hI⟩
    dsimp only at *
    have e : c = nI q := e
    subst e
    have hI : ∀ x y, x < cn (m 0) → y < cn (m 0) → τ h 28 (8 * x + y) = nI (if x < p ∨ (x = p ∧ y < q) then Dn D k x y else D x y) := hI
    have r1 : τ h 28 (p * 8 + q) = nI (D p q) := by
      rw [show p * 8 + q = 8 * p + q by omega, hI p q hp hq, if_neg (by omega)]
    have r2 : τ h 28 (p * 8 + k) = nI (D p k) := by
      rw [show p * 8 + k = 8 * p + k by omega, hI p k hp hk]
      have : Dn D k p k = D p k := by show min (D p k) (D p k + D k k) = _; omega
      rw [this, ite_self]
    have r3 : τ h 28 (k * 8 + q) = nI (D k q) := by
      rw [show k * 8 + q = 8 * k + q by omega, hI k q hk hq]
      have : Dn D k k q = D k q := by show min (D k q) (D k k + D k q) = _; omega
      rw [this, ite_self]
    have b1 := hD p q
    have b2 := hD p k
    have b3 := hD k q
    show Ret (B_X3_measure_118 h (nI k) (nI p) (nI q) τ) _
    unfold B_X3_measure_118
    rw [(hc.fr hF rfl).1.1, if_pos ((bd_lt hP (by decide) (by omega)).mpr hq), show (8 : Int32) = nI 8 from rfl, nI_mul', nI_mul', nI_add, nI_add, nI_add]
    rw [rdo_nI (by omega) (by decide), some_b, rdo_nI (by omega) (by decide), some_b, rdo_nI (by omega) (by decide), some_b, r1, r2, r3, nI_add, imin_nI (by omega) (by omega), wro_nI (by omega) (by decide), some_b, nI_1]
    refine Ret.some ⟨rfl, hF.up _ _, fun x y hx hy => ?_⟩
    show up3 τ h 28 (p * 8 + q) (nI (min (D p q) (D p k + D k q))) h 28 (8 * x + y) = _
    by_cases z : x = p ∧ y = q
    · obtain ⟨rfl, rfl⟩ := z
      rw [show 8 * x + y = x * 8 + y by omega, up3_same, if_pos (by omega)]
    · rw [up3_i (by omega), hI x y hx hy]
      by_cases z2 : x < p ∨ (x = p ∧ y < q)
      · rw [if_pos z2, if_pos (by omega)]
      · rw [if_neg z2, if_neg (by omega)]
  · rintro ⟨c, τ⟩ ⟨e, hF, hI⟩
    dsimp only at *
    have e : c = nI (cn (m 0)) := e
    subst e
    refine ⟨τ, ?_, hF, fun a b ha hb => ?_⟩
    · show B_X3_measure_118 h (nI k) (nI p) (nI (cn (m 0))) τ = _
      unfold B_X3_measure_118
      rw [(hc.fr hF rfl).1.1, if_neg]
      rw [bd_lt hP (by decide) (by omega)]
      omega
    · have := hI a b ha hb
      rw [this]
      by_cases z2 : a < p + 1
      · rw [if_pos (by omega), if_pos z2]
      · rw [if_neg (by omega), if_neg z2]
  · show τ h 28 (8 * x + y) = _
    rw [hT x y hx hy]
    by_cases z2 : x < p
    · rw [if_pos (by omega), if_pos (by omega)]
    · rw [if_neg z2, if_neg (by omega)]
theorem lp_108 {σ : St} {h k : Nat} {m : Nat → Int32} {D : Nat → Nat → Nat} (hw : WF m) (hc : HC (σ h) m) (hk : k < cn (m 0)) (hz : D k k = 0) (hD : ∀ a b, D a b ≤ 1000000) : ∀ (τ : St), Fr σ τ h 28 → (∀ a b, a < cn (m 0) → b < cn (m 0) → τ h 28 (8 * a + b) = nI (D a b)) → Ret (iter (fun z => B_X3_measure_108 h (nI k) z.1 z.2) (nI 0, τ)) (fun τ' => Fr σ τ' h 28 ∧ ∀ a b, a < cn (m 0) → b < cn (m 0) → τ' h 28 (8 * a + b) = nI (Dn D k a b)) := by
  intro τ hτ hT
  have hP := hw.1.1
  have hP2 := hP.2
  refine iter_inv (f := fun z => B_X3_measure_108 h (nI k) z.1 z.2) (fun p a => a.1 = nI p ∧ Fr σ a.2 h 28 ∧ ∀ x y, x < cn (m 0) → y < cn (m 0) → a.2 h 28 (8 * x + y) = nI (if x < p then Dn D k x y else D x y)) _ (cn (m 0)) ?_ ?_ 0 (nI 0, τ) (Nat.zero_le _) ⟨rfl, hτ, fun x y hx hy => ?_⟩
  · rintro p ⟨c, τ⟩ hp ⟨e, hF, hI⟩
    dsimp only at *
    have e : c = nI p := e
    subst e
    show Ret (B_X3_measure_108 h (nI k) (nI p) τ) _
    unfold B_X3_measure_108
    rw [(hc.fr hF rfl).1.1, if_pos ((bd_lt hP (by decide) (by omega)).mpr hp), show (0 : Int32) = nI 0 from rfl]
    refine Ret.bind (lp_118 hw hc hk hp hz hD τ hF hI) (fun τ' hτ' => ?_)
    rw [nI_1]
    exact Ret.some ⟨rfl, hτ'.1, hτ'.2⟩
  · rintro ⟨c, τ⟩ ⟨e, hF, hI⟩
    dsimp only at *
    have e : c = nI (cn (m 0)) := e
    subst e
    refine ⟨τ, ?_, hF, fun a b ha hb => ?_⟩
    · show B_X3_measure_108 h (nI k) (nI (cn (m 0))) τ = _
      unfold B_X3_measure_108
      rw [(hc.fr hF rfl).1.1, if_neg]
      rw [bd_lt hP (by decide) (by omega)]
      omega
    · have := hI a b ha hb
      rw [this, if_pos ha]
  · show τ h 28 (8 * x + y) = _
    rw [hT x y hx hy, if_neg (by omega)]
theorem lp_98 {σ : St} {h : Nat} {m : Nat → Int32} (hw : WF m) (hc : HC (σ h) m) : ∀ (τ : St), Fr σ τ h 28 → (∀ a b, a < cn (m 0) → b < cn (m 0) → τ h 28 (8 * a + b) = nI (D0 m a b)) → Ret (iter (fun z => B_X3_measure_98 h z.1 z.2) (nI 0, τ)) (fun τ' => Fr σ τ' h 28 ∧ ∀ a b, a < cn (m 0) → b < cn (m 0) → τ' h 28 (8 * a + b) = nI (DD m a b)) := by
  intro τ hτ hT
  have hP := hw.1.1
  have hP2 := hP.2
  refine iter_inv (f := fun z => B_X3_measure_98 h z.1 z.2) (fun k a => a.1 = nI k ∧ Fr σ a.2 h 28 ∧ ∃ D, FW m k D ∧ ∀ x y, x < cn (m 0) → y < cn (m 0) → a.2 h 28 (8 * x + y) = nI (D x y)) _ (cn (m 0)) ?_ ?_ 0 (nI 0, τ) (Nat.zero_le _) ⟨rfl, hτ, D0 m, FW.zero hw, hT⟩
  · rintro k ⟨c, τ⟩ hk ⟨e, hF, D, hD, hI⟩
    dsimp only at *
    have e : c = nI k := e
    subst e
    show Ret (B_X3_measure_98 h (nI k) τ) _
    unfold B_X3_measure_98
    rw [(hc.fr hF rfl).1.1, if_pos ((bd_lt hP (by decide) (by omega)).mpr hk), show (0 : Int32) = nI 0 from rfl]
    refine Ret.bind (lp_108 hw hc hk (hD.1 k) hD.2.2.2.2 τ hF hI) (fun τ' hτ' => ?_)
    rw [nI_1]
    exact Ret.some ⟨rfl, hτ'.1, Dn D k, hD.step, hτ'.2⟩
  · rintro ⟨c, τ⟩ ⟨e, hF, D, hD, hI⟩
    dsimp only at *
    have e : c = nI (cn (m 0)) := e
    subst e
    refine ⟨τ, ?_, hF, fun a b ha hb => ?_⟩
    · show B_X3_measure_98 h (nI (cn (m 0))) τ = _
      unfold B_X3_measure_98
      rw [(hc.fr hF rfl).1.1, if_neg]
      rw [bd_lt hP (by decide) (by omega)]
      omega
    · have := hI a b ha hb
      rw [this, (hD.ok hw rfl).eq ha hb]
/-- the cache of distances is right, if it is said to be known -/
def KnC (c : Nat → Nat → Int32) (m : Nat → Int32) : Prop := (c 0 37 = 0 ∨ c 0 37 = 1) ∧ (c 0 37 = 1 → ∀ a b, a < cn (m 0) → b < cn (m 0) → c 28 (8 * a + b) = nI (DD m a b))
/-- nothing but a house's cache of distances has changed -/
def FrK (σ σ' : St) (h : Nat) : Prop := ∀ a b, ¬ (a = h ∧ b = 28) → ∀ i, ¬ (a = h ∧ b = 0 ∧ i = 37) → σ' a b i = σ a b i
theorem FrK.rf (σ : St) (h : Nat) : FrK σ σ h := fun _ _ _ _ _ => rfl
theorem FrK.tr {σ σ' σ'' : St} {h : Nat} (a : FrK σ σ' h) (b : FrK σ' σ'' h) : FrK σ σ'' h := fun x y hxy i hi => (b x y hxy i hi).trans (a x y hxy i hi)
theorem FrK.g {σ σ' : St} {h g : Nat} (k : FrK σ σ' h) (hg : g ≠ h) : σ' g = σ g := by
  funext b i
  exact k g b (fun z => hg z.1) i (fun z => hg z.1)
theorem FrK.j {σ σ' : St} {h j : Nat} (k : FrK σ σ' h) (hj : j ≠ 28) (h0 : j ≠ 0) : σ' h j = σ h j := by
  funext i
  exact k h j (fun z => hj z.2) i (fun z => h0 z.2.1)
theorem FrK.z {σ σ' : St} {h i : Nat} (k : FrK σ σ' h) (hi : i ≠ 37) : σ' h 0 i = σ h 0 i := k h 0 (fun z => by cases z.2) i (fun z => hi z.2.2)
theorem HC.frK {σ σ' : St} {h : Nat} {m : Nat → Int32} (hc : HC (σ h) m) (k : FrK σ σ' h) : HC (σ' h) m := by
  have e : ∀ b, b ≠ 28 → b ≠ 0 → σ' h b = σ h b := fun b hb h0 => k.j hb h0
  unfold HC at hc ⊢
  simp only [k.z (i := 28) (by decide), k.z (i := 29) (by decide), k.z (i := 30) (by decide), k.z (i := 31) (by decide), k.z (i := 32) (by decide), k.z (i := 33) (by decide), k.z (i := 34) (by decide), k.z (i := 35) (by decide), k.z (i := 36) (by decide), e 1 (by decide) (by decide), e 2 (by decide) (by decide), e 3 (by decide) (by decide), e 4 (by decide) (by decide), e 5 (by decide) (by decide), e 6 (by decide) (by decide), e 7 (by decide) (by decide), e 8 (by decide) (by decide), e 9 (by decide) (by decide), e 15 (by decide) (by decide), e 16 (by decide) (by decide), e 17 (by decide) (by decide), e 18 (by decide) (by decide), e 19 (by decide) (by decide), e 20 (by decide) (by decide), e 21 (by decide) (by decide), e 22 (by decide) (by decide), e 23 (by decide) (by decide), e 24 (by decide) (by decide), e 25 (by decide) (by decide), e 26 (by decide) (by decide), e 27 (by decide) (by decide)]
  exact hc
theorem c_measure {σ : St} {h : Nat} {m : Nat → Int32} (hw : WF m) (hc : HC (σ h) m) : Ret (F_X3_measure h σ) (fun σ' => FrK σ σ' h ∧ σ' h 0 37 = 1 ∧ ∀ a b, a < cn (m 0) → b < cn (m 0) → σ' h 28 (8 * a + b) = nI (DD m a b)) := by
  unfold F_X3_measure
  rw [show ((0 : Int32), σ) = (nI 0, σ) from rfl]
  refine Ret.bind (lp_2 hw hc) (fun τ hτ => ?_)
  rw [show ((0 : Int32), τ) = (nI 0, τ) from rfl]
  refine Ret.bind (lp_98 hw hc τ hτ.1 hτ.2) (fun τ' hτ' => ?_)
  rw [zro_1, some_b, nst_b]
  refine Ret.some ⟨?_, up3_same _ _ _ _ _, fun a b ha hb => ?_⟩
  · intro a b hab i hi
    by_cases z : a = h ∧ b = 0
    · obtain ⟨rfl, rfl⟩ := z
      rw [up3_i (fun e => hi ⟨rfl, rfl, e⟩), hτ'.1 _ _ hab]
    · rw [up3_ne _ _ z, hτ'.1 _ _ hab]
  · rw [up3_j (by decide)]
    exact hτ'.2 a b ha hb
theorem c_far {σ : St} {h p q : Nat} {m : Nat → Int32} (hw : WF m) (hc : HC (σ h) m) (hk : KnC (σ h) m) (hp : p < cn (m 0)) (hq : q < cn (m 0)) : Ret (F_X3_far h (nI p) (nI q) σ) (fun r => r.1 = nI (DD m p q) ∧ FrK σ r.2 h ∧ KnC (r.2 h) m ∧ r.2 h 0 37 = 1) := by
  have hP2 := hw.1.1.2
  unfold F_X3_far
  rw [show (8 : Int32) = nI 8 from rfl, nI_mul', nI_add]
  rcases hk.1 with e | e
  · rw [if_pos e]
    refine Ret.bind (Ret.bind (c_measure hw hc) (fun τ hτ => Ret.some (Q := fun σ' => FrK σ σ' h ∧ σ' h 0 37 = 1 ∧ ∀ a b, a < cn (m 0) → b < cn (m 0) → σ' h 28 (8 * a + b) = nI (DD m a b)) hτ)) (fun τ hτ => ?_)
    rw [rdo_nI (by omega) (by decide), some_b, show p * 8 + q = 8 * p + q by omega, hτ.2.2 p q hp hq]
    exact Ret.some ⟨rfl, hτ.1, ⟨Or.inr hτ.2.1, fun _ => hτ.2.2⟩, hτ.2.1⟩
  · rw [if_neg (by rw [e]; decide), some_b, rdo_nI (by omega) (by decide), some_b, show p * 8 + q = 8 * p + q by omega, hk.2 e p q hp hq]
    exact Ret.some ⟨rfl, FrK.rf _ _, hk, e⟩
