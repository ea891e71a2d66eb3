/-! S7: the model tries all sendings -/
set_option maxRecDepth 100000
noncomputable def gvl (m : Nat → Int32) (c : Nat → Nat) : Nat → Nat
  | 0 => 0
  | k + 1 => gvl m c k + (if c k < nU m then wN m (c k) k else 0)
theorem gvl_eq {m : Nat → Int32} {c c' : Nat → Nat} : ∀ k, (∀ j, j < k → c j = c' j) → gvl m c k = gvl m c' k ∧ grk m c k = grk m c' k ∧ gsc m c k = gsc m c' k := by
  intro k
  induction k with
  | zero => intro _; exact ⟨rfl, rfl, rfl⟩
  | succ k ih =>
    intro h
    obtain ⟨h1, h2, h3⟩ := ih (fun j hj => h j (by omega))
    rw [gvl, gvl, grk, grk, gsc, gsc, h1, h2, h3, h k (by omega)]
    exact ⟨rfl, rfl, rfl⟩
theorem gvl_sum {m : Nat → Int32} (R : Rok m) {c : Nat → Nat} : ∀ k, k ≤ nC m → (∀ j, j < k → c j < nU m → vdP m (c j) j) → gvl m c k + gsc m c k = 1000000 * grk m c k := by
  intro k
  induction k with
  | zero => intro _ _; rfl
  | succ k ih =>
    intro hk hv
    have h1 := ih (by omega) (fun j hj => hv j (by omega))
    rw [gvl, gsc, grk]
    by_cases q : c k < nU m
    · have h2 := (wN_bd R q (show k < nC m by omega) (hv k (by omega) q)).2.2
      rw [if_pos q, if_pos q, if_pos q]
      omega
    · rw [if_neg q, if_neg q, if_neg q]; omega
/-- a sound choice for the first k calls -/
def okc (m : Nat → Int32) (c : Nat → Nat) (k : Nat) : Prop := ∀ j, j < k → c j ≤ nU m ∧ (c j < nU m → vdP m (c j) j)
def FrF (σ τ : St) : Prop := (∀ a, a ≠ 20 → τ a = σ a) ∧ (∀ b, b ≠ 0 → b ≠ 39 → b ≠ 40 → τ 20 b = σ 20 b) ∧ ∀ i, i ≠ 40 → i ≠ 41 → τ 20 0 i = σ 20 0 i
theorem FrF.rf (σ : St) : FrF σ σ := ⟨fun _ _ => rfl, fun _ _ _ _ => rfl, fun _ _ _ => rfl⟩
theorem FrF.tr {σ τ υ : St} (a : FrF σ τ) (b : FrF τ υ) : FrF σ υ := ⟨fun x h => (b.1 x h).trans (a.1 x h), fun x h1 h2 h3 => (b.2.1 x h1 h2 h3).trans (a.2.1 x h1 h2 h3), fun x h1 h2 => (b.2.2 x h1 h2).trans (a.2.2 x h1 h2)⟩
theorem FrF.u39 {σ τ : St} {i : Nat} {v : Int32} (a : FrF σ τ) : FrF σ (up3 τ 20 39 i v) := ⟨fun x h => (up3_g h).trans (a.1 x h), fun x h1 h2 h3 => (up3_j h2).trans (a.2.1 x h1 h2 h3), fun x h1 h2 => by rw [up3_j (by decide)]; exact a.2.2 x h1 h2⟩
theorem FrF.u40 {σ τ : St} {i : Nat} {v : Int32} (a : FrF σ τ) : FrF σ (up3 τ 20 40 i v) := ⟨fun x h => (up3_g h).trans (a.1 x h), fun x h1 h2 h3 => (up3_j h3).trans (a.2.1 x h1 h2 h3), fun x h1 h2 => by rw [up3_j (by decide)]; exact a.2.2 x h1 h2⟩
theorem FrF.u0 {σ τ : St} {i : Nat} {v : Int32} (a : FrF σ τ) (hi : i = 40 ∨ i = 41) : FrF σ (up3 τ 20 0 i v) := ⟨fun x h => (up3_g h).trans (a.1 x h), fun x h1 h2 h3 => (up3_j h1).trans (a.2.1 x h1 h2 h3), fun x h1 h2 => (up3_i (by omega)).trans (a.2.2 x h1 h2)⟩
theorem FrF.fb {σ τ : St} {m : Nat → Int32} (f : FrF σ τ) (F : FB σ m) : FB τ m := by
  unfold FB TabR
  rw [f.2.2 34 (by decide) (by decide), f.2.2 36 (by decide) (by decide), f.2.1 36 (by decide) (by decide) (by decide), f.2.1 38 (by decide) (by decide) (by decide), f.2.1 1 (by decide) (by decide) (by decide), f.2.1 34 (by decide) (by decide) (by decide)]
  exact F
/-- the best so far -/
def BR (σ : St) (m : Nat → Int32) (B : Option (Nat → Nat)) : Prop := (B = none → σ 20 0 40 = -1 ∧ σ 20 0 41 = 0) ∧ ∀ c, B = some c → okc m c (nC m) ∧ σ 20 0 40 = nI (grk m c (nC m)) ∧ σ 20 0 41 = nI (gsc m c (nC m)) ∧ ∀ k, k < nC m → σ 20 40 k = nI (c k)
def btr (m : Nat → Int32) (c : Nat → Nat) (B : Option (Nat → Nat)) : Prop := ∀ b, B = some b → gvl m b (nC m) < gvl m c (nC m)
noncomputable def upB (m : Nat → Int32) (B : Option (Nat → Nat)) (c : Nat → Nat) : Option (Nat → Nat) := @ite _ (btr m c B) (Classical.propDecidable _) (some c) B
theorem BR.fr {σ τ : St} {m : Nat → Int32} {B : Option (Nat → Nat)} (h : BR σ m B) (e40 : τ 20 0 40 = σ 20 0 40) (e41 : τ 20 0 41 = σ 20 0 41) (e : τ 20 40 = σ 20 40) : BR τ m B := by
  unfold BR
  rw [e40, e41, e]
  exact h
/-- all calls have a choice -/
theorem fp_leaf {σ : St} {m : Nat → Int32} {wo : Int32} {c : Nat → Nat} {B : Option (Nat → Nat)} (R : Rok m) (F : FB σ m) (hc : ∀ k, k < nC m → σ 20 39 k = nI (c k)) (ok : okc m c (nC m)) (hB : BR σ m B) : ∃ σ', B_X12_findPlan_26 wo (nI (nC m)) σ = some (.inl (nI (nC m) + -1, σ')) ∧ FrF σ σ' ∧ σ' 20 39 = σ 20 39 ∧ BR σ' m (upB m B c) := by
  have c6 := nC_6 R
  obtain ⟨s1, s2⟩ := m_sumOf R F (c := c) (fun k hk => ⟨hc k hk, ok k hk⟩)
  have hv : ∀ j, j < nC m → c j < nU m → vdP m (c j) j := fun j hj => (ok j hj).2
  obtain ⟨bR, bS⟩ := grk_bd R (c := c) (nC m) (Nat.le_refl _) hv
  have hsum := gvl_sum R (c := c) (nC m) (Nat.le_refl _) hv
  unfold B_X12_findPlan_26
  rw [if_neg (nI_pos (by omega)), F.1, if_pos rfl, s1, some_b, s2, some_b]
  unfold upB
  by_cases q : btr m c B
  · have ec : (if (σ 20 0 40) < nI (grk m c (nC m)) then some (Sum.inl ()) else (if nI (grk m c (nC m)) = (σ 20 0 40) then (if nI (gsc m c (nC m)) < (σ 20 0 41) then some (.inl ()) else some (.inr (.inl ((nI (nC m) + (-1 : Int32)), σ)))) else some (.inr (.inl ((nI (nC m) + (-1 : Int32)), σ))))) = (some (.inl ()) : Option (Unit ⊕ ((Int32 × St) ⊕ St))) := by
      cases hb : B with
      | none =>
        obtain ⟨b1, b2⟩ := hB.1 hb
        rw [b1, if_pos]
        rw [Int32.lt_iff_toInt_lt, nI_toInt (by omega)]
        have : (-1 : Int32).toInt = -1 := by decide
        omega
      | some b =>
        obtain ⟨o1, o2, o3, o4⟩ := hB.2 b hb
        have hvb : ∀ j, j < nC m → b j < nU m → vdP m (b j) j := fun j hj => (o1 j hj).2
        obtain ⟨bR', bS'⟩ := grk_bd R (c := b) (nC m) (Nat.le_refl _) hvb
        have hsum' := gvl_sum R (c := b) (nC m) (Nat.le_refl _) hvb
        have hlt := q b hb
        rw [o2, o3]
        by_cases z : grk m b (nC m) < grk m c (nC m)
        · rw [if_pos (nI_lt z (by omega))]
        · rw [if_neg (nI_nlt (by omega) (by omega)), if_pos (by rw [nI_eq (by omega) (by omega)]; omega), if_pos (nI_lt (by omega) (by omega))]
    rw [ec, bindL_inl, nst_b, nst_b]
    have F1 : FrF σ (up3 (up3 σ 20 0 40 (nI (grk m c (nC m)))) 20 0 41 (nI (gsc m c (nC m)))) := ((FrF.rf σ).u0 (Or.inl rfl)).u0 (Or.inr rfl)
    have e40 : (up3 (up3 σ 20 0 40 (nI (grk m c (nC m)))) 20 0 41 (nI (gsc m c (nC m)))) 20 0 40 = nI (grk m c (nC m)) := by rw [up3_i (by decide), up3_same]
    have e41 : (up3 (up3 σ 20 0 40 (nI (grk m c (nC m)))) 20 0 41 (nI (gsc m c (nC m)))) 20 0 41 = nI (gsc m c (nC m)) := up3_same _ _ _ _ _
    have e39 : (up3 (up3 σ 20 0 40 (nI (grk m c (nC m)))) 20 0 41 (nI (gsc m c (nC m)))) 20 39 = σ 20 39 := by rw [up3_j (by decide), up3_j (by decide)]
    generalize (up3 (up3 σ 20 0 40 (nI (grk m c (nC m)))) 20 0 41 (nI (gsc m c (nC m)))) = ρ at F1 e40 e41 e39
    have lp : Ret (iter (fun z => B_X12_findPlan_90 wo (nI (nC m)) z.1 z.2) (nI 0, ρ)) (fun τ => FrF σ τ ∧ τ 20 39 = σ 20 39 ∧ τ 20 0 40 = nI (grk m c (nC m)) ∧ τ 20 0 41 = nI (gsc m c (nC m)) ∧ ∀ k, k < nC m → τ 20 40 k = nI (c k)) := by
      refine iter_cnt (fun k (τ : St) => (nI k, τ)) (fun k τ => FrF σ τ ∧ τ 20 39 = σ 20 39 ∧ τ 20 0 40 = nI (grk m c (nC m)) ∧ τ 20 0 41 = nI (gsc m c (nC m)) ∧ ∀ i, i < k → τ 20 40 i = nI (c i)) (nC m) ?_ ?_ ρ ⟨F1, e39, e40, e41, fun i hi => absurd hi (Nat.not_lt_zero i)⟩
      · rintro k τ hk ⟨k1, k2, k3, k4, k5⟩
        show Ret (B_X12_findPlan_90 wo (nI (nC m)) (nI k) τ) _
        unfold B_X12_findPlan_90
        rw [(k1.fb F).1, if_pos (nI_lt hk (by omega)), rdo_nI (by omega) (by decide), some_b, k2, hc k hk, wro_nI (by omega) (by decide), some_b, nI_1]
        refine Ret.some ⟨_, rfl, k1.u40, by rw [up3_j (by decide)]; exact k2, by rw [up3_j (by decide)]; exact k3, by rw [up3_j (by decide)]; exact k4, ?_⟩
        intro i hi
        by_cases e : i = k
        · rw [e, up3_same]
        · rw [up3_i e]; exact k5 i (by omega)
      · rintro τ ⟨k1, k2, k3, k4, k5⟩
        show Ret (B_X12_findPlan_90 wo (nI (nC m)) (nI (nC m)) τ) _
        unfold B_X12_findPlan_90
        rw [(k1.fb F).1, if_neg (nI_nlt (Nat.le_refl _) (by omega))]
        exact Ret.some ⟨k1, k2, k3, k4, k5⟩
    obtain ⟨τ, l1, l2, l3, l4, l5, l6⟩ := lp
    rw [show ((0 : Int32), ρ) = (nI 0, ρ) from rfl, l1, some_b, if_pos q]
    refine ⟨τ, rfl, l2, l3, ⟨fun z => absurd z (by simp), ?_⟩⟩
    intro c' hc'
    injection hc' with hc'
    subst hc'
    exact ⟨ok, l4, l5, l6⟩
  · have hq : ∃ b, B = some b ∧ ¬ gvl m b (nC m) < gvl m c (nC m) := by
      rcases Classical.em (∃ b, B = some b ∧ ¬ gvl m b (nC m) < gvl m c (nC m)) with z | z
      · exact z
      · exfalso
        apply q
        intro b hb
        rcases Classical.em (gvl m b (nC m) < gvl m c (nC m)) with w | w
        · exact w
        · exact absurd ⟨b, hb, w⟩ z
    obtain ⟨b, hb, hnlt⟩ := hq
    obtain ⟨o1, o2, o3, o4⟩ := hB.2 b hb
    have hvb : ∀ j, j < nC m → b j < nU m → vdP m (b j) j := fun j hj => (o1 j hj).2
    obtain ⟨bR', bS'⟩ := grk_bd R (c := b) (nC m) (Nat.le_refl _) hvb
    have hsum' := gvl_sum R (c := b) (nC m) (Nat.le_refl _) hvb
    have ec : (if (σ 20 0 40) < nI (grk m c (nC m)) then some (Sum.inl ()) else (if nI (grk m c (nC m)) = (σ 20 0 40) then (if nI (gsc m c (nC m)) < (σ 20 0 41) then some (.inl ()) else some (.inr (.inl ((nI (nC m) + (-1 : Int32)), σ)))) else some (.inr (.inl ((nI (nC m) + (-1 : Int32)), σ))))) = (some (.inr (.inl (nI (nC m) + -1, σ))) : Option (Unit ⊕ ((Int32 × St) ⊕ St))) := by
      rw [o2, o3, if_neg (nI_nlt (by omega) (by omega))]
      by_cases z : grk m c (nC m) = grk m b (nC m)
      · rw [if_pos (by rw [z]), if_neg (nI_nlt (by omega) (by omega))]
      · rw [if_neg (by rw [nI_eq (by omega) (by omega)]; exact z)]
    rw [ec, bindL_inr, if_neg q]
    exact ⟨σ, rfl, FrF.rf σ, rfl, hB⟩
/-- the next candidate from t on -/
theorem fp_next {σ : St} {m : Nat → Int32} {wo : Int32} {c : Nat → Nat} {j x z t : Nat} (R : Rok m) (F : FB σ m) (hj : j < nC m) (hc : ∀ k, k < j → σ 20 39 k = nI (c k) ∧ c k ≤ nU m) (hx : mkX m c x j) (htz : t ≤ z) (hz : z ≤ nU m) (hn : ∀ k, t ≤ k → k < z → ¬ alP m wo j k x) (he : z = nU m ∨ alP m wo j z x) : iter (fun y => B_X12_findPlan_134 wo (nI j) y σ) (nI t) = some (nI z) := by
  have u6 := nU_6 R
  have c6 := nC_6 R
  have al : ∀ k, k < nU m → (alP m wo j k x ↔ ¬ nI j = wo ∧ (vdP m k j ∧ ∀ i, i < j → c i ≠ k)) := by
    intro k hk
    have := hx k hk
    unfold alP
    constructor
    · rintro ⟨a1, a2, a3⟩
      refine ⟨a1, a2, fun i hi e => ?_⟩
      have := this.mpr ⟨i, hi, e⟩
      rw [a3] at this
      exact absurd this (by decide)
    · rintro ⟨a1, a2, a3⟩
      refine ⟨a1, a2, ?_⟩
      cases h : x.testBit k with
      | false => rfl
      | true =>
        obtain ⟨i, i1, i2⟩ := this.mp h
        exact absurd i2 (a3 i i1)
  have key := iter_row (f := fun y => B_X12_findPlan_134 wo (nI j) y σ) (fun k => nI (t + k)) (z - t) (nI z) ?_ ?_ 0 (Nat.zero_le _)
  · exact key
  · intro k hk
    show B_X12_findPlan_134 wo (nI j) (nI (t + k)) σ = _
    unfold B_X12_findPlan_134
    rw [F.2.1, if_pos (nI_lt (by omega) (by omega)), nI_1, Nat.add_assoc]
    by_cases q : nI j = wo
    · rw [if_pos q]
    · have hna := hn (t + k) (by omega) (by omega)
      rw [if_neg q, m_may R F hj (by omega) hc, some_b, if_neg (fun y => hna ((al _ (by omega)).mpr ⟨q, y⟩)), if_pos rfl]
  · show B_X12_findPlan_134 wo (nI j) (nI (t + (z - t))) σ = _
    rw [show t + (z - t) = z by omega]
    unfold B_X12_findPlan_134
    rw [F.2.1]
    by_cases q : z = nU m
    · rw [q, if_neg (nI_nlt (Nat.le_refl _) (by omega))]
    · have ha := (al z (by omega)).mp (he.resolve_left q)
      rw [if_pos (nI_lt (by omega) (by omega)), if_neg ha.1, m_may R F hj (by omega) hc, some_b, if_pos ha.2, if_neg (by decide)]
/-- the best tail from a set of taken units on -/
noncomputable def tlF (m : Nat → Int32) (wo : Int32) : Nat → Nat → Nat → Nat
  | 0, _ => fun _ => 0
  | d + 1, x => fun k => if k = nC m - (d + 1) then amN m wo d x else tlF m wo d (nxX m x (amN m wo d x)) k
def spl (c : Nat → Nat) (j : Nat) (t : Nat → Nat) : Nat → Nat := fun k => if k < j then c k else t k
def cst (c : Nat → Nat) (j t : Nat) : Nat → Nat := fun k => if k = j then t else c k
theorem cst_eq {c : Nat → Nat} {j t : Nat} : cst c j t j = t := by unfold cst; rw [if_pos rfl]
theorem cst_ne {c : Nat → Nat} {j t k : Nat} (h : k ≠ j) : cst c j t k = c k := by unfold cst; rw [if_neg h]
theorem tlF_s {m : Nat → Int32} {wo : Int32} {d x k : Nat} : tlF m wo (d + 1) x k = if k = nC m - (d + 1) then amN m wo d x else tlF m wo d (nxX m x (amN m wo d x)) k := rfl
theorem spl_tl {m : Nat → Int32} {wo : Int32} {d j x : Nat} {c : Nat → Nat} (hj : nC m - (d + 1) = j) : spl c j (tlF m wo (d + 1) x) = spl (cst c j (amN m wo d x)) (j + 1) (tlF m wo d (nxX m x (amN m wo d x))) := by
  funext k
  unfold spl
  by_cases q : k < j
  · rw [if_pos q, if_pos (by omega), cst_ne (by omega)]
  · rw [if_neg q, tlF_s, hj]
    by_cases z : k = j
    · rw [if_pos z, if_pos (by omega), z, cst_eq]
    · rw [if_neg z, if_neg (by omega)]
theorem am_le {m : Nat → Int32} {wo : Int32} {d x : Nat} : amN m wo d x ≤ nU m := by
  rcases amN_cases m wo d x with ⟨a1, -⟩ | ⟨a1, -⟩
  · exact Nat.le_of_lt a1.1
  · rw [a1]; exact Nat.le_refl _
/-- what a candidate is worth with the best behind it -/
noncomputable def cvl (m : Nat → Int32) (wo : Int32) (d x t : Nat) : Nat := (if t < nU m then wN m t (nC m - (d + 1)) else 0) + VV m wo d (nxX m x t)
theorem cvl_le {m : Nat → Int32} {wo : Int32} {d x t : Nat} (ht : t = nU m ∨ (t < nU m ∧ alP m wo (nC m - (d + 1)) t x)) : cvl m wo d x t ≤ VV m wo (d + 1) x := by
  unfold cvl nxX
  show _ ≤ mxF m wo (VV m wo d) (nC m - (d + 1)) x (nU m)
  by_cases q : t < nU m
  · have h := (ht.resolve_left (by omega)).2
    rw [if_pos q, if_pos q]
    exact mxF_al q h
  · rw [if_neg q, if_neg q, Nat.or_zero, Nat.zero_add]
    exact mxF_ge (k := 0) (Nat.zero_le _)
theorem cvl_am {m : Nat → Int32} {wo : Int32} {d x : Nat} : cvl m wo d x (amN m wo d x) = VV m wo (d + 1) x := by
  unfold cvl nxX
  rcases amN_cases m wo d x with ⟨a1, -⟩ | ⟨a1, a2⟩
  · have q : amN m wo d x < nU m := a1.1
    rw [if_pos q, if_pos q]
    exact a1.2.2
  · rw [a1, if_neg (Nat.lt_irrefl _), if_neg (Nat.lt_irrefl _), Nat.or_zero, Nat.zero_add]
    show _ = mxF m wo (VV m wo d) (nC m - (d + 1)) x (nU m)
    rcases mxF_at (m := m) (wo := wo) (V := VV m wo d) (j := nC m - (d + 1)) (x := x) (nU m) with e | ⟨t, t1, t2, t3⟩
    · exact e.symm
    · exact absurd ⟨t1, t2, t3.symm⟩ (a2 t)
theorem cvl_first {m : Nat → Int32} {wo : Int32} {d x t : Nat} (h : t < amN m wo d x) (ha : alP m wo (nC m - (d + 1)) t x) : cvl m wo d x t < VV m wo (d + 1) x := by
  have hle := am_le (m := m) (wo := wo) (d := d) (x := x)
  have h1 := cvl_le (m := m) (wo := wo) (d := d) (x := x) (t := t) (Or.inr ⟨by omega, ha⟩)
  rcases Nat.lt_or_ge (cvl m wo d x t) (VV m wo (d + 1) x) with z | z
  · exact z
  · exfalso
    have e : cvl m wo d x t = VV m wo (d + 1) x := by omega
    have q : t < nU m := by omega
    unfold cvl nxX at e
    rw [if_pos q, if_pos q] at e
    have ok : okA m wo d x t := ⟨q, ha, e⟩
    rcases amN_cases m wo d x with ⟨a1, a2⟩ | ⟨a1, a2⟩
    · exact a2 t h ok
    · exact a2 t ok
/-- the value of a beginning with the best tail -/
theorem vl_tl {m : Nat → Int32} (R : Rok m) (wo : Int32) : ∀ d j x c, j + d = nC m → gvl m (spl c j (tlF m wo d x)) (nC m) = gvl m c j + VV m wo d x := by
  intro d
  induction d with
  | zero =>
    intro j x c hj
    have e : j = nC m := by omega
    subst e
    rw [(gvl_eq (m := m) (c := spl c (nC m) (tlF m wo 0 x)) (c' := c) (nC m) (fun k hk => by unfold spl; rw [if_pos hk])).1]
    rfl
  | succ d ih =>
    intro j x c hj
    have hjn : nC m - (d + 1) = j := by omega
    have e := spl_tl (wo := wo) (x := x) (c := c) hjn
    rw [e, ih (j + 1) _ _ (by omega), gvl, ← cvl_am (m := m) (wo := wo) (d := d) (x := x)]
    rw [(gvl_eq (m := m) (c := cst c j (amN m wo d x)) (c' := c) j (fun k hk => cst_ne (by omega))).1, cst_eq]
    unfold cvl
    rw [hjn]
    omega
