/-! S11: cover -/
set_option maxRecDepth 100000
noncomputable def fldU {β : Type} (P : Nat → Prop) (s : β → Nat → β) (b : β) : Nat → β
  | 0 => b
  | n + 1 => @ite _ (P n) (Classical.propDecidable _) (s (fldU P s b n) n) (fldU P s b n)
def fldL {β : Type} (l : Nat → Nat) (s : β → Nat → β) (b : β) : Nat → β
  | 0 => b
  | i + 1 => s (fldL l s b i) (l i)
theorem fldL_eq {β : Type} {l l' : Nat → Nat} {s : β → Nat → β} {b : β} : ∀ n, (∀ i, i < n → l i = l' i) → fldL l s b n = fldL l' s b n := by
  intro n
  induction n with
  | zero => intro _; rfl
  | succ n ih => intro h; rw [fldL, fldL, ih (fun i hi => h i (by omega)), h n (by omega)]
theorem fldU_L {β : Type} (P : Nat → Prop) (s : β → Nat → β) (b : β) : ∀ n, fldU P s b n = fldL (fun i => (flt P n).getD i 0) s b (flt P n).length := by
  intro n
  induction n with
  | zero => rfl
  | succ n ih =>
    rw [fldU]
    by_cases q : P n
    · rw [if_pos q, flt_pos q, List.length_append, show [n].length = 1 from rfl, fldL, gd_r, ih]
      rw [fldL_eq (l' := fun i => (flt P n).getD i 0) (flt P n).length (fun i hi => gd_l hi)]
      rfl
    · rw [if_neg q, flt_neg q, ih]
theorem fldU_pos {β : Type} {P : Nat → Prop} {s : β → Nat → β} {b : β} {n : Nat} (h : P n) : fldU P s b (n + 1) = s (fldU P s b n) n := by rw [fldU, if_pos h]
theorem fldU_neg {β : Type} {P : Nat → Prop} {s : β → Nat → β} {b : β} {n : Nat} (h : ¬ P n) : fldU P s b (n + 1) = fldU P s b n := by rw [fldU, if_neg h]
/-- how far a place is from the nearest free unit, if the unit x stood at g -/
noncomputable def cvD (m : Nat → Int32) (x : Int32) (g u p : Nat) : Nat := if nI u = x then DD m g p else wyN m u p
noncomputable def cvS (m : Nat → Int32) (x : Int32) (g p : Nat) (c u : Nat) : Nat := min c (cvD m x g u p)
noncomputable def cvM (m : Nat → Int32) (x : Int32) (g p : Nat) : Nat → Nat := fldU (frU m) (cvS m x g p) 1000000
noncomputable def cvP (m : Nat → Int32) (x : Int32) (g p : Nat) : Nat := cvM m x g p (cn (m 2))
theorem cvD_bd {m : Nat → Int32} (hw : WF m) {x : Int32} {g u p : Nat} (hg : g < cn (m 0)) (hu : u < cn (m 2)) (hp : p < cn (m 0)) : cvD m x g u p ≤ 1000000 := by
  unfold cvD
  split
  · exact (DD_bd hw hg hp).1
  · exact (wyN_bd hw hu hp).1
theorem cvM_bd (m : Nat → Int32) (x : Int32) (g p : Nat) : ∀ n, cvM m x g p n ≤ 1000000 := by
  intro n
  induction n with
  | zero => exact Nat.le_refl _
  | succ n ih =>
    unfold cvM at ih ⊢
    by_cases q : frU m n
    · rw [fldU_pos q, cvS]; omega
    · rw [fldU_neg q]; exact ih
/-- the worst place among the first k, if none is out of reach -/
noncomputable def wnC (m : Nat → Int32) (x : Int32) (g : Nat) : Nat → Nat
  | 0 => 0
  | k + 1 => if k = 0 ∨ wnC m x g k < cvP m x g k then cvP m x g k else wnC m x g k
noncomputable def qN (m : Nat → Int32) (x : Int32) (g : Nat) : Nat → Nat
  | 0 => 0
  | k + 1 => if k = 0 ∨ wnC m x g k < cvP m x g k then k else qN m x g k
noncomputable def wnI (m : Nat → Int32) (x : Int32) (g k : Nat) : Int32 := if k = 0 then -1 else nI (wnC m x g k)
/-- the first place out of reach, or k -/
noncomputable def fbN (m : Nat → Int32) (x : Int32) (g : Nat) : Nat → Nat
  | 0 => 0
  | k + 1 => if fbN m x g k < k then fbN m x g k else if cvP m x g k < 1000000 then k + 1 else k
theorem cvP_bd (m : Nat → Int32) (x : Int32) (g p : Nat) : cvP m x g p ≤ 1000000 := cvM_bd m x g p _
theorem wnC_bd (m : Nat → Int32) (x : Int32) (g : Nat) : ∀ k, wnC m x g k ≤ 1000000 := by
  intro k
  induction k with
  | zero => exact Nat.zero_le _
  | succ k ih => unfold wnC; have := cvP_bd m x g k; split <;> omega
theorem qN_bd (m : Nat → Int32) (x : Int32) (g : Nat) : ∀ k, qN m x g k ≤ k := by
  intro k
  induction k with
  | zero => exact Nat.le_refl _
  | succ k ih => unfold qN; split <;> omega
theorem fbN_le (m : Nat → Int32) (x : Int32) (g : Nat) : ∀ k, fbN m x g k ≤ k := by
  intro k
  induction k with
  | zero => exact Nat.le_refl _
  | succ k ih =>
    unfold fbN
    split
    · omega
    · split <;> omega
theorem fbN_stay {m : Nat → Int32} {x : Int32} {g k : Nat} : ∀ n, k ≤ n → fbN m x g k < k → fbN m x g n = fbN m x g k := by
  intro n
  induction n with
  | zero => intro h h2; have : k = 0 := by omega
            subst this; omega
  | succ n ih =>
    intro h h2
    by_cases e : k = n + 1
    · subst e; rfl
    · have := ih (by omega) h2
      rw [fbN, if_pos (by omega)]
      exact this
theorem fbN_bad {m : Nat → Int32} {x : Int32} {g k n : Nat} (hk : k < n) (h0 : fbN m x g k = k) (hb : ¬ cvP m x g k < 1000000) : fbN m x g n = k := by
  have h1 : fbN m x g (k + 1) = k := by rw [fbN, if_neg (by omega), if_neg hb]
  rw [fbN_stay (k := k + 1) n (by omega) (by omega), h1]
theorem fbN_ok {m : Nat → Int32} {x : Int32} {g k : Nat} (h0 : fbN m x g k = k) (hb : cvP m x g k < 1000000) : fbN m x g (k + 1) = k + 1 := by rw [fbN, if_neg (by omega), if_pos hb]
theorem wnI_lt {m : Nat → Int32} {x : Int32} {g k : Nat} : wnI m x g k < nI (cvP m x g k) ↔ (k = 0 ∨ wnC m x g k < cvP m x g k) := by
  have h1 := cvP_bd m x g k
  have h2 := wnC_bd m x g k
  unfold wnI
  by_cases e : k = 0
  · rw [if_pos e]
    refine ⟨fun _ => Or.inl e, fun _ => ?_⟩
    rw [show (-1 : Int32) = -nI 1 from rfl, Int32.lt_iff_toInt_lt, sb_negT (by decide), nI_toInt (by omega)]
    omega
  · rw [if_neg e, nI_ltI (by omega) (by omega)]
    exact ⟨fun z => Or.inr z, fun z => z.elim (fun y => absurd y e) id⟩
def FrV (σ τ : St) (h : Nat) (m : Nat → Int32) : Prop := HH (τ h) m ∧ ∀ a, a ≠ h → a ≠ 12 → τ a = σ a
def LkC (σ : St) (h : Nat) (m : Nat → Int32) (x : Int32) (g : Nat) (r : Int32 × St) : Prop := FrV σ r.2 h m ∧ ((fbN m x g (cn (m 0)) < cn (m 0) ∧ r.1 = 0 ∧ r.2 12 0 0 = nI (fbN m x g (cn (m 0)))) ∨ (fbN m x g (cn (m 0)) = cn (m 0) ∧ r.1 = 1 ∧ r.2 12 0 0 = nI (qN m x g (cn (m 0))) ∧ r.2 12 0 1 = nI (wnC m x g (cn (m 0)))))
theorem FrV.k {σ τ υ : St} {h : Nat} {m : Nat → Int32} (f : FrV σ τ h m) (h12 : h ≠ 12) (H : HH (υ h) m) (F : FrK τ υ h) : FrV σ υ h m ∧ υ 12 = τ 12 := ⟨⟨H, fun a ha hh => by rw [F.g ha]; exact f.2 a ha hh⟩, F.g (fun z => h12 z.symm)⟩
theorem c_look29 {σ : St} {h : Nat} {m : Nat → Int32} {x : Int32} {g p : Nat} (hw : WF m) (h12 : h ≠ 12) (hg : g < cn (m 0)) (hp : p < cn (m 0)) {τ : St} (f : FrV σ τ h m) : Ret (iter (fun z => B_X10_look_29 h x (nI g) (nI p) z.1 z.2.1 z.2.2) ((1000000 : Int32), (0 : Int32), τ)) (fun z => z.1 = nI (cvP m x g p) ∧ FrV σ z.2 h m ∧ z.2 12 = τ 12) := by
  have b2 := hw.2.2.1
  have b2' := b2.2
  refine iter_cnt (f := fun z => B_X10_look_29 h x (nI g) (nI p) z.1 z.2.1 z.2.2) (fun j (ρ : St) => (nI (cvM m x g p j), nI j, ρ)) (fun j ρ => FrV σ ρ h m ∧ ρ 12 = τ 12) (cn (m 2)) ?_ ?_ τ ⟨f, rfl⟩
  · rintro j ρ hj ⟨F, e12⟩
    have hb := cvM_bd m x g p j
    have hd := cvD_bd (x := x) hw hg hj hp
    show Ret (B_X10_look_29 h x (nI g) (nI p) (nI (cvM m x g p j)) (nI j) ρ) _
    unfold B_X10_look_29
    rw [F.1.1.1.2.2.1, b2.1, if_pos (nI_lt hj (by omega)), c_isFree hw F.1.1 hj, some_b]
    by_cases q : frU m j
    · rw [if_pos q, if_neg (show ¬ (1 : Int32) = 0 by decide)]
      refine Ret.bind (Q := fun z => z.1 = nI (cvD m x g j p) ∧ FrV σ z.2 h m ∧ z.2 12 = τ 12) ?_ ?_
      · unfold cvD
        by_cases c : nI j = x
        · rw [if_pos c, if_pos c]
          refine Ret.bind (c_far hw F.1.1 F.1.2.1 hg hp) ?_
          rintro r ⟨r1, r2, r3, -⟩
          obtain ⟨k1, k2⟩ := F.k h12 (F.1.frK r2 r3) r2
          exact Ret.some ⟨r1, k1, k2.trans e12⟩
        · rw [if_neg c, if_neg c]
          refine Ret.bind (c_wayH hw F.1 hj hp) ?_
          rintro r ⟨r1, r2, r3⟩
          obtain ⟨k1, k2⟩ := F.k h12 r2 r3
          exact Ret.some ⟨r1, k1, k2.trans e12⟩
      · rintro z ⟨z1, z2, z3⟩
        rw [z1, imin_nI (by omega) (by omega), nmo_b, nI_1]
        refine Ret.some ⟨z.2, ?_, z2, z3⟩
        unfold cvM
        rw [fldU_pos q]
        rfl
    · rw [if_neg q, if_pos rfl, nI_1]
      refine Ret.some ⟨ρ, ?_, F, e12⟩
      unfold cvM
      rw [fldU_neg q]
  · rintro ρ ⟨F, e12⟩
    show Ret (B_X10_look_29 h x (nI g) (nI p) (nI (cvM m x g p (cn (m 2)))) (nI (cn (m 2))) ρ) _
    unfold B_X10_look_29
    rw [F.1.1.1.2.2.1, b2.1, cn_nI (by omega), if_neg (nI_nlt (Nat.le_refl _) (by omega))]
    exact Ret.some ⟨rfl, F, e12⟩
theorem c_coverLook {σ : St} {h : Nat} {m : Nat → Int32} {x : Int32} {g : Nat} (hw : WF m) (h12 : h ≠ 12) (hg : g < cn (m 0)) (H : HH (σ h) m) : Ret (F_X10_look h x (nI g) σ) (LkC σ h m x g) := by
  have b0 := hw.1.1
  have b0' := b0.2
  have b02 := hw.1.2
  unfold F_X10_look
  rw [nst_b, nst_b]
  refine Ret.bindL (Q := fun τ => FrV σ τ h m ∧ fbN m x g (cn (m 0)) = cn (m 0) ∧ τ 12 0 0 = nI (qN m x g (cn (m 0))) ∧ τ 12 0 1 = nI (wnC m x g (cn (m 0)))) ?_ ?_
  · refine iter_cnt (f := fun z => B_X10_look_13 h x (nI g) z.1 z.2) (fun j (τ : St) => (nI j, τ)) (fun j τ => FrV σ τ h m ∧ fbN m x g j = j ∧ τ 12 0 0 = nI (qN m x g j) ∧ τ 12 0 1 = wnI m x g j) (cn (m 0)) ?_ ?_ (up3 (up3 σ 12 0 0 0) 12 0 1 (-1)) ⟨⟨by rw [up3_g h12, up3_g h12]; exact H, fun a _ ha => by rw [up3_g ha, up3_g ha]⟩, rfl, by rw [up3_i (by decide), up3_same]; rfl, up3_same _ _ _ _ _⟩
    · rintro j τ hj ⟨F, hf, e0, e1⟩
      have hc := cvP_bd m x g j
      show Ret (B_X10_look_13 h x (nI g) (nI j) τ) _
      unfold B_X10_look_13
      rw [F.1.1.1.1, b0.1, if_pos (nI_lt hj (by omega))]
      refine Ret.bind (c_look29 (x := x) hw h12 hg hj F) ?_
      rintro z ⟨z1, z2, z3⟩
      rw [z1]
      by_cases q : cvP m x g j < 1000000
      · rw [if_pos (ltF q), z3, e1]
        by_cases c : j = 0 ∨ wnC m x g j < cvP m x g j
        · rw [if_pos (wnI_lt.mpr c), nst_b, nst_b, nI_1]
          refine Ret.some ⟨_, rfl, ⟨by rw [up3_g h12, up3_g h12]; exact z2.1, fun a ha hh => by rw [up3_g hh, up3_g hh]; exact z2.2 a ha hh⟩, fbN_ok hf q, ?_, ?_⟩
          · rw [up3_same, qN, if_pos c]
          · rw [up3_i (by decide), up3_same, wnI, if_neg (Nat.succ_ne_zero j), wnC, if_pos c]
        · rw [if_neg (fun z => c (wnI_lt.mp z)), nI_1]
          refine Ret.some ⟨_, rfl, z2, fbN_ok hf q, ?_, ?_⟩
          · rw [z3, e0, qN, if_neg c]
          · rw [z3, e1, wnI, wnI, if_neg (fun z => c (Or.inl z)), if_neg (Nat.succ_ne_zero j), wnC, if_neg c]
      · rw [if_neg (nltF (by omega) (by omega)), nst_b]
        have hb := fbN_bad hj hf q
        have LK : LkC σ h m x g (0, up3 z.2 12 0 0 (nI j)) := by
          refine ⟨⟨?_, fun a ha hh => ?_⟩, Or.inl ⟨by omega, rfl, ?_⟩⟩
          · show HH (up3 z.2 12 0 0 (nI j) h) m
            rw [up3_g h12]; exact z2.1
          · show up3 z.2 12 0 0 (nI j) a = σ a
            rw [up3_g hh]; exact z2.2 a ha hh
          · show up3 z.2 12 0 0 (nI j) 12 0 0 = _
            rw [hb]
            exact up3_same _ _ _ _ _
        exact ⟨_, rfl, LK⟩
    · rintro τ ⟨F, hf, e0, e1⟩
      show Ret (B_X10_look_13 h x (nI g) (nI (cn (m 0))) τ) _
      unfold B_X10_look_13
      rw [F.1.1.1.1, b0.1, cn_nI (by omega), if_neg (nI_nlt (Nat.le_refl _) (by omega))]
      have e1' : τ 12 0 1 = nI (wnC m x g (cn (m 0))) := by rw [e1, wnI, if_neg (by omega)]
      exact ⟨_, rfl, F, hf, e0, e1'⟩
  · rintro τ ⟨F, hf, e0, e1⟩
    exact Ret.some ⟨F, Or.inr ⟨hf, rfl, e0, e1⟩⟩
