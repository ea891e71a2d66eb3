/-! S7: the plan as text; sendings -/
set_option maxRecDepth 100000
def cat (f : Nat → List Int32) : Nat → List Int32
  | 0 => []
  | n + 1 => cat f n ++ f n
theorem cat_len {f : Nat → List Int32} {B : Nat} : ∀ n, (∀ k, k < n → (f k).length ≤ B) → (cat f n).length ≤ B * n := by
  intro n
  induction n with
  | zero => intro _; exact Nat.le_refl _
  | succ n ih =>
    intro h
    have h1 := ih (fun k hk => h k (by omega))
    have h2 := h n (by omega)
    rw [cat, List.length_append, Nat.mul_succ]
    omega
theorem cat_asc {f : Nat → List Int32} : ∀ n, (∀ k, k < n → asc (f k)) → asc (cat f n) := by
  intro n
  induction n with
  | zero => intro _; exact asc_nil
  | succ n ih => intro h; exact asc_app (ih (fun k hk => h k (by omega))) (h n (by omega))
/-- text grows: group 1 is the text l behind σ's -/
def TxC (σ τ : St) (l : List Int32) : Prop := τ 1 = appC σ l 1
theorem TxC.rf (σ : St) : TxC σ σ [] := rfl
theorem TxC.sz {σ τ : St} {l : List Int32} {k : Nat} (T : TxC σ τ l) (h : szC σ k) : szC τ (k + l.length) := by
  unfold szC
  rw [show τ 1 = appC σ l 1 from T]
  exact appC_sz h
theorem TxC.app {σ τ : St} {l l' : List Int32} (T : TxC σ τ l) : TxC σ (appC τ l') (l ++ l') := by
  unfold TxC
  rw [appC_1' (show τ 1 = (appC σ l) 1 from T), appC_app]
theorem TxC.add {σ τ : St} {l : List Int32} {c : Int32} (T : TxC σ τ l) : TxC σ (addC τ c) (l ++ [c]) := T.app (l' := [c])
theorem TxC.g {σ τ υ : St} {l : List Int32} (T : TxC σ τ l) (h : υ 1 = τ 1) : TxC σ υ l := h.trans T
theorem FrA.app {σ τ : St} {h : Nat} {l : List Int32} (f : FrA σ τ h 1) : FrA σ (appC τ l) h 1 := fun a b i h1 h2 h3 => by rw [appC_g h1]; exact f a b i h1 h2 h3
theorem FrA.add {σ τ : St} {h : Nat} {c : Int32} (f : FrA σ τ h 1) : FrA σ (addC τ c) h 1 := f.app (l := [c])
theorem HH.app {τ : St} {h : Nat} {m : Nat → Int32} {l : List Int32} (H : HH (τ h) m) (h1 : h ≠ 1) : HH (appC τ l h) m := by rw [appC_g h1]; exact H
theorem HH.add {τ : St} {h : Nat} {m : Nat → Int32} {c : Int32} (H : HH (τ h) m) (h1 : h ≠ 1) : HH (addC τ c h) m := HH.app (l := [c]) H h1
noncomputable def plJ (m : Nat → Int32) (c : Nat → Nat) (j : Nat) : List Int32 := numL (nI (wt m j)) ++ ([32] ++ ((if c j < nU m then numL (nI (fr m (c j))) ++ 32 :: numL (nI (wyP m (c j) j)) else [45]) ++ [59]))
noncomputable def plT (m : Nat → Int32) (c : Nat → Nat) : List Int32 := cat (plJ m c) (nC m) ++ (numL (nI (grk m c (nC m))) ++ 32 :: numL (nI (gsc m c (nC m))))
theorem plJ_len (m : Nat → Int32) (c : Nat → Nat) (j : Nat) : (plJ m c j).length ≤ 36 := by
  unfold plJ
  have h1 := numL_len (v := nI (wt m j))
  have h2 := numL_len (v := nI (fr m (c j)))
  have h3 := numL_len (v := nI (wyP m (c j) j))
  by_cases q : c j < nU m
  · rw [if_pos q]; simp only [List.length_append, List.length_cons, List.length_nil]; omega
  · rw [if_neg q]; simp only [List.length_append, List.length_cons, List.length_nil]; omega
theorem plJ_asc (m : Nat → Int32) (c : Nat → Nat) (j : Nat) : asc (plJ m c j) := by
  have a32 : asc [32] := asc_cons ⟨32, by decide, rfl⟩ asc_nil
  have a59 : asc [59] := asc_cons ⟨59, by decide, rfl⟩ asc_nil
  have a45 : asc [45] := asc_cons ⟨45, by decide, rfl⟩ asc_nil
  unfold plJ
  refine asc_app (asc_numL _) (asc_app a32 (asc_app ?_ a59))
  by_cases q : c j < nU m
  · rw [if_pos q]; exact asc_app (asc_numL _) (asc_cons ⟨32, by decide, rfl⟩ (asc_numL _))
  · rw [if_neg q]; exact a45
theorem plT_len {m : Nat → Int32} (R : Rok m) (c : Nat → Nat) : (plT m c).length ≤ 240 := by
  have c6 := nC_6 R
  have h1 := cat_len (f := plJ m c) (B := 36) (nC m) (fun k _ => plJ_len m c k)
  have h2 := numL_len (v := nI (grk m c (nC m)))
  have h3 := numL_len (v := nI (gsc m c (nC m)))
  unfold plT
  simp only [List.length_append, List.length_cons]
  omega
theorem plT_asc (m : Nat → Int32) (c : Nat → Nat) : asc (plT m c) := asc_app (cat_asc _ (fun k _ => plJ_asc m c k)) (asc_app (asc_numL _) (asc_cons ⟨32, by decide, rfl⟩ (asc_numL _)))
theorem c_planTell {σ : St} {h k : Nat} {m : Nat → Int32} (hh : h ≠ 10) (h1 : h ≠ 1) (R : Rok m) (H : HH (σ h) m) (P : PR σ m) (hs : szC σ k) (hk : k ≤ 3000) : Ret (F_X8_tell h σ) (fun τ => HH (τ h) m ∧ FrA σ τ h 1 ∧ TxC σ τ (plT m (gc m))) := by
  have hw := R.1
  have u6 := nU_6 R
  have c6 := nC_6 R
  have b2 := hw.2.2.1.2
  have b3 := hw.2.2.2.1.2
  obtain ⟨bR, bS⟩ := grk_bd R (c := gc m) (nC m) (Nat.le_refl _) (fun j hj hq => (gc_vd hj hq).1)
  have g10 : ∀ {τ : St}, FrA σ τ h 1 → τ 10 = σ 10 := fun f => f.g (fun z => hh z.symm) (by decide)
  unfold F_X8_tell
  refine Ret.bind (Q := fun τ => HH (τ h) m ∧ FrA σ τ h 1 ∧ TxC σ τ (cat (plJ m (gc m)) (nC m))) ?_ ?_
  · refine iter_cnt (fun j (τ : St) => (nI j, τ)) (fun j τ => HH (τ h) m ∧ FrA σ τ h 1 ∧ TxC σ τ (cat (plJ m (gc m)) j)) (nC m) ?_ ?_ σ ⟨H, FrA.rf σ h 1, TxC.rf σ⟩
    · rintro j τ hj ⟨k1, k2, k3⟩
      obtain ⟨ht1, ht2⟩ := wt_ok hj
      obtain ⟨hp, hr1, hr2, ep, er⟩ := wt_bd R hj
      have hcl := cat_len (f := plJ m (gc m)) (B := 36) j (fun k _ => plJ_len m (gc m) k)
      have P1 : PL τ m ∧ τ 10 5 j = prI m (gc m) j := by
        refine ⟨P.1.fr ?_ ?_ ?_ ?_, ?_⟩ <;> rw [g10 k2]
        exact P.2.2.1 j hj
      show Ret (B_X8_tell_2 h (nI j) τ) _
      unfold B_X8_tell_2
      have s0 := k3.sz hs
      rw [P1.1.2.1, if_pos (nI_lt hj (by omega)), rdo_nI (by omega) (by decide), some_b, P1.1.2.2.2 j hj, f_numberC (okN_nI (by omega)) s0 (by omega), some_b]
      have s1 := appC_sz (l := numL (nI (wt m j))) s0
      have l1 := numL_len (v := nI (wt m j))
      rw [f_add s1 (by omega), some_b]
      have T1 : TxC σ (addC (appC τ (numL (nI (wt m j)))) 32) (cat (plJ m (gc m)) j ++ numL (nI (wt m j)) ++ [32]) := k3.app.add
      have F1 : FrA σ (addC (appC τ (numL (nI (wt m j)))) 32) h 1 := k2.app.add
      have H1 : HH (addC (appC τ (numL (nI (wt m j)))) 32 h) m := (k1.app h1).add h1
      have s2 : szC (addC (appC τ (numL (nI (wt m j)))) 32) (k + (cat (plJ m (gc m)) j).length + (numL (nI (wt m j))).length + 1) := addC_sz s1 _
      generalize addC (appC τ (numL (nI (wt m j)))) 32 = ρ at T1 F1 H1 s2
      have P2 : PL ρ m ∧ ρ 10 5 j = prI m (gc m) j := by
        refine ⟨P.1.fr ?_ ?_ ?_ ?_, ?_⟩ <;> rw [g10 F1]
        exact P.2.2.1 j hj
      rw [rdo_nI (by omega) (by decide), some_b, P2.2]
      have main : Ret (if prI m (gc m) j < 0 then (F_X1_add 45 ρ).bind (fun s1015 => some s1015) else (some (prI m (gc m) j)).bind (fun r1005 => (rdo ρ 10 1 6 r1005).bind (fun r1006 => (some (prI m (gc m) j)).bind (fun r1007 => (rdo ρ 10 1 6 r1007).bind (fun r1008 => (rdo ρ 10 2 6 (nI j)).bind (fun r1009 => (rdo ρ h 22 30 r1009).bind (fun r1010 => (F_X3_way h r1008 r1010 ρ).bind (fun q1011 => (F_X1_numbers r1006 q1011.1 q1011.2).bind (fun s1014 => some s1014))))))))) (fun υ => HH (υ h) m ∧ FrA σ υ h 1 ∧ TxC σ υ (cat (plJ m (gc m)) j ++ numL (nI (wt m j)) ++ [32] ++ (if gc m j < nU m then numL (nI (fr m (gc m j))) ++ 32 :: numL (nI (wyP m (gc m j) j)) else [45]))) := by
        unfold prI
        by_cases q : gc m j < nU m
        · obtain ⟨hf1, hf2⟩ := fr_ok q
          have hwy := (wyP_bd R q hj).2 (gc_vd hj q).1
          rw [if_pos q, if_neg (nI_pos (by omega)), some_b, rdo_nI (by omega) (by decide), some_b, some_b, rdo_nI (by omega) (by decide), some_b, P2.1.2.2.1 _ q, rdo_nI (by omega) (by decide), some_b, P2.1.2.2.2 j hj, rdo_nI (by omega) (by decide), some_b, (H1.1.2.2.2 _ ht1).1, ep]
          refine Ret.bind (c_wayH hw H1 hf1 hp) ?_
          rintro r ⟨r1, r2, r3⟩
          have r1 : r.1 = nI (wyP m (gc m j) j) := r1
          have rs : szC r.2 (k + (cat (plJ m (gc m)) j).length + (numL (nI (wt m j))).length + 1) := by unfold szC; rw [r3.g (fun z => h1 z.symm)]; exact s2
          rw [r1, f_numbersC (okN_nI (by omega)) (okN_nI (by omega)) rs (by omega), some_b, if_pos q]
          exact Ret.some ⟨r2.app h1, (F1.k r3).app, (T1.g (r3.g (fun z => h1 z.symm))).app⟩
        · rw [if_neg q, if_pos (by decide), f_add s2 (by omega), some_b, if_neg q]
          exact Ret.some ⟨H1.add h1, F1.add, T1.add⟩
      refine Ret.bind main ?_
      rintro υ ⟨v1, v2, v3⟩
      have hcl2 : (cat (plJ m (gc m)) j ++ numL (nI (wt m j)) ++ [32] ++ (if gc m j < nU m then numL (nI (fr m (gc m j))) ++ 32 :: numL (nI (wyP m (gc m j) j)) else [45])).length ≤ 36 * j + 35 := by
        have l2 := numL_len (v := nI (fr m (gc m j)))
        have l3 := numL_len (v := nI (wyP m (gc m j) j))
        by_cases q : gc m j < nU m
        · rw [if_pos q]; simp only [List.length_append, List.length_cons, List.length_nil]; omega
        · rw [if_neg q]; simp only [List.length_append, List.length_cons, List.length_nil]; omega
      rw [f_add (v3.sz hs) (by omega), some_b, nI_1]
      refine Ret.some ⟨_, rfl, v1.add h1, v2.add, ?_⟩
      have := v3.add (c := 59)
      rw [cat, plJ]
      simp only [List.append_assoc] at this ⊢
      exact this
    · rintro τ ⟨k1, k2, k3⟩
      have P1 : PL τ m := P.1.fr (by rw [g10 k2]) (by rw [g10 k2]) (by rw [g10 k2]) (by rw [g10 k2])
      show Ret (B_X8_tell_2 h (nI (nC m)) τ) _
      unfold B_X8_tell_2
      rw [P1.2.1, if_neg (nI_nlt (Nat.le_refl _) (by omega))]
      exact Ret.some ⟨k1, k2, k3⟩
  · rintro τ ⟨k1, k2, k3⟩
    have hcl := cat_len (f := plJ m (gc m)) (B := 36) (nC m) (fun k _ => plJ_len m (gc m) k)
    have e8 : τ 10 0 8 = nI (grk m (gc m) (nC m)) := by rw [g10 k2]; exact P.2.2.2.1
    have e9 : τ 10 0 9 = nI (gsc m (gc m) (nC m)) := by rw [g10 k2]; exact P.2.2.2.2
    rw [e8, e9, f_numbersC (okN_nI (by omega)) (okN_nI (by omega)) (k3.sz hs) (by omega), some_b]
    exact Ret.some ⟨k1.app h1, k2.app, k3.app⟩
/-- the rows behind the sendings -/
noncomputable def sR (m : Nat → Int32) (c : Nat → Nat) : Nat → Nat → Int32
  | 0 => m
  | k + 1 => if c k < nU m then sdR (sR m c k) (fr m (c k)) (wt m k) else sR m c k
/-- a set of bits is what was chosen so far -/
def mkX (m : Nat → Int32) (c : Nat → Nat) (x k : Nat) : Prop := ∀ t, t < nU m → (x.testBit t = true ↔ ∃ i, i < k ∧ c i = t)
theorem or_bit {x t s : Nat} : (x ||| 2 ^ t).testBit s = true ↔ (x.testBit s = true ∨ s = t) := by
  rw [Nat.testBit_or, Nat.testBit_two_pow]
  by_cases e : t = s
  · subst e; simp
  · have e2 : ¬ s = t := fun z => e z.symm
    simp [e, e2]
theorem mkX.step {m : Nat → Int32} {c : Nat → Nat} {x k : Nat} (h : mkX m c x k) : mkX m c (nxX m x (c k)) (k + 1) := by
  intro t ht
  unfold nxX
  by_cases q : c k < (flt (frU m) (cn (m 2))).length
  · rw [if_pos q, or_bit, h t ht]
    constructor
    · rintro (⟨i, i1, i2⟩ | e)
      · exact ⟨i, by omega, i2⟩
      · exact ⟨k, by omega, e.symm⟩
    · rintro ⟨i, i1, i2⟩
      by_cases e : i = k
      · exact Or.inr (by rw [← i2, e])
      · exact Or.inl ⟨i, by omega, i2⟩
  · rw [if_neg q, Nat.or_zero, h t ht]
    constructor
    · rintro ⟨i, i1, i2⟩
      exact ⟨i, by omega, i2⟩
    · rintro ⟨i, i1, i2⟩
      by_cases e : i = k
      · rw [e] at i2
        exact absurd (i2 ▸ ht) q
      · exact ⟨i, by omega, i2⟩
theorem gx_mk (m : Nat → Int32) : ∀ k, mkX m (gc m) (gx m k) k := by
  intro k
  induction k with
  | zero =>
    intro t ht
    show Nat.testBit 0 t = true ↔ _
    simp
  | succ k ih => exact ih.step
theorem gc_inj {m : Nat → Int32} {i k : Nat} (hk : k < nC m) (hik : i < k) (h : gc m k < nU m) : gc m i ≠ gc m k := by
  intro e
  have h1 := (gc_vd hk h).2
  have h2 := (gx_mk m k (gc m k) h).mpr ⟨i, hik, e⟩
  rw [h1] at h2
  exact absurd h2 (by decide)
theorem fr_lt {m : Nat → Int32} {i j : Nat} (h : i < j) (hj : j < nU m) : fr m i < fr m j := flt_inj h hj
theorem wt_lt {m : Nat → Int32} {i j : Nat} (h : i < j) (hj : j < nC m) : wt m i < wt m j := flt_inj h hj
theorem sdR_ne {m : Nat → Int32} {u q i : Nat} (h5 : i ≠ 110 + 8 * u + 5) (h6 : i ≠ 110 + 8 * u + 6) : sdR m u q i = m i := by
  unfold sdR
  rw [setm_ne h5, setm_ne h6]
theorem sR_ok {m : Nat → Int32} (R : Rok m) : ∀ k, k ≤ nC m → Rok (sR m (gc m) k) ∧ (∀ i, (i < 110 ∨ 160 ≤ i) → sR m (gc m) k i = m i) ∧ (∀ u, u < cn (m 2) → ((∀ i, i < k → gc m i < nU m → fr m (gc m i) ≠ u) ∧ sR m (gc m) k (110 + 8 * u + 5) = m (110 + 8 * u + 5) ∧ sR m (gc m) k (110 + 8 * u + 6) = m (110 + 8 * u + 6)) ∨ ∃ i, i < k ∧ gc m i < nU m ∧ fr m (gc m i) = u ∧ sR m (gc m) k (110 + 8 * u + 6) = nI (wt m i)) ∧ ∀ u w, u < 6 → w < 5 → sR m (gc m) k (110 + 8 * u + w) = m (110 + 8 * u + w) := by
  have b2 := R.1.2.2.1.2
  have b3 := R.1.2.2.2.1.2
  intro k
  induction k with
  | zero => intro _; exact ⟨R, fun _ _ => rfl, fun u hu => Or.inl ⟨fun i hi => absurd hi (Nat.not_lt_zero i), rfl, rfl⟩, fun _ _ _ _ => rfl⟩
  | succ k ih =>
    intro hk
    obtain ⟨a1, a2, a3, a4⟩ := ih (by omega)
    by_cases q : gc m k < nU m
    · obtain ⟨hf1, hf2⟩ := fr_ok q
      obtain ⟨ht1, ht2⟩ := wt_ok (show k < nC m by omega)
      have e2 := a2 2 (by omega)
      have e3 := a2 3 (by omega)
      have nof : ∀ i, i < k → gc m i < nU m → fr m (gc m i) ≠ fr m (gc m k) := by
        intro i hi hq e
        have hne := gc_inj (show k < nC m by omega) hi q
        rcases Nat.lt_or_ge (gc m i) (gc m k) with z | z
        · have := fr_lt z q
          omega
        · have := fr_lt (show gc m k < gc m i by omega) hq
          omega
      have hu5 : sR m (gc m) k (110 + 8 * fr m (gc m k) + 5) = m (110 + 8 * fr m (gc m k) + 5) := by
        rcases a3 _ hf1 with ⟨-, z, -⟩ | ⟨i, i1, i2, i3, -⟩
        · exact z
        · exact absurd i3 (nof i i1 i2)
      have hnb : ¬ busy (sR m (gc m) k) (fr m (gc m k)) := by
        unfold busy
        rw [hu5]
        exact fr_nb hf2.1
      have hwt : wtC (sR m (gc m) k) (wt m k) := by
        refine ⟨⟨by rw [e3]; exact ht1, by rw [a2 _ (by omega)]; exact ht2.1.2⟩, ?_⟩
        rintro u ⟨s1, s2, s3⟩
        rw [e2] at s1
        rcases a3 u s1 with ⟨-, z5, z6⟩ | ⟨i, i1, i2, i3, i4⟩
        · refine ht2.2 u ⟨s1, ?_, by rw [← z6]; exact s3⟩
          unfold busy at s2 ⊢
          rw [z5] at s2
          exact s2
        · rw [i4] at s3
          have := wt_lt i1 (show k < nC m by omega)
          have w1 := (wt_ok (show i < nC m by omega)).1
          rw [nI_eq (by omega) (by omega)] at s3
          omega
      have hR := a1.sd (by rw [e2]; exact hf1) hnb hwt
      rw [sR, if_pos q]
      refine ⟨hR, ?_, ?_, ?_⟩
      · intro i hi
        rw [sdR_ne (by omega) (by omega)]
        exact a2 i hi
      · intro u hu
        by_cases e : u = fr m (gc m k)
        · refine Or.inr ⟨k, by omega, q, e.symm, ?_⟩
          rw [e]
          unfold sdR
          rw [setm_ne (by omega), setm_eq]
        · rw [sdR_ne (by omega) (by omega), sdR_ne (by omega) (by omega)]
          rcases a3 u hu with ⟨z1, z2, z3⟩ | ⟨i, i1, i2, i3, i4⟩
          · refine Or.inl ⟨?_, z2, z3⟩
            intro i hi hq
            by_cases e2 : i = k
            · rw [e2]; exact fun z => e z.symm
            · exact z1 i (by omega) hq
          · exact Or.inr ⟨i, by omega, i2, i3, i4⟩
      · intro u w hu hw
        rw [sdR_ne (by omega) (by omega)]
        exact a4 u w hu hw
    · rw [sR, if_neg q]
      refine ⟨a1, a2, ?_, a4⟩
      intro u hu
      rcases a3 u hu with ⟨z1, z2, z3⟩ | ⟨i, i1, i2, i3, i4⟩
      · refine Or.inl ⟨?_, z2, z3⟩
        intro i hi hq
        by_cases e2 : i = k
        · rw [e2] at hq; exact absurd hq q
        · exact z1 i (by omega) hq
      · exact Or.inr ⟨i, by omega, i2, i3, i4⟩
/-- each sending may be done -/
theorem sR_may {m : Nat → Int32} (R : Rok m) {k : Nat} (hk : k < nC m) (q : gc m k < nU m) : fr m (gc m k) < cn (sR m (gc m) k 2) ∧ ¬ busy (sR m (gc m) k) (fr m (gc m k)) ∧ wtC (sR m (gc m) k) (wt m k) := by
  have b2 := R.1.2.2.1.2
  have b3 := R.1.2.2.2.1.2
  obtain ⟨a1, a2, a3, a4⟩ := sR_ok R k (by omega)
  obtain ⟨hf1, hf2⟩ := fr_ok q
  obtain ⟨ht1, ht2⟩ := wt_ok hk
  have e2 := a2 2 (by omega)
  have e3 := a2 3 (by omega)
  have nof : ∀ i, i < k → gc m i < nU m → fr m (gc m i) ≠ fr m (gc m k) := by
    intro i hi hq e
    have hne := gc_inj hk hi q
    rcases Nat.lt_or_ge (gc m i) (gc m k) with z | z
    · have := fr_lt z q
      omega
    · have := fr_lt (show gc m k < gc m i by omega) hq
      omega
  refine ⟨by rw [e2]; exact hf1, ?_, ⟨by rw [e3]; exact ht1, by rw [a2 _ (by omega)]; exact ht2.1.2⟩, ?_⟩
  · have hu5 : sR m (gc m) k (110 + 8 * fr m (gc m k) + 5) = m (110 + 8 * fr m (gc m k) + 5) := by
      rcases a3 _ hf1 with ⟨-, z, -⟩ | ⟨i, i1, i2, i3, -⟩
      · exact z
      · exact absurd i3 (nof i i1 i2)
    unfold busy
    rw [hu5]
    exact fr_nb hf2.1
  · rintro u ⟨s1, s2, s3⟩
    rw [e2] at s1
    rcases a3 u s1 with ⟨-, z5, z6⟩ | ⟨i, i1, i2, i3, i4⟩
    · refine ht2.2 u ⟨s1, ?_, by rw [← z6]; exact s3⟩
      unfold busy at s2 ⊢
      rw [z5] at s2
      exact s2
    · rw [i4] at s3
      have := wt_lt i1 hk
      have w1 := (wt_ok (show i < nC m by omega)).1
      rw [nI_eq (by omega) (by omega)] at s3
      omega
theorem c_send {σ : St} {h : Nat} {m : Nat → Int32} (hh : h ≠ 10) (R : Rok m) (H : HH (σ h) m) (P : PR σ m) : Ret (F_X8_send h σ) (fun τ => (∀ a, a ≠ h → τ a = σ a) ∧ HH (τ h) (sR m (gc m) (nC m))) := by
  have u6 := nU_6 R
  have c6 := nC_6 R
  have b2 := R.1.2.2.1.2
  have b3 := R.1.2.2.2.1.2
  unfold F_X8_send
  refine Ret.bind (Q := fun τ => (∀ a, a ≠ h → τ a = σ a) ∧ HH (τ h) (sR m (gc m) (nC m))) ?_ (fun b hb => Ret.some hb)
  refine iter_cnt (fun j (τ : St) => (nI j, τ)) (fun j τ => (∀ a, a ≠ h → τ a = σ a) ∧ HH (τ h) (sR m (gc m) j)) (nC m) ?_ ?_ σ ⟨fun _ _ => rfl, H⟩
  · rintro j τ hj ⟨k1, k2⟩
    have g10 := k1 10 (fun z => hh z.symm)
    show Ret (B_X8_send_2 h (nI j) τ) _
    unfold B_X8_send_2
    rw [g10, P.1.2.1, if_pos (nI_lt hj (by omega)), rdo_nI (by omega) (by decide), some_b, g10, P.2.2.1 j hj, sR]
    unfold prI
    by_cases q : gc m j < nU m
    · obtain ⟨e1, e2, e3⟩ := sR_may R hj q
      obtain ⟨hf1, -⟩ := fr_ok q
      obtain ⟨ht1, -⟩ := wt_ok hj
      rw [if_pos q, if_neg (nI_pos (by omega)), some_b, rdo_nI (by omega) (by decide), some_b, rdo_nI (by omega) (by decide), some_b, g10, P.1.2.2.1 _ q, P.1.2.2.2 j hj, if_pos q]
      refine Ret.bind (c_sends (sR_ok R j (by omega)).1.1 k2 e1 e2 e3) ?_
      rintro υ ⟨v1, v2⟩
      rw [nI_1]
      exact Ret.some ⟨_, rfl, fun a ha => (v1 a ha).trans (k1 a ha), v2⟩
    · rw [if_neg q, if_pos (by decide), nI_1, if_neg q]
      exact Ret.some ⟨_, rfl, k1, k2⟩
  · rintro τ ⟨k1, k2⟩
    have g10 := k1 10 (fun z => hh z.symm)
    show Ret (B_X8_send_2 h (nI (nC m)) τ) _
    unfold B_X8_send_2
    rw [g10, P.1.2.1, if_neg (nI_nlt (Nat.le_refl _) (by omega))]
    exact Ret.some ⟨k1, k2⟩
