/-! S7: the model tells the plan and sends -/
set_option maxRecDepth 100000
theorem FB.app {σ : St} {m : Nat → Int32} {l : List Int32} (F : FB σ m) : FB (appM σ l) m := by
  unfold FB TabR
  rw [appM_0 (by decide), appM_0 (by decide), appM_j (by decide) (by decide), appM_j (by decide) (by decide), appM_j (by decide) (by decide), appM_j (by decide) (by decide)]
  exact F
theorem numL_app {σ : St} {l : List Int32} {c : Int32} : addM (appM σ l) c = appM σ (l ++ [c]) := (appM_app σ l [c]) ▸ rfl
theorem m_numA {σ : St} {L : List Int32} {k : Nat} {v : Int32} (hs : szM σ k) (hv : okN v) (hL : k + L.length + 11 ≤ 3200) : F_X12_number v (appM σ L) = some (appM σ (L ++ numL v)) := by
  rw [f_numberM hv (appM_sz hs) (by omega), appM_app]
theorem m_putA {σ : St} {L : List Int32} {k : Nat} {c : Int32} (hs : szM σ k) (hL : k + L.length < 3200) : F_X12_put c (appM σ L) = some (appM σ (L ++ [c])) := by
  rw [f_put (appM_sz hs) hL, numL_app]
theorem m_sayA {σ : St} {L : List Int32} {k w : Nat} (hw : w < 45) (hS : StatM σ) (hs : szM σ k) (hL : k + L.length + 11 ≤ 3200) : F_X12_say (nI w) (appM σ L) = some (appM σ (L ++ aTx w)) := by
  have := tx_len w hw
  rw [f_sayM hw hS.app (appM_sz hs) (by omega), appM_app]
theorem m_tellPlan {σ : St} {m : Nat → Int32} {c : Nat → Nat} {k : Nat} (R : Rok m) (F : FB σ m) (ok : okc m c (nC m)) (e40 : σ 20 0 40 = nI (grk m c (nC m))) (e41 : σ 20 0 41 = nI (gsc m c (nC m))) (eb : ∀ j, j < nC m → σ 20 40 j = nI (c j)) (hs : szM σ k) (hk : k ≤ 2900) : F_X12_tellPlan σ = some (appM σ (plT m c)) := by
  have u6 := nU_6 R
  have c6 := nC_6 R
  have b2 := R.1.2.2.1.2
  have b3 := R.1.2.2.2.1.2
  obtain ⟨bR, bS⟩ := grk_bd R (c := c) (nC m) (Nat.le_refl _) (fun j hj => (ok j hj).2)
  have hcl : ∀ j, (cat (plJ m c) j).length ≤ 36 * j := fun j => cat_len (f := plJ m c) (B := 36) j (fun k _ => plJ_len m c k)
  unfold F_X12_tellPlan
  have key := iter_row (f := fun z => B_X12_tellPlan_2 z.1 z.2) (fun j => (nI j, appM σ (cat (plJ m c) j))) (nC m) (appM σ (cat (plJ m c) (nC m))) ?_ ?_ 0 (Nat.zero_le _)
  · have hc := hcl (nC m)
    rw [show ((0 : Int32), σ) = (nI 0, appM σ (cat (plJ m c) 0)) from rfl, key, some_b, appM_0 (by decide), e40, m_numA hs (okN_nI (by omega)) (by omega), some_b]
    have l1 := numL_len (v := nI (grk m c (nC m)))
    rw [m_putA hs (by rw [List.length_append]; omega), some_b, appM_0 (by decide), e41, m_numA hs (okN_nI (by omega)) (by simp only [List.length_append, List.length_cons, List.length_nil]; omega), some_b]
    unfold plT
    simp only [List.append_assoc, List.singleton_append]
  · intro j hj
    obtain ⟨ht1, -⟩ := wt_ok hj
    have hc := hcl j
    have hcj := (ok j hj).1
    have l1 := numL_len (v := nI (wt m j))
    have FA : ∀ l, FB (appM σ l) m := fun l => F.app
    have eb' : ∀ l, appM σ l 20 40 j = nI (c j) := fun l => by rw [appM_j (by decide) (by decide)]; exact eb j hj
    show B_X12_tellPlan_2 (nI j) (appM σ (cat (plJ m c) j)) = _
    unfold B_X12_tellPlan_2
    rw [(FA _).1, if_pos (nI_lt hj (by omega)), rdo_nI (by omega) (by decide), some_b, (FA _).2.2.1 j hj, m_numA hs (okN_nI (by omega)) (by omega), some_b, m_putA hs (by rw [List.length_append]; omega), some_b, rdo_nI (by omega) (by decide), some_b, eb', (FA _).2.1]
    have fin : ∀ L : List Int32, L.length ≤ 36 * j + 35 → cat (plJ m c) (j + 1) = L ++ [59] → (F_X12_put 59 (appM σ L)).bind (fun s1016 => (some (.inl ((nI j + (1 : Int32)), s1016)) : Option ((Int32 × St) ⊕ St))) = some (.inl (nI (j + 1), appM σ (cat (plJ m c) (j + 1)))) := by
      intro L hL eL
      rw [m_putA hs (by omega), some_b, eL, nI_1]
    by_cases q : c j < nU m
    · obtain ⟨hf1, -⟩ := fr_ok q
      have hv := (ok j hj).2 q
      have hwy := (wyP_bd R q hj).2 hv
      have l2 := numL_len (v := nI (fr m (c j)))
      have l3 := numL_len (v := nI (wyP m (c j) j))
      rw [if_pos (nI_lt q (by omega)), some_b, rdo_nI (by omega) (by decide), some_b, (FA _).2.2.2.1 _ q, m_numA hs (okN_nI (by omega)) (by simp only [List.length_append, List.length_cons, List.length_nil]; omega), some_b, m_putA hs (by simp only [List.length_append, List.length_cons, List.length_nil]; omega), some_b, rdo_nI (by omega) (by decide), some_b, eb', rdo_nI (by omega) (by decide), some_b, (FA _).2.2.2.1 _ q, rdo_nI (by omega) (by decide), some_b, (FA _).2.2.1 j hj, show (0 : Int32) = nI 0 from rfl, m_call (by omega) (by decide), some_b, (FA _).2.2.2.2.1, Nat.add_zero, m_wayP R (FA _) q hj, some_b, dI_fin hv.2, m_numA hs (okN_nI (by omega)) (by simp only [List.length_append, List.length_cons, List.length_nil]; omega), some_b, some_b]
      refine fin _ (by simp only [List.length_append, List.length_cons, List.length_nil]; omega) ?_
      rw [cat, plJ, if_pos q]
      simp only [List.append_assoc, List.singleton_append, List.cons_append, List.nil_append]
    · rw [if_neg (nI_nlt (by omega) (by omega)), m_putA hs (by simp only [List.length_append, List.length_cons, List.length_nil]; omega), some_b, some_b]
      refine fin _ (by simp only [List.length_append, List.length_cons, List.length_nil]; omega) ?_
      rw [cat, plJ, if_neg q]
      simp only [List.append_assoc, List.singleton_append, List.cons_append, List.nil_append]
  · show B_X12_tellPlan_2 (nI (nC m)) (appM σ (cat (plJ m c) (nC m))) = _
    unfold B_X12_tellPlan_2
    rw [(F.app (l := cat (plJ m c) (nC m))).1, if_neg (nI_nlt (Nat.le_refl _) (by omega))]
theorem plJ_eq {m : Nat → Int32} {c c' : Nat → Nat} {j : Nat} (h : c j = c' j) : plJ m c j = plJ m c' j := by
  unfold plJ
  rw [h]
theorem cat_eq {f g : Nat → List Int32} : ∀ n, (∀ k, k < n → f k = g k) → cat f n = cat g n := by
  intro n
  induction n with
  | zero => intro _; rfl
  | succ n ih =>
    intro h
    rw [cat, cat, ih (fun k hk => h k (by omega)), h n (by omega)]
theorem plT_eq {m : Nat → Int32} {c c' : Nat → Nat} (h : ∀ k, k < nC m → c k = c' k) : plT m c = plT m c' := by
  obtain ⟨-, h2, h3⟩ := gvl_eq (m := m) (c := c) (c' := c') (nC m) h
  unfold plT
  rw [cat_eq (g := plJ m c') (nC m) (fun k hk => plJ_eq (h k hk)), h2, h3]
theorem sR_eq {m : Nat → Int32} {c c' : Nat → Nat} : ∀ n, (∀ k, k < n → c k = c' k) → sR m c n = sR m c' n := by
  intro n
  induction n with
  | zero => intro _; rfl
  | succ n ih =>
    intro h
    rw [sR, sR, ih (fun k hk => h k (by omega)), h n (by omega)]
/-- what the model's planning changes -/
def FrS (σ τ : St) : Prop := (∀ a, a ≠ 20 → τ a = σ a) ∧ (∀ b, b ≠ 0 → b ≠ 1 → b ≠ 15 → b ≠ 34 → b ≠ 36 → b ≠ 38 → b ≠ 39 → b ≠ 40 → τ 20 b = σ 20 b) ∧ ∀ i, i ≠ 15 → i ≠ 34 → i ≠ 36 → i ≠ 40 → i ≠ 41 → τ 20 0 i = σ 20 0 i
/-- the model's text grew by l -/
def TxM (σ τ : St) (l : List Int32) : Prop := τ 20 15 = appM σ l 20 15 ∧ τ 20 0 15 = appM σ l 20 0 15
theorem addM_15 {σ τ : St} {c : Int32} (h : τ 20 15 = σ 20 15) (h0 : τ 20 0 15 = σ 20 0 15) : addM τ c 20 15 = addM σ c 20 15 ∧ addM τ c 20 0 15 = addM σ c 20 0 15 := by
  unfold addM
  constructor
  · rw [h0]
    funext i
    simp only [up3, h]
  · rw [up3_same, up3_same, h0]
theorem appM_15 : ∀ {l : List Int32} {σ τ : St}, τ 20 15 = σ 20 15 → τ 20 0 15 = σ 20 0 15 → appM τ l 20 15 = appM σ l 20 15 ∧ appM τ l 20 0 15 = appM σ l 20 0 15 := by
  intro l
  induction l with
  | nil => intro σ τ h h0; exact ⟨h, h0⟩
  | cons c l ih =>
    intro σ τ h h0
    rw [← appM_cons, ← appM_cons]
    obtain ⟨a, b⟩ := addM_15 (c := c) h h0
    exact ih a b
theorem TxM.rf (σ : St) : TxM σ σ [] := ⟨rfl, rfl⟩
theorem TxM.app {σ τ : St} {l l' : List Int32} (T : TxM σ τ l) : TxM σ (appM τ l') (l ++ l') := by
  unfold TxM
  rw [← appM_app]
  exact appM_15 T.1 T.2
theorem TxM.fr {σ τ υ : St} {l : List Int32} (T : TxM σ τ l) (h : υ 20 15 = τ 20 15) (h0 : υ 20 0 15 = τ 20 0 15) : TxM σ υ l := ⟨h.trans T.1, h0.trans T.2⟩
theorem TxM.sz {σ τ : St} {l : List Int32} {k : Nat} (T : TxM σ τ l) (h : szM σ k) : szM τ (k + l.length) := by
  unfold szM
  rw [T.2]
  exact appM_sz h
/-- the plan of the model -/
theorem m_plan {σ : St} {m : Nat → Int32} {k : Nat} (R : Rok m) (hm : σ 20 1 = m) (hs : szM σ k) (hk : k ≤ 2900) : Ret ((F_X12_findBoth σ).bind (fun s1 => (F_X12_findPlan (-1) s1).bind (fun s2 => F_X12_tellPlan s2))) (fun τ => FB τ m ∧ (∀ j, j < nC m → τ 20 40 j = nI (gc m j)) ∧ FrS σ τ ∧ TxM σ τ (plT m (gc m)) ∧ τ 20 1 = m) := by
  refine Ret.bind (m_findBoth R hm) ?_
  rintro τ1 ⟨F1, B1⟩
  refine Ret.bind (m_findPlan R F1 (-1)) ?_
  rintro τ2 ⟨f1, f2, f3, f4, f5, f6⟩
  have F2 := f1.fb F1
  have t15 : τ2 20 15 = σ 20 15 := by rw [f1.2.1 15 (by decide) (by decide) (by decide), B1.2.1 15 (by decide) (by decide) (by decide) (by decide)]
  have t0 : τ2 20 0 15 = σ 20 0 15 := by rw [f1.2.2 15 (by decide) (by decide), B1.2.2 15 (by decide) (by decide)]
  have s2 : szM τ2 k := by unfold szM; rw [t0]; exact hs
  rw [m_tellPlan R F2 f2 f3 f4 f5 s2 hk, plT_eq (c' := gc m) (fun i hi => bs_gc' hi)]
  refine Ret.some ⟨F2.app, ?_, ⟨?_, ?_, ?_⟩, ((TxM.rf σ).fr t15 t0).app, F2.app.2.2.2.2.1⟩
  · intro j hj
    rw [appM_j (by decide) (by decide), f5 j hj, bs_gc' hj]
  · intro a ha
    rw [appM_g ha, f1.1 a ha, B1.1 a ha]
  · intro b h0 h1 h15 h34 h36 h38 h39 h40
    rw [appM_j h15 h0, f1.2.1 b h0 h39 h40, B1.2.1 b h0 h34 h36 h38]
  · intro i h15 h34 h36 h40 h41
    rw [appM_0 h15, f1.2.2 i h40 h41, B1.2.2 i h34 h36]
theorem m_sendAll {σ : St} {m : Nat → Int32} {k : Nat} (R : Rok m) (hm : σ 20 1 = m) (hs : szM σ k) (hk : k ≤ 2900) : Ret (F_X12_sendAll σ) (fun τ => τ 20 1 = sR m (gc m) (nC m) ∧ FrS σ τ ∧ TxM σ τ (plT m (gc m))) := by
  have u6 := nU_6 R
  have c6 := nC_6 R
  have b2 := R.1.2.2.1.2
  have b3 := R.1.2.2.2.1.2
  have eF : F_X12_sendAll σ = ((F_X12_findBoth σ).bind (fun s1 => (F_X12_findPlan (-1) s1).bind (fun s2 => F_X12_tellPlan s2))).bind (fun s3 => Option.bind (iter (fun z => B_X12_sendAll_15 z.1 z.2) ((0 : Int32), s3)) (fun z63 => some z63)) := by
    unfold F_X12_sendAll
    cases h1 : F_X12_findBoth σ with
    | none => rfl
    | some s1 =>
      rw [some_b, some_b]
      cases h2 : F_X12_findPlan (-1) s1 with
      | none => rfl
      | some s2 => rfl
  rw [eF]
  refine Ret.bind (m_plan R hm hs hk) ?_
  rintro τ ⟨F, eb, fs, tx, em⟩
  have key := iter_row (f := fun z => B_X12_sendAll_15 z.1 z.2) (fun j => (nI j, putr τ (sR m (gc m) j))) (nC m) (putr τ (sR m (gc m) (nC m))) ?_ ?_ 0 (Nat.zero_le _)
  · have e0 : putr τ (sR m (gc m) 0) = τ := by
      show putr τ m = τ
      rw [← em, putr_self]
    rw [e0] at key
    rw [show ((0 : Int32), τ) = (nI 0, τ) from rfl, key, some_b]
    refine Ret.some ⟨putr_row, ⟨?_, ?_, ?_⟩, tx.fr (putr_j (by decide)) (by rw [putr_j (by decide)])⟩
    · intro a ha
      rw [putr_g ha, fs.1 a ha]
    · intro b h0 h1 h15 h34 h36 h38 h39 h40
      rw [putr_j h1, fs.2.1 b h0 h1 h15 h34 h36 h38 h39 h40]
    · intro i h15 h34 h36 h40 h41
      rw [putr_j (by decide), fs.2.2 i h15 h34 h36 h40 h41]
  · intro j hj
    obtain ⟨a1, a2, a3, a4⟩ := sR_ok R j (by omega)
    show B_X12_sendAll_15 (nI j) (putr τ (sR m (gc m) j)) = _
    unfold B_X12_sendAll_15
    have p34 : putr τ (sR m (gc m) j) 20 0 34 = nI (nC m) := by rw [putr_j (by decide)]; exact F.1
    have p36 : putr τ (sR m (gc m) j) 20 0 36 = nI (nU m) := by rw [putr_j (by decide)]; exact F.2.1
    rw [p34, if_pos (nI_lt hj (by omega)), rdo_nI (by omega) (by decide), some_b, putr_j (by decide), eb j hj, p36, nI_1, sR]
    by_cases q : gc m j < nU m
    · obtain ⟨hf1, -⟩ := fr_ok q
      obtain ⟨ht1, -⟩ := wt_ok hj
      have hS : SameW m (sR m (gc m) j) := by
        refine ⟨a2 0 (by omega), a2 1 (by omega), ?_, fun i hi => a2 i (by omega)⟩
        unfold hrs
        rw [a2 4 (by omega)]
      rw [if_pos (nI_lt q (by omega)), some_b, rdo_nI (by omega) (by decide), some_b, putr_j (by decide), F.2.2.2.1 _ q, rdo_nI (by omega) (by decide), some_b, putr_j (by decide), F.2.2.1 j hj, m_sendTo a1.1 (F.2.2.2.2.2.same hS R.1) (by rw [a2 2 (by omega)]; exact hf1) (by rw [a2 3 (by omega)]; exact ht1), some_b, if_pos q]
    · have hle : gc m j ≤ nU m := am_le
      rw [if_neg (nI_nlt (by omega) (by omega)), if_neg q]
  · show B_X12_sendAll_15 (nI (nC m)) (putr τ (sR m (gc m) (nC m))) = _
    unfold B_X12_sendAll_15
    rw [show putr τ (sR m (gc m) (nC m)) 20 0 34 = nI (nC m) by rw [putr_j (by decide)]; exact F.1, if_neg (nI_nlt (Nat.le_refl _) (by omega))]
