/-! S11: what is asked: frames; units, calls, bill, books, shifts -/
set_option maxRecDepth 100000
/-- what a question leaves of the component, of the model -/
def FrQ (σ τ : St) (m : Nat → Int32) : Prop := (∀ a, a = 2 ∨ a = 4 ∨ a = 6 ∨ 13 ≤ a → τ a = σ a) ∧ (∀ b, b ≠ 22 → τ 0 b = σ 0 b) ∧ HH (τ 3) m ∧ HB (τ 5)
def FrM (σ τ : St) : Prop := (∀ a, a ≠ 20 → τ a = σ a) ∧ (∀ b, b = 1 ∨ b = 2 ∨ b = 4 ∨ b = 7 ∨ b = 11 ∨ b = 17 ∨ b = 18 ∨ b = 19 → τ 20 b = σ 20 b) ∧ ∀ i, i = 2 ∨ i = 5 ∨ i = 7 ∨ i = 8 ∨ i = 9 ∨ i = 11 → τ 20 0 i = σ 20 0 i
def AskC (σ : St) (m : Nat → Int32) (l : List Int32) (τ : St) : Prop := TxC σ τ l ∧ FrQ σ τ m
def AskM (σ : St) (l : List Int32) (τ : St) : Prop := TxM σ τ l ∧ FrM σ τ
theorem FrQ.app {σ τ : St} {m : Nat → Int32} {l : List Int32} (f : FrQ σ τ m) : FrQ σ (appC τ l) m := ⟨fun a ha => by rw [appC_g (by omega)]; exact f.1 a ha, fun b hb => by rw [appC_g (by decide)]; exact f.2.1 b hb, by rw [appC_g (by decide)]; exact f.2.2.1, by rw [appC_g (by decide)]; exact f.2.2.2⟩
theorem FrQ.rf {σ : St} {m : Nat → Int32} (H : HH (σ 3) m) (B : HB (σ 5)) : FrQ σ σ m := ⟨fun _ _ => rfl, fun _ _ => rfl, H, B⟩
theorem FrQ.tr {σ τ υ : St} {m : Nat → Int32} (f : FrQ σ τ m) (g : FrQ τ υ m) : FrQ σ υ m := ⟨fun a ha => (g.1 a ha).trans (f.1 a ha), fun b hb => (g.2.1 b hb).trans (f.2.1 b hb), g.2.2.1, g.2.2.2⟩
theorem FrM.rf (σ : St) : FrM σ σ := ⟨fun _ _ => rfl, fun _ _ => rfl, fun _ _ => rfl⟩
theorem FrM.app {σ τ : St} {l : List Int32} (f : FrM σ τ) : FrM σ (appM τ l) := ⟨fun a ha => by rw [appM_g ha]; exact f.1 a ha, fun b hb => by rw [appM_j (by omega) (by omega)]; exact f.2.1 b hb, fun i hi => by rw [appM_0 (by omega)]; exact f.2.2 i hi⟩
theorem FrM.tr {σ τ υ : St} (f : FrM σ τ) (g : FrM τ υ) : FrM σ υ := ⟨fun a ha => (g.1 a ha).trans (f.1 a ha), fun b hb => (g.2.1 b hb).trans (f.2.1 b hb), fun i hi => (g.2.2 i hi).trans (f.2.2 i hi)⟩
theorem AskC.ex {σ : St} {m : Nat → Int32} {l : List Int32} {o : Option St} (H : HH (σ 3) m) (B : HB (σ 5)) (e : o = some (appC σ l)) : Ret o (AskC σ m l) := Ret.of e ⟨(TxC.rf σ).app (l' := l), (FrQ.rf H B).app⟩
theorem AskM.ex {σ : St} {l : List Int32} {o : Option St} (e : o = some (appM σ l)) : Ret o (AskM σ l) := Ret.of e ⟨(TxM.rf σ).app (l' := l), (FrM.rf σ).app⟩
theorem numL_appC {σ : St} {l : List Int32} {c : Int32} : addC (appC σ l) c = appC σ (l ++ [c]) := (appC_app σ l [c]) ▸ rfl
theorem c_numA {σ : St} {L : List Int32} {k : Nat} {v : Int32} (hs : szC σ k) (hv : okN v) (hL : k + L.length + 11 ≤ 3200) : F_X1_number v (appC σ L) = some (appC σ (L ++ numL v)) := by
  rw [f_numberC hv (appC_sz hs) (by omega), appC_app]
theorem c_addA {σ : St} {L : List Int32} {k : Nat} {c : Int32} (hs : szC σ k) (hL : k + L.length < 3200) : F_X1_add c (appC σ L) = some (appC σ (L ++ [c])) := by
  rw [f_add (appC_sz hs) (by omega), numL_appC]
theorem c_nmsA {σ : St} {L : List Int32} {k : Nat} {a b : Int32} (hs : szC σ k) (ha : okN a) (hb : okN b) (hL : k + L.length + 23 ≤ 3200) : F_X1_numbers a b (appC σ L) = some (appC σ (L ++ numL a ++ [32] ++ numL b)) := by
  rw [f_numbersC ha hb (appC_sz hs) (by omega), appC_app]
  simp only [List.append_assoc, List.cons_append, List.nil_append]
theorem c_sayA {σ : St} {L : List Int32} {k i w : Nat} (hi : i < 54) (hw : w < 45) (e : sTx i = aTx w) (hs : szC σ k) (hL : k + L.length + 11 ≤ 3200) : F_X1_say (nI i) (appC σ L) = some (appC σ (L ++ aTx w)) := by
  have := tx_len w hw
  rw [f_sayC hi (appC_sz hs) (by rw [e]; omega), appC_app, e]
theorem bd_ok {x : Int32} {n : Nat} (h : bd x n) (hn : n < 2147483648) : okN x := by
  rw [h.1]
  exact okN_nI (by have := h.2; omega)
/-- units -/
def stL (x : Int32) : Int32 := if x = 0 then 115 else if x = 1 then 104 else if x = 2 then 103 else if x = 3 then 97 else 111
def unJ (m : Nat → Int32) (u : Nat) : List Int32 := [stL (m (110 + 8 * u + 5))] ++ numL (m (110 + 8 * u + 2)) ++ [46] ++ numL (m (110 + 8 * u + 3)) ++ [46] ++ numL (m (110 + 8 * u + 4)) ++ [59]
theorem unJ_len (m : Nat → Int32) (u : Nat) : (unJ m u).length ≤ 37 := by
  have h1 := numL_len (v := m (110 + 8 * u + 2))
  have h2 := numL_len (v := m (110 + 8 * u + 3))
  have h3 := numL_len (v := m (110 + 8 * u + 4))
  unfold unJ
  simp only [List.length_append, List.length_cons, List.length_nil]
  omega
theorem asc_1 {c : Int32} {n : Nat} (h : n < 128) (e : c = nI n) : asc [c] := asc_cons ⟨n, h, e⟩ asc_nil
theorem stL_asc (x : Int32) : asc [stL x] := by
  unfold stL
  split
  · exact asc_1 (n := 115) (by decide) rfl
  split
  · exact asc_1 (n := 104) (by decide) rfl
  split
  · exact asc_1 (n := 103) (by decide) rfl
  split
  · exact asc_1 (n := 97) (by decide) rfl
  · exact asc_1 (n := 111) (by decide) rfl
theorem unJ_asc (m : Nat → Int32) (u : Nat) : asc (unJ m u) := by
  have a46 : asc [46] := asc_1 (n := 46) (by decide) rfl
  have a59 : asc [59] := asc_1 (n := 59) (by decide) rfl
  unfold unJ
  exact asc_app (asc_app (asc_app (asc_app (asc_app (asc_app (stL_asc _) (asc_numL _)) a46) (asc_numL _)) a46) (asc_numL _)) a59
theorem c_units {σ : St} {m : Nat → Int32} {k : Nat} (hw : WF m) (H : HH (σ 3) m) (hs : szC σ k) (hk : k ≤ 100) : F_X0_units σ = some (appC σ (cat (unJ m) (cn (m 2)))) := by
  have b2 := hw.2.2.1
  have b2' := b2.2
  have hcl : ∀ j, (cat (unJ m) j).length ≤ 37 * j := fun j => cat_len (f := unJ m) (B := 37) j (fun k _ => unJ_len m k)
  have g3 : ∀ l, appC σ l 3 = σ 3 := fun l => appC_g (by decide)
  unfold F_X0_units
  have key := iter_row (f := fun z => B_X0_units_2 z.1 z.2) (fun j => (nI j, appC σ (cat (unJ m) j))) (cn (m 2)) (appC σ (cat (unJ m) (cn (m 2)))) ?_ ?_ 0 (Nat.zero_le _)
  · rw [show ((0 : Int32), σ) = (nI 0, appC σ (cat (unJ m) 0)) from rfl, key, some_b]
  · intro j hj
    have hc := hcl j
    obtain ⟨-, -, u2, u3, u4, u5, -⟩ := hw.2.2.2.2.2.2.2.2.1 j hj
    obtain ⟨-, -, h17, h18, h19, h20, -⟩ := H.1.2.2.1 j hj
    have l1 := numL_len (v := m (110 + 8 * j + 2))
    have l2 := numL_len (v := m (110 + 8 * j + 3))
    have l3 := numL_len (v := m (110 + 8 * j + 4))
    have e51 : (sok (51 : Int32)).bind (fun i => strChr i (m (110 + 8 * j + 5))) = some (stL (m (110 + 8 * j + 5))) := by
      have h5 := u5.2
      rw [u5.1]
      generalize cn (m (110 + 8 * j + 5)) = x at h5
      rw [show (51 : Int32) = nI 51 from rfl, sok_nI (by decide), some_b]
      have hx : x = 0 ∨ x = 1 ∨ x = 2 ∨ x = 3 ∨ x = 4 := by omega
      rcases hx with e | e | e | e | e <;> subst e <;> decide +kernel
    show B_X0_units_2 (nI j) (appC σ (cat (unJ m) j)) = _
    unfold B_X0_units_2
    rw [g3, H.1.1.2.2.1, b2.1, if_pos (nI_lt hj (by omega)), rdo_nI (by omega) (by decide), some_b, g3, h20, e51, some_b, c_addA hs (by omega), some_b, rdo_nI (by omega) (by decide), some_b, g3, h17, c_numA hs (bd_ok u2.1 (by decide)) (by simp only [List.length_append, List.length_cons, List.length_nil]; omega), some_b, c_addA hs (by simp only [List.length_append, List.length_cons, List.length_nil]; omega), some_b, rdo_nI (by omega) (by decide), some_b, g3, h18, c_numA hs (bd_ok u3 (by decide)) (by simp only [List.length_append, List.length_cons, List.length_nil]; omega), some_b, c_addA hs (by simp only [List.length_append, List.length_cons, List.length_nil]; omega), some_b, rdo_nI (by omega) (by decide), some_b, g3, h19, c_numA hs (bd_ok u4 (by decide)) (by simp only [List.length_append, List.length_cons, List.length_nil]; omega), some_b, c_addA hs (by simp only [List.length_append, List.length_cons, List.length_nil]; omega), some_b, nI_1, cat, unJ]
    simp only [List.append_assoc, List.cons_append, List.nil_append]
  · show B_X0_units_2 (nI (cn (m 2))) (appC σ (cat (unJ m) (cn (m 2)))) = _
    unfold B_X0_units_2
    rw [g3, H.1.1.2.2.1, b2.1, cn_nI (by omega), if_neg (nI_nlt (Nat.le_refl _) (by omega))]
theorem m_units {σ : St} {m : Nat → Int32} {k : Nat} (hw : WF m) (hm : σ 20 1 = m) (hs : szM σ k) (hk : k ≤ 100) : F_X12_tellUnits σ = some (appM σ (cat (unJ m) (cn (m 2)))) := by
  have b2 := hw.2.2.1
  have b2' := b2.2
  have hcl : ∀ j, (cat (unJ m) j).length ≤ 37 * j := fun j => cat_len (f := unJ m) (B := 37) j (fun k _ => unJ_len m k)
  have g1 : ∀ l, appM σ l 20 1 = m := fun l => by rw [appM_j (by decide) (by decide)]; exact hm
  unfold F_X12_tellUnits
  have key := iter_row (f := fun z => B_X12_tellUnits_2 z.1 z.2) (fun j => (nI j, appM σ (cat (unJ m) j))) (cn (m 2)) (appM σ (cat (unJ m) (cn (m 2)))) ?_ ?_ 0 (Nat.zero_le _)
  · rw [show ((0 : Int32), σ) = (nI 0, appM σ (cat (unJ m) 0)) from rfl, key, some_b]
  · intro j hj
    have hc := hcl j
    obtain ⟨-, -, u2, u3, u4, u5, -⟩ := hw.2.2.2.2.2.2.2.2.1 j hj
    have l1 := numL_len (v := m (110 + 8 * j + 2))
    have l2 := numL_len (v := m (110 + 8 * j + 3))
    have l3 := numL_len (v := m (110 + 8 * j + 4))
    have eS : ∀ {β : Type} (x : Int32) (K : Int32 → Option β), Option.bind (if x = 0 then some ((115 : Int32)) else (if x = (1 : Int32) then some ((104 : Int32)) else (if x = (2 : Int32) then some ((103 : Int32)) else (if x = (3 : Int32) then some ((97 : Int32)) else some ((111 : Int32)))))) K = K (stL x) := by
      intro β x K
      unfold stL
      split
      · rfl
      split
      · rfl
      split
      · rfl
      split
      · rfl
      · rfl
    show B_X12_tellUnits_2 (nI j) (appM σ (cat (unJ m) j)) = _
    unfold B_X12_tellUnits_2
    rw [m_rd2, some_b, g1, b2.1, if_pos (nI_lt hj (by omega)), show (5 : Int32) = nI 5 from rfl, m_unit (by omega) (by decide), some_b, g1, eS, m_putA hs (by omega), some_b, show F_X12_unit (nI j) (2 : Int32) (appM σ (cat (unJ m) j ++ [stL (m (110 + 8 * j + 5))])) = _ from m_unit (w := 2) (by omega) (by decide), some_b, g1, m_numA hs (bd_ok u2.1 (by decide)) (by simp only [List.length_append, List.length_cons, List.length_nil]; omega), some_b, m_putA hs (by simp only [List.length_append, List.length_cons, List.length_nil]; omega), some_b, show (3 : Int32) = nI 3 from rfl, m_unit (by omega) (by decide), some_b, g1, m_numA hs (bd_ok u3 (by decide)) (by simp only [List.length_append, List.length_cons, List.length_nil]; omega), some_b, m_putA hs (by simp only [List.length_append, List.length_cons, List.length_nil]; omega), some_b, show (4 : Int32) = nI 4 from rfl, m_unit (by omega) (by decide), some_b, g1, m_numA hs (bd_ok u4 (by decide)) (by simp only [List.length_append, List.length_cons, List.length_nil]; omega), some_b, m_putA hs (by simp only [List.length_append, List.length_cons, List.length_nil]; omega), some_b, nI_1, cat, unJ]
    simp only [List.append_assoc, List.cons_append, List.nil_append]
  · show B_X12_tellUnits_2 (nI (cn (m 2))) (appM σ (cat (unJ m) (cn (m 2)))) = _
    unfold B_X12_tellUnits_2
    rw [m_rd2, some_b, g1, b2.1, cn_nI (by omega), if_neg (nI_nlt (Nat.le_refl _) (by omega))]
