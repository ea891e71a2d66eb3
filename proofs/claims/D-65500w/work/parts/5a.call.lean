/-! S6: a call is told: a new one or joined -/
set_option maxRecDepth 100000
theorem putr_app {σ : St} {m : Nat → Int32} {a b c : Nat} : putr σ m a b c = if a = 20 ∧ b = 1 then m c else σ a b c := putj_app
theorem addM_putr {σ : St} {m : Nat → Int32} {c : Int32} : addM (putr σ m) c = putr (addM σ c) m := by
  unfold addM
  funext x y z
  rw [putr_j (by decide)]
  simp only [up3, putr_app]
  grind
theorem appM_putr {m : Nat → Int32} : ∀ {l : List Int32} {σ : St}, appM (putr σ m) l = putr (appM σ l) m := by
  intro l
  induction l with
  | nil => intro σ; rfl
  | cons c l ih =>
    intro σ
    rw [← appM_cons, ← appM_cons, addM_putr, ih]
theorem szM_putr {σ : St} {m : Nat → Int32} {n : Nat} (h : szM σ n) : szM (putr σ m) n := by
  unfold szM
  rw [putr_j (by decide)]
  exact h
theorem StatM.putr {σ : St} {m : Nat → Int32} (h : StatM σ) : StatM (putr σ m) := h.fr (putr_j (by decide)) (putr_j (by decide)) (putr_j (by decide))
theorem StatM.app {σ : St} {l : List Int32} (h : StatM σ) : StatM (appM σ l) := h.fr (appM_j (by decide) (by decide)) (appM_j (by decide) (by decide)) (appM_j (by decide) (by decide))
/-- the words that both say -/
theorem tx_eq : ∀ p, p ∈ [(2, 2), (1, 1), (4, 3), (5, 4), (6, 5), (7, 6), (8, 7), (9, 8), (10, 9), (11, 10), (12, 11), (13, 12), (14, 13), (15, 14), (16, 15), (17, 16), (18, 17), (26, 18), (27, 19), (28, 20), (50, 21), (52, 22), (47, 23), (48, 24), (49, 25), (29, 26), (30, 27), (19, 28), (31, 29), (20, 30), (21, 32), (23, 33), (24, 34), (25, 35), (33, 36), (35, 37), (36, 38), (37, 39), (38, 40), (39, 41), (40, 42), (42, 43), (43, 44), (32, 0)] → sTx p.1 = aTx p.2 := by decide +kernel
theorem tx_len : ∀ w, w < 45 → (aTx w).length ≤ 11 := by decide +kernel
theorem tx_asc : ∀ w, w < 45 → asc (aTx w) := by
  have key : ∀ w, w < 45 → ∀ c ∈ aTx w, c = nI (cn c) ∧ cn c < 128 := by decide +kernel
  intro w hw c hc
  exact ⟨cn c, (key w hw c hc).2, (key w hw c hc).1⟩
noncomputable def caR (m : Nat → Int32) (p d r : Nat) : Nat → Int32 := if jnI m (nI p) (nI d) < 0 then acR m p d r else setm m (160 + 6 * cn (jnI m (nI p) (nI d)) + 2) (nI (max (cn (m (160 + 6 * cn (jnI m (nI p) (nI d)) + 2))) r))
noncomputable def caT (m : Nat → Int32) (p d : Nat) : List Int32 := if jnI m (nI p) (nI d) < 0 then aTx 27 ++ numL (nI (cn (m 3))) else aTx 26 ++ numL (jnI m (nI p) (nI d))
theorem caT_len (m : Nat → Int32) (p d : Nat) : (caT m p d).length ≤ 22 := by
  unfold caT
  have h1 := tx_len 27 (by decide)
  have h2 := tx_len 26 (by decide)
  by_cases q : jnI m (nI p) (nI d) < 0
  · rw [if_pos q, List.length_append]
    have := numL_len (v := nI (cn (m 3)))
    omega
  · rw [if_neg q, List.length_append]
    have := numL_len (v := jnI m (nI p) (nI d))
    omega
theorem caT_asc (m : Nat → Int32) (p d : Nat) : asc (caT m p d) := by
  unfold caT
  by_cases q : jnI m (nI p) (nI d) < 0
  · rw [if_pos q]; exact asc_app (tx_asc 27 (by decide)) (asc_numL _)
  · rw [if_neg q]; exact asc_app (tx_asc 26 (by decide)) (asc_numL _)
theorem jn_lt {m : Nat → Int32} (hw : WF m) (p d : Int32) : (∃ q, q < cn (m 3) ∧ q < 30 ∧ jnI m p d = nI q) ∨ jnI m p d = -1 := by
  rcases jnI_cases m p d with ⟨q, q1, -, q3⟩ | ⟨-, q2⟩
  · exact Or.inl ⟨q, q1.1.1, by have := q1.1.1; have := hw.2.2.2.1.2; omega, q3⟩
  · exact Or.inr q2
/-- the text's group alone counts -/
theorem addC_1 {σ τ : St} {c : Int32} (h : τ 1 = σ 1) : addC τ c 1 = addC σ c 1 := by
  unfold addC
  funext b i
  simp only [up3, h]
theorem appC_1' : ∀ {l : List Int32} {σ τ : St}, τ 1 = σ 1 → appC τ l 1 = appC σ l 1 := by
  intro l
  induction l with
  | nil => intro σ τ h; exact h
  | cons c l ih =>
    intro σ τ h
    rw [← appC_cons, ← appC_cons]
    exact ih (addC_1 h)
theorem c_call {σ : St} {k p d r : Nat} {m : Nat → Int32} (hw : WF m) (H : HH (σ 3) m) (hs : szC σ k) (hk : k ≤ 3900) (hr : r ≤ 9) (hc : jnI m (nI p) (nI d) < 0 → cn (m 3) < 30) : Ret (F_X0_call (nI p) (nI d) (nI r) σ) (fun τ => τ 1 = appC σ (caT m p d) 1 ∧ HH (τ 3) (caR m p d r) ∧ ∀ a, a ≠ 1 → a ≠ 3 → τ a = σ a) := by
  have t30 : sTx 30 = aTx 27 := tx_eq (30, 27) (by decide)
  have t29 : sTx 29 = aTx 26 := tx_eq (29, 26) (by decide)
  have hb3 := hw.2.2.2.1.2
  unfold F_X0_call caR caT
  rw [c_alike hw H.1, some_b]
  rcases jn_lt hw (nI p) (nI d) with ⟨q, q1, q2, q3⟩ | q3
  · have hn : ¬ nI q < 0 := nI_pos (by omega)
    obtain ⟨c24, -⟩ : σ 3 24 q = m (160 + 6 * q + 2) ∧ True := ⟨(H.1.2.2.2 q q1).2.2.1, trivial⟩
    have hb2 := (hw.2.2.2.2.2.2.2.2.2.2 q q1).2.2.1.1
    rw [q3, if_neg hn, if_neg hn, if_neg hn, cn_nI (by omega), rdo_nI q2 (by decide), some_b, wro_nI q2 (by decide), some_b, c24]
    have e : imax (m (160 + 6 * q + 2)) (nI r) = nI (max (cn (m (160 + 6 * q + 2))) r) := by
      have := hb2.2
      conv => lhs; rw [hb2.1]
      rw [imax_nI (by omega) (by omega)]
    rw [e]
    have hs2 : szC (up3 σ 3 24 q (nI (max (cn (m (160 + 6 * q + 2))) r))) k := by unfold szC; rw [up3_g (by decide)]; exact hs
    rw [show (29 : Int32) = nI 29 from rfl, f_sayC (by decide) hs2 (by rw [t29]; have := tx_len 26 (by decide); omega), some_b, f_numberC (okN_nI (by omega)) (appC_sz hs2) (by rw [t29]; have := tx_len 26 (by decide); omega), some_b, appC_app, t29]
    refine Ret.some ⟨?_, ?_, ?_⟩
    · exact appC_1' (up3_g (by decide))
    · rw [appC_g (by decide)]
      exact HH.rk hw H q1
    · intro a ha1 ha3
      rw [appC_g ha1, up3_g ha3]
  · rw [q3, if_pos (show (-1 : Int32) < 0 by decide), if_pos (show (-1 : Int32) < 0 by decide), if_pos (show (-1 : Int32) < 0 by decide)]
    have hc2 := hc (by rw [q3]; decide)
    rw [show (30 : Int32) = nI 30 from rfl, f_sayC (by decide) hs (by rw [t30]; have := tx_len 27 (by decide); omega), some_b]
    refine Ret.bind (c_addCall hw (by rw [appC_g (by decide)]; exact H) hc2) ?_
    rintro z ⟨z1, z2, z3⟩
    have hs2 : szC z.2 (k + (sTx 30).length) := by unfold szC; rw [z2 1 (by decide)]; exact appC_sz hs
    rw [z1, f_numberC (okN_nI (by omega)) hs2 (by rw [t30]; have := tx_len 27 (by decide); omega), some_b]
    refine Ret.some ⟨?_, ?_, ?_⟩
    · rw [appC_1' (z2 1 (by decide)), appC_app, t30]
    · rw [appC_g (by decide)]
      exact z3
    · intro a ha1 ha3
      rw [appC_g ha1, z2 a ha3, appC_g ha1]
theorem m_addCallT {σ : St} {k p d r : Nat} {m : Nat → Int32} (hw : WF m) (hS : StatM σ) (hs : szM σ k) (hk : k ≤ 3100) (hr : r ≤ 9) (hc : jnI m (nI p) (nI d) < 0 → cn (m 3) < 30) : F_X12_addCall (nI p) (nI d) (nI r) (putr σ m) = some (putr (appM σ (caT m p d)) (caR m p d r)) := by
  have hb3 := hw.2.2.2.1.2
  unfold F_X12_addCall caR caT
  rw [m_joins (by rw [putr_row]; exact hw), some_b, putr_row]
  rcases jn_lt hw (nI p) (nI d) with ⟨q, q1, q2, q3⟩ | q3
  · have hn : ¬ nI q < 0 := nI_pos (by omega)
    have hb2 := (hw.2.2.2.2.2.2.2.2.2.2 q q1).2.2.1.1
    have hbb := hb2.2
    have hl := tx_len 26 (by decide)
    rw [q3, if_neg hn, if_neg hn, if_neg hn, cn_nI (by omega), show (2 : Int32) = nI 2 from rfl, m_call (by omega) (by decide), some_b, putr_row]
    have e : (if m (160 + 6 * q + 2) < nI r then (F_X12_setCall (nI q) (nI 2) (nI r) (putr σ m)).bind (fun s1013 => some s1013) else some (putr σ m)) = some (putr σ (setm m (160 + 6 * q + 2) (nI (max (cn (m (160 + 6 * q + 2))) r)))) := by
      rw [m_setCall (by omega) (by decide), some_b]
      by_cases z : cn (m (160 + 6 * q + 2)) < r
      · rw [if_pos ((bd_gt hb2 (by decide) (by omega)).mpr z), Nat.max_eq_right (by omega)]
      · rw [if_neg (fun y => z ((bd_gt hb2 (by decide) (by omega)).mp y)), Nat.max_eq_left (by omega), ← hb2.1]
        have : setm m (160 + 6 * q + 2) (m (160 + 6 * q + 2)) = m := by
          funext i
          unfold setm
          by_cases y : i = 160 + 6 * q + 2
          · rw [if_pos y, y]
          · rw [if_neg y]
        rw [this]
    rw [e, some_b, show (26 : Int32) = nI 26 from rfl, f_sayM (by decide) hS.putr (szM_putr hs) (by omega), some_b, f_numberM (okN_nI (by omega)) (appM_sz (szM_putr hs)) (by omega), some_b, appM_app, appM_putr]
  · have hc2 := hc (by rw [q3]; decide)
    have hl := tx_len 27 (by decide)
    have h3 := hw.2.2.2.1.1
    rw [q3, if_pos (show (-1 : Int32) < 0 by decide), if_pos (show (-1 : Int32) < 0 by decide), if_pos (show (-1 : Int32) < 0 by decide), m_rd3, some_b, putr_row, some_b, show (3 : Int32) = nI 3 from rfl, m_wr (by decide), some_b, show (0 : Int32) = nI 0 from rfl]
    conv =>
      lhs
      rw [h3]
    have key := lp_ac66 (σ := σ) (m := setm m 3 (nI (cn (m 3)) + 1)) (u := cn (m 3)) (x := nI p) (y := nI d) (z := nI r) (by omega)
    rw [key, some_b, m_setCall (by omega) (by decide), some_b, show (1 : Int32) = nI 1 from rfl, m_setCall (by omega) (by decide), some_b, show (2 : Int32) = nI 2 from rfl, m_setCall (by omega) (by decide), some_b, m_setCall (by omega) (by decide), some_b, show (27 : Int32) = nI 27 from rfl, f_sayM (by decide) hS.putr (szM_putr hs) (by omega), some_b, f_numberM (okN_nI (by omega)) (appM_sz (szM_putr hs)) (by omega), some_b, appM_app, appM_putr]
    congr 2
    funext i
    unfold acR
    simp only [setm, nI_add]
    generalize cn (m 3) = c at *
    by_cases y0 : i = 3
    · subst y0
      simp (disch := omega) only [if_neg, if_pos]
    · rw [if_neg y0]
      have h1 : nI 1 = 1 := rfl
      clear key hS hs hw h3
      grind
theorem Rok.ca {m : Nat → Int32} (h : Rok m) {p d r : Nat} (hc : jnI m (nI p) (nI d) < 0 → cn (m 3) < 30 ∧ sumN (fun q => cn (m (160 + 6 * q + 3))) (cn (m 3)) < 6) (hp : p < cn (m 0)) (hd : d ≤ 2) (hr1 : 1 ≤ r) (hr2 : r ≤ 9) : Rok (caR m p d r) := by
  unfold caR
  rcases jn_lt h.1 (nI p) (nI d) with ⟨q, q1, q2, q3⟩ | q3
  · have hb := (h.1.2.2.2.2.2.2.2.2.2.2 q q1).2.2.1
    have := hb.1.2
    have := hb.2
    rw [q3, if_neg (nI_pos (by omega)), cn_nI (by omega)]
    exact h.rk q1 (by omega) (by omega)
  · have hc2 := hc (by rw [q3]; decide)
    rw [q3, if_pos (by decide)]
    exact h.ac hc2.1 hc2.2 hp hd hr1 hr2
