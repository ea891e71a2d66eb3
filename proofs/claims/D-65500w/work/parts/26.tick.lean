/-! S5: seconds of the whole house -/
set_option maxRecDepth 100000
noncomputable def mvN (m : Nat → Int32) : Nat → Nat → Int32
  | 0 => m
  | k + 1 => mvU (mvN m k) k
noncomputable def secR (m : Nat → Int32) : Nat → Int32 := setm (mvN m (cn (m 2))) 4 (m 4 + 1)
noncomputable def tickN (m : Nat → Int32) : Nat → Nat → Int32
  | 0 => m
  | k + 1 => secR (tickN m k)
theorem hrs_nI {m : Nat → Int32} {n : Nat} (h : bd (m 4) n) (hn : n < 2147483648) : m 4 / 3600 = nI (cn (m 4) / 3600) ∧ hrs m = nI (cn (m 4) / 3600 % 24) := by
  have h2 := h.2
  have h0 := Nat.div_le_self (cn (m 4)) 3600
  have e : m 4 / 3600 = nI (cn (m 4) / 3600) := by
    rw [show (3600 : Int32) = nI 3600 from rfl]
    have := pk_div (a := cn (m 4)) (d := 3600) (by omega) (by decide) (by decide)
    rw [← this, ← h.1]
  refine ⟨e, ?_⟩
  unfold hrs
  rw [e, show (24 : Int32) = nI 24 from rfl, pk_rem (by omega) (by decide) (by decide)]
theorem SameW.hour {m m' : Nat → Int32} (h0 : m' 0 = m 0) (h1 : m' 1 = m 1) (hi : ∀ i, (10 ≤ i ∧ i < 110) ∨ (340 ≤ i ∧ i < 380) → m' i = m i) {n : Nat} (hn : n < 2147483648) (b : bd (m 4) n) (b' : bd (m' 4) n) (hh : cn (m' 4) / 3600 = cn (m 4) / 3600) : SameW m m' := by
  refine ⟨h0, h1, ?_, hi⟩
  rw [(hrs_nI b hn).2, (hrs_nI b' hn).2, hh]
theorem mvN_ok {m : Nat → Int32} (hw : WF m) (hg : WG m 0) (hk : cn (m 4) < 1003600) : ∀ k, k ≤ cn (m 2) → WF (mvN m k) ∧ WG (mvN m k) k ∧ ∀ i, i < 5 ∨ (6 < i ∧ i < 110) ∨ 340 ≤ i → mvN m k i = m i := by
  have hU := hw.2.2.1.2
  intro k
  induction k with
  | zero => intro _; exact ⟨hw, hg, fun _ _ => rfl⟩
  | succ k ih =>
    intro hk2
    obtain ⟨w, g, e⟩ := ih (by omega)
    have e2 := e 2 (Or.inl (by omega))
    have e4 := e 4 (Or.inl (by omega))
    obtain ⟨w', g'⟩ := mvU_ok w g (by rw [e2]; omega) (by rw [e4]; exact hk)
    refine ⟨w', g', fun i hi => ?_⟩
    show mvU (mvN m k) k i = m i
    rw [mvU_ne w (by rw [e2]; omega) (by omega) (by omega) (by omega) (by intro c hc; omega), e i hi]
theorem mvN_same {m : Nat → Int32} (hw : WF m) (hg : WG m 0) (hk : cn (m 4) < 1003600) {k : Nat} (h : k ≤ cn (m 2)) : SameW m (mvN m k) := by
  obtain ⟨-, -, e⟩ := mvN_ok hw hg hk k h
  refine ⟨e 0 (by omega), e 1 (by omega), ?_, fun i hi => e i (by omega)⟩
  unfold hrs
  rw [e 4 (by omega)]
theorem secR_ok {m : Nat → Int32} (hw : WF m) (hg : WG m 0) (hk : cn (m 4) < 1003600) : WF (secR m) ∧ WG (secR m) 0 ∧ cn (secR m 4) = cn (m 4) + 1 ∧ ∀ i, i < 4 ∨ (6 < i ∧ i < 110) ∨ 340 ≤ i → secR m i = m i := by
  have hU := hw.2.2.1.2
  have h4 := hw.2.2.2.2.1
  obtain ⟨w, g, e⟩ := mvN_ok hw hg hk (cn (m 2)) (Nat.le_refl _)
  have b := bd_add (x := m 4) (d := 1) ⟨h4.1, Nat.le_refl _⟩ (by omega)
  have e4 : secR m 4 = m 4 + nI 1 := by unfold secR; rw [setm_eq]; rfl
  have ne : ∀ i, i ≠ 4 → secR m i = mvN m (cn (m 2)) i := fun i hi => by unfold secR; rw [setm_ne hi]
  refine ⟨?_, ?_, by rw [e4, b.2], fun i hi => by rw [ne i (by omega), e i (by omega)]⟩
  · exact w.sc4 (show bd (m 4 + nI 1) 1003600 from ⟨b.1.1, by have := b.1.2; omega⟩)
  · obtain ⟨g1, g2, g3, g4, g5, g6, g7, g8⟩ := g
    have f2 := e 2 (Or.inl (by omega))
    have f4 := e 4 (Or.inl (by omega))
    rw [f4] at g2 g3
    refine ⟨fun u hu => ?_, ?_, ?_, ?_, ?_, ?_, ?_, ?_⟩
    · rw [ne 2 (by omega), f2] at hu
      rw [ne _ (by omega), e4, b.2, if_neg (by omega)]
      have := g1 u (by rw [f2]; exact hu)
      rw [f4, if_pos hu] at this
      omega
    · rw [ne 5 (by omega), e4, b.2]; exact ⟨g2.1, by have := g2.2; omega⟩
    · rw [ne 6 (by omega), e4, b.2]; exact ⟨g3.1, by have := g3.2; omega⟩
    · intro q hq
      rw [ne 3 (by omega)] at hq
      rw [ne _ (by omega), ne _ (by omega)]
      exact g4 q hq
    · rw [ne 3 (by omega), ne 5 (by omega), sumN_congr (g := fun q => cn (mvN m (cn (m 2)) (160 + 6 * q + 4))) (fun q hq => by rw [ne _ (by omega)])]
      exact g5
    · rw [ne 3 (by omega), ne 6 (by omega), sumN_congr (g := fun q => cn (mvN m (cn (m 2)) (160 + 6 * q + 5))) (fun q hq => by rw [ne _ (by omega)])]
      exact g6
    · intro u hu
      rw [ne 2 (by omega)] at hu
      rw [ne _ (by omega), ne _ (by omega), ne _ (by omega), ne _ (by omega)]
      exact g7 u hu
    · rw [ne 3 (by omega), sumN_congr (g := fun q => cn (mvN m (cn (m 2)) (160 + 6 * q + 3))) (fun q hq => by rw [ne _ (by omega)])]
      exact g8
theorem tickN_ok {m : Nat → Int32} (hw : WF m) (hg : WG m 0) : ∀ k, cn (m 4) + k ≤ 1003600 → WF (tickN m k) ∧ WG (tickN m k) 0 ∧ cn (tickN m k 4) = cn (m 4) + k ∧ ∀ i, i < 4 ∨ (6 < i ∧ i < 110) ∨ 340 ≤ i → tickN m k i = m i := by
  intro k
  induction k with
  | zero => intro _; exact ⟨hw, hg, rfl, fun _ _ => rfl⟩
  | succ k ih =>
    intro h
    obtain ⟨w, g, e4, e⟩ := ih (by omega)
    obtain ⟨w', g', f4, f⟩ := secR_ok w g (by omega)
    exact ⟨w', g', by show cn (secR (tickN m k) 4) = _; omega, fun i hi => (f i hi).trans (e i hi)⟩
theorem Hs.tr {σ τ υ : St} {h : Nat} {m m' : Nat → Int32} (a : Hs σ τ h m) (b : Hs τ υ h m') : Hs σ υ h m' := ⟨b.1, b.2.1, a.2.2.tr b.2.2⟩
theorem HC.known {c : Nat → Nat → Int32} {m : Nat → Int32} {v : Int32} (hc : HC c m) : HC (setc c 0 37 v) m := by
  obtain ⟨hz, hs, hu, hq⟩ := hc
  refine ⟨?_, fun k hk => ?_, fun u h => ?_, fun q h => ?_⟩
  · simp (disch := omega) only [setc_i]; exact hz
  · simp (disch := omega) only [setc_j]; exact hs k hk
  · simp (disch := omega) only [setc_j]; exact hu u h
  · simp (disch := omega) only [setc_j]; exact hq q h
theorem SameW.kn {c : Nat → Nat → Int32} {m m' : Nat → Int32} (hS : SameW m m') (hw : WF m) (h : KnC c m') : KnC c m := by
  refine ⟨h.1, fun e a b ha hb => ?_⟩
  rw [← hS.dd hw]
  exact h.2 e a b (by rw [hS.1]; exact ha) (by rw [hS.1]; exact hb)
/-- the component's second -/
theorem c_second {σ : St} {h : Nat} {m : Nat → Int32} (hw : WF m) (hg : WG m 0) (hc : HC (σ h) m) (hk : KnC (σ h) m) (h4 : cn (m 4) < 1003600) : Ret (F_X3_second h σ) (fun σ' => Hs σ σ' h (secR m)) := by
  have hU := hw.2.2.1
  have hU2 := hU.2
  have b4 := hw.2.2.2.2.1
  have key : Ret (iter (fun z => B_X3_second_2 h z.1 z.2) (nI 0, σ)) (fun τ => Hs σ τ h (mvN m (cn (m 2)))) := by
    refine iter_cnt (f := fun z => B_X3_second_2 h z.1 z.2) (fun k (τ : St) => (nI k, τ)) (fun k τ => Hs σ τ h (mvN m k)) (cn (m 2)) ?_ ?_ σ ⟨hc, hk, FrW.rf _ _⟩
    · rintro k τ hk' H
      obtain ⟨w, g, e⟩ := mvN_ok hw hg h4 k (by omega)
      have e2 := e 2 (Or.inl (by omega))
      have e4 := e 4 (Or.inl (by omega))
      have hu : k < cn (mvN m k 2) := by rw [e2]; exact hk'
      have hwk := g.1 k hu
      rw [if_neg (Nat.lt_irrefl k), e4] at hwk
      show Ret (B_X3_second_2 h (nI k) τ) _
      refine (c_secondU w H.1 H.2.1 hu (by omega)).mono (fun z hz => ?_)
      cases z with
      | inl z =>
        obtain ⟨υ, ez, hυ⟩ := hz
        exact ⟨υ, ez, H.tr hυ⟩
      | inr z => exact absurd hz (fun y => y)
    · rintro τ H
      obtain ⟨w, g, e⟩ := mvN_ok hw hg h4 (cn (m 2)) (Nat.le_refl _)
      show Ret (B_X3_second_2 h (nI (cn (m 2))) τ) _
      unfold B_X3_second_2
      rw [H.1.1.2.2.1, e 2 (Or.inl (by omega)), if_neg (fun z => Nat.lt_irrefl _ ((bd_lt hU (by decide) (by omega)).mp z))]
      exact Ret.some H
  unfold F_X3_second
  rw [show ((0 : Int32), σ) = (nI 0, σ) from rfl]
  refine Ret.bind key (fun τ H => ?_)
  obtain ⟨w, g, e⟩ := mvN_ok hw hg h4 (cn (m 2)) (Nat.le_refl _)
  have ec : τ h 0 32 = m 4 := by rw [H.1.1.2.2.2.2.1, e 4 (Or.inl (by omega))]
  rw [nst_b, up3_same, ec]
  have hS := mvN_same hw hg h4 (Nat.le_refl (cn (m 2)))
  have HC1 : HC (setc (τ h) 0 32 (m 4 + 1)) (secR m) := H.1.sc4
  have b := bd_add (x := m 4) (d := 1) ⟨b4.1, Nat.le_refl _⟩ (by omega)
  have er : (m 4 + 1) - (m 4 + 1) / 3600 * 3600 = nI ((cn (m 4) + 1) % 3600) := by
    have e1 : m 4 + 1 = nI (cn (m 4) + 1) := by rw [← nI_1, ← b4.1]
    rw [e1, show (3600 : Int32) = nI 3600 from rfl, pk_rem (by omega) (by decide) (by decide)]
  rw [er]
  by_cases z : (cn (m 4) + 1) % 3600 = 0
  · rw [z, if_pos (show nI 0 = 0 from rfl), zro_0, some_b, nst_b]
    refine Ret.some ⟨?_, ?_, (H.2.2.up (by omega)).up (by omega)⟩
    · rw [up3_cells, up3_cells]
      exact HC1.known
    · rw [up3_cells]
      refine ⟨Or.inl setc_eq, fun y => ?_⟩
      rw [setc_eq] at y
      exact absurd y (by decide)
  · rw [if_neg (show ¬ nI ((cn (m 4) + 1) % 3600) = 0 from fun y => z ((nI_eq (a := (cn (m 4) + 1) % 3600) (b := 0) (by omega) (by decide)).mp y))]
    refine Ret.some ⟨?_, ?_, H.2.2.up (by omega)⟩
    · rw [up3_cells]
      exact HC1
    · rw [up3_cells]
      obtain ⟨-, -, f4, f⟩ := secR_ok hw hg h4
      have hS2 : SameW m (secR m) := by
        refine SameW.hour (n := 1003600) (f 0 (by omega)) (f 1 (by omega)) (fun i hi => f i (by omega)) (by decide) b4 ?_ ?_
        · exact (secR_ok hw hg h4).1.2.2.2.2.1
        · rw [f4]; omega
      exact ((hS.kn hw H.2.1).set (by decide) (Or.inr (by decide))).same hS2 hw
theorem c_tick {σ : St} {h a : Nat} {m : Nat → Int32} (hw : WF m) (hg : WG m 0) (hc : HC (σ h) m) (hk : KnC (σ h) m) (ha : cn (m 4) + a ≤ 1003600) {f : Int32 × St → Option ((Int32 × St) ⊕ St)} (hf : ∀ c s, f (c, s) = if c < nI a then (F_X3_second h s).bind (fun t => some (.inl ((c + (1 : Int32)), t))) else some (.inr s)) : Ret (iter f (nI 0, σ)) (fun τ => Hs σ τ h (tickN m a)) := by
  refine iter_cnt (fun k (τ : St) => (nI k, τ)) (fun k τ => Hs σ τ h (tickN m k)) a ?_ ?_ σ ⟨hc, hk, FrW.rf _ _⟩
  · rintro k τ hk' H
    obtain ⟨w, g, e4, -⟩ := tickN_ok hw hg k (by omega)
    rw [hf, if_pos (nI_lt hk' (by omega))]
    refine Ret.bind (c_second w g H.1 H.2.1 (by omega)) (fun υ hυ => Ret.some ⟨υ, ?_, H.tr hυ⟩)
    rw [nI_1]
  · rintro τ H
    rw [hf, if_neg (nI_nlt (Nat.le_refl _) (by omega))]
    exact Ret.some H
/-- the model's seconds -/
theorem m_tickU {σ : St} {m : Nat → Int32} {a b c : Int32} (hw : WF m) (hg : WG m 0) (hT : TabR σ m) (h4 : cn (m 4) < 1003600) : iter (fun z => B_X12_tick_41 a b c z.1 z.2) (nI 0, putr σ m) = some (putr σ (mvN m (cn (m 2)))) := by
  have hU := hw.2.2.1
  have hU2 := hU.2
  refine iter_row (f := fun z => B_X12_tick_41 a b c z.1 z.2) (fun k => (nI k, putr σ (mvN m k))) (cn (m 2)) _ ?_ ?_ 0 (Nat.zero_le _)
  · intro k hk'
    obtain ⟨w, g, e⟩ := mvN_ok hw hg h4 k (by omega)
    have e2 := e 2 (Or.inl (by omega))
    have e4 := e 4 (Or.inl (by omega))
    have hu : k < cn (mvN m k 2) := by rw [e2]; exact hk'
    have hwk := g.1 k hu
    rw [if_neg (Nat.lt_irrefl k), e4] at hwk
    show B_X12_tick_41 a b c (nI k) (putr σ (mvN m k)) = _
    unfold B_X12_tick_41
    rw [m_rd2, some_b, putr_row, e2, if_pos ((bd_lt hU (by decide) (by omega)).mpr hk'), m_second w (hT.same (mvN_same hw hg h4 (by omega)) hw) hu (by omega), some_b, nI_1]
    rfl
  · obtain ⟨w, g, e⟩ := mvN_ok hw hg h4 (cn (m 2)) (Nat.le_refl _)
    show B_X12_tick_41 a b c (nI (cn (m 2))) (putr σ (mvN m (cn (m 2)))) = _
    unfold B_X12_tick_41
    rw [m_rd2, some_b, putr_row, e 2 (Or.inl (by omega)), if_neg (fun z => Nat.lt_irrefl _ ((bd_lt hU (by decide) (by omega)).mp z))]
/-- of the model only the row and the table of distances have changed -/
def FrT (σ τ : St) : Prop := ∀ a b, ¬ (a = 20 ∧ (b = 34 ∨ b = 1)) → τ a b = σ a b
theorem FrT.rf (σ : St) : FrT σ σ := fun _ _ _ => rfl
theorem FrT.tr {σ τ υ : St} (a : FrT σ τ) (b : FrT τ υ) : FrT σ υ := fun x y hxy => (b x y hxy).trans (a x y hxy)
theorem FrT.put {σ τ : St} {m : Nat → Int32} (a : FrT σ τ) : FrT σ (putr τ m) := by
  intro x y hxy
  unfold putr
  rw [if_neg (fun z => hxy ⟨z.1, Or.inr z.2⟩)]
  exact a x y hxy
theorem FrT.fr {σ τ υ : St} (a : FrT σ τ) (b : Fr τ υ 20 34) : FrT σ υ := fun x y hxy => (b x y (fun z => hxy ⟨z.1, Or.inl z.2⟩)).trans (a x y hxy)
theorem putr_of {σ : St} {m : Nat → Int32} (h : σ 20 1 = m) : σ = putr σ m := by rw [← h, putr_self]
theorem TabR.put {σ : St} {m m' : Nat → Int32} (h : TabR σ m) : TabR (putr σ m') m := by
  intro p q hp hq
  rw [putr_j (by decide)]
  exact h p q hp hq
theorem m_tick {σ : St} {m : Nat → Int32} {a : Nat} (hw : WF m) (hg : WG m 0) (hm : σ 20 1 = m) (ha : cn (m 4) + a ≤ 1003600) : Ret (F_X12_tick (nI a) σ) (fun σ' => σ' 20 1 = tickN m a ∧ FrT σ σ') := by
  unfold F_X12_tick
  have key : Ret (iter (fun z => B_X12_tick_4 (nI a) z.1 z.2.1 z.2.2) (-1, nI 0, σ)) (fun σ' => σ' 20 1 = tickN m a ∧ FrT σ σ') := by
    refine iter_cnt (f := fun z => B_X12_tick_4 (nI a) z.1 z.2.1 z.2.2) (fun k (p : Int32 × St) => (p.1, nI k, p.2)) (fun k p => p.2 20 1 = tickN m k ∧ FrT σ p.2 ∧ (p.1 = tickN m k 4 / 3600 → TabR p.2 (tickN m k))) a ?_ ?_ (-1, σ) ⟨hm, FrT.rf _, ?_⟩
    · rintro k ⟨hr, s⟩ hk ⟨e, hF, hT⟩
      have e : s 20 1 = tickN m k := e
      have hF : FrT σ s := hF
      have hT : hr = tickN m k 4 / 3600 → TabR s (tickN m k) := hT
      obtain ⟨w, g, e4, -⟩ := tickN_ok hw hg k (by omega)
      have b4 := w.2.2.2.2.1
      show Ret (B_X12_tick_4 (nI a) hr (nI k) s) _
      unfold B_X12_tick_4
      rw [if_pos (nI_lt hk (by omega)), m_rd4, some_b, e, nI_1]
      refine Ret.bind (Q := fun z => z 20 1 = tickN m k ∧ FrT σ z ∧ TabR z (tickN m k)) ?_ (fun z hz => ?_)
      · by_cases eh : tickN m k 4 / 3600 = hr
        · rw [if_pos eh]
          exact Ret.some ⟨e, hF, hT eh.symm⟩
        · rw [if_neg eh]
          refine Ret.bind (m_findDistances (σ := s) (by rw [e]; exact w)) (fun υ hυ => Ret.some ⟨by rw [hυ.1 20 1 (by decide), e], hF.fr hυ.1, ?_⟩)
          have := hυ.2.r
          rw [hυ.1 20 1 (by decide), e] at this
          exact this
      · obtain ⟨ez, hF2, hT2⟩ := hz
        have hz' := putr_of ez
        have hT3 : TabR (putr z (tickN m k)) (tickN m k) := hT2.put
        rw [m_rd4, some_b, ez, nmo_b, show ((0 : Int32), z) = (nI 0, putr z (tickN m k)) by rw [← hz']; rfl, m_tickU w g hT2 (by omega), some_b, m_rd4, some_b, putr_row, show (4 : Int32) = nI 4 from rfl, m_wr (by decide), some_b]
        obtain ⟨-, -, en⟩ := mvN_ok w g (by omega) (cn (tickN m k 2)) (Nat.le_refl _)
        rw [en 4 (Or.inl (by omega))]
        refine Ret.some ⟨(_, _), rfl, putr_row (σ := z) (m := tickN m (k + 1)), hF2.put, fun eh => ?_⟩
        obtain ⟨w2, -, f4, f⟩ := secR_ok w g (by omega)
        refine TabR.put (hT2.same ?_ w)
        refine SameW.hour (n := 1003600) (f 0 (by omega)) (f 1 (by omega)) (fun i hi => f i (by omega)) (by decide) b4 w2.2.2.2.2.1 ?_
        have eh : tickN m k 4 / 3600 = secR (tickN m k) 4 / 3600 := eh
        rw [(hrs_nI b4 (by decide)).1, (hrs_nI w2.2.2.2.2.1 (by decide)).1] at eh
        have q1 := Nat.div_le_self (cn (tickN m k 4)) 3600
        have q2 := Nat.div_le_self (cn (secR (tickN m k) 4)) 3600
        exact ((nI_eq (by omega) (by omega)).mp eh).symm
    · rintro ⟨hr, s⟩ ⟨e, hF, -⟩
      show Ret (B_X12_tick_4 (nI a) hr (nI a) s) _
      unfold B_X12_tick_4
      rw [if_neg (nI_nlt (Nat.le_refl _) (by omega))]
      exact Ret.some ⟨e, hF⟩
    · intro e
      have e : (-1 : Int32) = m 4 / 3600 := e
      rw [(hrs_nI hw.2.2.2.2.1 (by decide)).1] at e
      have := hw.2.2.2.2.1.2
      have q1 := Nat.div_le_self (cn (m 4)) 3600
      have : ¬ (-1 : Int32) < 0 := by rw [e]; exact nI_pos (by omega)
      exact absurd (by decide) this
  rw [show ((-1 : Int32), (0 : Int32), σ) = (-1, nI 0, σ) from rfl]
  exact Ret.bind key (fun z hz => Ret.some hz)
