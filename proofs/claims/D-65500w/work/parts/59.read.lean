/-! S2: reading, whole: the model; both -/
set_option maxRecDepth 100000
theorem w_some : ∀ w, w < 45 → (if nI w = (13 : Int32) then some ((1 : Int32)) else (if nI w = (14 : Int32) then some ((1 : Int32)) else (if nI w = (15 : Int32) then some ((1 : Int32)) else (if nI w = (32 : Int32) then some ((1 : Int32)) else (if nI w = (37 : Int32) then some ((1 : Int32)) else (if nI w = (26 : Int32) then some ((1 : Int32)) else some ((0 : Int32)))))))) = some (if sml w then 0 else 1) := by decide +kernel
theorem nIw {w k : Nat} (h : w < 45) (hk : k < 45) : nI w = nI k ↔ w = k := nI_eq (by omega) (by omega)
theorem m_rest {τ : St} {n w : Nat} {h : Nat → Int32} {c : Nat ⊕ Nat} (S : SrcM τ n h) (hw : w < 45) (hkd : τ 20 0 20 = nI w) (hs : ¬ sml w) (h17 : ¬ w = 17) (hck : n ≤ 3200 ∨ w = 26) (O : CuM τ n c) : Ret (F_X12_readRest τ) (fun υ => KpM τ υ ∧ υ 20 23 = τ 20 23 ∧ CuM υ n (Sum.elim (spS h n w) Sum.inr (tkS h 32 c)) ∧ ∀ a, tkS h 32 c = .inl a → spS h n w a = .inl n → DatM υ h n w a (rdN h n w a)) := by
  have hn := S.2.1
  have hB := S.2.2.1
  obtain ⟨-, c2, -⟩ := w_cls w hw
  have kq : ∀ (s : St) (k : Nat), s 20 0 20 = nI w → k < 45 → (s 20 0 20 = nI k ↔ w = k) := fun s k e hk => by rw [e]; exact nIw hw hk
  obtain ⟨s1, a1, a2, a3⟩ := m_tkV (x := 32) S O (by decide)
  have k1 : s1 20 0 20 = nI w := (a2.2.2 20 (by decide) (by decide)).trans hkd
  have S1 := a2.1.src S
  unfold F_X12_readRest
  rw [if_neg (show ¬ τ 20 0 20 = (17 : Int32) from fun z => h17 ((kq τ 17 hkd (by decide)).mp z)), hkd, w_some w hw, some_b, if_neg hs, if_neg (by decide), a1, some_b]
  cases q : tkS h 32 c with
  | inr ww =>
    rw [q] at a3
    rw [if_neg (a3.neg (by omega))]
    refine Ret.some ⟨a2.1, a2.2.1 23 (by decide), a3, ?_⟩
    intro a ha
    cases ha
  | inl a =>
    rw [q] at a3
    obtain ⟨O1, ha⟩ : OkM s1 a ∧ a ≤ n := a3
    rw [if_pos (by rw [O1.2]; decide)]
    have n23 := a2.2.1 23 (by decide)
    show Ret _ (fun υ => _ ∧ _ ∧ CuM υ n (spS h n w a) ∧ _)
    have wrap : ∀ {X : Option St} {Q : St → Prop}, Ret X (fun υ => KpM s1 υ ∧ Q υ) → ¬ w = 26 → Ret (Option.bind X (fun z181 => (if (z181 20 0 20) = (26 : Int32) then (F_X12_readLine z181).bind (fun s6 => Option.bind (iter (fun z => B_X12_readRest_195 z) s6) (fun z220 => some z220)) else some z181))) (fun υ => KpM s1 υ ∧ Q υ) := by
      intro X Q r h26
      refine Ret.bind r ?_
      rintro υ ⟨b1, b2⟩
      have e20 : υ 20 0 20 = nI w := (b1.2.2 20 (by decide) (by decide) (by decide) (by decide) (by decide) (by decide) (by decide)).trans k1
      rw [if_neg (show ¬ υ 20 0 20 = (26 : Int32) from fun z => h26 ((kq υ 26 e20 (by decide)).mp z))]
      exact Ret.some ⟨b1, b2⟩
    have one : ∀ (X : Option St), (X.bind (fun s => some s)) = X := fun X => by cases X <;> rfl
    have hcl : w = 13 ∨ w = 14 ∨ (w = 15 ∨ w = 32) ∨ w = 37 ∨ w = 26 := by
      rcases Classical.em (w = 13 ∨ w = 14 ∨ (w = 15 ∨ w = 32) ∨ w = 37 ∨ w = 26) with z | z
      · exact z
      · exact absurd (c2.mpr (by omega)) hs
    unfold spS
    rcases hcl with e | e | e | e | e
    · have hn3 : n ≤ 3200 := hck.resolve_right (by omega)
      rw [if_pos (show s1 20 0 20 = (13 : Int32) from (kq s1 13 k1 (by decide)).mpr e), one, if_pos e]
      have rn : rdN h n w a = tN h a := by unfold rdN; rw [if_pos e]
      obtain ⟨tA, tB⟩ := tN_end hB ha
      obtain ⟨f1, f2⟩ := m_readTree S1 O1 hn3 ha tA
      unfold treS
      by_cases q2 : tU h a (tN h a) = 0
      · rw [if_pos q2]
        refine Ret.mono (wrap (f1 q2) (by omega)) ?_
        rintro υ ⟨g1, g2, g3, g4, g5, g6⟩
        refine ⟨a2.1.tr g1, g2.trans n23, g3, ?_⟩
        intro b hb ee
        injection hb with hb
        subst hb
        rw [rn]
        exact ⟨fun _ => ⟨g4, g5, g6⟩, by omega, by omega, by omega⟩
      · rw [if_neg q2]
        refine Ret.mono (wrap (f2 (tB.resolve_left q2).1 (tB.resolve_left q2).2) (by omega)) ?_
        rintro υ ⟨g1, g2, g3⟩
        refine ⟨a2.1.tr g1, g2.trans n23, g3, ?_⟩
        intro b hb ee
        injection hb with hb
        subst hb
        rw [if_pos e, if_neg q2] at ee
        cases ee
    · have hn3 : n ≤ 3200 := hck.resolve_right (by omega)
      rw [if_neg (show ¬ s1 20 0 20 = (13 : Int32) from fun z => absurd ((kq s1 13 k1 (by decide)).mp z) (by omega)), if_pos (show s1 20 0 20 = (14 : Int32) from (kq s1 14 k1 (by decide)).mpr e), one, if_neg (by omega), if_pos e]
      obtain ⟨r1, r2⟩ := rE_end (P := isY) (a := a + 1) hB (by decide)
      refine Ret.mono (wrap (m_readAnswers S1 O1 ha hn3 r1 (fun q => r2 (by have : a < n := hB.lt (by rw [q]; decide); omega))) (by omega)) ?_
      rintro υ ⟨g1, g2, g3, g4⟩
      unfold ansS
      by_cases q2 : h a = 46
      · rw [if_pos q2]
        refine ⟨a2.1.tr g1, g2.trans n23, (g3 q2).1, ?_⟩
        intro b hb ee
        injection hb with hb
        subst hb
        rw [if_neg (by omega), if_pos e, if_pos q2] at ee
        injection ee with ee
        have g5 := (g3 q2).2
        rw [ee] at g5
        exact ⟨by omega, fun _ => g5, by omega, by omega⟩
      · rw [if_neg q2]
        refine ⟨a2.1.tr g1, g2.trans n23, g4 q2, ?_⟩
        intro b hb ee
        injection hb with hb
        subst hb
        rw [if_neg (by omega), if_pos e, if_neg q2] at ee
        cases ee
    · have hn3 : n ≤ 3200 := hck.resolve_right (by omega)
      rw [if_neg (show ¬ s1 20 0 20 = (13 : Int32) from fun z => absurd ((kq s1 13 k1 (by decide)).mp z) (by omega)), if_neg (show ¬ s1 20 0 20 = (14 : Int32) from fun z => absurd ((kq s1 14 k1 (by decide)).mp z) (by omega)), if_neg (show ¬ s1 20 0 20 = (37 : Int32) from fun z => absurd ((kq s1 37 k1 (by decide)).mp z) (by omega)), if_neg (show ¬ s1 20 0 20 = (26 : Int32) from fun z => absurd ((kq s1 26 k1 (by decide)).mp z) (by omega)), one, if_neg (by omega), if_neg (by omega), if_neg (by omega), if_neg (by omega)]
      obtain ⟨r1, r2⟩ := rE_end (P := isL) (a := a) hB (by decide)
      refine Ret.mono (wrap (m_readWord S1 O1 ha hn3 r1 (r2 ha)) (by omega)) ?_
      rintro υ ⟨g1, g2, g3, g4⟩
      unfold letS
      by_cases q2 : isL (h a)
      · rw [if_pos q2]
        refine ⟨a2.1.tr g1, g2.trans n23, (g3 q2).1, ?_⟩
        intro b hb ee
        injection hb with hb
        subst hb
        rw [if_neg (by omega), if_neg (by omega), if_neg (by omega), if_neg (by omega), if_pos q2] at ee
        injection ee with ee
        have g5 := (g3 q2).2
        rw [ee] at g5
        exact ⟨by omega, by omega, fun _ => g5, by omega⟩
      · rw [if_neg q2]
        refine ⟨a2.1.tr g1, g2.trans n23, g4 q2, ?_⟩
        intro b hb ee
        injection hb with hb
        subst hb
        rw [if_neg (by omega), if_neg (by omega), if_neg (by omega), if_neg (by omega), if_neg q2] at ee
        cases ee
    · have hn3 : n ≤ 3200 := hck.resolve_right (by omega)
      rw [if_neg (show ¬ s1 20 0 20 = (13 : Int32) from fun z => absurd ((kq s1 13 k1 (by decide)).mp z) (by omega)), if_neg (show ¬ s1 20 0 20 = (14 : Int32) from fun z => absurd ((kq s1 14 k1 (by decide)).mp z) (by omega)), if_pos (show s1 20 0 20 = (37 : Int32) from (kq s1 37 k1 (by decide)).mpr e), one, if_neg (by omega), if_neg (by omega), if_pos e]
      refine Ret.mono (wrap (m_readArgument S1 O1 hn3 ha) (by omega)) ?_
      rintro υ ⟨g1, g2, g3, g4⟩
      refine ⟨a2.1.tr g1, g2.trans n23, g3, ?_⟩
      intro b hb ee
      injection hb with hb
      subst hb
      rw [if_neg (by omega), if_neg (by omega), if_pos e] at ee
      exact ⟨by omega, by omega, by omega, fun _ => g4 n ee⟩
    · rw [if_neg (show ¬ s1 20 0 20 = (13 : Int32) from fun z => absurd ((kq s1 13 k1 (by decide)).mp z) (by omega)), if_neg (show ¬ s1 20 0 20 = (14 : Int32) from fun z => absurd ((kq s1 14 k1 (by decide)).mp z) (by omega)), if_neg (show ¬ s1 20 0 20 = (37 : Int32) from fun z => absurd ((kq s1 37 k1 (by decide)).mp z) (by omega)), if_pos (show s1 20 0 20 = (26 : Int32) from (kq s1 26 k1 (by decide)).mpr e), some_b, if_pos (show s1 20 0 20 = (26 : Int32) from (kq s1 26 k1 (by decide)).mpr e), if_neg (by omega), if_neg (by omega), if_neg (by omega), if_pos e]
      have hM := lM_end hB ha
      refine Ret.mono (m_lines S1 O1 ha hM) ?_
      rintro υ ⟨g1, g2, g3⟩
      refine ⟨a2.1.tr g1.1, (g1.2.1 23 (by decide)).trans n23, ?_, ?_⟩
      · unfold linS
        by_cases q2 : 1 ≤ lM h n a ∧ ¬ lX h a (lM h n a) < n
        · rw [if_pos q2]; exact g2 q2
        · rw [if_neg q2]
          have q3 := hM.2.resolve_left q2
          obtain ⟨ww, q4⟩ := q3.2
          rw [q4]
          exact g3 ww q3.1 q4
      · intro b hb ee
        exact ⟨by omega, by omega, by omega, by omega⟩
/-- what the model's reading leaves as it is -/
def KpR (σ τ : St) : Prop := (∀ a, a ≠ 20 → τ a = σ a) ∧ (∀ b, b ≠ 0 → b ≠ 23 → b ≠ 24 → b ≠ 27 → b ≠ 28 → b ≠ 30 → b ≠ 32 → τ 20 b = σ 20 b) ∧ ∀ i, i ≠ 19 → i ≠ 20 → i ≠ 21 → i ≠ 24 → i ≠ 25 → i ≠ 28 → i ≠ 30 → i ≠ 32 → τ 20 0 i = σ 20 0 i
theorem KpM.toR {σ τ υ : St} (a : KpR σ τ) (b : KpM τ υ) : KpR σ υ := ⟨fun x hx => (b.1 x hx).trans (a.1 x hx), fun x h1 h2 h3 h4 h5 h6 h7 => (b.2.1 x h1 h2 h3 h4 h5 h6 h7).trans (a.2.1 x h1 h2 h3 h4 h5 h6 h7), fun x h1 h0 h2 h3 h4 h5 h6 h7 => (b.2.2 x h1 h2 h3 h4 h5 h6 h7).trans (a.2.2 x h1 h0 h2 h3 h4 h5 h6 h7)⟩
theorem FdS_R {σ : St} {kd : Int32} {L : Nat} : KpR σ (FdS (up3 σ 20 0 19 (-1)) kd L) := by
  unfold FdS
  refine ⟨fun x hx => by rw [up3_g hx, up3_g hx, up3_g hx], fun x h1 h2 h3 h4 h5 h6 h7 => by rw [up3_j h1, up3_j h1, up3_j h1], fun x h1 h0 h2 h3 h4 h5 h6 h7 => by rw [up3_i h2, up3_i h0, up3_i h1]⟩
theorem m_readY {σ : St} {n L w : Nat} {h : Nat → Int32} (S : SrcM σ n h) (hS : StatM σ) (x : LW h L) (hw : w < 45) (y : wd h L w) (hck : n ≤ 3200 ∨ w = 26) : Ret (F_X12_read σ) (fun τ => τ 20 0 19 = wrI (rdS h n L w) ∧ KpR σ τ ∧ τ 20 0 20 = nI w ∧ ∀ e, rdS h n L w = .inl e → (∀ i, i < plC w → τ 20 23 i = nI (vlN h (dgF w) L i)) ∧ DatM τ h n w (rdA h L w) (rdN h n w (rdA h L w))) := by
  obtain ⟨c1, c2, c3, c4, c5, c6, c7, c8, c9, c10, c11⟩ := w_cls w hw
  have hB := S.2.2.1
  have hn := S.2.1
  have hL := pfx_n hB x.1
  unfold F_X12_read
  rw [nst_b]
  obtain ⟨τ0, f0, kd, rfl, fk⟩ := m_findWord (S.u0 (i := 19) (v := -1) (by decide)) (hS.u0 (i := 19) (v := -1)) x
  rw [f0, some_b]
  have ekd : kd = nI w := by
    rcases fk with ⟨v, v1, v2, v3⟩ | ⟨-, v2⟩
    · rw [v2, wd_uniq v1 hw v3 y]
    · exact absurd y (v2 w hw)
  subst ekd
  have R0 : KpR σ (FdS (up3 σ 20 0 19 (-1)) (nI w) L) := FdS_R
  have S0 : SrcM (FdS (up3 σ 20 0 19 (-1)) (nI w) L) n h := ((S.u0 (by decide)).u0 (by decide)).u0 (by decide)
  have H0 : StatM (FdS (up3 σ 20 0 19 (-1)) (nI w) L) := hS.u0.u0.u0
  have O0 : OkM (FdS (up3 σ 20 0 19 (-1)) (nI w) L) L := ⟨up3_same _ _ _ _ _, by unfold FdS; rw [up3_i (by decide), up3_i (by decide), up3_same]⟩
  have k0 : (FdS (up3 σ 20 0 19 (-1)) (nI w) L) 20 0 20 = nI w := by unfold FdS; rw [up3_i (by decide), up3_same]
  generalize FdS (up3 σ 20 0 19 (-1)) (nI w) L = ρ at R0 S0 H0 O0 k0
  rw [k0, if_neg (show ¬ nI w = -1 from fun z => absurd (by rw [z]; decide : nI w < 0) (nI_pos (by omega)))]
  refine Ret.bind (m_nums (dg := dgF w) S0 H0 O0 hL hw k0 ?_) ?_
  · intro k hk
    unfold dgF
    by_cases z : w = 17
    · rw [(c10 z).1] at hk
      rw [if_neg (by omega)]
    · rw [if_neg (fun q => z (c8.mpr q.1))]
  rintro τ ⟨k1, k2, k3, k4, k5⟩
  have kd1 : τ 20 0 20 = nI w := (k3 20 (by decide) (by decide)).trans k0
  -- behind the numbers all is at cu1
  have fin : ∀ (υ : St) (c : Nat ⊕ Nat), KpM ρ υ → CuM υ n c → rdS h n L w = endS n c → (∀ e, rdS h n L w = .inl e → (∀ i, i < plC w → υ 20 23 i = nI (vlN h (dgF w) L i)) ∧ DatM υ h n w (rdA h L w) (rdN h n w (rdA h L w))) → Ret (if (υ 20 0 19) < 0 then (if (υ 20 0 21) < (υ 20 0 13) then (nst (up3 υ 20 0 19 (υ 20 0 21))).bind (fun s1010 => some s1010) else some υ) else some υ) (fun τ => τ 20 0 19 = wrI (rdS h n L w) ∧ KpR σ τ ∧ τ 20 0 20 = nI w ∧ ∀ e, rdS h n L w = .inl e → (∀ i, i < plC w → τ 20 23 i = nI (vlN h (dgF w) L i)) ∧ DatM τ h n w (rdA h L w) (rdN h n w (rdA h L w))) := by
    intro υ c u1 u2 u3 u4
    obtain ⟨ν, v1, v2, v3⟩ := m_endS (u1.src S0) u2
    refine ⟨ν, v1, by rw [u3]; exact m_wrI v3, KpM.toR (KpM.toR R0 u1) v2.1, ?_, ?_⟩
    · rw [v2.2.2 20 (by decide) (by decide), u1.2.2 20 (by decide) (by decide) (by decide) (by decide) (by decide) (by decide) (by decide), k0]
    · intro e he
      obtain ⟨w1, w2⟩ := u4 e he
      refine ⟨fun i hi => by rw [v2.2.1 23 (by decide)]; exact w1 i hi, ?_⟩
      unfold DatM
      rw [v2.2.1 24 (by decide), v2.2.1 28 (by decide), v2.2.1 30 (by decide), v2.2.1 32 (by decide), v2.2.2 24 (by decide) (by decide), v2.2.2 25 (by decide) (by decide), v2.2.2 28 (by decide) (by decide), v2.2.2 30 (by decide) (by decide), v2.2.2 32 (by decide) (by decide)]
      exact w2
  by_cases h17 : w = 17
  · have hs : sml w := Or.inr (c8.mp h17)
    have ers : rdS h n L w = endS n (cu1 h L w) := by unfold rdS; rw [if_pos hs]
    have hd8 : ∀ k, 0 < k → dgF w k = 8 := fun k hk => by unfold dgF; rw [if_pos ⟨c8.mp h17, hk⟩]
    rw [(c10 h17).1] at k4 k5
    have eR : F_X12_readRest τ = iter (fun z => B_X12_readRest_11 z.1 z.2) ((1 : Int32), τ) := by
      unfold F_X12_readRest
      rw [if_pos (show τ 20 0 20 = (17 : Int32) by rw [kd1, h17]; rfl)]
      cases iter (fun z => B_X12_readRest_11 z.1 z.2) ((1 : Int32), τ) <;> rfl
    rw [eR]
    refine Ret.bind (m_times (dg := dgF w) S0 hd8 k1 k2 k3 k4 k5) ?_
    rintro υ ⟨u1, u2, u3, u4, u5⟩
    have p3 : plC w = 3 := (c10 h17).2
    have ecu : cu1 h L w = cuN h (dgF w) L 3 := by unfold cu1; rw [p3]
    refine fin υ _ u1 u4 (by rw [ers, ecu]) ?_
    intro e he
    rw [ers, ecu] at he
    obtain ⟨he1, -⟩ := endS_inl he
    rw [p3]
    exact ⟨u5 e he1, ⟨by omega, by omega, by omega, by omega⟩⟩
  · rw [c9 h17] at k4 k5
    have k4 : CuM τ n (cu1 h L w) := k4
    by_cases hs : sml w
    · have ers : rdS h n L w = endS n (cu1 h L w) := by unfold rdS; rw [if_pos hs]
      have eR : F_X12_readRest τ = some τ := by
        unfold F_X12_readRest
        rw [kd1, if_neg (show ¬ nI w = (17 : Int32) from fun z => h17 ((nIw hw (by decide)).mp z)), w_some w hw, some_b, if_pos hs, if_pos rfl]
      rw [eR, some_b]
      refine fin τ _ k1 k4 ers ?_
      intro e he
      rw [ers] at he
      obtain ⟨he1, -⟩ := endS_inl he
      have hx := c2.mp hs
      exact ⟨k5 e he1, ⟨by omega, by omega, by omega, by omega⟩⟩
    · have ers : rdS h n L w = endS n (Sum.elim (spS h n w) Sum.inr (tkS h 32 (cu1 h L w))) := by unfold rdS; rw [if_neg hs]
      refine Ret.bind (m_rest (k1.src S0) hw kd1 hs h17 hck k4) ?_
      rintro υ ⟨u1, u2, u3, u4⟩
      refine fin υ _ (k1.tr u1) u3 ers ?_
      intro e he
      rw [ers] at he
      obtain ⟨he1, he2⟩ := endS_inl he
      cases q : tkS h 32 (cu1 h L w) with
      | inr ww =>
        rw [q] at he1
        cases he1
      | inl a =>
        rw [q] at he1 u3
        obtain ⟨b, b1, b2, b3⟩ := tkS_inl q
        have he1 : spS h n w a = .inl e := he1
        have u3 : CuM υ n (spS h n w a) := u3
        have hen : e = n := by
          rw [he1] at u3
          have : e ≤ n := u3.2
          omega
        rw [hen] at he1
        have ra : rdA h L w = a := by unfold rdA; rw [b1, b3]; rfl
        rw [ra]
        refine ⟨?_, u4 a q he1⟩
        intro i hi
        rw [u2]
        exact k5 b b1 i hi
theorem m_readN {σ : St} {n L : Nat} {h : Nat → Int32} (S : SrcM σ n h) (hS : StatM σ) (x : LW h L) (y : ∀ w, w < 45 → ¬ wd h L w) : Ret (F_X12_read σ) (fun τ => τ 20 0 19 = nI L ∧ KpR σ τ) := by
  unfold F_X12_read
  rw [nst_b]
  obtain ⟨τ0, f0, kd, rfl, fk⟩ := m_findWord (S.u0 (i := 19) (v := -1) (by decide)) (hS.u0 (i := 19) (v := -1)) x
  rw [f0, some_b]
  have ekd : kd = -1 := by
    rcases fk with ⟨v, v1, v2, v3⟩ | ⟨v1, -⟩
    · exact absurd v3 (y v v1)
    · exact v1
  subst ekd
  have k0 : (FdS (up3 σ 20 0 19 (-1)) (-1) L) 20 0 20 = -1 := by unfold FdS; rw [up3_i (by decide), up3_same]
  have e21 : (FdS (up3 σ 20 0 19 (-1)) (-1) L) 20 0 21 = nI L := up3_same _ _ _ _ _
  rw [k0, if_pos rfl, nst_b, e21]
  exact Ret.some ⟨up3_same _ _ _ _ _, KpM.toR FdS_R ((KpM.rf _).u0 (by decide))⟩
theorem cuN_bad {h : Nat → Int32} {dg : Nat → Nat} {L : Nat} (q : ¬ h L = 32) : ∀ k, cuN h dg L (k + 1) = .inr L := by
  intro k
  induction k with
  | zero =>
    show stN h (dg 0) (.inl L) = _
    unfold stN
    show (if h L = 32 then _ else _) = _
    rw [if_neg q]
  | succ k ih => rw [cuN, ih]; rfl
theorem rdS_bad {h : Nat → Int32} {n L w : Nat} (B : Byt h n) (hL : L ≤ n) (hw : w < 45) (y : wd h L w) (z : ¬ whl h n L w) : rdS h n L w = .inr L := by
  obtain ⟨c1, c2, c3, c4, c5, c6, c7, c8, c9, c10, c11⟩ := w_cls w hw
  unfold rdS
  by_cases t0 : tkW w = 0
  · have p0 := c11 t0
    have hs : sml w := Or.inl (by omega)
    have hl : L < n := by
      rcases Nat.lt_or_ge L n with q | q
      · exact q
      · exact absurd ⟨y, Or.inl ⟨B.2 L q, t0⟩⟩ z
    have cu : cu1 h L w = .inl L := by unfold cu1; rw [p0]; rfl
    rw [if_pos hs, cu]
    show (if L < n then Sum.inr L else Sum.inl L) = _
    rw [if_pos hl]
  · have h32 : ¬ h L = 32 := fun q => z ⟨y, Or.inr ⟨q, by omega⟩⟩
    by_cases p0 : plC w = 0
    · have cu : cu1 h L w = .inl L := by unfold cu1; rw [p0]; rfl
      have hs : ¬ sml w := by
        intro q
        unfold plC at p0
        rcases q with q | q
        · rw [if_pos q] at p0; omega
        · rw [if_neg (by omega), if_pos q] at p0; omega
      rw [if_neg hs, cu]
      have e : tkS h 32 (.inl L) = .inr L := by
        show (if h L = 32 then _ else _) = _
        rw [if_neg h32]
      rw [e]
      rfl
    · have cu : cu1 h L w = .inr L := by
        unfold cu1
        rw [show plC w = plC w - 1 + 1 by omega]
        exact cuN_bad h32 _
      rw [cu]
      by_cases hs : sml w
      · rw [if_pos hs]; rfl
      · rw [if_neg hs]; rfl
/-- both read alike -/
def RdBad (h : Nat → Int32) (n e : Nat) : Prop := (∀ σ j, PreC σ j n h → Ret (F_X2_read j (nI n) σ) (fun z => z.1 = nI e ∧ e ≤ n ∧ (∀ a, a ≠ 2 → z.2 a = σ a))) ∧ ∀ σ, SrcM σ n h → StatM σ → Ret (F_X12_read σ) (fun τ => τ 20 0 19 = nI e ∧ KpR σ τ)
def RdOk (h : Nat → Int32) (n w a N : Nat) (A : Nat → Nat) : Prop := w < 45 ∧ (∀ i, i < plC w → A i ≤ 99999999 ∧ (¬ (w = 17 ∧ 0 < i) → A i ≤ 9999)) ∧ Ext h n w a N ∧ (w = 26 → a = 6) ∧ (∀ σ j, PreC σ j n h → Ret (F_X2_read j (nI n) σ) (fun z => z.1 = -1 ∧ (∀ a, a ≠ 2 → z.2 a = σ a) ∧ z.2 2 0 10 = nI w ∧ z.2 2 0 6 = nI j ∧ z.2 2 0 7 = nI n ∧ (∀ i, i < plC w → z.2 2 1 i = nI (A i)) ∧ DatC z.2 h n w a N)) ∧ ∀ σ, SrcM σ n h → StatM σ → Ret (F_X12_read σ) (fun τ => τ 20 0 19 = -1 ∧ KpR σ τ ∧ τ 20 0 20 = nI w ∧ (∀ i, i < plC w → τ 20 23 i = nI (A i)) ∧ DatM τ h n w a N)
theorem vlN_bd {h : Nat → Int32} {n w L : Nat} (B : Byt h n) (hw : w < 45) : ∀ k a, cuN h (dgF w) L k = .inl a → ∀ i, i < k → vlN h (dgF w) L i ≤ 99999999 ∧ (¬ (w = 17 ∧ 0 < i) → vlN h (dgF w) L i ≤ 9999) := by
  have c8 := (w_cls3 w hw).2.2
  intro k
  induction k with
  | zero => intro a _ i hi; omega
  | succ k ih =>
    intro a ha i hi
    obtain ⟨b, b1, b2, b3⟩ := cuN_inl ha
    by_cases e : i = k
    · subst e
      rw [b3]
      by_cases q : tkW w = 5 ∧ 0 < i
      · have hd : dgF w i = 8 := by unfold dgF; rw [if_pos q]
        rw [hd]
        have := (nm_bd (d := 8) B (by decide) b2.2).1
        refine ⟨?_, fun z => absurd ⟨c8.mpr q.1, q.2⟩ z⟩
        have p : (10 : Nat) ^ 8 = 100000000 := by decide
        omega
      · have hd : dgF w i = 4 := by unfold dgF; rw [if_neg q]
        rw [hd]
        have := (nm_bd (d := 4) B (by decide) b2.2).1
        have p : (10 : Nat) ^ 4 = 10000 := by decide
        exact ⟨by omega, fun _ => by omega⟩
    · exact ih b b1 i (by omega)
theorem w26 : wL 26 = 5 := by decide +kernel
theorem read_both {h : Nat → Int32} {n : Nat} (B : Byt h n) (hck : n ≤ 3200 ∨ ∀ L w, LW h L → w < 45 → wd h L w → w = 26) (ne : ∃ σ j, PreC σ j n h) : (∃ e, RdBad h n e) ∨ ∃ w a N A, RdOk h n w a N A := by
  obtain ⟨L, x⟩ := LW_ex h
  have hL := pfx_n B x.1
  by_cases q : ∃ w, w < 45 ∧ wd h L w
  · obtain ⟨w, hw, y⟩ := q
    have hc2 : n ≤ 3200 ∨ w = 26 := hck.imp id (fun z => z L w x hw y)
    by_cases z : whl h n L w
    · cases e : rdS h n L w with
      | inr ww =>
        refine Or.inl ⟨ww, ?_, ?_⟩
        · intro σ j P
          refine Ret.mono (c_readY P x hw z hc2) ?_
          rintro r ⟨r1, r2, r3, -⟩
          exact ⟨by rw [r1, e]; rfl, r2 ww e, r3⟩
        · intro σ S hS
          refine Ret.mono (m_readY S hS x hw y hc2) ?_
          rintro τ ⟨r1, r2, -⟩
          exact ⟨by rw [r1, e]; rfl, r2⟩
      | inl ee =>
        · obtain ⟨σ0, j0, P0⟩ := ne
          obtain ⟨z0, -, -, -, -, -, -, -, d0⟩ := c_readY P0 x hw z hc2
          obtain ⟨-, x0, -⟩ := d0 ee e
          refine Or.inr ⟨w, rdA h L w, rdN h n w (rdA h L w), fun i => vlN h (dgF w) L i, hw, ?_, x0, ?_, ?_, ?_⟩
          · intro i hi
            have hcu : ∃ b, cu1 h L w = .inl b := by
              unfold rdS at e
              by_cases hs : sml w
              · rw [if_pos hs] at e
                exact ⟨_, (endS_inl e).1⟩
              · rw [if_neg hs] at e
                have e2 := (endS_inl e).1
                cases e3 : tkS h 32 (cu1 h L w) with
                | inr w2 => rw [e3] at e2; cases e2
                | inl a2 =>
                  obtain ⟨b, b1, -⟩ := tkS_inl e3
                  exact ⟨b, b1⟩
            obtain ⟨b, hb⟩ := hcu
            exact vlN_bd B hw (plC w) b hb i hi
          · intro h26
            have p0 : plC w = 0 := by rw [h26]; decide +kernel
            have cu : cu1 h L w = .inl L := by unfold cu1; rw [p0]; rfl
            have : L = 5 := by rw [← y.1, h26]; exact w26
            unfold rdA
            rw [cu, this]
            rfl
          · intro σ j P
            refine Ret.mono (c_readY P x hw z hc2) ?_
            rintro r ⟨r1, r2, r3, r4, r5, r6, r7⟩
            obtain ⟨d1, d2, d3⟩ := r7 ee e
            exact ⟨by rw [r1, e]; rfl, r3, r4, r5, r6, d1, d3⟩
          · intro σ S hS
            refine Ret.mono (m_readY S hS x hw y hc2) ?_
            rintro τ ⟨r1, r2, r3, r4⟩
            obtain ⟨d1, d2⟩ := r4 ee e
            exact ⟨by rw [r1, e]; rfl, r2, r3, d1, d2⟩
    · have e := rdS_bad B hL hw y z
      refine Or.inl ⟨L, ?_, ?_⟩
      · intro σ j P
        refine Ret.mono (c_readN P x ?_) ?_
        · intro v hv hz
          have := wd_uniq hv hw hz.1 y
          subst this
          exact z hz
        · rintro r ⟨r1, r2, -⟩
          exact ⟨r1, hL, r2⟩
      · intro σ S hS
        refine Ret.mono (m_readY S hS x hw y hc2) ?_
        rintro τ ⟨r1, r2, -⟩
        exact ⟨by rw [r1, e]; rfl, r2⟩
  · refine Or.inl ⟨L, ?_, ?_⟩
    · intro σ j P
      refine Ret.mono (c_readN P x (fun w hw hz => q ⟨w, hw, hz.1⟩)) ?_
      rintro r ⟨r1, r2, -⟩
      exact ⟨r1, hL, r2⟩
    · intro σ S hS
      exact m_readN S hS x (fun w hw hz => q ⟨w, hw, hz⟩)
