/-! S2: the model's lines -/
set_option maxRecDepth 100000
/-- only the cursor of the model moved -/
def MvM (σ τ : St) : Prop := KpM σ τ ∧ (∀ b, b ≠ 0 → τ 20 b = σ 20 b) ∧ ∀ i, i ≠ 21 → i ≠ 19 → τ 20 0 i = σ 20 0 i
theorem MvM.rf (σ : St) : MvM σ σ := ⟨KpM.rf σ, fun _ _ => rfl, fun _ _ _ => rfl⟩
theorem MvM.tr {σ τ υ : St} (a : MvM σ τ) (b : MvM τ υ) : MvM σ υ := ⟨a.1.tr b.1, fun x hx => (b.2.1 x hx).trans (a.2.1 x hx), fun i h1 h2 => (b.2.2 i h1 h2).trans (a.2.2 i h1 h2)⟩
theorem MvM.at {σ τ : St} {v : Int32} (a : MvM σ τ) : MvM σ (up3 τ 20 0 21 v) := ⟨a.1.u0 (by decide), fun x hx => (up3_j hx).trans (a.2.1 x hx), fun i h1 h2 => (up3_i h1).trans (a.2.2 i h1 h2)⟩
theorem MvM.wr {σ τ : St} {v : Int32} (a : MvM σ τ) : MvM σ (up3 τ 20 0 19 v) := ⟨a.1.u0 (by decide), fun x hx => (up3_j hx).trans (a.2.1 x hx), fun i h1 h2 => (up3_i h2).trans (a.2.2 i h1 h2)⟩
theorem m_tkV {σ : St} {n : Nat} {x : Int32} {h : Nat → Int32} {c : Nat ⊕ Nat} (S : SrcM σ n h) (O : CuM σ n c) (hx : ¬ x < 0) : ∃ τ, F_X12_expect x σ = some τ ∧ MvM σ τ ∧ CuM τ n (tkS h x c) := by
  obtain ⟨τ, a, b, c1, d, e⟩ := m_tkS S O hx
  exact ⟨τ, a, ⟨b, c1, d⟩, e⟩
/-- behind the blank of an item: a number, or '-' where this may be -/
theorem m_readOne {σ : St} {n x : Nat} {h : Nat → Int32} (S : SrcM σ n h) (O : OkM σ x) (hx : x ≤ n) : F_X12_readOne σ = some (if h x = 45 then up3 σ 20 0 21 (nI (x + 1)) else if isD (h x) then up3 σ 20 0 21 (nI (nmA h 4 x)) else up3 σ 20 0 19 (nI x)) := by
  have hn := S.2.1
  unfold F_X12_readOne
  rw [if_pos (by rw [O.2]; decide), m_here S O.1 (by omega), some_b]
  by_cases q : h x = 45
  · rw [if_pos q, nst_b, bindL_inr, O.1, nI_1, if_pos q]
  · rw [if_neg q, bindL_inl, show (4 : Int32) = nI 4 from rfl, m_number S O hx (by decide) (by decide), some_b, if_neg q]
    by_cases q2 : isD (h x)
    · rw [if_pos q2, if_pos q2]
    · rw [if_neg q2, if_neg q2]
theorem m_skO {σ : St} (hw : ¬ σ 20 0 19 < 0) : F_X12_readOne σ = some σ := by
  unfold F_X12_readOne
  rw [if_neg hw, bindL_inl, m_skN hw, some_b]
abbrev lBd (h : Nat → Int32) (x : Nat) : Nat := if h x = 32 then x + 1 else x
theorem lBd_n {h : Nat → Int32} {n x : Nat} (B : Byt h n) (hx : x ≤ n) : lBd h x ≤ n := by
  by_cases z : h x = 32
  · rw [lBd, if_pos z]
    have : x < n := B.lt (by rw [z]; decide)
    omega
  · rw [lBd, if_neg z]; exact hx
theorem m_lineStep {τ : St} {n x i : Nat} {k : Int32} {h : Nat → Int32} (S : SrcM τ n h) (O : OkM τ x) (hx : x ≤ n) (hk : ltP k) (hi : lLs k ≤ i) :
    (¬ lCt h k i x → B_X12_readLine_97 k τ = some (.inr τ)) ∧ (lCt h k i x → lOk h k i x → B_X12_readLine_97 k τ = some (.inl (up3 τ 20 0 21 (nI (lNx h k i x))))) ∧ (lCt h k i x → ¬ lOk h k i x → B_X12_readLine_97 k τ = some (.inl (up3 (up3 τ 20 0 21 (nI (x + 1))) 20 0 19 (nI (x + 1)))) ∧ h x = 32) := by
  have hn := S.2.1
  have hB := S.2.2.1
  have hc : lCt h k i x ↔ (h x = 32 ∧ ¬ k = 115) := ⟨fun z => z.resolve_left (by omega), fun z => Or.inr z⟩
  have main : h x = 32 → ¬ k = 115 → B_X12_readLine_97 k τ = some (.inl (if lMn h k i x then up3 τ 20 0 21 (nI (x + 2)) else if isD (h (x + 1)) then up3 τ 20 0 21 (nI (nmA h (lDg k) (x + 1))) else up3 (up3 τ 20 0 21 (nI (x + 1))) 20 0 19 (nI (x + 1)))) := by
    intro q1 q2
    have hx2 : x < n := hB.lt (by rw [q1]; decide)
    unfold B_X12_readLine_97
    rw [if_pos (by rw [O.2]; decide), if_neg q2, m_here S O.1 (by omega), some_b, if_pos q1, nst_b, O.1, nI_1]
    by_cases q3 : k = 112
    · have hi0 : 0 < i := by
        have : lLs k = 2 := by unfold lLs; rw [if_pos (Or.inl q3)]
        omega
      have hd : lDg k = 4 := by unfold lDg; rw [if_pos (Or.inl q3)]
      rw [if_pos q3, m_readOne (S.u0 (by decide)) O.at (by omega), some_b, hd]
      by_cases q4 : h (x + 1) = 45
      · rw [if_pos q4, if_pos (show lMn h k i x from ⟨q3, hi0, q4⟩), up3_up]
      · rw [if_neg q4, if_neg (show ¬ lMn h k i x from fun z => q4 z.2.2), up3_up]
    · have hd : lDg k = 8 := by unfold lDg; rw [if_neg (fun z => z.elim q3 q2)]
      rw [if_neg q3, show (8 : Int32) = nI 8 from rfl, m_number (S.u0 (by decide)) O.at (by omega) (by decide) (by decide), some_b, if_neg (show ¬ lMn h k i x from fun z => q3 z.1), hd]
      by_cases q4 : isD (h (x + 1))
      · rw [if_pos q4, if_pos q4]
        dsimp only
        rw [up3_up]
      · rw [if_neg q4, if_neg q4]
  refine ⟨?_, ?_, ?_⟩
  · intro q
    unfold B_X12_readLine_97
    rw [if_pos (by rw [O.2]; decide)]
    by_cases q2 : k = 115
    · rw [if_pos q2]
    · rw [if_neg q2, m_here S O.1 (by omega), some_b, if_neg (fun z => q (hc.mpr ⟨z, q2⟩))]
  · intro q q2
    rw [main (hc.mp q).1 (hc.mp q).2]
    unfold lNx
    by_cases q3 : lMn h k i x
    · rw [if_pos q3, if_pos q3]
    · rw [if_neg q3, if_neg q3, if_pos (q2.2.resolve_left q3)]
  · intro q q2
    have q1 := (hc.mp q).1
    refine ⟨?_, q1⟩
    rw [main q1 (hc.mp q).2, if_neg (show ¬ lMn h k i x from fun z => q2 ⟨q1, Or.inl z⟩), if_neg (fun z => q2 ⟨q1, Or.inr z⟩)]
theorem m_lineRest {σ τ : St} {n x K0 : Nat} {h : Nat → Int32} (S : SrcM σ n h) (hx : x < n) (hk : ltP (h x)) (M : MvM σ τ) (O : OkM τ (lP h (h x) (x + 1) K0)) (h0 : lLs (h x) ≤ K0) (h1 : K0 ≤ lKx h x) : Ret (Option.bind (iter (fun z => B_X12_readLine_97 (h x) z) τ) (fun z152 => (F_X12_expect (59 : Int32) z152).bind (fun s1019 => some s1019))) (fun υ => MvM σ υ ∧ CuM υ n (lnS h x)) := by
  have hn := S.2.1
  have hB := S.2.2.1
  obtain ⟨g1, g2⟩ := lK_end (k := h x) hB (show x + 1 ≤ n by omega)
  have g1 : ∀ i, i < lKx h x → lCt h (h x) i (lP h (h x) (x + 1) i) ∧ lOk h (h x) i (lP h (h x) (x + 1) i) := g1
  have hb : x + 1 + 2 * lKx h x ≤ lPx h x ∧ lPx h x ≤ n := lP_bd hB (show x + 1 ≤ n by omega) _ g1
  obtain ⟨υ, ⟨k1, k2⟩, e⟩ := iter_to (f := fun z => B_X12_readLine_97 (h x) z) (fun i υ => MvM σ υ ∧ OkM υ (lP h (h x) (x + 1) (K0 + i))) (lKx h x - K0) (by
    rintro i υ hi ⟨k1, k2⟩
    have hb2 := lP_bd hB (show x + 1 ≤ n by omega) (K0 + i) (fun q hq => g1 q (by omega))
    have := (m_lineStep (i := K0 + i) (k1.1.src S) k2 hb2.2 hk (by omega)).2.1 (g1 (K0 + i) (by omega)).1 (g1 (K0 + i) (by omega)).2
    exact ⟨_, this, k1.at, by rw [← Nat.add_assoc, lP]; exact k2.at⟩) τ ⟨M, O⟩
  have k2 : OkM υ (lPx h x) := by
    rw [show K0 + (lKx h x - K0) = lKx h x by omega] at k2
    exact k2
  rw [e]
  obtain ⟨f1, f2, f3⟩ := m_lineStep (i := lKx h x) (k1.1.src S) k2 hb.2 hk (by omega)
  unfold lnS
  rw [if_pos hk]
  by_cases q2 : lCt h (h x) (lKx h x) (lPx h x)
  · obtain ⟨f4, f5⟩ := f3 q2 (fun z => g2 ⟨q2, z⟩)
    have hp : lPx h x < n := hB.lt (by rw [f5]; decide)
    have C2 : CuM (up3 (up3 υ 20 0 21 (nI (lPx h x + 1))) 20 0 19 (nI (lPx h x + 1))) n (.inr (lPx h x + 1)) := k2.at.bad (by omega)
    have e2 : iter (fun z => B_X12_readLine_97 (h x) z) (up3 (up3 υ 20 0 21 (nI (lPx h x + 1))) 20 0 19 (nI (lPx h x + 1))) = some (up3 (up3 υ 20 0 21 (nI (lPx h x + 1))) 20 0 19 (nI (lPx h x + 1))) := by
      refine iter_inr ?_
      unfold B_X12_readLine_97
      rw [if_neg (C2.neg (by omega))]
    rw [iter_inl f4, e2, some_b, m_skT (C2.neg (by omega)), some_b, if_pos q2, if_pos f5]
    exact Ret.some ⟨k1.at.wr, C2⟩
  · rw [iter_inr (f1 q2), some_b, if_neg q2]
    obtain ⟨ν, e1, e2, e3⟩ := m_tkV (x := 59) (k1.1.src S) (c := .inl (lPx h x)) ⟨k2, hb.2⟩ (by decide)
    rw [e1, some_b]
    exact Ret.some ⟨k1.tr e2, e3⟩
theorem m_line {σ : St} {n x : Nat} {h : Nat → Int32} (S : SrcM σ n h) (O : OkM σ x) (hx : x ≤ n) : Ret (F_X12_readLine σ) (fun τ => MvM σ τ ∧ CuM τ n (lnS h x)) := by
  have hn := S.2.1
  have hB := S.2.2.1
  unfold F_X12_readLine
  rw [m_here S O.1 (by omega), some_b]
  by_cases q1 : ltP (h x)
  · have hlt : x < n := hB.lt (by rcases q1 with z | z | z | z <;> rw [z] <;> decide)
    have ec : (if h x = (112 : Int32) then some (Sum.inl ()) else (if h x = (115 : Int32) then some (.inl ()) else (if h x = (97 : Int32) then some (.inl ()) else (if h x = (99 : Int32) then some (.inl ()) else (nst (up3 σ 20 0 19 (σ 20 0 21))).bind (fun s2 => some (.inr s2)))))) = (some (.inl ()) : Option (Unit ⊕ St)) := by
      rcases q1 with z | z | z | z <;> rw [z] <;> rfl
    rw [ec, bindL_inl, nst_b, O.1, nI_1]
    have M0 : MvM σ (up3 σ 20 0 21 (nI (x + 1))) := (MvM.rf σ).at
    have O0 : OkM (up3 σ 20 0 21 (nI (x + 1))) (x + 1) := O.at
    generalize up3 σ 20 0 21 (nI (x + 1)) = ρ at M0 O0
    obtain ⟨g1, g2⟩ := lK_end (k := h x) hB (show x + 1 ≤ n by omega)
    have g1 : ∀ i, i < lKx h x → lCt h (h x) i (lP h (h x) (x + 1) i) ∧ lOk h (h x) i (lP h (h x) (x + 1) i) := g1
    have g2 : ¬ (lCt h (h x) (lKx h x) (lP h (h x) (x + 1) (lKx h x)) ∧ lOk h (h x) (lKx h x) (lP h (h x) (x + 1) (lKx h x))) := g2
    by_cases qf : lFx (h x)
    · have hls : lLs (h x) = 2 := by unfold lLs; rw [if_pos qf]
      have hd : lDg (h x) = 4 := by unfold lDg; rw [if_pos qf]
      have ef : (if h x = (112 : Int32) then some (Sum.inl ()) else (if h x = (115 : Int32) then some (.inl ()) else some (.inr ρ))) = (some (.inl ()) : Option (Unit ⊕ St)) := by
        rcases qf with z | z <;> rw [z] <;> rfl
      rw [ef, bindL_inl]
      -- what is wrong stays so
      have dead : ∀ (ν : St) (w : Nat), MvM σ ν → CuM ν n (.inr w) → lnS h x = .inr w → ∃ υ, Option.bind (iter (fun z => B_X12_readLine_97 (h x) z) ν) (fun z152 => (F_X12_expect (59 : Int32) z152).bind (fun s1019 => some s1019)) = some υ ∧ MvM σ υ ∧ CuM υ n (lnS h x) := by
        intro ν w m1 m2 m3
        have e2 : iter (fun z => B_X12_readLine_97 (h x) z) ν = some ν := by
          refine iter_inr ?_
          unfold B_X12_readLine_97
          rw [if_neg (m2.neg (by omega))]
        refine ⟨ν, ?_, m1, by rw [m3]; exact m2⟩
        rw [e2, some_b, m_skT (m2.neg (by omega)), some_b]
      have ln0 : lKx h x < 2 → lnS h x = .inr (lBd h (lPx h x)) := by
        intro z
        unfold lnS
        rw [if_pos q1, if_pos (Or.inl (by omega))]
      obtain ⟨s1, a1, a2, a3, a4, a5⟩ := m_blNum (d := 4) (M0.1.src S) (c := .inl (x + 1)) ⟨O0, by omega⟩ (by decide) (by decide)
      have A : MvM ρ s1 := ⟨a2, a3, a4⟩
      have eb : ∀ (G : Int32 × St → Option St), ((F_X12_expect (32 : Int32) ρ).bind (fun s4 => (F_X12_readNumber (4 : Int32) s4).bind G)) = ((F_X12_expect 32 ρ).bind (F_X12_readNumber (nI 4))).bind G := by
        intro G
        cases F_X12_expect 32 ρ <;> rfl
      rw [eb, a1, some_b]
      dsimp only
      have e0 : stN h 4 (.inl (x + 1)) = if lOk h (h x) 0 (x + 1) then .inl (lP h (h x) (x + 1) 1) else .inr (lBd h (x + 1)) := by
        unfold stN
        show (if h (x + 1) = 32 then (if isD (h (x + 1 + 1)) then Sum.inl (nmA h 4 (x + 1 + 1)) else .inr (x + 1 + 1)) else .inr (x + 1)) = _
        have nm : ¬ lMn h (h x) 0 (x + 1) := fun z => absurd z.2.1 (by decide)
        by_cases z1 : h (x + 1) = 32
        · rw [if_pos z1, lBd, if_pos z1]
          by_cases z2 : isD (h (x + 1 + 1))
          · rw [if_pos z2, if_pos ⟨z1, Or.inr z2⟩, lP, lP, lNx, if_neg nm, hd]
          · rw [if_neg z2, if_neg (fun z => z.2.elim nm z2)]
        · rw [if_neg z1, lBd, if_neg z1, if_neg (fun z => z1 z.1)]
      by_cases k0 : lKx h x = 0
      · have nok : ¬ lOk h (h x) 0 (x + 1) := by
          rw [k0] at g2
          exact fun z => g2 ⟨Or.inl (by omega), z⟩
        rw [e0, if_neg nok] at a5
        have l0 : lnS h x = .inr (lBd h (x + 1)) := by
          have := ln0 (by omega)
          unfold lPx at this
          rw [k0] at this
          exact this
        have hneg := a5.neg (by omega)
        rw [m_skT hneg, some_b]
        obtain ⟨υ, d1, d2⟩ := dead s1 _ (M0.tr A) a5 l0
        by_cases z : h x = 112
        · rw [if_pos z, m_skO hneg, some_b, some_b, d1]
          exact Ret.some d2
        · rw [if_neg z, m_skN hneg, some_b, some_b, d1]
          exact Ret.some d2
      · have ok0 : lOk h (h x) 0 (x + 1) := (g1 0 (by omega)).2
        rw [e0, if_pos ok0] at a5
        have hb1 := lP_bd hB (show x + 1 ≤ n by omega) 1 (fun q hq => g1 q (by omega))
        obtain ⟨O1, -⟩ : OkM s1 (lP h (h x) (x + 1) 1) ∧ _ := a5
        have S1 := (M0.tr A).1.src S
        generalize ex1 : lP h (h x) (x + 1) 1 = x1 at O1 hb1
        rw [m_expect S1 O1 hb1.2, some_b]
        have fin : ∀ ν, (lOk h (h x) 1 x1 → ν = up3 s1 20 0 21 (nI (lNx h (h x) 1 x1))) → (¬ lOk h (h x) 1 x1 → MvM σ ν ∧ CuM ν n (.inr (lBd h x1))) → Ret (Option.bind (iter (fun z => B_X12_readLine_97 (h x) z) ν) (fun z152 => (F_X12_expect (59 : Int32) z152).bind (fun s1019 => some s1019))) (fun υ => MvM σ υ ∧ CuM υ n (lnS h x)) := by
          intro ν y1 y2
          by_cases k1 : lKx h x = 1
          · have nok : ¬ lOk h (h x) 1 x1 := by
              rw [k1, ex1] at g2
              exact fun z => g2 ⟨Or.inl (by omega), z⟩
            have l0 : lnS h x = .inr (lBd h x1) := by
              have := ln0 (by omega)
              unfold lPx at this
              rw [k1, ex1] at this
              exact this
            obtain ⟨υ, d1, d2⟩ := dead ν _ (y2 nok).1 (y2 nok).2 l0
            exact ⟨υ, d1, d2⟩
          · have ok1 := (g1 1 (by omega)).2
            rw [ex1] at ok1
            rw [y1 ok1]
            refine m_lineRest (K0 := 2) S hlt q1 (M0.tr A).at ?_ (by omega) (by omega)
            rw [lP, ex1]
            exact O1.at
        by_cases z1 : h x1 = 32
        · have hx1 : x1 < n := hB.lt (by rw [z1]; decide)
          have S2 : SrcM (up3 s1 20 0 21 (nI (x1 + 1))) n h := S1.u0 (by decide)
          have O2 : OkM (up3 s1 20 0 21 (nI (x1 + 1))) (x1 + 1) := O1.at
          have lb : lBd h x1 = x1 + 1 := by rw [lBd, if_pos z1]
          rw [if_pos z1]
          by_cases z : h x = 112
          · rw [if_pos z, m_readOne S2 O2 (by omega), some_b, some_b]
            refine fin _ ?_ ?_
            · intro ok
              unfold lNx
              by_cases z2 : h (x1 + 1) = 45
              · rw [if_pos z2, if_pos (show lMn h (h x) 1 x1 from ⟨z, by decide, z2⟩), up3_up]
              · have nm : ¬ lMn h (h x) 1 x1 := fun q => z2 q.2.2
                rw [if_neg z2, if_neg nm, if_pos (ok.2.resolve_left nm), up3_up, hd]
            · intro nok
              have z2 : ¬ h (x1 + 1) = 45 := fun q => nok ⟨z1, Or.inl ⟨z, by decide, q⟩⟩
              have z3 : ¬ isD (h (x1 + 1)) := fun q => nok ⟨z1, Or.inr q⟩
              rw [if_neg z2, if_neg z3, lb]
              exact ⟨(M0.tr A).at.wr, O2.bad (by omega)⟩
          · have nm : ¬ lMn h (h x) 1 x1 := fun q => z q.1
            rw [if_neg z, show (4 : Int32) = nI 4 from rfl, m_number S2 O2 (by omega) (by decide) (by decide), some_b, some_b]
            refine fin _ ?_ ?_
            · intro ok
              unfold lNx
              rw [if_neg nm, if_pos (ok.2.resolve_left nm), hd]
              dsimp only
              rw [up3_up]
            · intro nok
              have z3 : ¬ isD (h (x1 + 1)) := fun q => nok ⟨z1, Or.inr q⟩
              rw [if_neg z3, lb]
              exact ⟨(M0.tr A).at.wr, O2.bad (by omega)⟩
        · have lb : lBd h x1 = x1 := by rw [lBd, if_neg z1]
          have C2 : CuM (up3 s1 20 0 19 (nI x1)) n (.inr x1) := O1.bad hb1.2
          have hneg := C2.neg (by omega)
          rw [if_neg z1]
          have nok : ¬ lOk h (h x) 1 x1 := fun q => z1 q.1
          by_cases z : h x = 112
          · rw [if_pos z, m_skO hneg, some_b, some_b]
            exact fin _ (fun q => absurd q nok) (fun _ => ⟨(M0.tr A).wr, by rw [lb]; exact C2⟩)
          · rw [if_neg z, m_skN hneg, some_b, some_b]
            exact fin _ (fun q => absurd q nok) (fun _ => ⟨(M0.tr A).wr, by rw [lb]; exact C2⟩)
    · have hls : lLs (h x) = 0 := by unfold lLs; rw [if_neg qf]
      have n1 : ¬ h x = 112 := fun z => qf (Or.inl z)
      have n2 : ¬ h x = 115 := fun z => qf (Or.inr z)
      rw [if_neg n1, if_neg n2, bindL_inr, some_b]
      exact m_lineRest (K0 := 0) S hlt q1 M0 O0 (by omega) (Nat.zero_le _)
  · have n1 : ¬ h x = 112 := fun z => q1 (Or.inl z)
    have n2 : ¬ h x = 115 := fun z => q1 (Or.inr (Or.inl z))
    have n3 : ¬ h x = 97 := fun z => q1 (Or.inr (Or.inr (Or.inl z)))
    have n4 : ¬ h x = 99 := fun z => q1 (Or.inr (Or.inr (Or.inr z)))
    rw [if_neg n1, if_neg n2, if_neg n3, if_neg n4, nst_b, bindL_inr]
    unfold lnS
    rw [if_neg q1, O.1]
    exact Ret.some ⟨(MvM.rf σ).wr, O.bad hx⟩
theorem m_lines {σ : St} {n x0 M : Nat} {h : Nat → Int32} (S : SrcM σ n h) (O : OkM σ x0) (hx : x0 ≤ n) (hM : lStop h n x0 M) : Ret ((F_X12_readLine σ).bind (fun s6 => Option.bind (iter (fun z => B_X12_readRest_195 z) s6) (fun z220 => some z220))) (fun τ => MvM σ τ ∧ ((1 ≤ M ∧ ¬ lX h x0 M < n) → CuM τ n (.inl (lX h x0 M))) ∧ ∀ w, (M = 0 ∨ lX h x0 M < n) → lnS h (lX h x0 M) = .inr w → CuM τ n (.inr w)) := by
  have hn := S.2.1
  have hB := S.2.2.1
  obtain ⟨hA, hE⟩ := hM
  have hbM := lX_bd hB hx M hA
  refine Ret.bind (m_line S O hx) ?_
  rintro s1 ⟨a1, a2⟩
  have dead : ∀ ν w, CuM ν n (.inr w) → iter (fun z => B_X12_readRest_195 z) ν = some ν := by
    intro ν w m2
    refine iter_inr ?_
    unfold B_X12_readRest_195
    rw [if_neg (m2.neg (by omega))]
  by_cases m0 : M = 0
  · subst m0
    rcases hE with ⟨m1, m2⟩ | ⟨m1, w, m2⟩
    · omega
    · have m2 : lnS h x0 = .inr w := m2
      rw [m2] at a2
      rw [dead s1 w a2, some_b]
      refine Ret.some ⟨a1, fun z => absurd z.1 (by omega), ?_⟩
      intro w' _ hw
      have hw : lnS h x0 = .inr w' := hw
      rw [m2] at hw
      injection hw with hw
      rw [← hw]
      exact a2
  · have h1 := (hA 0 (by omega)).2
    have h1 : lnS h x0 = .inl (lX h x0 1) := h1
    rw [h1] at a2
    obtain ⟨τ, ⟨k1, k2⟩, e⟩ := iter_to (f := fun z => B_X12_readRest_195 z) (fun l τ => MvM σ τ ∧ OkM τ (lX h x0 (l + 1))) (M - 1) (by
      rintro l τ hl2 ⟨k1, k2⟩
      have hb := lX_bd hB hx (l + 1) (fun q hq => hA q (by omega))
      obtain ⟨q1, q2⟩ := hA (l + 1) (by omega)
      have q1 := q1.resolve_left (by omega)
      obtain ⟨υ, e1, e2, e3⟩ := m_line (k1.1.src S) k2 hb.2
      rw [q2] at e3
      refine ⟨υ, ?_, k1.tr e2, e3.1⟩
      show B_X12_readRest_195 τ = _
      unfold B_X12_readRest_195
      rw [if_pos (by rw [k2.2]; decide), k2.1, (k1.1.src S).1, if_pos (nI_lt q1 (by omega)), e1, some_b]) s1 ⟨a1, a2.1⟩
    rw [show M - 1 + 1 = M by omega] at k2
    rw [e]
    rcases hE with ⟨m1, m2⟩ | ⟨m1, w, m2⟩
    · have ei : B_X12_readRest_195 τ = some (.inr τ) := by
        unfold B_X12_readRest_195
        rw [if_pos (by rw [k2.2]; decide), k2.1, (k1.1.src S).1, if_neg (nI_nlt (by omega) (by omega))]
      rw [iter_inr ei, some_b]
      exact Ret.some ⟨k1, fun _ => ⟨k2, hbM.2⟩, fun w hc => absurd hc (by omega)⟩
    · obtain ⟨υ, e1, e2, e3⟩ := m_line (k1.1.src S) k2 hbM.2
      rw [m2] at e3
      have ei : B_X12_readRest_195 τ = some (.inl υ) := by
        unfold B_X12_readRest_195
        rw [if_pos (by rw [k2.2]; decide), k2.1, (k1.1.src S).1, if_pos (nI_lt (by omega) (by omega)), e1, some_b]
      rw [iter_inl ei, dead υ w e3, some_b]
      refine Ret.some ⟨k1.tr e2, fun hc => absurd hc.2 (by omega), ?_⟩
      intro w' _ hw
      rw [m2] at hw
      injection hw with hw
      rw [← hw]
      exact e3
