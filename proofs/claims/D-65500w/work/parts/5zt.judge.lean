/-! S11: judge, whole -/
set_option maxRecDepth 100000
theorem ou_bd2 {m : Nat → Int32} {f : Nat → Int} (hw : WF m) (h : ∀ k, k < cn (m 1) → -9999 ≤ f k ∧ f k ≤ 9999) (v : Nat) : zB (ou m f v) := by
  have b1 := hw.2.1.2
  have key : ∀ k, k < cn (m 1) → cf m k v * f k ≤ 9999 ∧ -9999 ≤ cf m k v * f k := by
    intro k hk
    obtain ⟨f1, f2⟩ := h k hk
    unfold cf
    split
    · omega
    · split
      · omega
      · omega
  have h1 := sumZ_le (g := fun k => cf m k v * f k) (B := 9999) (cn (m 1)) (fun k hk => (key k hk).1)
  have h2 := sumZ_ge (g := fun k => cf m k v * f k) (B := 9999) (cn (m 1)) (fun k hk => (key k hk).2)
  unfold ou zB
  omega
theorem c_judge {σ : St} {m : Nat → Int32} {fv : Nat → Int} {cv : Nat → Nat} {K1 K2 a b k : Nat} (hw : WF m) (H : HH (σ 3) m) (B5 : HB (σ 5)) (hs : szC σ k) (hk : k ≤ 100) (J : JuC σ fv K1 cv K2) (JB : JuB fv K1 cv K2) (q : apt m a b) : Ret (F_X7_judge 3 (nI a) (nI b) σ) (AskC σ m (juL m fv K1 cv K2 a b)) := by
  have b1 := hw.2.1
  have b1' := b1.2
  have b0' := hw.1.1.2
  have j3 := J.2.2.1
  unfold F_X7_judge juL
  rw [J.1, H.1.1.2.1]
  by_cases e : K1 = cn (m 1)
  · have hfv : ∀ i, i < cn (m 1) → -9999 ≤ fv i ∧ fv i ≤ 9999 := fun i hi => JB.1 i (by omega)
    rw [if_pos (show nI K1 = m 1 by rw [e]; exact b1.1.symm), if_pos e]
    refine Ret.bind (c_badStreet (fv := fv) hw H.1 (fun i hi => ⟨J.2.2.2.1 i (by omega), by have := hfv i hi; unfold zB; omega⟩)) ?_
    rintro ⟨r, τ⟩ ⟨t1', t2'⟩
    have t1 : F9 σ τ := t1'
    have t2 : (fst (badS m fv) (cn (m 1)) < cn (m 1) ∧ r = nI (fst (badS m fv) (cn (m 1)))) ∨ (fst (badS m fv) (cn (m 1)) = cn (m 1) ∧ r = -1 ∧ FlC τ m fv) := t2'
    have hst : szC τ k := by unfold szC; rw [t1 1 (by decide)]; exact hs
    have T0 : TxC σ τ [] := (TxC.rf σ).g (t1 1 (by decide))
    have fq : FrQ σ τ m := ⟨fun x hx => t1 x (by omega), fun b _ => by rw [t1 0 (by decide)], by rw [t1 3 (by decide)]; exact H, by rw [t1 5 (by decide)]; exact B5⟩
    have hc : HC (τ 3) m := by rw [t1 3 (by decide)]; exact H.1
    have sy : ∀ i w, i < 54 → w < 45 → sTx i = aTx w → F_X1_say (nI i) τ = some (appC τ (aTx w)) := fun i w h1 h2 e => by
      have := c_sayA (σ := τ) (L := []) h1 h2 e hst (by rw [List.length_nil]; omega)
      rw [appC_nil, List.nil_append] at this
      exact this
    have s36 : F_X1_say (36 : Int32) τ = _ := sy 36 38 (by decide) (by decide) (tx_eq (36, 38) (by decide))
    have s37 : F_X1_say (37 : Int32) τ = _ := sy 37 39 (by decide) (by decide) (tx_eq (37, 39) (by decide))
    have s38 : F_X1_say (38 : Int32) τ = _ := sy 38 40 (by decide) (by decide) (tx_eq (38, 40) (by decide))
    have s39 : F_X1_say (39 : Int32) τ = _ := sy 39 41 (by decide) (by decide) (tx_eq (39, 41) (by decide))
    have s40 : F_X1_say (40 : Int32) τ = _ := sy 40 42 (by decide) (by decide) (tx_eq (40, 42) (by decide))
    have l38 := tx_len 38 (by decide)
    have l39 := tx_len 39 (by decide)
    have l42 := tx_len 42 (by decide)
    rcases t2 with ⟨c, rfl⟩ | ⟨c, rfl, F⟩
    · have nn : ¬ nI (fst (badS m fv) (cn (m 1))) < 0 := nI_pos (by omega)
      dsimp only
      rw [if_neg nn, some_b, if_neg nn, bindL_inl, if_neg nn, some_b, s36, some_b, if_neg nn, some_b, c_numA hst (okN_nI (by omega)) (by omega), some_b, if_pos c]
      exact Ret.some ⟨T0.app, fq.app⟩
    · have np : (-1 : Int32) < 0 := by decide
      have qa := q.1
      dsimp only
      rw [if_pos np, c_badPlace hw hc F q.1 q.2.1, some_b, some_b, if_pos np, if_neg (show ¬ fst (badS m fv) (cn (m 1)) < cn (m 1) by omega)]
      by_cases d : fst (badP m fv a b) (cn (m 0)) < cn (m 0)
      · have nn : ¬ nI (fst (badP m fv a b) (cn (m 0))) < 0 := nI_pos (by omega)
        rw [if_pos d, if_neg nn, bindL_inl, if_pos np, some_b, s37, some_b, if_pos np, some_b, c_numA hst (okN_nI (by omega)) (by omega), some_b, if_pos d]
        exact Ret.some ⟨T0.app, fq.app⟩
      · rw [if_neg d, if_pos np, if_neg d]
        have Jτ : JuC τ fv K1 cv K2 := by
          unfold JuC
          rw [t1 2 (by decide)]
          exact J
        obtain ⟨z, z1, z2⟩ := c_inside hw hc Jτ JB q.1 q.2.1
        rw [z1, some_b, c_out hw hc F (by omega), some_b]
        rcases z2 with ⟨y, M, rfl, hM, hb⟩ | ⟨y, rfl⟩
        · rw [if_neg (nI_pos (by omega)), c_across hw hc hM hb, some_b, if_pos y]
          by_cases x : nI (acN m cv K2 (cn (m 1))) = zI (ou m fv a)
          · rw [if_pos x, s40, some_b, c_numA hst (zI_ok (ou_bd2 hw hfv a)) (by omega), some_b, bindL_inr, if_pos x]
            exact Ret.some ⟨T0.app, fq.app⟩
          · rw [if_neg x, s39, some_b, bindL_inr, if_neg x]
            exact Ret.some ⟨T0.app, fq.app⟩
        · rw [if_pos np, s38, some_b, bindL_inr, if_neg y]
          exact Ret.some ⟨T0.app, fq.app⟩
  · have ne : ¬ nI K1 = m 1 := by
      rw [b1.1, nI_eq (by omega) (by omega)]
      exact e
    have := c_sayA (σ := σ) (L := []) (i := 35) (w := 37) (by decide) (by decide) (tx_eq (35, 37) (by decide)) hs (by rw [List.length_nil]; omega)
    rw [appC_nil, List.nil_append] at this
    rw [if_neg ne, show (35 : Int32) = nI 35 from rfl, this, some_b, if_neg e]
    exact AskC.ex H B5 rfl
/-- what is argued, in the model -/
def JuM (σ : St) (fv : Nat → Int) (K1 : Nat) (cv : Nat → Nat) (K2 : Nat) : Prop := σ 20 0 30 = nI K1 ∧ σ 20 0 32 = nI K2 ∧ K1 ≤ 1700 ∧ K2 ≤ 1700 ∧ (∀ i, i < K1 → σ 20 30 i = zI (fv i)) ∧ ∀ i, i < K2 → σ 20 32 i = nI (cv i)
theorem m_isInCut {σ : St} {fv : Nat → Int} {cv : Nat → Nat} {K1 K2 p : Nat} (J : JuM σ fv K1 cv K2) (JB : JuB fv K1 cv K2) (hp : p < 100) : F_X12_isInCut (nI p) σ = some (bI (inC cv K2 p)) := by
  obtain ⟨j1, j2, j3, j4, j5, j6⟩ := J
  unfold F_X12_isInCut
  have key := iter_row (f := fun z => B_X12_isInCut_4 (nI p) z.1 z.2 σ) (fun i => (bI (inC cv i p), nI i)) K2 (bI (inC cv K2 p)) ?_ ?_ 0 (Nat.zero_le _)
  · have e0 : bI (inC cv 0 p) = 0 := by unfold bI; rw [if_neg (fun ⟨i, hi, _⟩ => absurd hi (Nat.not_lt_zero i))]
    have hz : zro (bI (inC cv K2 p)) = some (bI (inC cv K2 p)) := by
      unfold bI
      split
      · exact zro_1
      · exact zro_0
    rw [show ((0 : Int32), (0 : Int32)) = (bI (inC cv 0 p), nI 0) by rw [e0]; rfl, key, some_b, hz, some_b]
  · intro i hi
    have cb := JB.2 i hi
    show B_X12_isInCut_4 (nI p) (bI (inC cv i p)) (nI i) σ = _
    unfold B_X12_isInCut_4
    rw [j2, if_pos (nI_lt hi (by omega)), rdo_nI (by omega) (by decide), some_b, j6 i hi]
    by_cases q : inC cv i p
    · have e1 : bI (inC cv i p) = 1 := by unfold bI; rw [if_pos q]
      have e2 : bI (inC cv (i + 1) p) = 1 := by
        unfold bI
        rw [if_pos]
        obtain ⟨j, h1, h2⟩ := q
        exact ⟨j, by omega, h2⟩
      rw [e1, if_neg (show ¬ (1 : Int32) = 0 by decide), some_b, nI_1, e2]
    · have e1 : bI (inC cv i p) = 0 := by unfold bI; rw [if_neg q]
      rw [e1, if_pos rfl]
      by_cases r : cv i = p
      · have e2 : bI (inC cv (i + 1) p) = 1 := by
          unfold bI
          rw [if_pos ⟨i, by omega, r⟩]
        rw [if_pos (by rw [r]), some_b, nI_1, e2]
      · have e2 : bI (inC cv (i + 1) p) = 0 := by
          unfold bI
          rw [if_neg]
          rintro ⟨j, h1, h2⟩
          by_cases e : j = i
          · subst e; exact r h2
          · exact q ⟨j, by omega, h2⟩
        rw [if_neg (by rw [nI_eq (by omega) (by omega)]; exact r), some_b, nI_1, e2]
  · show B_X12_isInCut_4 (nI p) _ (nI K2) σ = _
    unfold B_X12_isInCut_4
    rw [j2, if_neg (nI_nlt (Nat.le_refl _) (by omega))]
theorem m_canBe {σ : St} {m : Nat → Int32} {fv : Nat → Int} {cv : Nat → Nat} {K1 K2 k : Nat} (hw : WF m) (hm : σ 20 1 = m) (J : JuM σ fv K1 cv K2) (JB : JuB fv K1 cv K2) (hk : k < cn (m 1)) (hk1 : k < K1) : F_X12_canBe (nI k) σ = some (bI (¬ badS m fv k)) := by
  have b1' := hw.2.1.2
  obtain ⟨-, ⟨-, -, ow⟩, -, -, c2⟩ := pipe hw hk
  have fb := JB.1 k hk1
  have zf : zB (fv k) := by unfold zB; omega
  have zc : zB (zcap m k) ∧ zB (-zcap m k) ∧ 0 ≤ zcap m k := by unfold zcap zB; split <;> omega
  unfold F_X12_canBe
  have ez : (if (if stOpen m k then (1 : Int32) else 0) = 0 then some ((0 : Int32)) else (F_X12_capacity (nI k) σ).bind (fun r3 => some r3)) = some (zI (zcap m k)) := by
    unfold zcap
    by_cases so : stOpen m k
    · rw [if_pos so, if_neg (show ¬ (1 : Int32) = 0 by decide), m_capac hw hm hk, some_b, if_pos so, zI_nat]
    · rw [if_neg so, if_pos rfl, if_neg so]; rfl
  rw [rdo_nI (by have := J.2.2.1; omega) (by decide), some_b, J.2.2.2.2.1 k hk1, m_isOpenNow (by omega), some_b, hm, ez, some_b, m_street3 (by omega), some_b, hm]
  have fin : ∀ lo : Int, zB lo → ((¬ fv k < lo ∧ ¬ zcap m k < fv k) ↔ ¬ badS m fv k) → ((F_X12_in (zI (fv k)) (zI lo) (zI (zcap m k)) σ).bind (fun r5 => (zro r5).bind (fun r => some r))) = some (bI (¬ badS m fv k)) := by
    intro lo hlo heq
    have hx : (¬ zI (fv k) < zI lo ∧ ¬ zI (zcap m k) < zI (fv k)) ↔ (¬ fv k < lo ∧ ¬ zcap m k < fv k) := by rw [zI_lt zf hlo, zI_lt zc.1 zf]
    rw [in_eq, some_b]
    unfold bI
    by_cases z : ¬ fv k < lo ∧ ¬ zcap m k < fv k
    · rw [if_pos (hx.mpr z), zro_1, some_b, if_pos (heq.mp z)]
    · rw [if_neg (fun w => z (hx.mp w)), zro_0, some_b, if_neg (fun w => z (heq.mpr w))]
  unfold badS at fin ⊢
  rcases ow with o | o
  · rw [if_neg (show ¬ m (10 + 5 * k + 3) = 1 by rw [o]; decide), some_b, zI_neg]
    refine fin (-zcap m k) zc.2.1 ?_
    constructor
    · rintro ⟨h1, h2⟩ (h | h | h)
      · exact h2 h
      · exact h1 h
      · exact h.2 o
    · intro h
      exact ⟨fun z => h (Or.inr (Or.inl z)), fun z => h (Or.inl z)⟩
  · rw [if_pos o, some_b, ← zI_0]
    refine fin 0 (by unfold zB; omega) ?_
    have on : ¬ m (10 + 5 * k + 3) = 0 := by rw [o]; decide
    constructor
    · rintro ⟨h1, h2⟩ (h | h | h)
      · exact h2 h
      · have := zc.2.2; omega
      · exact h1 h.1
    · intro h
      exact ⟨fun z => h (Or.inr (Or.inr ⟨z, on⟩)), fun z => h (Or.inl z)⟩
theorem m_judge {σ : St} {m : Nat → Int32} {fv : Nat → Int} {cv : Nat → Nat} {K1 K2 a b k : Nat} (hw : WF m) (hm : σ 20 1 = m) (hS : StatM σ) (hs : szM σ k) (hk : k ≤ 100) (J : JuM σ fv K1 cv K2) (JB : JuB fv K1 cv K2) (q : apt m a b) : F_X12_judge (nI a) (nI b) σ = some (appM σ (juL m fv K1 cv K2 a b)) := by
  have b1 := hw.2.1
  have b1' := b1.2
  have b0 := hw.1.1
  have b0' := b0.2
  have hwm : WF (σ 20 1) := by rw [hm]; exact hw
  obtain ⟨j1, j2, j3, j4, j5, j6⟩ := J
  have J : JuM σ fv K1 cv K2 := ⟨j1, j2, j3, j4, j5, j6⟩
  have sy : ∀ w, w < 45 → F_X12_say (nI w) σ = some (appM σ (aTx w)) := fun w h => AskM.say h hS hs hk
  have s37 : F_X12_say (37 : Int32) σ = _ := sy 37 (by decide)
  have s38 : F_X12_say (38 : Int32) σ = _ := sy 38 (by decide)
  have s39 : F_X12_say (39 : Int32) σ = _ := sy 39 (by decide)
  have s40 : F_X12_say (40 : Int32) σ = _ := sy 40 (by decide)
  have s41 : F_X12_say (41 : Int32) σ = _ := sy 41 (by decide)
  have s42 : F_X12_say (42 : Int32) σ = _ := sy 42 (by decide)
  have l38 := tx_len 38 (by decide)
  have l39 := tx_len 39 (by decide)
  have l42 := tx_len 42 (by decide)
  unfold F_X12_judge juL
  rw [m_rd1, some_b, hm, j1]
  by_cases e : K1 = cn (m 1)
  · have hfv : ∀ i, i < cn (m 1) → -9999 ≤ fv i ∧ fv i ≤ 9999 := fun i hi => JB.1 i (by omega)
    have qa := q.1
    have hout : ∀ v, v < cn (m 0) → F_X12_out (nI v) (1 : Int32) σ = some (zI (ou m fv v)) := fun v hv => m_out0 hw hm 1 (fun i hi => by rw [if_neg (show ¬ (1 : Int32) = 0 by decide), rdo_nI (by omega) (by decide), some_b, j5 i (by omega)]) (by omega)
    rw [if_pos (show nI K1 = m 1 by rw [e]; exact b1.1.symm), if_pos e]
    -- streets
    have K : Ret (iter (fun z => B_X12_judge_22 (nI a) (nI b) z σ) (0 : Int32)) (fun r => r = if fst (badS m fv) (cn (m 1)) < cn (m 1) then .inr (appM σ (aTx 38 ++ numL (nI (fst (badS m fv) (cn (m 1)))))) else .inl ()) := by
      refine iter_cnt (f := fun z => B_X12_judge_22 (nI a) (nI b) z σ) (fun i (_ : Unit) => nI i) (fun i _ => fst (badS m fv) i = i) (cn (m 1)) ?_ ?_ () rfl
      · rintro i - hi hI
        show Ret (B_X12_judge_22 (nI a) (nI b) (nI i) σ) _
        unfold B_X12_judge_22
        rw [j1, if_pos (nI_lt (by omega) (by omega)), m_canBe hw hm J JB hi (by omega), some_b]
        by_cases y : badS m fv i
        · have e1 : bI (¬ badS m fv i) = 0 := by unfold bI; rw [if_neg (fun z => z y)]
          have e2 := fst_bad hi hI y
          rw [e1, if_pos rfl, s38, some_b, m_numA hs (okN_nI (by omega)) (by omega), some_b, if_pos (by omega), e2]
          exact ⟨_, rfl, rfl⟩
        · have e1 : bI (¬ badS m fv i) = 1 := by unfold bI; rw [if_pos y]
          rw [e1, if_neg (show ¬ (1 : Int32) = 0 by decide), nI_1]
          exact Ret.some ⟨(), rfl, fst_ok hI y⟩
      · rintro - hI
        show Ret (B_X12_judge_22 (nI a) (nI b) (nI (cn (m 1))) σ) _
        unfold B_X12_judge_22
        rw [j1, e, if_neg (nI_nlt (Nat.le_refl _) (by omega)), if_neg (show ¬ fst (badS m fv) (cn (m 1)) < cn (m 1) by omega)]
        exact ⟨_, rfl, rfl⟩
    obtain ⟨r, r1, r2⟩ := K
    rw [r1, r2]
    by_cases c : fst (badS m fv) (cn (m 1)) < cn (m 1)
    · rw [if_pos c, bindL_inr, if_pos c]
    · rw [if_neg c, bindL_inl, if_neg c]
      -- places
      have K2' : Ret (iter (fun z => B_X12_judge_61 (nI a) (nI b) z σ) (0 : Int32)) (fun r => r = if fst (badP m fv a b) (cn (m 0)) < cn (m 0) then .inr (appM σ (aTx 39 ++ numL (nI (fst (badP m fv a b) (cn (m 0)))))) else .inl ()) := by
        refine iter_cnt (f := fun z => B_X12_judge_61 (nI a) (nI b) z σ) (fun i (_ : Unit) => nI i) (fun i _ => fst (badP m fv a b) i = i) (cn (m 0)) ?_ ?_ () rfl
        · rintro p - hp hI
          have lt : nI p < m 0 := by rw [b0.1]; exact nI_lt hp (by omega)
          have qb := q.2.1
          show Ret (B_X12_judge_61 (nI a) (nI b) (nI p) σ) _
          unfold B_X12_judge_61
          rw [m_rd0, some_b, hm, if_pos lt]
          by_cases q1 : p = a
          · rw [if_pos (by rw [q1]), nI_1]
            exact Ret.some ⟨(), rfl, fst_ok hI (fun z => z.1 q1)⟩
          · rw [if_neg (by rw [nI_eq (by omega) (by omega)]; exact q1)]
            by_cases q2 : p = b
            · rw [if_pos (by rw [q2]), nI_1]
              exact Ret.some ⟨(), rfl, fst_ok hI (fun z => z.2.1 q2)⟩
            · rw [if_neg (by rw [nI_eq (by omega) (by omega)]; exact q2), hout p hp, some_b]
              by_cases q3 : zI (ou m fv p) = 0
              · rw [if_pos q3, nI_1]
                exact Ret.some ⟨(), rfl, fst_ok hI (fun z => z.2.2 q3)⟩
              · have e2 := fst_bad hp hI (⟨q1, q2, q3⟩ : badP m fv a b p)
                rw [if_neg q3, s39, some_b, m_numA hs (okN_nI (by omega)) (by omega), some_b, if_pos (by omega), e2]
                exact ⟨_, rfl, rfl⟩
        · rintro - hI
          have nlt : ¬ nI (cn (m 0)) < m 0 := by
            conv => rhs; rhs; rw [b0.1]
            exact nI_nlt (Nat.le_refl _) (by omega)
          show Ret (B_X12_judge_61 (nI a) (nI b) (nI (cn (m 0))) σ) _
          unfold B_X12_judge_61
          rw [m_rd0, some_b, hm, if_neg nlt, if_neg (show ¬ fst (badP m fv a b) (cn (m 0)) < cn (m 0) by omega)]
          exact ⟨_, rfl, rfl⟩
      obtain ⟨r', r1', r2'⟩ := K2'
      rw [r1', r2']
      by_cases d : fst (badP m fv a b) (cn (m 0)) < cn (m 0)
      · rw [if_pos d, bindL_inr, if_pos d]
      · rw [if_neg d, bindL_inl, if_neg d, m_isInCut J JB (by omega), some_b, m_isInCut J JB (by have := q.2.1; omega), some_b]
        have z132 : (if bI (inC cv K2 a) = 0 then some ((0 : Int32)) else (if bI (inC cv K2 b) = 0 then some ((1 : Int32)) else some ((0 : Int32)))) = some (bI (inC cv K2 a ∧ ¬ inC cv K2 b)) := by
          unfold bI
          by_cases x : inC cv K2 a
          · rw [if_pos x, if_neg (show ¬ (1 : Int32) = 0 by decide)]
            by_cases y : inC cv K2 b
            · rw [if_pos y, if_neg (show ¬ (1 : Int32) = 0 by decide), if_neg (fun z => z.2 y)]
            · rw [if_neg y, if_pos rfl, if_pos ⟨x, y⟩]
          · rw [if_neg x, if_pos rfl, if_neg (fun z => x z.1)]
        rw [z132, some_b]
        -- the cut's places
        have L3 := iter_row (f := fun z => B_X12_judge_136 (nI a) z.1 z.2 σ) (fun i => (bI (okC m cv i ∧ inC cv K2 a ∧ ¬ inC cv K2 b), nI i)) K2 (bI (okC m cv K2 ∧ inC cv K2 a ∧ ¬ inC cv K2 b)) ?_ ?_ 0 (Nat.zero_le _)
        · have e0 : bI (okC m cv 0 ∧ inC cv K2 a ∧ ¬ inC cv K2 b) = bI (inC cv K2 a ∧ ¬ inC cv K2 b) := by
            unfold bI
            by_cases x : inC cv K2 a ∧ ¬ inC cv K2 b
            · rw [if_pos x, if_pos ⟨fun i hi => absurd hi (Nat.not_lt_zero i), x⟩]
            · rw [if_neg x, if_neg (fun z => x z.2)]
          rw [← e0, show ((bI (okC m cv 0 ∧ inC cv K2 a ∧ ¬ inC cv K2 b)), (0 : Int32)) = (bI (okC m cv 0 ∧ inC cv K2 a ∧ ¬ inC cv K2 b), nI 0) from rfl, L3, some_b]
          by_cases y : insd m cv K2 a b
          · have y' : okC m cv K2 ∧ inC cv K2 a ∧ ¬ inC cv K2 b := y
            have e1 : bI (okC m cv K2 ∧ inC cv K2 a ∧ ¬ inC cv K2 b) = 1 := by unfold bI; rw [if_pos y']
            rw [e1, if_neg (show ¬ (1 : Int32) = 0 by decide), if_pos y]
            -- across
            have L4 := iter_row (f := fun z => B_X12_judge_216 (nI a) z.1 z.2 σ) (fun i => (nI (acN m cv K2 i), nI i)) (cn (m 1)) (nI (acN m cv K2 (cn (m 1)))) ?_ ?_ 0 (Nat.zero_le _)
            · rw [show ((0 : Int32), (0 : Int32)) = (nI (acN m cv K2 0), nI 0) from rfl, L4, some_b, hout a q.1, some_b]
              by_cases x : nI (acN m cv K2 (cn (m 1))) = zI (ou m fv a)
              · rw [if_pos x.symm, s42, some_b, m_numA hs (zI_ok (ou_bd2 hw hfv a)) (by omega), some_b, if_pos x]
              · rw [if_neg (fun z => x z.symm), s41, some_b, if_neg x]
            · intro i hi
              obtain ⟨⟨pa, pb, pne⟩, ⟨pea, peb, ow⟩, -⟩ := pipe hw hi
              have lt : nI i < m 1 := by rw [b1.1]; exact nI_lt hi (by omega)
              have es : acN m cv K2 (i + 1) = acN m cv K2 i + @ite _ (crs m cv K2 i) (Classical.propDecidable _) (cap m i) 0 := rfl
              show B_X12_judge_216 (nI a) (nI (acN m cv K2 i)) (nI i) σ = _
              unfold B_X12_judge_216
              rw [m_rd1, some_b, hm, if_pos lt, m_isOpenNow (by omega), some_b, hm, es]
              by_cases so : stOpen m i
              · rw [if_pos so, if_neg (show ¬ (1 : Int32) = 0 by decide), m_street0 (by omega), some_b, hm, pea, m_isInCut J JB (by omega), some_b, m_street1 (by omega), some_b, hm, peb, m_isInCut J JB (by omega), some_b]
                have yes : crs m cv K2 i → (F_X12_capacity (nI i) σ).bind (fun r4022 => (nmo (nI (acN m cv K2 i) + r4022)).bind (fun v4023 => (some (.inl (v4023, (nI i + (1 : Int32)))) : Option ((Int32 × Int32) ⊕ Int32)))) = some (.inl (nI (acN m cv K2 i + @ite _ (crs m cv K2 i) (Classical.propDecidable _) (cap m i) 0), nI (i + 1))) := fun c => by
                  rw [m_capac hw hm hi, some_b, nmo_b, nI_add, nI_1, if_pos c]
                have no : ¬ crs m cv K2 i → (.inl (nI (acN m cv K2 i), nI i + (1 : Int32)) : (Int32 × Int32) ⊕ Int32) = .inl (nI (acN m cv K2 i + @ite _ (crs m cv K2 i) (Classical.propDecidable _) (cap m i) 0), nI (i + 1)) := fun c => by
                  rw [nI_1, if_neg c]; rfl
                unfold bI
                by_cases q1 : inC cv K2 (eA m i)
                · rw [if_pos q1, if_neg (show ¬ (1 : Int32) = 0 by decide)]
                  by_cases q2 : inC cv K2 (eB m i)
                  · rw [if_pos q2, if_neg (show ¬ (1 : Int32) = 0 by decide), bindL_inl, if_neg (show ¬ (1 : Int32) = 0 by decide), if_neg (show ¬ (1 : Int32) = 0 by decide), bindL_inr, no (fun z => z.2.elim (fun y => y.2 q2) (fun y => y.2.1 q1))]
                  · rw [if_neg q2, if_pos rfl, bindL_inr, bindL_inl]
                    exact yes ⟨so, Or.inl ⟨q1, q2⟩⟩
                · rw [if_neg q1, if_pos rfl, bindL_inl]
                  by_cases q2 : inC cv K2 (eB m i)
                  · rw [if_pos q2, if_neg (show ¬ (1 : Int32) = 0 by decide), if_pos rfl, m_street3 (by omega), some_b, hm]
                    by_cases q3 : m (10 + 5 * i + 3) = 0
                    · rw [if_pos q3, bindL_inl]
                      exact yes ⟨so, Or.inr ⟨q2, q1, q3⟩⟩
                    · rw [if_neg q3, bindL_inr, no (fun z => z.2.elim (fun y => q1 y.1) (fun y => q3 y.2.2))]
                  · rw [if_neg q2, if_pos rfl, bindL_inr, no (fun z => z.2.elim (fun y => q1 y.1) (fun y => q2 y.1))]
              · rw [if_neg so, if_pos rfl, nI_1, if_neg (fun z : crs m cv K2 i => so z.1)]; rfl
            · have nlt : ¬ nI (cn (m 1)) < m 1 := by
                conv => rhs; rhs; rw [b1.1]
                exact nI_nlt (Nat.le_refl _) (by omega)
              show B_X12_judge_216 (nI a) _ (nI (cn (m 1))) σ = _
              unfold B_X12_judge_216
              rw [m_rd1, some_b, hm, if_neg nlt]
          · have y' : ¬ (okC m cv K2 ∧ inC cv K2 a ∧ ¬ inC cv K2 b) := y
            have e1 : bI (okC m cv K2 ∧ inC cv K2 a ∧ ¬ inC cv K2 b) = 0 := by unfold bI; rw [if_neg y']
            rw [e1, if_pos rfl, s40, some_b, if_neg y]
        · intro i hi
          have cb := JB.2 i hi
          have cb' : i ≠ 0 → cv (i - 1) ≤ 9999 ∧ σ 20 32 (i - 1) = nI (cv (i - 1)) := fun _ => ⟨JB.2 (i - 1) (by omega), j6 (i - 1) (by omega)⟩
          show B_X12_judge_136 (nI a) (bI (okC m cv i ∧ inC cv K2 a ∧ ¬ inC cv K2 b)) (nI i) σ = _
          unfold B_X12_judge_136
          rw [j2, if_pos (nI_lt hi (by omega)), rdo_nI (by omega) (by decide), some_b, j6 i hi, m_isPlace hwm (by omega), some_b, hm]
          have nxt : okC m cv (i + 1) ↔ (okC m cv i ∧ cv i < cn (m 0) ∧ (i = 0 ∨ cv (i - 1) < cv i)) := by
            constructor
            · intro h
              exact ⟨fun j hj => h j (by omega), h i (by omega)⟩
            · rintro ⟨h1, h2⟩ j hj
              by_cases e : j = i
              · subst e; exact h2
              · exact h1 j (by omega)
          by_cases y : okC m cv i ∧ inC cv K2 a ∧ ¬ inC cv K2 b
          · have e1 : bI (okC m cv i ∧ inC cv K2 a ∧ ¬ inC cv K2 b) = 1 := by unfold bI; rw [if_pos y]
            rw [e1, if_neg (show ¬ (1 : Int32) = 0 by decide)]
            have yes : cv i < cn (m 0) → (i = 0 ∨ cv (i - 1) < cv i) → bI (okC m cv (i + 1) ∧ inC cv K2 a ∧ ¬ inC cv K2 b) = 1 := fun h1 h2 => by
              unfold bI
              rw [if_pos ⟨nxt.mpr ⟨y.1, h1, h2⟩, y.2⟩]
            have no : ¬ (cv i < cn (m 0) ∧ (i = 0 ∨ cv (i - 1) < cv i)) → bI (okC m cv (i + 1) ∧ inC cv K2 a ∧ ¬ inC cv K2 b) = 0 := fun h1 => by
              unfold bI
              rw [if_neg (fun z => h1 (nxt.mp z.1).2)]
            by_cases x : cv i < cn (m 0)
            · rw [if_pos x, if_neg (show ¬ (1 : Int32) = 0 by decide)]
              by_cases w : i = 0
              · rw [if_pos (by rw [w]; rfl), some_b, nI_1, yes x (Or.inl w)]
              · obtain ⟨w1, w2⟩ := cb' w
                rw [if_neg (nI_ne0 (by omega) (by omega)), some_b, show nI i - (1 : Int32) = nI (i - 1) from nI_sub (b := 1) (by omega), rdo_nI (by omega) (by decide), some_b, w2]
                by_cases u : cv (i - 1) < cv i
                · rw [if_pos (nI_lt u (by omega)), some_b, nI_1, yes x (Or.inr u)]
                · rw [if_neg (nI_nlt (by omega) (by omega)), some_b, nI_1, no (fun z => z.2.elim w u)]
            · rw [if_neg x, if_pos rfl, some_b, nI_1, no (fun z => x z.1)]
          · have e1 : bI (okC m cv i ∧ inC cv K2 a ∧ ¬ inC cv K2 b) = 0 := by unfold bI; rw [if_neg y]
            have e2 : bI (okC m cv (i + 1) ∧ inC cv K2 a ∧ ¬ inC cv K2 b) = 0 := by unfold bI; rw [if_neg (fun z => y ⟨(nxt.mp z.1).1, z.2⟩)]
            rw [e1, if_pos rfl, some_b, nI_1, e2]
        · show B_X12_judge_136 (nI a) _ (nI K2) σ = _
          unfold B_X12_judge_136
          rw [j2, if_neg (nI_nlt (Nat.le_refl _) (by omega))]
  · have ne : ¬ nI K1 = m 1 := by
      rw [b1.1, nI_eq (by omega) (by omega)]
      exact e
    rw [if_neg ne, s37, some_b, if_neg e]
