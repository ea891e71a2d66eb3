/-! S2: the component's lines -/
set_option maxRecDepth 100000
theorem CuC.inc {σ : St} {n w b : Nat} (h1 : σ 2 0 9 = nI w) (h2 : w ≤ n) (h3 : b ≤ n) (h4 : σ 2 0 8 = nI b) : CuC (up3 σ 2 0 8 (σ 2 0 8 + 1)) n (.inr w) := ⟨by rw [up3_i (by decide)]; exact h1, h2, b + 1, by omega, by rw [up3_same, h4, nI_1]⟩
theorem c_line {σ : St} {j n x t l : Nat} {h : Nat → Int32} (S : SrcC σ j n h) (O : OkC σ x) (hx : x ≤ n) (hl : σ 2 0 11 = nI l) (hl2 : 2 * l ≤ n) (ht : σ 2 0 12 = nI t) (ht2 : 2 * t ≤ x) : Ret (F_X2_line σ) (fun τ => KpC σ τ ∧ τ 2 1 = σ 2 1 ∧ CuC τ n (lnS h x) ∧ ∀ e, lnS h x = .inl e → τ 2 0 11 = nI (l + 1) ∧ τ 2 0 12 = nI (t + lKx h x) ∧ (τ 2 2 l = h x ∧ τ 2 3 l = nI t ∧ τ 2 4 l = nI (lKx h x)) ∧ (∀ i, i < lKx h x → τ 2 5 (t + i) = lVl h (h x) i (lP h (h x) (x + 1) i)) ∧ (∀ m, m ≠ l → τ 2 2 m = σ 2 2 m ∧ τ 2 3 m = σ 2 3 m ∧ τ 2 4 m = σ 2 4 m) ∧ ∀ i, i < t → τ 2 5 i = σ 2 5 i) := by
  have hj := lenB_le (j := j)
  have hn := S.2.2.2.1
  have hB := S.2.2.2.2.1
  unfold F_X2_line
  rw [c_here S O.1 (by omega), some_b]
  by_cases q1 : ltP (h x)
  · have hlt : x < n := hB.lt (by rcases q1 with z | z | z | z <;> rw [z] <;> decide)
    have ec : (if h x = (112 : Int32) then some (Sum.inl ()) else (if h x = (115 : Int32) then some (.inl ()) else (if h x = (97 : Int32) then some (.inl ()) else (if h x = (99 : Int32) then some (.inl ()) else (F_X2_fail σ).bind (fun s2 => some (.inr s2)))))) = (some (.inl ()) : Option (Unit ⊕ St)) := by
      rcases q1 with z | z | z | z <;> rw [z] <;> rfl
    have ef : (if h x = (112 : Int32) then some (1 : Int32) else (if h x = (115 : Int32) then some 1 else some 0)) = some (if lFx (h x) then 1 else 0) := by
      by_cases z1 : h x = 112
      · rw [if_pos z1, if_pos (Or.inl z1)]
      · rw [if_neg z1]
        by_cases z2 : h x = 115
        · rw [if_pos z2, if_pos (Or.inr z2)]
        · rw [if_neg z2, if_neg (fun z => z.elim z1 z2)]
    have eg : (if (if lFx (h x) then (1 : Int32) else 0) = 0 then some (0 : Int32) else some 2) = some (nI (lLs (h x))) := by
      unfold lLs
      by_cases z : lFx (h x)
      · rw [if_pos z, if_neg (by decide), if_pos z]; rfl
      · rw [if_neg z, if_pos rfl, if_neg z]; rfl
    rw [ec, bindL_inl, nst_b, O.1, nI_1]
    have l1 : up3 σ 2 0 8 (nI (x + 1)) 2 0 11 = nI l := by rw [up3_i (by decide)]; exact hl
    rw [l1, wro_nI (by omega) (by decide), some_b, up3_j (by decide), l1, up3_i (by decide), ht, wro_nI (by omega) (by decide), some_b, up3_j (by decide), up3_j (by decide), l1, wro_nI (by omega) (by decide), some_b, ef, some_b, eg, some_b]
    have K0 : KpC σ (up3 (up3 (up3 (up3 σ 2 0 8 (nI (x + 1))) 2 2 l (h x)) 2 3 l (nI t)) 2 4 l 0) := (((((KpC.rf σ).u0 (by decide) (by decide) (by decide)).uj (by decide)).uj (by decide)).uj (by decide))
    have O0 : OkC (up3 (up3 (up3 (up3 σ 2 0 8 (nI (x + 1))) 2 2 l (h x)) 2 3 l (nI t)) 2 4 l 0) (x + 1) := ((O.at.uj (by decide)).uj (by decide)).uj (by decide)
    have D0 : (up3 (up3 (up3 (up3 σ 2 0 8 (nI (x + 1))) 2 2 l (h x)) 2 3 l (nI t)) 2 4 l 0) 2 1 = σ 2 1 := by rw [up3_j (by decide), up3_j (by decide), up3_j (by decide), up3_j (by decide)]
    have D1 : (up3 (up3 (up3 (up3 σ 2 0 8 (nI (x + 1))) 2 2 l (h x)) 2 3 l (nI t)) 2 4 l 0) 2 0 11 = nI l := by rw [up3_j (by decide), up3_j (by decide), up3_j (by decide)]; exact l1
    have D2 : (up3 (up3 (up3 (up3 σ 2 0 8 (nI (x + 1))) 2 2 l (h x)) 2 3 l (nI t)) 2 4 l 0) 2 0 12 = nI t := by rw [up3_j (by decide), up3_j (by decide), up3_j (by decide), up3_i (by decide)]; exact ht
    have D3 : (up3 (up3 (up3 (up3 σ 2 0 8 (nI (x + 1))) 2 2 l (h x)) 2 3 l (nI t)) 2 4 l 0) 2 4 l = 0 := up3_same _ _ _ _ _
    have D4 : (up3 (up3 (up3 (up3 σ 2 0 8 (nI (x + 1))) 2 2 l (h x)) 2 3 l (nI t)) 2 4 l 0) 2 2 l = h x := by rw [up3_j (by decide), up3_j (by decide), up3_same]
    have D5 : (up3 (up3 (up3 (up3 σ 2 0 8 (nI (x + 1))) 2 2 l (h x)) 2 3 l (nI t)) 2 4 l 0) 2 3 l = nI t := by rw [up3_j (by decide), up3_same]
    have D6 : ∀ m, m ≠ l → (up3 (up3 (up3 (up3 σ 2 0 8 (nI (x + 1))) 2 2 l (h x)) 2 3 l (nI t)) 2 4 l 0) 2 2 m = σ 2 2 m ∧ (up3 (up3 (up3 (up3 σ 2 0 8 (nI (x + 1))) 2 2 l (h x)) 2 3 l (nI t)) 2 4 l 0) 2 3 m = σ 2 3 m ∧ (up3 (up3 (up3 (up3 σ 2 0 8 (nI (x + 1))) 2 2 l (h x)) 2 3 l (nI t)) 2 4 l 0) 2 4 m = σ 2 4 m := by
      intro m hm
      refine ⟨?_, ?_, ?_⟩
      · rw [up3_j (by decide), up3_j (by decide), up3_i hm, up3_j (by decide)]
      · rw [up3_j (by decide), up3_i hm, up3_j (by decide), up3_j (by decide)]
      · rw [up3_i hm, up3_j (by decide), up3_j (by decide), up3_j (by decide)]
    have D7 : (up3 (up3 (up3 (up3 σ 2 0 8 (nI (x + 1))) 2 2 l (h x)) 2 3 l (nI t)) 2 4 l 0) 2 5 = σ 2 5 := by rw [up3_j (by decide), up3_j (by decide), up3_j (by decide), up3_j (by decide)]
    generalize (up3 (up3 (up3 (up3 σ 2 0 8 (nI (x + 1))) 2 2 l (h x)) 2 3 l (nI t)) 2 4 l 0) = ρ at K0 O0 D0 D1 D2 D3 D4 D5 D6 D7
    obtain ⟨g1, g2⟩ := lK_end (k := h x) hB (show x + 1 ≤ n by omega)
    have g1 : ∀ i, i < lKx h x → lCt h (h x) i (lP h (h x) (x + 1) i) ∧ lOk h (h x) i (lP h (h x) (x + 1) i) := g1
    have hb : x + 1 + 2 * lKx h x ≤ lPx h x ∧ lPx h x ≤ n := lP_bd hB (show x + 1 ≤ n by omega) _ g1
    obtain ⟨τ, ⟨k1, k2, k3, k4, k5, k6, k7, k8⟩, e⟩ := iter_to (f := fun z => B_X2_line_105 (nI (lLs (h x))) (if lFx (h x) then 1 else 0) (h x) z) (fun i τ => KpC σ τ ∧ τ 2 1 = σ 2 1 ∧ OkC τ (lP h (h x) (x + 1) i) ∧ τ 2 0 11 = nI l ∧ τ 2 0 12 = nI (t + i) ∧ τ 2 4 l = nI i ∧ (τ 2 2 = ρ 2 2 ∧ τ 2 3 = ρ 2 3 ∧ ∀ m, m ≠ l → τ 2 4 m = ρ 2 4 m) ∧ (∀ k, k < t → τ 2 5 k = σ 2 5 k) ∧ ∀ k, k < i → τ 2 5 (t + k) = lVl h (h x) k (lP h (h x) (x + 1) k)) (lKx h x) (by
      rintro i τ hi ⟨k1, k2, k3, k4, k5, k6, k7, k8, k9⟩
      have hb2 := lP_bd hB (show x + 1 ≤ n by omega) i (fun q hq => g1 q (by omega))
      have := (c_lineItem (k := h x) (k1.src S) k3 hb2.2 k4 (by omega) k6 (by omega) k5 (by omega)).2.1 (g1 i hi).1 (g1 i hi).2
      refine ⟨_, this, (((k1.u0 (by decide) (by decide) (by decide)).u0 (by decide) (by decide) (by decide)).uj (by decide)).uj (by decide), ?_, ?_, ?_, ?_, up3_same _ _ _ _ _, ⟨?_, ?_, ?_⟩, ?_, ?_⟩
      · rw [up3_j (by decide), up3_j (by decide), up3_j (by decide), up3_j (by decide), k2]
      · exact ((k3.at.u0 (by decide) (by decide)).uj (by decide)).uj (by decide)
      · rw [up3_j (by decide), up3_j (by decide), up3_i (by decide), up3_i (by decide), k4]
      · rw [up3_j (by decide), up3_j (by decide), up3_same, Nat.add_assoc]
      · rw [up3_j (by decide), up3_j (by decide), up3_j (by decide), up3_j (by decide), k7.1]
      · rw [up3_j (by decide), up3_j (by decide), up3_j (by decide), up3_j (by decide), k7.2.1]
      · intro m hm
        rw [up3_i hm, up3_j (by decide), up3_j (by decide), up3_j (by decide), k7.2.2 m hm]
      · intro k hk
        rw [up3_j (by decide), up3_i (by omega), up3_j (by decide), up3_j (by decide), k8 k hk]
      · intro k hk
        by_cases z : k = i
        · rw [z, up3_j (by decide), up3_same]
        · rw [up3_j (by decide), up3_i (by omega), up3_j (by decide), up3_j (by decide), k9 k (by omega)]) ρ ⟨K0, D0, O0, D1, D2, D3, ⟨rfl, rfl, fun _ _ => rfl⟩, fun k _ => by rw [D7], fun k hk => absurd hk (Nat.not_lt_zero k)⟩
    obtain ⟨k8, k9⟩ := k8
    have k3 : OkC τ (lPx h x) := k3
    rw [e]
    obtain ⟨f1, f2, f3⟩ := c_lineItem (k := h x) (k1.src S) k3 hb.2 k4 (by omega) k6 (by omega) k5 (by omega)
    unfold lnS
    rw [if_pos q1]
    by_cases q2 : lCt h (h x) (lKx h x) (lPx h x)
    · obtain ⟨b, hb1, f4⟩ := f3 q2 (fun z => g2 ⟨q2, z⟩)
      rw [iter_inl f4, if_pos q2]
      have hw : (if h (lPx h x) = 32 then lPx h x + 1 else lPx h x) ≤ n := by
        by_cases z : h (lPx h x) = 32
        · rw [if_pos z]
          have : lPx h x < n := hB.lt (by rw [z]; decide)
          omega
        · rw [if_neg z]; exact hb.2
      have hneg : ¬ (up3 (up3 τ 2 0 8 (nI b)) 2 0 9 (nI (if h (lPx h x) = 32 then lPx h x + 1 else lPx h x))) 2 0 9 < 0 := by rw [up3_same]; exact nI_pos (by omega)
      have e2 : iter (fun z => B_X2_line_105 (nI (lLs (h x))) (if lFx (h x) then 1 else 0) (h x) z) (up3 (up3 τ 2 0 8 (nI b)) 2 0 9 (nI (if h (lPx h x) = 32 then lPx h x + 1 else lPx h x))) = some (up3 (up3 τ 2 0 8 (nI b)) 2 0 9 (nI (if h (lPx h x) = 32 then lPx h x + 1 else lPx h x))) := by
        refine iter_inr ?_
        unfold B_X2_line_105
        rw [if_neg hneg]
      have C2 : CuC (up3 (up3 (up3 τ 2 0 8 (nI b)) 2 0 9 (nI (if h (lPx h x) = 32 then lPx h x + 1 else lPx h x))) 2 0 8 ((up3 (up3 τ 2 0 8 (nI b)) 2 0 9 (nI (if h (lPx h x) = 32 then lPx h x + 1 else lPx h x))) 2 0 8 + 1)) n (.inr (if h (lPx h x) = 32 then lPx h x + 1 else lPx h x)) := CuC.inc (up3_same _ _ _ _ _) hw hb1 (by rw [up3_i (by decide), up3_same])
      rw [e2, some_b, if_neg hneg, some_b, nst_b, if_neg (C2.neg (by omega))]
      refine Ret.some ⟨((k1.u0 (by decide) (by decide) (by decide)).u0 (by decide) (by decide) (by decide)).u0 (by decide) (by decide) (by decide), ?_, C2, ?_⟩
      · rw [up3_j (by decide), up3_j (by decide), up3_j (by decide), k2]
      · intro e he
        cases he
    · rw [iter_inr (f1 q2), some_b, if_neg q2, if_pos (by rw [k3.2]; decide), c_here (k1.src S) k3.1 (by omega), some_b]
      show Ret _ (fun τ => _ ∧ _ ∧ CuC τ n (if h (lPx h x) = 59 then .inl (lPx h x + 1) else .inr (lPx h x)) ∧ ∀ e, (if h (lPx h x) = 59 then Sum.inl (lPx h x + 1) else Sum.inr (lPx h x)) = Sum.inl e → _)
      by_cases q3 : h (lPx h x) = 59
      · have hp : lPx h x < n := hB.lt (by rw [q3]; decide)
        rw [if_pos q3, some_b, nst_b, up3_i (by decide), if_pos (by rw [k3.2]; decide), nst_b, if_pos q3, k3.1, nI_1, up3_i (by decide), k4, nI_1]
        refine Ret.some ⟨(k1.u0 (by decide) (by decide) (by decide)).u0 (by decide) (by decide) (by decide), ?_, ⟨k3.at.u0 (by decide) (by decide), by omega⟩, ?_⟩
        · rw [up3_j (by decide), up3_j (by decide), k2]
        · intro e he
          refine ⟨up3_same _ _ _ _ _, ?_, ⟨?_, ?_, ?_⟩, ?_, ?_, ?_⟩
          · rw [up3_i (by decide), up3_i (by decide), k5]
          · rw [up3_j (by decide), up3_j (by decide), k7.1, D4]
          · rw [up3_j (by decide), up3_j (by decide), k7.2.1, D5]
          · rw [up3_j (by decide), up3_j (by decide), k6]
          · intro i hi
            rw [up3_j (by decide), up3_j (by decide), k9 i hi]
          · intro m hm
            refine ⟨?_, ?_, ?_⟩
            · rw [up3_j (by decide), up3_j (by decide), k7.1, (D6 m hm).1]
            · rw [up3_j (by decide), up3_j (by decide), k7.2.1, (D6 m hm).2.1]
            · rw [up3_j (by decide), up3_j (by decide), k7.2.2 m hm, (D6 m hm).2.2]
          · intro i hi
            rw [up3_j (by decide), up3_j (by decide), k8 i hi]
      · rw [if_neg q3]
        unfold F_X2_fail
        rw [if_pos (by rw [k3.2]; decide), nst_b, some_b, some_b, nst_b, if_neg q3, k3.1]
        have C2 : CuC (up3 (up3 τ 2 0 9 (nI (lPx h x))) 2 0 8 ((up3 τ 2 0 9 (nI (lPx h x))) 2 0 8 + 1)) n (.inr (lPx h x)) := CuC.inc (up3_same _ _ _ _ _) hb.2 hb.2 (by rw [up3_i (by decide)]; exact k3.1)
        rw [if_neg (C2.neg (by omega))]
        refine Ret.some ⟨(k1.u0 (by decide) (by decide) (by decide)).u0 (by decide) (by decide) (by decide), ?_, C2, ?_⟩
        · rw [up3_j (by decide), up3_j (by decide), k2]
        · intro e he
          cases he
  · have n1 : ¬ h x = 112 := fun z => q1 (Or.inl z)
    have n2 : ¬ h x = 115 := fun z => q1 (Or.inr (Or.inl z))
    have n3 : ¬ h x = 97 := fun z => q1 (Or.inr (Or.inr (Or.inl z)))
    have n4 : ¬ h x = 99 := fun z => q1 (Or.inr (Or.inr (Or.inr z)))
    rw [if_neg n1, if_neg n2, if_neg n3, if_neg n4]
    unfold F_X2_fail lnS
    rw [if_pos (by rw [O.2]; decide), nst_b, some_b, bindL_inr, if_neg q1, O.1]
    refine Ret.some ⟨(KpC.rf σ).u0 (by decide) (by decide) (by decide), up3_j (by decide), O.bad hx (by omega), ?_⟩
    intro e he
    cases he
/-- where lines begin, how many numbers stand ahead of them -/
noncomputable def lX (h : Nat → Int32) (x0 : Nat) : Nat → Nat
  | 0 => x0
  | l + 1 => Sum.elim id (fun _ => lX h x0 l) (lnS h (lX h x0 l))
noncomputable def lT (h : Nat → Int32) (x0 : Nat) : Nat → Nat
  | 0 => 0
  | l + 1 => lT h x0 l + lKx h (lX h x0 l)
def lAll (h : Nat → Int32) (n x0 M : Nat) : Prop := ∀ l, l < M → (l = 0 ∨ lX h x0 l < n) ∧ lnS h (lX h x0 l) = .inl (lX h x0 (l + 1))
theorem lX_bd {h : Nat → Int32} {n x0 : Nat} (B : Byt h n) (hx : x0 ≤ n) : ∀ M, lAll h n x0 M → x0 + 2 * M + 2 * lT h x0 M ≤ lX h x0 M ∧ lX h x0 M ≤ n := by
  intro M
  induction M with
  | zero => intro _; exact ⟨Nat.le_refl _, hx⟩
  | succ M ih =>
    intro hA
    obtain ⟨h1, h2⟩ := ih (fun l hl => hA l (by omega))
    obtain ⟨-, -, -, -, h3, h4⟩ := lnS_ok B h2 (hA M (by omega)).2
    rw [lT]
    omega
def lStop (h : Nat → Int32) (n x0 M : Nat) : Prop := lAll h n x0 M ∧ ((1 ≤ M ∧ ¬ lX h x0 M < n) ∨ ((M = 0 ∨ lX h x0 M < n) ∧ ∃ w, lnS h (lX h x0 M) = .inr w))
theorem lStop_ex {h : Nat → Int32} {n x0 : Nat} (B : Byt h n) (hx : x0 ≤ n) : ∃ M, lStop h n x0 M := by
  have key : ∀ d M, M + d = n + 1 → lAll h n x0 M → ∃ M, lStop h n x0 M := by
    intro d
    induction d with
    | zero =>
      intro M hM hA
      have := lX_bd B hx M hA
      omega
    | succ d ih =>
      intro M hM hA
      by_cases q : M = 0 ∨ lX h x0 M < n
      · cases e : lnS h (lX h x0 M) with
        | inr w => exact ⟨M, hA, Or.inr ⟨q, w, e⟩⟩
        | inl y =>
          refine ih (M + 1) (by omega) ?_
          intro l hl
          by_cases z : l = M
          · rw [z]
            refine ⟨q, ?_⟩
            rw [lX, e]
            rfl
          · exact hA l (by omega)
      · exact ⟨M, hA, Or.inl ⟨by omega, fun z => q (Or.inr z)⟩⟩
  exact key (n + 1) 0 (by omega) (fun l hl => absurd hl (Nat.not_lt_zero l))
/-- the component's proof: M lines -/
def LnC (τ : St) (h : Nat → Int32) (x0 M : Nat) : Prop := τ 2 0 11 = nI M ∧ τ 2 0 12 = nI (lT h x0 M) ∧ ∀ l, l < M → (τ 2 2 l = h (lX h x0 l) ∧ τ 2 3 l = nI (lT h x0 l) ∧ τ 2 4 l = nI (lKx h (lX h x0 l))) ∧ ∀ i, i < lKx h (lX h x0 l) → τ 2 5 (lT h x0 l + i) = lVl h (h (lX h x0 l)) i (lP h (h (lX h x0 l)) (lX h x0 l + 1) i)
theorem lT_mono {h : Nat → Int32} {x0 : Nat} : ∀ {M l : Nat}, l < M → lT h x0 l + lKx h (lX h x0 l) ≤ lT h x0 M := by
  intro M
  induction M with
  | zero => intro l hl; omega
  | succ M ih =>
    intro l hl
    rw [lT]
    by_cases e : l = M
    · subst e; exact Nat.le_refl _
    · have := ih (l := l) (by omega); omega
theorem c_lines {σ : St} {j n x0 M : Nat} {h : Nat → Int32} (S : SrcC σ j n h) (O : OkC σ x0) (hx : x0 ≤ n) (hl : σ 2 0 11 = 0) (ht : σ 2 0 12 = 0) (hM : lStop h n x0 M) : Ret (iter (fun z => B_X2_read_179 z) σ) (fun τ => KpC σ τ ∧ τ 2 1 = σ 2 1 ∧ ((1 ≤ M ∧ ¬ lX h x0 M < n) → CuC τ n (.inl (lX h x0 M)) ∧ LnC τ h x0 M) ∧ ∀ w, (M = 0 ∨ lX h x0 M < n) → lnS h (lX h x0 M) = .inr w → CuC τ n (.inr w)) := by
  have hj := lenB_le (j := j)
  have hn := S.2.2.2.1
  have hB := S.2.2.2.2.1
  obtain ⟨hA, hE⟩ := hM
  have hbM := lX_bd hB hx M hA
  obtain ⟨τ, ⟨k1, k2, k3, k4⟩, e⟩ := iter_to (f := fun z => B_X2_read_179 z) (fun l τ => KpC σ τ ∧ τ 2 1 = σ 2 1 ∧ OkC τ (lX h x0 l) ∧ LnC τ h x0 l) M (by
    rintro l τ hl2 ⟨k1, k2, k3, k4, k5, k6⟩
    have hb := lX_bd hB hx l (fun q hq => hA q (by omega))
    obtain ⟨q1, q2⟩ := hA l hl2
    obtain ⟨υ, e1, e2, e3, e4, e5⟩ := c_line (k1.src S) k3 hb.2 k4 (by omega) k5 (by omega)
    obtain ⟨f1, f2, f3, f4, f5, f6⟩ := e5 _ q2
    rw [q2] at e4
    refine ⟨υ, ?_, k1.tr e2, e3.trans k2, e4.1, f1, f2, ?_⟩
    · show B_X2_read_179 τ = _
      unfold B_X2_read_179
      have ec : (if τ 2 0 11 = 0 then some (Sum.inl ()) else (if (τ 2 0 8) < (τ 2 0 7) then some (.inl ()) else some (.inr (.inr τ)))) = (some (.inl ()) : Option (Unit ⊕ (St ⊕ St))) := by
        rw [k4, k3.1, (k1.src S).2.2.1]
        rcases q1 with z | z
        · rw [z, if_pos (show nI 0 = 0 from rfl)]
        · rw [if_pos (nI_lt z (by omega))]
          by_cases y : nI l = 0
          · rw [if_pos y]
          · rw [if_neg y]
      rw [if_pos (by rw [k3.2]; decide), ec, bindL_inl, e1, some_b]
    · intro m hm
      by_cases z : m = l
      · subst z
        exact ⟨f3, f4⟩
      · obtain ⟨g1, g2⟩ := k6 m (by omega)
        obtain ⟨w1, w2, w3⟩ := f5 m z
        refine ⟨⟨w1.trans g1.1, w2.trans g1.2.1, w3.trans g1.2.2⟩, ?_⟩
        intro i hi
        have := lT_mono (h := h) (x0 := x0) (M := l) (l := m) (by omega)
        rw [f6 _ (by omega), g2 i hi]) σ ⟨KpC.rf σ, rfl, O, hl, ht, fun l hl => absurd hl (Nat.not_lt_zero l)⟩
  rw [e]
  have k4' := k4
  obtain ⟨k41, k42, k43⟩ := k4'
  rcases hE with ⟨m1, m2⟩ | ⟨m1, w, m2⟩
  · have ei : B_X2_read_179 τ = some (.inr τ) := by
      unfold B_X2_read_179
      rw [if_pos (by rw [k3.2]; decide), k41, k3.1, (k1.src S).2.2.1, if_neg (nI_ne0 (by omega) (by omega)), if_neg (nI_nlt (by omega) (by omega)), bindL_inr]
    refine ⟨τ, iter_inr ei, k1, k2, fun _ => ⟨⟨k3, hbM.2⟩, k4⟩, ?_⟩
    intro w hc
    exact absurd hc (by omega)
  · obtain ⟨υ, e1, e2, e3, e4, e5⟩ := c_line (k1.src S) k3 hbM.2 k41 (by omega) k42 (by omega)
    rw [m2] at e4
    have ei : B_X2_read_179 τ = some (.inl υ) := by
      unfold B_X2_read_179
      have ec : (if τ 2 0 11 = 0 then some (Sum.inl ()) else (if (τ 2 0 8) < (τ 2 0 7) then some (.inl ()) else some (.inr (.inr τ)))) = (some (.inl ()) : Option (Unit ⊕ (St ⊕ St))) := by
        rw [k41, k3.1, (k1.src S).2.2.1]
        rcases m1 with z | z
        · rw [z, if_pos (show nI 0 = 0 from rfl)]
        · rw [if_pos (nI_lt z (by omega))]
          by_cases y : nI M = 0
          · rw [if_pos y]
          · rw [if_neg y]
      rw [if_pos (by rw [k3.2]; decide), ec, bindL_inl, e1, some_b]
    have ei2 : B_X2_read_179 υ = some (.inr υ) := by
      unfold B_X2_read_179
      rw [if_neg (e4.neg (by omega))]
    rw [iter_inl ei]
    refine ⟨υ, iter_inr ei2, k1.tr e2, e3.trans k2, fun hc => absurd hc.2 (by omega), ?_⟩
    intro w' _ hw
    rw [m2] at hw
    injection hw with hw
    rw [← hw]
    exact e4
