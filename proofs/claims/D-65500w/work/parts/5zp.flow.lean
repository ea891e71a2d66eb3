/-! S11: flows of the model, whole -/
set_option maxRecDepth 100000
theorem m_streetFrom {τ : St} {m : Nat → Int32} {f : Nat → Int} {b p : Nat} (hw : WF m) (hb : b < cn (m 0)) (hm : τ 20 1 = m) (F : FlM τ m f) (FI : FlI m f) (D : HdM τ m f b) (hp : p < cn (m 0)) (h : hf (Rs m f) b p) (hpb : p ≠ b) : F_X12_streetFrom (nI p) τ = some (nI (nS m f b p)) := by
  have b0 := hw.1.1.2
  have b1 := hw.2.1.2
  obtain ⟨⟨n1, n2, n3⟩, n4⟩ := nS_ok h hpb
  have hd7 := hd_7 (E := Rs m f) (fun p q hpq => Rs_lt hw hpq) hb hp h
  have hd1 : 1 ≤ hd (Rs m f) b p := by omega
  have dd : ∀ q, q < cn (m 0) → hd (Rs m f) b q = 1000000 ∨ hd (Rs m f) b q < 8 := fun q hq => by
    by_cases z : hf (Rs m f) b q
    · have := hd_7 (E := Rs m f) (fun p q hpq => Rs_lt hw hpq) hb hq z
      omega
    · exact Or.inl (hd_none z)
  have otb : ∀ k, k < cn (m 1) → ot m k p < cn (m 0) := fun k hk => by
    obtain ⟨⟨pa, pb, -⟩, -⟩ := pipe hw hk
    unfold ot; split <;> omega
  have ep : dI (hd (Rs m f) b p) - (1 : Int32) = nI (hd (Rs m f) b p - 1) := by
    rw [dI_fin (by omega)]
    exact nI_sub (b := 1) hd1
  have eq : ∀ q, q < cn (m 0) → (dI (hd (Rs m f) b q) = nI (hd (Rs m f) b p - 1) ↔ hd (Rs m f) b q + 1 = hd (Rs m f) b p) := fun q hq => by
    rcases dd q hq with z | z
    · rw [z, dI_far]
      refine ⟨fun y => ?_, fun y => by omega⟩
      have : nI (hd (Rs m f) b p - 1) < 0 := by rw [← y]; decide
      exact absurd this (nI_pos (by omega))
    · rw [dI_fin (by omega), nI_eq (by omega) (by omega)]
      omega
  have z0 : ∀ k, k < cn (m 1) → (zI (rm m f k p) = 0 ↔ ¬ 0 < rm m f k p) := fun k hk => by
    obtain ⟨r1, r2⟩ := rm_nn (p := p) hw FI hk
    rw [← zI_0, zI_eq (by unfold zB; omega) (by unfold zB; omega)]
    omega
  unfold F_X12_streetFrom
  have key := iter_row (f := fun z => B_X12_streetFrom_2 (nI p) z τ) (fun k => nI k) (nS m f b p) (nI (nS m f b p)) ?_ ?_ 0 (Nat.zero_le _)
  · rw [show (0 : Int32) = nI 0 from rfl, key, some_b]
  · intro k hk
    have hkS : k < cn (m 1) := by omega
    show B_X12_streetFrom_2 (nI p) (nI k) τ = _
    unfold B_X12_streetFrom_2
    rw [m_room hw hm F hkS (by omega), some_b]
    by_cases q : 0 < rm m f k p
    · have hne : ¬ hd (Rs m f) b (ot m k p) + 1 = hd (Rs m f) b p := fun z => n4 k hk ⟨hkS, q, z⟩
      have hob := otb k hkS
      rw [if_neg (fun z => (z0 k hkS).mp z q), m_oth hw hm hkS (by omega), some_b, rdo_nI (by omega) (by decide), some_b, rdo_nI (by omega) (by decide), some_b, D _ hob, D p hp, ep, if_neg (fun z => hne ((eq _ hob).mp z)), nI_1]
    · rw [if_pos ((z0 k hkS).mpr q), nI_1]
  · have hob := otb _ n1
    show B_X12_streetFrom_2 (nI p) (nI (nS m f b p)) τ = _
    unfold B_X12_streetFrom_2
    rw [m_room hw hm F n1 (by omega), some_b, if_neg (fun z => (z0 _ n1).mp z n2), m_oth hw hm n1 (by omega), some_b, rdo_nI (by omega) (by decide), some_b, rdo_nI (by omega) (by decide), some_b, D _ hob, D p hp, ep, if_pos ((eq _ hob).mpr n3)]
def FW3 (σ τ : St) : Prop := ∀ a b, ¬ (a = 20 ∧ (b = 52 ∨ b = 53 ∨ b = 54)) → τ a b = σ a b
theorem FW3.tr {σ τ υ : St} (f : FW3 σ τ) (g : FW3 τ υ) : FW3 σ υ := fun a b h => (g a b h).trans (f a b h)
theorem FW3.of {σ τ : St} {j : Nat} (f : Fr σ τ 20 j) (hj : j = 52 ∨ j = 53 ∨ j = 54) : FW3 σ τ := fun a b h => f a b (fun z => h ⟨z.1, by rw [z.2]; exact hj⟩)
theorem m_turn {σ : St} {m : Nat → Int32} {f : Nat → Int} {a b : Nat} (hw : WF m) (ha : a < cn (m 0)) (hb : b < cn (m 0)) (hab : a ≠ b) (hm : σ 20 1 = m) (F : FlM σ m f) (FI : FlI m f) (D : HdM σ m f b) : Ret (B_X12_findFlow_26 (nI a) (nI b) σ) (SumP (fun τ => hf (Rs m f) b a ∧ FW3 σ τ ∧ FlM τ m (aug m f a b) ∧ HdM τ m (aug m f a b) b) (fun τ => ¬ hf (Rs m f) b a ∧ τ = σ)) := by
  have b0 := hw.1.1.2
  have b1 := hw.2.1.2
  unfold B_X12_findFlow_26
  rw [rdo_nI (by omega) (by decide), some_b, D a ha]
  by_cases h : hf (Rs m f) b a
  · have D7 := hd_7 (E := Rs m f) (fun p q hpq => Rs_lt hw hpq) hb ha h
    have D1 : 1 ≤ hd (Rs m f) b a := by
      rcases Nat.eq_zero_or_pos (hd (Rs m f) b a) with z | z
      · have := (hd_some h).1
        rw [z] at this
        exact absurd this hab
      · exact z
    have B6 := btI_bd hw FI ha h (B0 := 100000) (by omega) (by omega)
    have zBb : ∀ i, i ≤ hd (Rs m f) b a → zB (btI m f a b 100000 i) := fun i hi => by
      obtain ⟨x1, x2, -, -⟩ := B6 i hi
      unfold zB; omega
    have zBr : ∀ k p, k < cn (m 1) → zB (rm m f k p) := fun k p hk => by
      obtain ⟨x1, x2⟩ := rm_nn (p := p) hw FI hk
      unfold zB; omega
    rw [dI_fin (by omega), if_neg (nI_pos (by omega))]
    have L1 := iter_row (f := fun z => B_X12_findFlow_42 (nI a) (nI b) z.1 z.2 σ) (fun i => (zI (btI m f a b 100000 i), nI (pth m f a b i))) (hd (Rs m f) b a) (zI (bt m f a b)) ?_ ?_ 0 (Nat.zero_le _)
    · rw [show ((100000 : Int32), nI a) = (zI (btI m f a b 100000 0), nI (pth m f a b 0)) from rfl, L1, some_b]
      refine Ret.bind (Q := fun υ => Fr σ υ 20 54 ∧ ∀ i, i < hd (Rs m f) b a → υ 20 54 (hd (Rs m f) b a - i) = nI (kk m f a b i)) ?_ ?_
      · refine iter_cnt (f := fun z => B_X12_findFlow_101 (nI a) (nI b) (zI (bt m f a b)) z.1 z.2) (fun i (υ : St) => (nI (pth m f a b i), υ)) (fun i υ => Fr σ υ 20 54 ∧ ∀ j, j < i → υ 20 54 (hd (Rs m f) b a - j) = nI (kk m f a b j)) (hd (Rs m f) b a) ?_ ?_ σ ⟨Fr.rf σ 20 54, fun j hj => absurd hj (Nat.not_lt_zero j)⟩
        · rintro i υ hi ⟨u1, u2⟩
          obtain ⟨p1, p2, p3⟩ := pth_ok hw ha h i (by omega)
          obtain ⟨nb, ⟨n1, n2, n3⟩, n4⟩ := pth_ns hw ha h hi
          have mυ : υ 20 1 = m := by rw [u1 20 1 (by omega)]; exact hm
          have Dυ : HdM υ m f b := fun p hp => by rw [u1 20 53 (by omega)]; exact D p hp
          have Fυ : FlM υ m f := F.fr (u1 20 52 (by omega))
          have ed : hd (Rs m f) b (pth m f a b i) = hd (Rs m f) b a - i := by omega
          show Ret (B_X12_findFlow_101 (nI a) (nI b) (zI (bt m f a b)) (nI (pth m f a b i)) υ) _
          unfold B_X12_findFlow_101
          rw [if_neg (show ¬ nI (pth m f a b i) = nI b by rw [nI_eq (by omega) (by omega)]; exact nb), m_streetFrom hw hb mυ Fυ FI Dυ p1 p2 nb, some_b, m_oth hw mυ n1 (by omega), some_b, rdo_nI (by omega) (by decide), some_b, Dυ _ p1, ed, dI_fin (by omega), wro_nI (by omega) (by decide), some_b]
          refine Ret.some ⟨_, rfl, u1.up _ _, fun j hj => ?_⟩
          by_cases e : j = i
          · rw [e, up3_same]
          · rw [up3_i (by omega)]; exact u2 j (by omega)
        · rintro υ ⟨u1, u2⟩
          show Ret (B_X12_findFlow_101 (nI a) (nI b) (zI (bt m f a b)) (nI (pth m f a b (hd (Rs m f) b a))) υ) _
          unfold B_X12_findFlow_101
          rw [pth_end hw ha h, if_pos rfl]
          exact ⟨_, rfl, u1, u2⟩
      · rintro υ ⟨u1, u2⟩
        have mυ : υ 20 1 = m := by rw [u1 20 1 (by omega)]; exact hm
        have Fυ : FlM υ m f := F.fr (u1 20 52 (by omega))
        rw [rdo_nI (by omega) (by decide), some_b, u1 20 53 (by omega), D a ha, dI_fin (by omega)]
        refine Ret.bind (Q := fun ρ => Fr υ ρ 20 52 ∧ FlM ρ m (aug m f a b)) ?_ ?_
        · refine iter_cnt (f := fun z => B_X12_findFlow_157 (nI a) (nI b) (zI (bt m f a b)) z.1 z.2.1 z.2.2) (fun i (ρ : St) => (nI (pth m f a b i), nI (hd (Rs m f) b a - i), ρ)) (fun i ρ => Fr υ ρ 20 52 ∧ FlM ρ m (psh m f a b i)) (hd (Rs m f) b a) ?_ ?_ υ ⟨Fr.rf υ 20 52, Fυ⟩
          · rintro i ρ hi ⟨r1, r2⟩
            obtain ⟨p1, p2, p3⟩ := pth_ok hw ha h i (by omega)
            obtain ⟨nb, ⟨n1, n2, n3⟩, n4⟩ := pth_ns hw ha h hi
            have n1' : nS m f b (pth m f a b i) < cn (m 1) := n1
            obtain ⟨⟨pa, pb, pne⟩, ⟨pea, peb, -⟩, -⟩ := pipe hw n1
            have mρ : ρ 20 1 = m := by rw [r1 20 1 (by omega)]; exact mυ
            have e54 : ρ 20 54 (hd (Rs m f) b a - i) = nI (kk m f a b i) := by rw [r1 20 54 (by omega)]; exact u2 i hi
            show Ret (B_X12_findFlow_157 (nI a) (nI b) (zI (bt m f a b)) (nI (pth m f a b i)) (nI (hd (Rs m f) b a - i)) ρ) _
            unfold B_X12_findFlow_157
            have z1 : (if nI (eA m (kk m f a b i)) = nI (pth m f a b i) then some ((1 : Int32)) else some ((0 : Int32))) = some (if eA m (kk m f a b i) = pth m f a b i then 1 else 0) := by
              by_cases q : eA m (kk m f a b i) = pth m f a b i
              · rw [if_pos (by rw [q]), if_pos q]
              · rw [if_neg (by rw [nI_eq (by omega) (by omega)]; exact q), if_neg q]
            have z2 : (if (if eA m (kk m f a b i) = pth m f a b i then (1 : Int32) else 0) = 0 then some (-zI (bt m f a b)) else some (zI (bt m f a b))) = some (zI (if eA m (kk m f a b i) = pth m f a b i then bt m f a b else -bt m f a b)) := by
              by_cases q : eA m (kk m f a b i) = pth m f a b i
              · rw [if_pos q, if_neg (show ¬ (1 : Int32) = 0 by decide), if_pos q]
              · rw [if_neg q, if_pos rfl, zI_neg, if_neg q]
            have ed : nI (hd (Rs m f) b a - i) + (-1 : Int32) = nI (hd (Rs m f) b a - (i + 1)) := by
              rw [show (-1 : Int32) = -nI 1 from rfl, ← Int32.sub_eq_add_neg, nI_sub (by omega), Nat.sub_sub]
            rw [if_pos (show (0 : Int32) < nI (hd (Rs m f) b a - i) from nI_lt (a := 0) (by omega) (by omega)), rdo_nI (by omega) (by decide), some_b, e54, m_street0 (by omega), some_b, mρ, pea, z1, some_b, m_oth hw mρ n1 (by omega), some_b, rdo_nI (by omega) (by decide), some_b, z2, some_b, r2 _ n1, zI_add, wro_nI (by omega) (by decide), some_b, ed]
            refine Ret.some ⟨_, rfl, r1.up _ _, fun k hk => ?_⟩
            show _ = zI (if k = kk m f a b i then _ else _)
            by_cases e : k = kk m f a b i
            · rw [if_pos e, e, up3_same]
            · rw [if_neg e, up3_i e]; exact r2 k hk
          · rintro ρ ⟨r1, r2⟩
            show Ret (B_X12_findFlow_157 (nI a) (nI b) (zI (bt m f a b)) _ (nI (hd (Rs m f) b a - hd (Rs m f) b a)) ρ) _
            unfold B_X12_findFlow_157
            rw [Nat.sub_self, if_neg (by decide)]
            exact ⟨_, rfl, r1, r2⟩
        · rintro ρ ⟨r1, r2⟩
          have mρ : ρ 20 1 = m := by rw [r1 20 1 (by omega)]; exact mυ
          refine Ret.bind (m_findFar hw hb mρ r2 (aug_ok hw FI ha h)) ?_
          rintro ω ⟨w1, w2⟩
          exact ⟨_, rfl, h, ((FW3.of u1 (by decide)).tr (FW3.of r1 (by decide))).tr (FW3.of w1 (by decide)), r2.fr (w1 20 52 (by omega)), w2⟩
    · intro i hi
      obtain ⟨p1, p2, p3⟩ := pth_ok hw ha h i (by omega)
      obtain ⟨nb, ⟨n1, n2, n3⟩, n4⟩ := pth_ns hw ha h hi
      show B_X12_findFlow_42 (nI a) (nI b) (zI (btI m f a b 100000 i)) (nI (pth m f a b i)) σ = _
      unfold B_X12_findFlow_42
      have ez : (if zI (rm m f (kk m f a b i) (pth m f a b i)) < zI (btI m f a b 100000 i) then some (zI (rm m f (kk m f a b i) (pth m f a b i))) else some (zI (btI m f a b 100000 i))) = some (zI (btI m f a b 100000 (i + 1))) := by
        have e1 : btI m f a b 100000 (i + 1) = min (btI m f a b 100000 i) (rm m f (kk m f a b i) (pth m f a b i)) := rfl
        by_cases q : rm m f (kk m f a b i) (pth m f a b i) < btI m f a b 100000 i
        · rw [if_pos ((zI_lt (zBr _ _ n1) (zBb i (by omega))).mpr q), e1, Int.min_eq_right (by omega)]
        · rw [if_neg (fun z => q ((zI_lt (zBr _ _ n1) (zBb i (by omega))).mp z)), e1, Int.min_eq_left (by omega)]
      rw [if_neg (show ¬ nI (pth m f a b i) = nI b by rw [nI_eq (by omega) (by omega)]; exact nb), m_streetFrom hw hb hm F FI D p1 p2 nb, some_b, m_room hw hm F n1 (by omega), some_b, some_b, m_room hw hm F n1 (by omega), some_b, ez, some_b, some_b, m_oth hw hm n1 (by omega), some_b]
      rfl
    · show B_X12_findFlow_42 (nI a) (nI b) (zI (btI m f a b 100000 (hd (Rs m f) b a))) (nI (pth m f a b (hd (Rs m f) b a))) σ = _
      unfold B_X12_findFlow_42
      rw [pth_end hw ha h, if_pos rfl, (B6 _ (Nat.le_refl _)).2.2.1 D1]
  · rw [hd_none h, dI_far, if_pos (by decide)]
    exact ⟨_, rfl, h, rfl⟩
theorem m_findFlow {σ : St} {m : Nat → Int32} {a b : Nat} (hw : WF m) (ha : a < cn (m 0)) (hb : b < cn (m 0)) (hab : a ≠ b) (hm : σ 20 1 = m) : Ret (F_X12_findFlow (nI a) (nI b) σ) (fun τ => FW3 σ τ ∧ FlM τ m (ffl m a b)) := by
  have b1' := hw.2.1.2
  unfold F_X12_findFlow
  refine Ret.bind (Q := fun τ => Fr σ τ 20 52 ∧ FlM τ m (fun _ => 0)) ?_ ?_
  · refine iter_cnt (f := fun z => B_X12_findFlow_2 (nI a) (nI b) z.1 z.2) (fun k (τ : St) => (nI k, τ)) (fun k τ => Fr σ τ 20 52 ∧ ∀ j, j < k → τ 20 52 j = 0) 20 ?_ ?_ σ ⟨Fr.rf σ 20 52, fun j hj => absurd hj (Nat.not_lt_zero j)⟩
    · rintro k τ hk ⟨t1, t2⟩
      show Ret (B_X12_findFlow_2 (nI a) (nI b) (nI k) τ) _
      unfold B_X12_findFlow_2
      rw [if_pos (show nI k < (20 : Int32) from nI_lt (b := 20) hk (by decide)), wro_nI (by omega) (by decide), some_b, nI_1]
      refine Ret.some ⟨_, rfl, t1.up _ _, fun j hj => ?_⟩
      by_cases e : j = k
      · rw [e, up3_same]
      · rw [up3_i e]; exact t2 j (by omega)
    · rintro τ ⟨t1, t2⟩
      show Ret (B_X12_findFlow_2 (nI a) (nI b) (nI 20) τ) _
      unfold B_X12_findFlow_2
      rw [if_neg (by decide)]
      exact ⟨_, rfl, t1, fun k hk => t2 k (by omega)⟩
  rintro τ ⟨t1, t2⟩
  refine Ret.bind (m_findFar hw hb (by rw [t1 20 1 (by omega)]; exact hm) t2 (fl0 m)) ?_
  rintro υ ⟨u1, u2⟩
  have key : ∀ (n : Nat) f ρ, FlI m f → FW3 σ ρ → FlM ρ m f → HdM ρ m f b → 72000 < (n : Int) + ou m f a → Ret (iter (fun z => B_X12_findFlow_26 (nI a) (nI b) z) ρ) (fun ω => FW3 σ ω ∧ FlM ω m (augN m a b n f)) := by
    intro n
    induction n with
    | zero => intro f ρ FI _ _ _ hn; have := (ou_bd hw FI a).2; omega
    | succ n ih =>
      intro f ρ FI r1 r2 r3 hn
      obtain ⟨z, z1, z2⟩ := m_turn hw ha hb hab (by rw [r1 20 1 (by omega)]; exact hm) r2 FI r3
      cases z with
      | inl ω =>
        obtain ⟨h, w1, w2, w3⟩ := z2
        rw [iter_inl (f := fun z => B_X12_findFlow_26 (nI a) (nI b) z) (a := ρ) z1]
        have hb1 := (btI_bd hw FI ha h (B0 := 7200) (by omega) (by omega) (hd (Rs m f) b a) (Nat.le_refl _)).1
        have hb1' : 0 < bt m f a b := hb1
        have e := aug_ou hw ha hab h
        have := ih (aug m f a b) ω (aug_ok hw FI ha h) (r1.tr w1) w2 w3 (by omega)
        rw [augN, if_pos h]
        exact this
      | inr ω =>
        obtain ⟨h, w1⟩ := z2
        rw [iter_inr (f := fun z => B_X12_findFlow_26 (nI a) (nI b) z) (a := ρ) z1, augN, if_neg h, w1]
        exact Ret.some ⟨r1, r2⟩
  refine Ret.bind (key 72001 (fun _ => 0) υ (fl0 m) ((FW3.of t1 (by decide)).tr (FW3.of u1 (by decide))) (t2.fr (u1 20 52 (by omega))) u2 (by rw [ou0]; omega)) (fun ρ h => Ret.some h)
theorem m_out0 {σ : St} {m : Nat → Int32} {f : Nat → Int} {v : Nat} (hw : WF m) (hm : σ 20 1 = m) (x : Int32) (h52 : ∀ k, k < cn (m 1) → (if x = 0 then (rdo σ 20 52 20 (nI k)).bind (fun r1002 => some r1002) else (rdo σ 20 30 1700 (nI k)).bind (fun r1003 => some r1003)) = some (zI (f k))) (hv : v < 100) : F_X12_out (nI v) x σ = some (zI (ou m f v)) := by
  have b1 := hw.2.1
  have b1' := b1.2
  have b0 := hw.1.1.2
  unfold F_X12_out
  have key := iter_row (f := fun z => B_X12_out_5 (nI v) x z.1 z.2 σ) (fun k => (zI (sumZ (fun k => cf m k v * f k) k), nI k)) (cn (m 1)) (zI (ou m f v)) ?_ ?_ 0 (Nat.zero_le _)
  · rw [show ((0 : Int32), (0 : Int32)) = (zI (sumZ (fun k => cf m k v * f k) 0), nI 0) from rfl, key, some_b]
  · intro k hk
    obtain ⟨⟨pa, pb, pne⟩, ⟨pea, peb, -⟩, -⟩ := pipe hw hk
    have lt : nI k < m 1 := by rw [b1.1]; exact nI_lt hk (by omega)
    have es : sumZ (fun k => cf m k v * f k) (k + 1) = sumZ (fun k => cf m k v * f k) k + cf m k v * f k := rfl
    show B_X12_out_5 (nI v) x (zI (sumZ (fun k => cf m k v * f k) k)) (nI k) σ = _
    unfold B_X12_out_5
    rw [m_rd1, some_b, hm, if_pos lt, h52 k hk, some_b, m_street0 (by omega), some_b, hm, pea, m_street1 (by omega), hm, peb, es]
    generalize sumZ (fun k => cf m k v * f k) k = S
    unfold cf
    by_cases q : eA m k = v
    · rw [if_pos (by rw [q]), nmo_b, zI_add, some_b, some_b, if_neg (show ¬ nI (eB m k) = nI v by rw [nI_eq (by omega) (by omega)]; omega), if_pos q, Int.one_mul, nI_1]
    · rw [if_neg (show ¬ nI (eA m k) = nI v by rw [nI_eq (by omega) (by omega)]; exact q), some_b, some_b, if_neg q]
      by_cases r : eB m k = v
      · rw [if_pos (by rw [r]), nmo_b, zI_sub, if_pos r, nI_1, show S + -1 * f k = S - f k by omega]
      · rw [if_neg (show ¬ nI (eB m k) = nI v by rw [nI_eq (by omega) (by omega)]; exact r), if_neg r, Int.zero_mul, Int.add_zero, nI_1]
  · have nlt : ¬ nI (cn (m 1)) < m 1 := by
      conv => rhs; rhs; rw [b1.1]
      exact nI_nlt (Nat.le_refl _) (by omega)
    show B_X12_out_5 (nI v) x _ (nI (cn (m 1))) σ = _
    unfold B_X12_out_5
    rw [m_rd1, some_b, hm, if_neg nlt]
    rfl
