/-! S11: flows of the component, whole -/
set_option maxRecDepth 100000
theorem imin_zI {a b : Int} (ha : zB a) (hb : zB b) : imin (zI a) (zI b) = zI (min a b) := by
  unfold imin
  by_cases q : a ≤ b
  · rw [Int.min_eq_left q]
    have : zI a ≤ zI b := by
      rw [Int32.le_iff_toInt_le]
      unfold zB at ha hb
      rw [zI_toInt (by omega) (by omega), zI_toInt (by omega) (by omega)]
      exact q
    grind
  · rw [Int.min_eq_right (by omega)]
    have : ¬ zI a ≤ zI b := by
      rw [Int32.le_iff_toInt_le]
      unfold zB at ha hb
      rw [zI_toInt (by omega) (by omega), zI_toInt (by omega) (by omega)]
      omega
    grind
def HdC (τ : St) (m : Nat → Int32) (f : Nat → Int) (b : Nat) : Prop := ∀ p, p < cn (m 0) → τ 9 2 p = nI (hd (Rs m f) b p)
theorem c_next {τ : St} {m : Nat → Int32} {f : Nat → Int} {b p : Nat} (hw : WF m) (hb : b < cn (m 0)) (hc : HC (τ 3) m) (F : FlC τ m f) (FI : FlI m f) (D : HdC τ m f b) (hp : p < cn (m 0)) (h : hf (Rs m f) b p) (hpb : p ≠ b) : F_X7_next 3 (nI p) τ = some (nI (nS m f b p)) := by
  have b0 := hw.1.1.2
  have b1 := hw.2.1.2
  obtain ⟨⟨n1, n2, n3⟩, n4⟩ := nS_ok h hpb
  have hd7 := hd_7 (E := Rs m f) (fun p q hpq => Rs_lt hw hpq) hb hp h
  have dd : ∀ q, q < cn (m 0) → hd (Rs m f) b q ≤ 1000000 := fun q hq => by
    by_cases z : hf (Rs m f) b q
    · have := hd_7 (E := Rs m f) (fun p q hpq => Rs_lt hw hpq) hb hq z
      omega
    · rw [hd_none z]; exact Nat.le_refl _
  have otb : ∀ k, k < cn (m 1) → ot m k p < cn (m 0) := fun k hk => by
    obtain ⟨⟨pa, pb, -⟩, -⟩ := pipe hw hk
    unfold ot; split <;> omega
  unfold F_X7_next
  have key := iter_row (f := fun z => B_X7_next_2 3 (nI p) z τ) (fun k => nI k) (nS m f b p) (nI (nS m f b p)) ?_ ?_ 0 (Nat.zero_le _)
  · rw [show (0 : Int32) = nI 0 from rfl, key, some_b]
  · intro k hk
    have hkS : k < cn (m 1) := by omega
    obtain ⟨r1, r2⟩ := rm_nn (p := p) hw FI hkS
    show B_X7_next_2 3 (nI p) (nI k) τ = _
    unfold B_X7_next_2
    rw [c_room hw hc F hkS (by omega), some_b]
    by_cases q : 0 < rm m f k p
    · have hne : ¬ hd (Rs m f) b (ot m k p) + 1 = hd (Rs m f) b p := fun z => n4 k hk ⟨hkS, q, z⟩
      have hob := otb k hkS
      have hod := dd _ hob
      rw [if_pos ((zI_pos (by unfold zB; omega)).mpr q), c_other hw hc hkS (by omega), some_b, rdo_nI (by omega) (by decide), some_b, rdo_nI (by omega) (by decide), some_b, D _ hob, D p hp, nI_1, if_neg (by rw [nI_eq (by omega) (by omega)]; exact hne), nI_1]
    · rw [if_neg (fun z => q ((zI_pos (by unfold zB; omega)).mp z)), nI_1]
  · obtain ⟨r1, r2⟩ := rm_nn (p := p) hw FI n1
    have hob := otb _ n1
    have hod := dd _ hob
    show B_X7_next_2 3 (nI p) (nI (nS m f b p)) τ = _
    unfold B_X7_next_2
    rw [c_room hw hc F n1 (by omega), some_b, if_pos ((zI_pos (by unfold zB; omega)).mpr n2), c_other hw hc n1 (by omega), some_b, rdo_nI (by omega) (by decide), some_b, rdo_nI (by omega) (by decide), some_b, D _ hob, D p hp, nI_1, if_pos (by rw [n3])]
/-- what a turn of the component's loop does -/
def F9 (σ τ : St) : Prop := ∀ a, a ≠ 9 → τ a = σ a
theorem c_turn {σ : St} {m : Nat → Int32} {f : Nat → Int} {a b : Nat} (hw : WF m) (ha : a < cn (m 0)) (hb : b < cn (m 0)) (hab : a ≠ b) (hc : HC (σ 3) m) (F : FlC σ m f) (FI : FlI m f) (h03 : σ 9 0 3 = zI (ou m f a)) : Ret (B_X7_find_31 3 (nI a) (nI b) σ) (SumP (fun τ => hf (Rs m f) b a ∧ F9 σ τ ∧ FlC τ m (aug m f a b) ∧ τ 9 0 3 = zI (ou m (aug m f a b) a)) (fun τ => ¬ hf (Rs m f) b a ∧ F9 σ τ ∧ FlC τ m f ∧ τ 9 0 3 = σ 9 0 3)) := by
  have b0 := hw.1.1.2
  have b1 := hw.2.1.2
  unfold B_X7_find_31
  refine Ret.bind (c_fmeas hw ha hb hc F FI) ?_
  rintro ⟨fl, τ⟩ ⟨t1, t2, t3⟩
  have t1 : Fr σ τ 9 2 := t1
  have t2 : HdC τ m f b := t2
  have t3 : (hf (Rs m f) b a ∧ fl = 1) ∨ (¬ hf (Rs m f) b a ∧ fl = 0) := t3
  have F9τ : F9 σ τ := fun x hx => by funext j; exact t1 x j (by omega)
  have Fτ : FlC τ m f := F.fr (t1 9 1 (by omega))
  have hcτ : HC (τ 3) m := by rw [F9τ 3 (by decide)]; exact hc
  have e03 : τ 9 0 3 = σ 9 0 3 := by rw [t1 9 0 (by omega)]
  rcases t3 with ⟨h, e⟩ | ⟨h, e⟩
  · have e : fl = 1 := e
    subst e
    rw [if_neg (show ¬ (1 : Int32) = 0 by decide)]
    have D7 := hd_7 (E := Rs m f) (fun p q hpq => Rs_lt hw hpq) hb ha h
    have D1 : 1 ≤ hd (Rs m f) b a := by
      rcases Nat.eq_zero_or_pos (hd (Rs m f) b a) with z | z
      · have := (hd_some h).1
        rw [z] at this
        exact absurd this hab
      · exact z
    have B6 := btI_bd hw FI ha h (B0 := 1000000) (by omega) (by omega)
    have zBb : ∀ i, i ≤ hd (Rs m f) b a → zB (btI m f a b 1000000 i) := fun i hi => by
      obtain ⟨x1, x2, -, -⟩ := B6 i hi
      unfold zB; omega
    have zBr : ∀ k p, k < cn (m 1) → zB (rm m f k p) := fun k p hk => by
      obtain ⟨x1, x2⟩ := rm_nn (p := p) hw FI hk
      unfold zB; omega
    -- the narrowest place of the way
    have L1 := iter_row (f := fun z => B_X7_find_48 3 (nI a) (nI b) z.1 z.2 τ) (fun i => (zI (btI m f a b 1000000 i), nI (pth m f a b i))) (hd (Rs m f) b a) (zI (bt m f a b)) ?_ ?_ 0 (Nat.zero_le _)
    · rw [show ((1000000 : Int32), nI a) = (zI (btI m f a b 1000000 0), nI (pth m f a b 0)) from rfl, L1, some_b]
      -- the way is kept
      refine Ret.bind (Q := fun z => z.1 = nI (hd (Rs m f) b a) ∧ Fr τ z.2 9 3 ∧ ∀ i, i < hd (Rs m f) b a → z.2 9 3 i = nI (kk m f a b i)) ?_ ?_
      · refine iter_cnt (f := fun z => B_X7_find_99 3 (nI a) (nI b) (zI (bt m f a b)) z.1 z.2.1 z.2.2) (fun i (υ : St) => (nI i, nI (pth m f a b i), υ)) (fun i υ => Fr τ υ 9 3 ∧ ∀ j, j < i → υ 9 3 j = nI (kk m f a b j)) (hd (Rs m f) b a) ?_ ?_ τ ⟨Fr.rf τ 9 3, fun j hj => absurd hj (Nat.not_lt_zero j)⟩
        · rintro i υ hi ⟨u1, u2⟩
          obtain ⟨p1, p2, p3⟩ := pth_ok hw ha h i (by omega)
          obtain ⟨nb, ⟨n1, n2, n3⟩, n4⟩ := pth_ns hw ha h hi
          have hcυ : HC (υ 3) m := by rw [show υ 3 = τ 3 by funext j; exact u1 3 j (by omega)]; exact hcτ
          have Dυ : HdC υ m f b := fun p hp => by rw [u1 9 2 (by omega)]; exact t2 p hp
          show Ret (B_X7_find_99 3 (nI a) (nI b) (zI (bt m f a b)) (nI i) (nI (pth m f a b i)) υ) _
          unfold B_X7_find_99
          have hcw : HC (up3 υ 9 3 i (nI (kk m f a b i)) 3) m := by rw [up3_g (by decide)]; exact hcυ
          rw [if_neg (show ¬ nI (pth m f a b i) = nI b by rw [nI_eq (by omega) (by omega)]; exact nb), c_next hw hb hcυ (Fτ.fr (u1 9 1 (by omega))) FI Dυ p1 p2 nb, some_b, wro_nI (by omega) (by decide), some_b, show nI i + (1 : Int32) - (1 : Int32) = nI i by rw [nI_1]; exact nI_sub (a := i + 1) (b := 1) (by omega), rdo_nI (by omega) (by decide), some_b, up3_same, c_other hw hcw n1 (by omega), some_b, nI_1]
          refine Ret.some ⟨_, rfl, u1.up _ _, fun j hj => ?_⟩
          by_cases e : j = i
          · rw [e, up3_same]
          · rw [up3_i e]; exact u2 j (by omega)
        · rintro υ ⟨u1, u2⟩
          show Ret (B_X7_find_99 3 (nI a) (nI b) (zI (bt m f a b)) (nI (hd (Rs m f) b a)) (nI (pth m f a b (hd (Rs m f) b a))) υ) _
          unfold B_X7_find_99
          rw [pth_end hw ha h, if_pos rfl]
          exact ⟨_, rfl, rfl, u1, u2⟩
      · rintro ⟨n, υ⟩ ⟨u0, u1', u2'⟩
        have u0 : n = nI (hd (Rs m f) b a) := u0
        subst u0
        have u1 : Fr τ υ 9 3 := u1'
        have u2 : ∀ i, i < hd (Rs m f) b a → υ 9 3 i = nI (kk m f a b i) := u2'
        have hcυ : HC (υ 3) m := by rw [show υ 3 = τ 3 by funext j; exact u1 3 j (by omega)]; exact hcτ
        -- pushed along it
        refine Ret.bind (Q := fun ρ => Fr υ ρ 9 1 ∧ FlC ρ m (aug m f a b)) ?_ ?_
        · refine iter_cnt (f := fun z => B_X7_find_148 3 (nI a) (nI b) (zI (bt m f a b)) (nI (hd (Rs m f) b a)) z.1 z.2.1 z.2.2) (fun i (ρ : St) => (nI (pth m f a b i), nI i, ρ)) (fun i ρ => Fr υ ρ 9 1 ∧ FlC ρ m (psh m f a b i)) (hd (Rs m f) b a) ?_ ?_ υ ⟨Fr.rf υ 9 1, Fτ.fr (u1 9 1 (by omega))⟩
          · rintro i ρ hi ⟨r1, r2⟩
            obtain ⟨p1, p2, p3⟩ := pth_ok hw ha h i (by omega)
            obtain ⟨nb, ⟨n1, n2, n3⟩, n4⟩ := pth_ns hw ha h hi
            have n1' : nS m f b (pth m f a b i) < cn (m 1) := n1
            obtain ⟨⟨pa, pb, pne⟩, ⟨pea, peb, -⟩, -⟩ := pipe hw n1
            have hcρ : HC (ρ 3) m := by rw [show ρ 3 = υ 3 by funext j; exact r1 3 j (by omega)]; exact hcυ
            have e93 : ρ 9 3 i = nI (kk m f a b i) := by rw [r1 9 3 (by omega)]; exact u2 i hi
            show Ret (B_X7_find_148 3 (nI a) (nI b) (zI (bt m f a b)) (nI (hd (Rs m f) b a)) (nI (pth m f a b i)) (nI i) ρ) _
            unfold B_X7_find_148
            have ep : F_X7_push 3 (nI (kk m f a b i)) (nI (pth m f a b i)) (zI (bt m f a b)) ρ = some (up3 ρ 9 1 (kk m f a b i) (zI (psh m f a b i (kk m f a b i) + (if eA m (kk m f a b i) = pth m f a b i then bt m f a b else -bt m f a b)))) := by
              unfold F_X7_push
              rw [rdo_nI (by omega) (by decide), some_b, rdo_nI (by omega) (by decide), some_b, (hcρ.2.1 _ n1).1, pea, r2 _ n1]
              by_cases q : eA m (kk m f a b i) = pth m f a b i
              · rw [if_pos (by rw [q]), some_b, zI_add, wro_nI (by omega) (by decide), some_b, if_pos q]
              · rw [if_neg (by rw [nI_eq (by omega) (by omega)]; exact q), some_b, zI_neg, zI_add, wro_nI (by omega) (by decide), some_b, if_neg q]
            rw [if_pos (nI_lt hi (by omega)), rdo_nI (by omega) (by decide), some_b, e93, ep, some_b, rdo_nI (by omega) (by decide), some_b, up3_j (by decide), e93, c_other hw (by rw [up3_g (by decide)]; exact hcρ) n1 (by omega), some_b, nI_1]
            refine Ret.some ⟨_, rfl, r1.up _ _, fun k hk => ?_⟩
            show _ = zI (if k = kk m f a b i then _ else _)
            by_cases e : k = kk m f a b i
            · rw [if_pos e, e, up3_same]
            · rw [if_neg e, up3_i e]; exact r2 k hk
          · rintro ρ ⟨r1, r2⟩
            show Ret (B_X7_find_148 3 (nI a) (nI b) (zI (bt m f a b)) (nI (hd (Rs m f) b a)) _ (nI (hd (Rs m f) b a)) ρ) _
            unfold B_X7_find_148
            rw [if_neg (nI_nlt (Nat.le_refl _) (by omega))]
            exact ⟨_, rfl, r1, r2⟩
        · rintro ρ ⟨r1, r2⟩
          have e3 : ρ 9 0 3 = zI (ou m f a) := by rw [r1 9 0 (by omega), u1 9 0 (by omega), e03, h03]
          rw [nst_b, e3, zI_add, ← aug_ou hw ha hab h]
          refine ⟨_, rfl, h, fun x hx => ?_, fun k hk => ?_, up3_same _ _ _ _ _⟩
          · rw [up3_g hx]
            funext j
            rw [r1 x j (by omega), u1 x j (by omega), F9τ x hx]
          · rw [up3_j (by decide)]; exact r2 k hk
    · intro i hi
      obtain ⟨p1, p2, p3⟩ := pth_ok hw ha h i (by omega)
      obtain ⟨nb, ⟨n1, n2, n3⟩, n4⟩ := pth_ns hw ha h hi
      show B_X7_find_48 3 (nI a) (nI b) (zI (btI m f a b 1000000 i)) (nI (pth m f a b i)) τ = _
      unfold B_X7_find_48
      rw [if_neg (show ¬ nI (pth m f a b i) = nI b by rw [nI_eq (by omega) (by omega)]; exact nb), c_next hw hb hcτ Fτ FI t2 p1 p2 nb, some_b, c_room hw hcτ Fτ n1 (by omega), some_b, nmo_b, imin_zI (zBb i (by omega)) (zBr _ _ n1), some_b, c_other hw hcτ n1 (by omega), some_b]
      rfl
    · show B_X7_find_48 3 (nI a) (nI b) (zI (btI m f a b 1000000 (hd (Rs m f) b a))) (nI (pth m f a b (hd (Rs m f) b a))) τ = _
      unfold B_X7_find_48
      rw [pth_end hw ha h, if_pos rfl, (B6 _ (Nat.le_refl _)).2.2.1 D1]
  · have e : fl = 0 := e
    subst e
    rw [if_pos rfl]
    exact ⟨_, rfl, h, F9τ, Fτ, e03⟩
theorem c_find {σ : St} {m : Nat → Int32} {a b : Nat} (hw : WF m) (ha : a < cn (m 0)) (hb : b < cn (m 0)) (hab : a ≠ b) (hc : HC (σ 3) m) : Ret (F_X7_find 3 (nI a) (nI b) σ) (fun τ => F9 σ τ ∧ FlC τ m (ffl m a b) ∧ τ 9 0 3 = zI (ou m (ffl m a b) a) ∧ ¬ hf (Rs m (ffl m a b)) b a) := by
  have b1 := hw.2.1
  have b1' := b1.2
  unfold F_X7_find
  refine Ret.bind (Q := fun τ => F9 σ τ ∧ FlC τ m (fun _ => 0)) ?_ ?_
  · refine iter_cnt (f := fun z => B_X7_find_3 3 (nI a) (nI b) z.1 z.2) (fun k (τ : St) => (nI k, τ)) (fun k τ => F9 σ τ ∧ ∀ j, j < k → τ 9 1 j = 0) (cn (m 1)) ?_ ?_ σ ⟨fun _ _ => rfl, fun j hj => absurd hj (Nat.not_lt_zero j)⟩
    · rintro k τ hk ⟨t1, t2⟩
      have lt : nI k < m 1 := by rw [b1.1]; exact nI_lt hk (by omega)
      show Ret (B_X7_find_3 3 (nI a) (nI b) (nI k) τ) _
      unfold B_X7_find_3
      rw [t1 3 (by decide), hc.1.2.1, if_pos lt, wro_nI (by omega) (by decide), some_b, nI_1]
      refine Ret.some ⟨_, rfl, fun x hx => by rw [up3_g hx]; exact t1 x hx, fun j hj => ?_⟩
      by_cases e : j = k
      · rw [e, up3_same]
      · rw [up3_i e]; exact t2 j (by omega)
    · rintro τ ⟨t1, t2⟩
      have nlt : ¬ nI (cn (m 1)) < m 1 := by
        conv => rhs; rhs; rw [b1.1]
        exact nI_nlt (Nat.le_refl _) (by omega)
      show Ret (B_X7_find_3 3 (nI a) (nI b) (nI (cn (m 1))) τ) _
      unfold B_X7_find_3
      rw [t1 3 (by decide), hc.1.2.1, if_neg nlt]
      exact Ret.some ⟨t1, t2⟩
  rintro τ ⟨t1, t2⟩
  rw [nst_b]
  have key : ∀ (n : Nat) f υ, FlI m f → F9 σ υ → FlC υ m f → υ 9 0 3 = zI (ou m f a) → 72000 < (n : Int) + ou m f a → Ret (iter (fun z => B_X7_find_31 3 (nI a) (nI b) z) υ) (fun ρ => F9 σ ρ ∧ FlC ρ m (augN m a b n f) ∧ ρ 9 0 3 = zI (ou m (augN m a b n f) a) ∧ ¬ hf (Rs m (augN m a b n f)) b a) := by
    intro n
    induction n with
    | zero => intro f υ FI _ _ _ hn; have := (ou_bd hw FI a).2; omega
    | succ n ih =>
      intro f υ FI u1 u2 u3 hn
      obtain ⟨z, z1, z2⟩ := c_turn hw ha hb hab (by rw [u1 3 (by decide)]; exact hc) u2 FI u3
      cases z with
      | inl ρ =>
        obtain ⟨h, r1, r2, r3⟩ := z2
        rw [iter_inl (f := fun z => B_X7_find_31 3 (nI a) (nI b) z) (a := υ) z1]
        have hb1 := (btI_bd hw FI ha h (B0 := 7200) (by omega) (by omega) (hd (Rs m f) b a) (Nat.le_refl _)).1
        have hb1' : 0 < bt m f a b := hb1
        have e := aug_ou hw ha hab h
        have := ih (aug m f a b) ρ (aug_ok hw FI ha h) (fun x hx => (r1 x hx).trans (u1 x hx)) r2 r3 (by omega)
        rw [augN, if_pos h]
        exact this
      | inr ρ =>
        obtain ⟨h, r1, r2, r3⟩ := z2
        rw [iter_inr (f := fun z => B_X7_find_31 3 (nI a) (nI b) z) (a := υ) z1, augN, if_neg h]
        exact Ret.some ⟨fun x hx => (r1 x hx).trans (u1 x hx), r2, r3.trans u3, h⟩
  refine Ret.bind (key 72001 (fun _ => 0) (up3 τ 9 0 3 0) (fl0 m) (fun x hx => by rw [up3_g hx]; exact t1 x hx) (fun k hk => by rw [up3_j (by decide)]; exact t2 k hk) (by rw [up3_same, ou0]; rfl) (by rw [ou0]; omega)) (fun ρ h => Ret.some h)
