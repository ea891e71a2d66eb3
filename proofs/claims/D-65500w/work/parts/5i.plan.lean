/-! S7: the component's plan, its text, its sendings -/
set_option maxRecDepth 100000
noncomputable def gx (m : Nat → Int32) : Nat → Nat
  | 0 => 0
  | k + 1 => nxX m (gx m k) (amN m (-1) (nC m - (k + 1)) (gx m k))
noncomputable abbrev gc (m : Nat → Int32) (k : Nat) : Nat := amN m (-1) (nC m - (k + 1)) (gx m k)
noncomputable def grk (m : Nat → Int32) (c : Nat → Nat) : Nat → Nat
  | 0 => 0
  | k + 1 => grk m c k + (if c k < nU m then rkP m k else 0)
noncomputable def gsc (m : Nat → Int32) (c : Nat → Nat) : Nat → Nat
  | 0 => 0
  | k + 1 => gsc m c k + (if c k < nU m then wyP m (c k) k else 0)
theorem nxX_lt {m : Nat → Int32} (R : Rok m) {x t : Nat} (hx : x < 2 ^ nU m) : nxX m x t < 2 ^ nU m := by
  have u6 := nU_6 R
  unfold nxX
  by_cases q : t < (flt (frU m) (cn (m 2))).length
  · rw [if_pos q]; exact bt_or (nU m) (by omega) x hx t q
  · rw [if_neg q, Nat.or_zero]; exact hx
theorem gx_lt {m : Nat → Int32} (R : Rok m) : ∀ k, gx m k < 2 ^ nU m := by
  intro k
  induction k with
  | zero => exact Nat.pow_pos (by decide)
  | succ k ih => exact nxX_lt R ih
theorem am_ok {m : Nat → Int32} {wo : Int32} {d x : Nat} (h : amN m wo d x < nU m) : okA m wo d x (amN m wo d x) := by
  rcases amN_cases m wo d x with ⟨a1, -⟩ | ⟨a1, -⟩
  · exact a1
  · have : amN m wo d x < (flt (frU m) (cn (m 2))).length := h
    rw [a1] at this
    exact absurd this (Nat.lt_irrefl _)
theorem gc_vd {m : Nat → Int32} {k : Nat} (hk : k < nC m) (h : gc m k < nU m) : vdP m (gc m k) k ∧ (gx m k).testBit (gc m k) = false := by
  obtain ⟨-, ⟨-, a2, a3⟩, -⟩ := am_ok h
  rw [show nC m - (nC m - (k + 1) + 1) = k by omega] at a2
  exact ⟨a2, a3⟩
theorem grk_bd {m : Nat → Int32} (R : Rok m) {c : Nat → Nat} : ∀ k, k ≤ nC m → (∀ j, j < k → c j < nU m → vdP m (c j) j) → grk m c k ≤ 9 * k ∧ gsc m c k ≤ 7992 * k := by
  intro k
  induction k with
  | zero => intro _ _; exact ⟨Nat.le_refl _, Nat.le_refl _⟩
  | succ k ih =>
    intro hk hv
    obtain ⟨h1, h2⟩ := ih (by omega) (fun j hj => hv j (by omega))
    rw [grk, gsc]
    by_cases q : c k < nU m
    · have h3 := (wt_bd R (show k < nC m by omega)).2.2.1
      have h4 := (wyP_bd R q (show k < nC m by omega)).2 (hv k (by omega) q)
      rw [if_pos q, if_pos q]
      omega
    · rw [if_neg q, if_neg q]; omega
/-- the pairs of the plan -/
noncomputable def prI (m : Nat → Int32) (c : Nat → Nat) (j : Nat) : Int32 := if c j < nU m then nI (c j) else -1
def PR (τ : St) (m : Nat → Int32) : Prop := PL τ m ∧ PW τ m ∧ (∀ j, j < nC m → τ 10 5 j = prI m (gc m) j) ∧ τ 10 0 8 = nI (grk m (gc m) (nC m)) ∧ τ 10 0 9 = nI (gsc m (gc m) (nC m))
noncomputable def duI (m : Nat → Int32) (j : Nat) : Int32 := nI (VV m (-1) (nC m) 0) - nI (VV m (nI j) (nC m) 0)
theorem FrT4.toA {σ τ : St} {h : Nat} (f : FrT4 σ τ) : FrA σ τ h 10 := fun a b i h1 _ _ => by rw [f a b (fun z => h1 z.1)]
theorem c_plan {σ : St} {h : Nat} {m : Nat → Int32} {du : Int32} (hh : h ≠ 10) (R : Rok m) (H : HH (σ h) m) (hdu : du = 0 ∨ du = 1) : Ret (F_X8_plan h du σ) (fun τ => HH (τ h) m ∧ FrA σ τ h 10 ∧ PR τ m ∧ (du = 1 → ∀ j, j < nC m → τ 10 6 j = duI m j)) := by
  have hw := R.1
  have u6 := nU_6 R
  have c6 := nC_6 R
  have b2 := hw.2.2.1.2
  have b3 := hw.2.2.2.1.2
  unfold F_X8_plan
  refine Ret.bind (c_look hh R H) ?_
  rintro τ1 ⟨H1, A1, P1, W1⟩
  refine Ret.bind (c_fill (wo := -1) R P1 W1) ?_
  rintro q ⟨q1, q2, q3⟩
  have H2 : HH (q.2 h) m := by rw [show q.2 h = τ1 h by funext b; exact q2 h b (fun z => hh z.1)]; exact H1
  -- duals
  have dual : Ret (iter (fun z => B_X8_plan_14 h q.1 du z.1 z.2) (nI 0, q.2)) (fun τ => HH (τ h) m ∧ FrA σ τ h 10 ∧ PL τ m ∧ PW τ m ∧ (du = 0 → TBl τ m (-1) 0) ∧ (du = 1 → ∀ j, j < nC m → τ 10 6 j = duI m j)) := by
    rcases hdu with e | e
    · refine ⟨q.2, iter_inr ?_, H2, A1.tr q2.toA, q2.pl P1, q2.pw W1, fun _ => q3, fun z => by rw [e] at z; exact absurd z (by decide)⟩
      show B_X8_plan_14 h q.1 du (nI 0) q.2 = _
      unfold B_X8_plan_14
      rw [e, if_pos rfl]
      by_cases z : nI 0 < q.2 10 0 7
      · rw [if_pos z]
      · rw [if_neg z]
    · refine iter_cnt (fun j (τ : St) => (nI j, τ)) (fun j τ => HH (τ h) m ∧ FrA σ τ h 10 ∧ PL τ m ∧ PW τ m ∧ ∀ j', j' < j → τ 10 6 j' = duI m j') (nC m) ?_ ?_ q.2 ⟨H2, A1.tr q2.toA, q2.pl P1, q2.pw W1, fun j hj => absurd hj (Nat.not_lt_zero j)⟩
      · rintro j τ hj ⟨k1, k2, k3, k4, k5⟩
        show Ret (B_X8_plan_14 h q.1 du (nI j) τ) _
        unfold B_X8_plan_14
        rw [k3.2.1, if_pos (nI_lt hj (by omega)), e, if_neg (by decide)]
        refine Ret.bind (c_fill (wo := nI j) R k3 k4) ?_
        rintro r ⟨r1, r2, r3⟩
        rw [r1, q1, wro_nI (by omega) (by decide), some_b, nI_1]
        refine Ret.some ⟨_, rfl, ?_, (k2.tr r2.toA).up, (r2.pl k3).fr (by rw [up3_j (by decide)]) (by rw [up3_j (by decide)]) (up3_j (by decide)) (up3_j (by decide)), ?_, ?_⟩
        · rw [up3_g hh, show r.2 h = τ h by funext b; exact r2 h b (fun z => hh z.1)]; exact k1
        · have := r2.pw k4
          unfold PW at this ⊢
          rw [up3_j (by decide)]
          exact this
        · intro j' hj'
          by_cases z : j' = j
          · rw [z, up3_same]; rfl
          · rw [up3_i z, r2 10 6 (by omega)]
            exact k5 j' (by omega)
      · rintro τ ⟨k1, k2, k3, k4, k5⟩
        show Ret (B_X8_plan_14 h q.1 du (nI (nC m)) τ) _
        unfold B_X8_plan_14
        rw [k3.2.1, if_neg (nI_nlt (Nat.le_refl _) (by omega))]
        exact Ret.some ⟨k1, k2, k3, k4, fun z => by rw [e] at z; exact absurd z (by decide), fun _ => k5⟩
  refine Ret.bind (Q := fun τ => HH (τ h) m ∧ FrA σ τ h 10 ∧ PL τ m ∧ PW τ m ∧ (du = 0 → TBl τ m (-1) 0) ∧ (du = 1 → ∀ j, j < nC m → τ 10 6 j = duI m j)) dual ?_
  rintro τ2 ⟨k1, k2, k3, k4, k5, k6⟩
  have again : Ret (if du = 0 then some τ2 else (F_X8_fill (-1) τ2).bind (fun q1009 => some q1009.2)) (fun τ => HH (τ h) m ∧ FrA σ τ h 10 ∧ PL τ m ∧ PW τ m ∧ TBl τ m (-1) 0 ∧ (du = 1 → ∀ j, j < nC m → τ 10 6 j = duI m j)) := by
    rcases hdu with e | e
    · rw [if_pos e]
      exact Ret.some ⟨k1, k2, k3, k4, k5 e, k6⟩
    · rw [if_neg (by rw [e]; decide)]
      refine Ret.bind (c_fill (wo := -1) R k3 k4) ?_
      rintro r ⟨r1, r2, r3⟩
      refine Ret.some ⟨?_, k2.tr r2.toA, r2.pl k3, r2.pw k4, r3, ?_⟩
      · rw [show r.2 h = τ2 h by funext b; exact r2 h b (fun z => hh z.1)]; exact k1
      · intro e2
        rw [r2 10 6 (by omega)]
        exact k6 e2
  refine Ret.bind again ?_
  rintro τ3 ⟨j1, j2, j3, j4, j5, j6⟩
  rw [nst_b, nst_b]
  have G0 : HH (up3 (up3 τ3 10 0 8 0) 10 0 9 0 h) m := by rw [up3_g hh, up3_g hh]; exact j1
  have G1 : FrA σ (up3 (up3 τ3 10 0 8 0) 10 0 9 0) h 10 := j2.up.up
  have G2 : PL (up3 (up3 τ3 10 0 8 0) 10 0 9 0) m := j3.fr (by rw [up3_i (by decide), up3_i (by decide)]) (by rw [up3_i (by decide), up3_i (by decide)]) (by rw [up3_j (by decide), up3_j (by decide)]) (by rw [up3_j (by decide), up3_j (by decide)])
  have G3 : ∀ b, b ≠ 0 → (up3 (up3 τ3 10 0 8 0) 10 0 9 0) 10 b = τ3 10 b := fun b hb => by rw [up3_j hb, up3_j hb]
  have G8 : (up3 (up3 τ3 10 0 8 0) 10 0 9 0) 10 0 8 = 0 := by rw [up3_i (by decide), up3_same]
  have G9 : (up3 (up3 τ3 10 0 8 0) 10 0 9 0) 10 0 9 = 0 := up3_same _ _ _ _ _
  generalize (up3 (up3 τ3 10 0 8 0) 10 0 9 0) = ρ at G0 G1 G2 G3 G8 G9
  refine Ret.bind (Q := fun τ => HH (τ h) m ∧ FrA σ τ h 10 ∧ PR τ m ∧ (du = 1 → ∀ j, j < nC m → τ 10 6 j = duI m j)) ?_ (fun b hb => Ret.some hb)
  have hv : ∀ k, k ≤ nC m → ∀ j, j < k → gc m j < nU m → vdP m (gc m j) j := fun k hk j hj hq => (gc_vd (by omega) hq).1
  refine iter_cnt (fun k (τ : St) => (nI (gx m k), nI k, τ)) (fun k τ => HH (τ h) m ∧ FrA σ τ h 10 ∧ PL τ m ∧ (τ 10 3 = τ3 10 3 ∧ τ 10 4 = τ3 10 4 ∧ τ 10 6 = τ3 10 6) ∧ (∀ j, j < k → τ 10 5 j = prI m (gc m) j) ∧ τ 10 0 8 = nI (grk m (gc m) k) ∧ τ 10 0 9 = nI (gsc m (gc m) k)) (nC m) ?_ ?_ ρ ⟨G0, G1, G2, ⟨G3 3 (by decide), G3 4 (by decide), G3 6 (by decide)⟩, fun j hj => absurd hj (Nat.not_lt_zero j), G8, G9⟩
  · rintro k τ hk ⟨i1, i2, i3, i4, i5, i6, i7⟩
    have T : TBl τ m (-1) 0 := by unfold TBl; rw [i4.2.1]; exact j5
    have W : PW τ m := by unfold PW; rw [i4.1]; exact j4
    have hch := c_choose (d := nC m - (k + 1)) R i3 W (by omega) (gx_lt R k) T
    rw [show nC m - (nC m - (k + 1) + 1) = k by omega] at hch
    obtain ⟨bR, bS⟩ := grk_bd R (c := gc m) (k + 1) (by omega) (hv (k + 1) (by omega))
    show Ret (B_X8_plan_74 h (nI (gx m k)) (nI k) τ) _
    unfold B_X8_plan_74
    rw [i3.2.1, if_pos (nI_lt hk (by omega)), hch, some_b, wro_nI (by omega) (by decide), some_b, rdo_nI (by omega) (by decide), some_b, up3_same]
    have eg : gx m (k + 1) = nxX m (gx m k) (gc m k) := rfl
    rw [grk] at bR
    rw [gsc] at bS
    by_cases q : gc m k < nU m
    · obtain ⟨v1, v2⟩ := gc_vd hk q
      obtain ⟨hf1, hf2⟩ := fr_ok q
      obtain ⟨ht1, ht2⟩ := wt_ok hk
      obtain ⟨hp, hr1, hr2, ep, er⟩ := wt_bd R hk
      have hx6 := bt_lt (n := nU m) (by omega) (gx_lt R k)
      obtain ⟨-, b2'⟩ := bt_tab (gx m k) hx6 (gc m k) (by omega)
      have eA : amI m (-1) (nC m - (k + 1)) (gx m k) = nI (gc m k) := by unfold amI; rw [if_pos q]
      have hwy := (wyP_bd R q hk).2 v1
      rw [if_pos q] at bR
      rw [if_pos q] at bS
      have P' : PL (up3 τ 10 5 k (nI (gc m k))) m := i3.fr (by rw [up3_j (by decide)]) (by rw [up3_j (by decide)]) (up3_j (by decide)) (up3_j (by decide))
      have HHt : HH ((up3 τ 10 5 k (nI (gc m k))) h) m := by rw [up3_g hh]; exact i1
      rw [eA, if_neg (nI_pos (by omega)), some_b, b2', nmo_b, rdo_nI (by omega) (by decide), some_b, P'.2.2.2 k hk, rdo_nI (by omega) (by decide), some_b, (HHt.1.2.2.2 _ ht1).2.2.1, er, nst_b, up3_j (by decide), i6, nI_add]
      have P'' : PL (up3 (up3 τ 10 5 k (nI (gc m k))) 10 0 8 (nI (grk m (gc m) k + rkP m k))) m := P'.fr (by rw [up3_i (by decide)]) (by rw [up3_i (by decide)]) (up3_j (by decide)) (up3_j (by decide))
      have HH2 : HH ((up3 (up3 τ 10 5 k (nI (gc m k))) 10 0 8 (nI (grk m (gc m) k + rkP m k))) h) m := by rw [up3_g hh]; exact HHt
      rw [rdo_nI (by omega) (by decide), some_b, up3_j (by decide), up3_same, rdo_nI (by omega) (by decide), some_b, P''.2.2.1 _ q, rdo_nI (by omega) (by decide), some_b, P''.2.2.2 k hk, rdo_nI (by omega) (by decide), some_b, (HH2.1.2.2.2 _ ht1).1, ep]
      refine Ret.bind (c_wayH hw HH2 hf1 hp) ?_
      rintro r ⟨r1, r2, r3⟩
      have r1 : r.1 = nI (wyP m (gc m k) k) := r1
      have rg : r.2 10 = (up3 (up3 τ 10 5 k (nI (gc m k))) 10 0 8 (nI (grk m (gc m) k + rkP m k))) 10 := r3.g (fun z => hh z.symm)
      have e9 : (up3 (up3 τ 10 5 k (nI (gc m k))) 10 0 8 (nI (grk m (gc m) k + rkP m k))) 10 0 9 = nI (gsc m (gc m) k) := by rw [up3_i (by decide), up3_j (by decide), i7]
      have eg' : gx m (k + 1) = gx m k ||| 2 ^ gc m k := by
        rw [eg]
        unfold nxX
        rw [if_pos q]
      rw [r1, nst_b, e9, nI_add, nI_1, ← eg']
      refine Ret.some ⟨_, rfl, ?_, ?_, ?_, ⟨?_, ?_, ?_⟩, ?_, ?_, ?_⟩
      · rw [up3_g hh]; exact r2
      · exact (((i2.up).up).k r3).up
      · refine P''.fr ?_ ?_ ?_ ?_
        · rw [up3_i (by decide), rg]
        · rw [up3_i (by decide), rg]
        · rw [up3_j (by decide), rg]
        · rw [up3_j (by decide), rg]
      · rw [up3_j (by decide), rg, up3_j (by decide), up3_j (by decide), i4.1]
      · rw [up3_j (by decide), rg, up3_j (by decide), up3_j (by decide), i4.2.1]
      · rw [up3_j (by decide), rg, up3_j (by decide), up3_j (by decide), i4.2.2]
      · intro j hj
        rw [up3_j (by decide), rg, up3_j (by decide)]
        by_cases z : j = k
        · rw [z, up3_same]
          unfold prI
          rw [if_pos q]
        · rw [up3_i z]; exact i5 j (by omega)
      · rw [up3_i (by decide), rg, up3_same, grk, if_pos q]
      · rw [up3_same, gsc, if_pos q]
    · have eA : amI m (-1) (nC m - (k + 1)) (gx m k) = -1 := by unfold amI; rw [if_neg q]
      have eg' : gx m (k + 1) = gx m k := by
        rw [eg]
        unfold nxX
        rw [if_neg q, Nat.or_zero]
      rw [eA, if_pos (by decide), nI_1, ← eg']
      refine Ret.some ⟨_, rfl, ?_, i2.up, i3.fr (by rw [up3_j (by decide)]) (by rw [up3_j (by decide)]) (up3_j (by decide)) (up3_j (by decide)), ⟨?_, ?_, ?_⟩, ?_, ?_, ?_⟩
      · rw [up3_g hh]; exact i1
      · rw [up3_j (by decide), i4.1]
      · rw [up3_j (by decide), i4.2.1]
      · rw [up3_j (by decide), i4.2.2]
      · intro j hj
        by_cases z : j = k
        · rw [z, up3_same]
          unfold prI
          rw [if_neg q]
        · rw [up3_i z]; exact i5 j (by omega)
      · rw [up3_j (by decide), i6, grk, if_neg q, Nat.add_zero]
      · rw [up3_j (by decide), i7, gsc, if_neg q, Nat.add_zero]
  · rintro τ ⟨i1, i2, i3, i4, i5, i6, i7⟩
    show Ret (B_X8_plan_74 h (nI (gx m (nC m))) (nI (nC m)) τ) _
    unfold B_X8_plan_74
    rw [i3.2.1, if_neg (nI_nlt (Nat.le_refl _) (by omega))]
    refine Ret.some ⟨i1, i2, ⟨i3, by unfold PW; rw [i4.1]; exact j4, i5, i6, i7⟩, ?_⟩
    intro e
    rw [i4.2.2]
    exact j6 e
