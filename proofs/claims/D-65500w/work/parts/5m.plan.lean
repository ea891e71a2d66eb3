/-! S7: the model's search finds the same plan -/
set_option maxRecDepth 100000
/-- a candidate for call j = nC - (d + 1) -/
def cnd (m : Nat → Int32) (wo : Int32) (d x t : Nat) : Prop := t = nU m ∨ (t < nU m ∧ alP m wo (nC m - (d + 1)) t x)
noncomputable def sqT (m : Nat → Int32) (wo : Int32) (d x : Nat) (c : Nat → Nat) (j t : Nat) : Nat → Nat := spl (cst c j t) (j + 1) (tlF m wo d (nxX m x t))
theorem sq_vl {m : Nat → Int32} (R : Rok m) {wo : Int32} {d x j t : Nat} {c : Nat → Nat} (hj : j + (d + 1) = nC m) : gvl m (sqT m wo d x c j t) (nC m) = gvl m c j + cvl m wo d x t := by
  unfold sqT
  rw [vl_tl R wo d (j + 1) _ _ (by omega), gvl, (gvl_eq (m := m) (c := cst c j t) (c' := c) j (fun k hk => cst_ne (by omega))).1, cst_eq]
  unfold cvl
  rw [show nC m - (d + 1) = j by omega]
  omega
theorem sq_am {m : Nat → Int32} {wo : Int32} {d x j : Nat} {c : Nat → Nat} (hj : j + (d + 1) = nC m) : spl c j (tlF m wo (d + 1) x) = sqT m wo d x c j (amN m wo d x) := spl_tl (by omega)
theorem okc_cst {m : Nat → Int32} {wo : Int32} {d x j t : Nat} {c : Nat → Nat} (hj : j + (d + 1) = nC m) (ok : okc m c j) (ht : cnd m wo d x t) : okc m (cst c j t) (j + 1) := by
  intro k hk
  by_cases e : k = j
  · subst e
    rw [cst_eq]
    rcases ht with h | ⟨h1, h2⟩
    · exact ⟨by omega, fun z => by omega⟩
    · refine ⟨by omega, fun _ => ?_⟩
      have := h2.2.1
      rw [show nC m - (d + 1) = k by omega] at this
      exact this
  · rw [cst_ne e]
    exact ok k (by omega)
theorem mkX_cst {m : Nat → Int32} {c : Nat → Nat} {x j t : Nat} (h : mkX m c x j) : mkX m (cst c j t) (nxX m x t) (j + 1) := by
  have h1 : mkX m (cst c j t) x j := by
    intro s hs
    rw [h s hs]
    constructor
    · rintro ⟨i, i1, i2⟩; exact ⟨i, i1, by rw [cst_ne (by omega)]; exact i2⟩
    · rintro ⟨i, i1, i2⟩; exact ⟨i, i1, by rw [cst_ne (by omega)] at i2; exact i2⟩
  have := h1.step
  rw [cst_eq] at this
  exact this
noncomputable abbrev fpF (wo : Int32) : Int32 × St → Option ((Int32 × St) ⊕ St) := fun z => B_X12_findPlan_26 wo z.1 z.2
/-- from call j on, with the choices ahead of it: the search goes through all and comes back -/
theorem fp_all {m : Nat → Int32} (R : Rok m) (wo : Int32) : ∀ d j, j + d = nC m → ∀ σ c x B, FB σ m → (∀ k, k < j → σ 20 39 k = nI (c k)) → okc m c j → mkX m c x j → x < 2 ^ nU m → BR σ m B → (0 < d → σ 20 39 j = -1) → ∃ σ', iter (fpF wo) (nI j, σ) = iter (fpF wo) (nI j + -1, σ') ∧ FrF σ σ' ∧ (∀ k, k < j → σ' 20 39 k = σ 20 39 k) ∧ BR σ' m (upB m B (spl c j (tlF m wo d x))) := by
  have u6 := nU_6 R
  have c6 := nC_6 R
  intro d
  induction d with
  | zero =>
    intro j hj σ c x B F hc ok hx hxl hB _
    have e : j = nC m := by omega
    subst e
    obtain ⟨σ', e1, e2, e3, e4⟩ := fp_leaf (wo := wo) R F hc ok hB
    refine ⟨σ', iter_inl e1, e2, fun k _ => by rw [e3], ?_⟩
    have ag : ∀ k, k < nC m → spl c (nC m) (tlF m wo 0 x) k = c k := fun k hk => by unfold spl; rw [if_pos hk]
    obtain ⟨hv, hv2, hv3⟩ := gvl_eq (m := m) (c := spl c (nC m) (tlF m wo 0 x)) (c' := c) (nC m) ag
    unfold upB at e4 ⊢
    by_cases q : btr m c B
    · have q2 : btr m (spl c (nC m) (tlF m wo 0 x)) B := fun b hb => by rw [hv]; exact q b hb
      rw [if_pos q] at e4
      rw [if_pos q2]
      obtain ⟨o1, o2, o3, o4⟩ := e4.2 c rfl
      refine ⟨fun z => absurd z (by simp), ?_⟩
      intro c' hc'
      injection hc' with hc'
      subst hc'
      exact ⟨fun k hk => by rw [ag k hk]; exact o1 k hk, by rw [hv2]; exact o2, by rw [hv3]; exact o3, fun k hk => by rw [ag k hk]; exact o4 k hk⟩
    · have q2 : ¬ btr m (spl c (nC m) (tlF m wo 0 x)) B := fun z => q (fun b hb => by rw [← hv]; exact z b hb)
      rw [if_neg q] at e4
      rw [if_neg q2]
      exact e4
  | succ d ih =>
    intro j hj σ c x B F hc ok hx hxl hB h39
    have hjc : j < nC m := by omega
    have hjn : nC m - (d + 1) = j := by omega
    -- candidates from t on
    have CL : ∀ r t, t + r = nU m + 1 → ∀ σ B, FB σ m → (∀ k, k < j → σ 20 39 k = nI (c k)) → BR σ m B → σ 20 39 j = nI t - 1 → ∃ σ' B', iter (fpF wo) (nI j, σ) = iter (fpF wo) (nI j + -1, σ') ∧ FrF σ σ' ∧ (∀ k, k < j → σ' 20 39 k = σ 20 39 k) ∧ BR σ' m B' ∧ ((∀ t', t ≤ t' → cnd m wo d x t' → ¬ btr m (sqT m wo d x c j t') B) → B' = B) ∧ ∀ ts, t ≤ ts → cnd m wo d x ts → btr m (sqT m wo d x c j ts) B → (∀ t', t ≤ t' → t' < ts → cnd m wo d x t' → cvl m wo d x t' < cvl m wo d x ts) → (∀ t', ts ≤ t' → cnd m wo d x t' → cvl m wo d x t' ≤ cvl m wo d x ts) → B' = some (sqT m wo d x c j ts) := by
      intro r
      induction r using Nat.strongRecOn with
      | ind r ihr =>
        intro t htr σ B F hc hB h39
        have pl : ∀ k, k < j → σ 20 39 k = nI (c k) ∧ c k ≤ nU m := fun k hk => ⟨hc k hk, (ok k hk).1⟩
        have e1 : nI t - 1 + 1 = nI t := Int32.sub_add_cancel (nI t) 1
        by_cases hr : r = 0
        · -- none is left
          have ht : t = nU m + 1 := by omega
          have stp : fpF wo (nI j, σ) = some (.inl (nI j + -1, up3 σ 20 39 j (nI t))) := by
            show B_X12_findPlan_26 wo (nI j) σ = _
            unfold B_X12_findPlan_26
            have lp : iter (fun z => B_X12_findPlan_134 wo (nI j) z σ) (nI t) = some (nI t) := by
              refine iter_inr ?_
              unfold B_X12_findPlan_134
              rw [F.2.1, if_neg (nI_nlt (by omega) (by omega))]
            rw [if_neg (nI_pos (by omega)), F.1, if_neg (by rw [nI_eq (by omega) (by omega)]; omega), rdo_nI (by omega) (by decide), some_b, h39, e1, nmo_b, lp, some_b, wro_nI (by omega) (by decide), some_b, up3_j (by decide), F.2.1, if_pos (nI_lt (by omega) (by omega))]
          refine ⟨_, B, iter_inl stp, (FrF.rf σ).u39, fun k hk => up3_i (by omega), hB.fr (by rw [up3_j (by decide)]) (by rw [up3_j (by decide)]) (up3_j (by decide)), fun _ => rfl, ?_⟩
          intro ts h1 h2
          have : ts ≤ nU m := by rcases h2 with z | z <;> omega
          omega
        · -- the next one
          have hz : ∃ z, t ≤ z ∧ z ≤ nU m ∧ cnd m wo d x z ∧ ∀ k, t ≤ k → k < z → ¬ cnd m wo d x k := by
            obtain ⟨z, ⟨z1, z2, z3⟩, z4⟩ := pk_least (fun z => t ≤ z ∧ z ≤ nU m ∧ cnd m wo d x z) ⟨nU m, by omega, Nat.le_refl _, Or.inl rfl⟩
            exact ⟨z, z1, z2, z3, fun k h1 h2 h3 => z4 k h2 ⟨h1, by omega, h3⟩⟩
          obtain ⟨z, z1, z2, z3, z4⟩ := hz
          have nx := fp_next (wo := wo) (z := z) (t := t) R F hjc pl hx z1 z2 (fun k h1 h2 h3 => z4 k h1 h2 (Or.inr ⟨by omega, by rw [hjn]; exact h3⟩)) (z3.imp id (fun y => by have := y.2; rw [hjn] at this; exact this))
          -- the state with which call j + 1 begins
          have stp : ∃ σ1, fpF wo (nI j, σ) = some (.inl (nI (j + 1), σ1)) ∧ FrF σ σ1 ∧ (∀ k, k < j → σ1 20 39 k = σ 20 39 k) ∧ σ1 20 39 j = nI z ∧ (0 < d → σ1 20 39 (j + 1) = -1) ∧ σ1 20 0 40 = σ 20 0 40 ∧ σ1 20 0 41 = σ 20 0 41 ∧ σ1 20 40 = σ 20 40 := by
            have pre : fpF wo (nI j, σ) = (if (nI j + (1 : Int32)) < ((up3 σ 20 39 j (nI z)) 20 0 34) then (wro (up3 σ 20 39 j (nI z)) 20 39 6 (nI j + (1 : Int32)) (-1 : Int32)).bind (fun s2008 => some (.inl ((nI j + (1 : Int32)), s2008))) else some (.inl ((nI j + (1 : Int32)), (up3 σ 20 39 j (nI z))))) := by
              show B_X12_findPlan_26 wo (nI j) σ = _
              unfold B_X12_findPlan_26
              have e36 : up3 σ 20 39 j (nI z) 20 0 36 = nI (nU m) := by rw [up3_j (by decide)]; exact F.2.1
              rw [if_neg (nI_pos (by omega)), F.1, if_neg (by rw [nI_eq (by omega) (by omega)]; omega), rdo_nI (by omega) (by decide), some_b, h39, e1, nmo_b, nx, some_b, wro_nI (by omega) (by decide), some_b, e36, if_neg (nI_nlt (by omega) (by omega))]
            have e34 : up3 σ 20 39 j (nI z) 20 0 34 = nI (nC m) := by rw [up3_j (by decide)]; exact F.1
            rw [pre, e34, nI_1]
            by_cases q : j + 1 < nC m
            · rw [if_pos (nI_lt q (by omega)), wro_nI (by omega) (by decide), some_b]
              refine ⟨_, rfl, (FrF.rf σ).u39.u39, fun k hk => by rw [up3_i (by omega), up3_i (by omega)], by rw [up3_i (by omega), up3_same], fun _ => up3_same _ _ _ _ _, by rw [up3_j (by decide), up3_j (by decide)], by rw [up3_j (by decide), up3_j (by decide)], by rw [up3_j (by decide), up3_j (by decide)]⟩
            · rw [if_neg (nI_nlt (by omega) (by omega))]
              exact ⟨_, rfl, (FrF.rf σ).u39, fun k hk => up3_i (by omega), up3_same _ _ _ _ _, fun hd => by omega, by rw [up3_j (by decide)], by rw [up3_j (by decide)], up3_j (by decide)⟩
          obtain ⟨σ1, s1, s2, s3, s4, s5, s6, s7, s8⟩ := stp
          obtain ⟨σ2, t1, t2, t3, t4⟩ := ih (j + 1) (by omega) σ1 (cst c j z) (nxX m x z) B (s2.fb F) (by
            intro k hk
            by_cases e : k = j
            · rw [e, cst_eq]; exact s4
            · rw [cst_ne e, s3 k (by omega)]; exact hc k (by omega)) (okc_cst hj ok z3) (mkX_cst hx) (nxX_lt R hxl) (hB.fr s6 s7 s8) s5
          have c2 : ∀ k, k < j → σ2 20 39 k = σ 20 39 k := fun k hk => (t3 k (by omega)).trans (s3 k hk)
          obtain ⟨σ3, B', v1, v2, v3, v4, v5, v6⟩ := ihr (r - (z - t) - 1) (by omega) (z + 1) (by omega) σ2 (upB m B (sqT m wo d x c j z)) (t2.fb (s2.fb F)) (fun k hk => (c2 k hk).trans (hc k hk)) t4 (by
            rw [t3 j (by omega), s4, ← nI_1]
            exact (Int32.add_sub_cancel (nI z) 1).symm)
          refine ⟨σ3, B', ?_, (s2.tr t2).tr v2, fun k hk => (v3 k hk).trans (c2 k hk), v4, ?_, ?_⟩
          · rw [iter_inl s1, t1]
            have : nI (j + 1) + -1 = nI j := nI_dec j
            rw [this, v1]
          · intro hn
            have hnz := hn z z1 z3
            have eB : upB m B (sqT m wo d x c j z) = B := by unfold upB; rw [if_neg hnz]
            rw [eB] at v5
            exact v5 (fun t' h1 h2 => hn t' (by omega) h2)
          · intro ts h1 h2 h3 h4 h5
            have hts : z ≤ ts := by
              rcases Nat.lt_or_ge ts z with y | y
              · exact absurd h2 (z4 ts h1 y)
              · exact y
            by_cases e : ts = z
            · subst e
              have eB : upB m B (sqT m wo d x c j ts) = some (sqT m wo d x c j ts) := by unfold upB; rw [if_pos h3]
              rw [eB] at v5
              refine v5 ?_
              intro t' y1 y2 y3
              have := y3 _ rfl
              rw [sq_vl R hj, sq_vl R hj] at this
              have := h5 t' (by omega) y2
              omega
            · refine v6 ts (by omega) h2 ?_ (fun t' y1 y2 y3 => h4 t' (by omega) y2 y3) h5
              unfold upB
              by_cases q : btr m (sqT m wo d x c j z) B
              · rw [if_pos q]
                intro b hb
                injection hb with hb
                subst hb
                rw [sq_vl R hj, sq_vl R hj]
                have := h4 z z1 (by omega) z3
                omega
              · rw [if_neg q]; exact h3
    obtain ⟨σ', B', a1, a2, a3, a4, a5, a6⟩ := CL (nU m + 1) 0 (by omega) σ B F hc hB (by rw [h39 (by omega)]; rfl)
    refine ⟨σ', a1, a2, a3, ?_⟩
    rw [sq_am hj]
    have ham : cnd m wo d x (amN m wo d x) := by
      rcases amN_cases m wo d x with ⟨y1, -⟩ | ⟨y1, -⟩
      · exact Or.inr ⟨y1.1, y1.2.1⟩
      · exact Or.inl y1
    have key : B' = upB m B (sqT m wo d x c j (amN m wo d x)) := by
      unfold upB
      by_cases q : btr m (sqT m wo d x c j (amN m wo d x)) B
      · rw [if_pos q]
        refine a6 _ (Nat.zero_le _) ham q ?_ ?_
        · intro t' _ h1 h2
          have hle := am_le (m := m) (wo := wo) (d := d) (x := x)
          rw [cvl_am]
          exact cvl_first h1 (h2.resolve_left (by omega)).2
        · intro t' _ h2
          rw [cvl_am]
          exact cvl_le h2
      · rw [if_neg q]
        refine a5 ?_
        intro t' _ h2 h3
        apply q
        intro b hb
        have h4 := h3 b hb
        rw [sq_vl R hj] at h4 ⊢
        have h5 := cvl_le (m := m) (wo := wo) (d := d) (x := x) h2
        rw [cvl_am]
        omega
    rw [← key]
    exact a4
/-- the model's plan: left out wo, or none with -1 -/
noncomputable abbrev bsS (m : Nat → Int32) (wo : Int32) : Nat → Nat := tlF m wo (nC m) 0
theorem m_findPlan {σ : St} {m : Nat → Int32} (R : Rok m) (F : FB σ m) (wo : Int32) : Ret (F_X12_findPlan wo σ) (fun τ => FrF σ τ ∧ okc m (bsS m wo) (nC m) ∧ τ 20 0 40 = nI (grk m (bsS m wo) (nC m)) ∧ τ 20 0 41 = nI (gsc m (bsS m wo) (nC m)) ∧ (∀ k, k < nC m → τ 20 40 k = nI (bsS m wo k)) ∧ gvl m (bsS m wo) (nC m) = VV m wo (nC m) 0) := by
  have u6 := nU_6 R
  have c6 := nC_6 R
  unfold F_X12_findPlan
  rw [nst_b, nst_b]
  have F1 : FrF σ (up3 (up3 σ 20 0 40 (-1)) 20 0 41 0) := ((FrF.rf σ).u0 (Or.inl rfl)).u0 (Or.inr rfl)
  have e40 : (up3 (up3 σ 20 0 40 (-1)) 20 0 41 0) 20 0 40 = -1 := by rw [up3_i (by decide), up3_same]
  have e41 : (up3 (up3 σ 20 0 40 (-1)) 20 0 41 0) 20 0 41 = 0 := up3_same _ _ _ _ _
  generalize (up3 (up3 σ 20 0 40 (-1)) 20 0 41 0) = ρ at F1 e40 e41
  have st : ∃ ρ', (if 0 < (ρ 20 0 34) then (wro ρ 20 39 6 (0 : Int32) (-1 : Int32)).bind (fun s3 => some (s3)) else some ρ) = some ρ' ∧ FrF σ ρ' ∧ ρ' 20 0 40 = -1 ∧ ρ' 20 0 41 = 0 ∧ (0 < nC m → ρ' 20 39 0 = -1) := by
    rw [(F1.fb F).1]
    by_cases q : 0 < nC m
    · rw [if_pos (show (0 : Int32) < nI (nC m) from nI_lt (a := 0) q (by omega)), show (0 : Int32) = nI 0 from rfl, wro_nI (by decide) (by decide), some_b]
      exact ⟨_, rfl, F1.u39, by rw [up3_j (by decide)]; exact e40, by rw [up3_j (by decide)]; exact e41, fun _ => up3_same _ _ _ _ _⟩
    · rw [if_neg (show ¬ (0 : Int32) < nI (nC m) from nI_nlt (a := 0) (by omega) (by decide))]
      exact ⟨ρ, rfl, F1, e40, e41, fun z => absurd z q⟩
  obtain ⟨ρ', g1, g2, g3, g4, g5⟩ := st
  rw [g1, some_b]
  obtain ⟨σ', a1, a2, a3, a4⟩ := fp_all R wo (nC m) 0 (by omega) ρ' (fun _ => 0) 0 none (g2.fb F) (fun k hk => absurd hk (Nat.not_lt_zero k)) (fun k hk => absurd hk (Nat.not_lt_zero k)) (by
    intro t ht
    simp) (Nat.pow_pos (by decide)) ⟨fun _ => ⟨g3, g4⟩, fun c hc => absurd hc (by simp)⟩ g5
  have e0 : spl (fun _ => 0) 0 (bsS m wo) = bsS m wo := by
    funext k
    unfold spl
    rw [if_neg (Nat.not_lt_zero k)]
  have eB : upB m none (spl (fun _ => 0) 0 (bsS m wo)) = some (bsS m wo) := by
    unfold upB
    rw [e0, if_pos]
    intro b hb
    exact absurd hb (by simp)
  rw [eB] at a4
  have fin : iter (fpF wo) (nI 0 + -1, σ') = some σ' := by
    refine iter_inr ?_
    show B_X12_findPlan_26 wo (nI 0 + -1) σ' = _
    unfold B_X12_findPlan_26
    rw [if_pos (by decide)]
  have lp : iter (fun z => B_X12_findPlan_26 wo z.1 z.2) ((0 : Int32), ρ') = some σ' := a1.trans fin
  rw [lp, some_b]
  obtain ⟨o1, o2, o3, o4⟩ := a4.2 _ rfl
  refine Ret.some ⟨g2.tr a2, o1, o2, o3, o4, ?_⟩
  have := vl_tl R wo (nC m) 0 0 (fun _ => 0) (by omega)
  rw [e0] at this
  rw [this]
  exact Nat.zero_add _
/-- with all calls it is the component's plan -/
theorem bs_gc {m : Nat → Int32} : ∀ d k, k + d = nC m → ∀ i, k ≤ i → i < nC m → tlF m (-1) d (gx m k) i = gc m i := by
  intro d
  induction d with
  | zero => intro k hk i h1 h2; omega
  | succ d ih =>
    intro k hk i h1 h2
    rw [tlF_s, show nC m - (d + 1) = k by omega]
    by_cases e : i = k
    · rw [if_pos e, e]
      show _ = amN m (-1) (nC m - (k + 1)) (gx m k)
      rw [show nC m - (k + 1) = d by omega]
    · rw [if_neg e]
      have := ih (k + 1) (by omega) i (by omega) h2
      rw [gx, show nC m - (k + 1) = d by omega] at this
      exact this
theorem bs_gc' {m : Nat → Int32} {i : Nat} (h : i < nC m) : bsS m (-1) i = gc m i := bs_gc (nC m) 0 (by omega) i (Nat.zero_le _) h
