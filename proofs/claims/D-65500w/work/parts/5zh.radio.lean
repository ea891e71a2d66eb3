/-! S11: radio of the component -/
set_option maxRecDepth 100000
def FrR (σ τ : St) : Prop := (∀ a, a ≠ 8 → τ a = σ a) ∧ τ 8 1 = σ 8 1 ∧ τ 8 4 = σ 8 4 ∧ τ 8 0 4 = σ 8 0 4
theorem FrR.rf (σ : St) : FrR σ σ := ⟨fun _ _ => rfl, rfl, rfl, rfl⟩
theorem FrR.tr {σ τ υ : St} (f : FrR σ τ) (g : FrR τ υ) : FrR σ υ := ⟨fun a h => (g.1 a h).trans (f.1 a h), g.2.1.trans f.2.1, g.2.2.1.trans f.2.2.1, g.2.2.2.trans f.2.2.2⟩
theorem FrR.u2 {σ τ : St} {i : Nat} {v : Int32} (f : FrR σ τ) : FrR σ (up3 τ 8 2 i v) := ⟨fun a h => by rw [up3_g h]; exact f.1 a h, by rw [up3_j (by decide)]; exact f.2.1, by rw [up3_j (by decide)]; exact f.2.2.1, by rw [up3_j (by decide)]; exact f.2.2.2⟩
theorem FrR.u3 {σ τ : St} {i : Nat} {v : Int32} (f : FrR σ τ) : FrR σ (up3 τ 8 3 i v) := ⟨fun a h => by rw [up3_g h]; exact f.1 a h, by rw [up3_j (by decide)]; exact f.2.1, by rw [up3_j (by decide)]; exact f.2.2.1, by rw [up3_j (by decide)]; exact f.2.2.2⟩
theorem FrR.u5 {σ τ : St} {v : Int32} (f : FrR σ τ) : FrR σ (up3 τ 8 0 5 v) := ⟨fun a h => by rw [up3_g h]; exact f.1 a h, by rw [up3_j (by decide)]; exact f.2.1, by rw [up3_j (by decide)]; exact f.2.2.1, by rw [up3_i (by decide)]; exact f.2.2.2⟩
def prp (g : Nat → Nat → Prop) (n : Nat) (c : Nat → Nat) : Prop := ∀ i j, i < j → j < n → c i = c j → ¬ g i j
def Ex (g : Nat → Nat → Prop) (n at_ : Nat) (c d : Nat → Nat) : Prop := (∀ i, i < at_ → d i = c i) ∧ RG n d ∧ prp g n d
noncomputable def bI (p : Prop) : Int32 := @ite _ p (Classical.propDecidable _) 1 0
def SrP (g : Nat → Nat → Prop) (n at_ : Nat) (c : Nat → Nat) (lim : Nat) (B : Nat) (τ υ : St) : Prop := FrR τ υ ∧ (∀ i, i < at_ → υ 8 2 i = nI (c i)) ∧ ∃ B', υ 8 0 5 = nI B' ∧ B' ≤ B ∧ (∀ d, Ex g n at_ c d → d at_ < lim ∨ at_ = n → B' ≤ usd d n) ∧ ((B' = B ∧ υ 8 3 = τ 8 3) ∨ (B' < B ∧ ∃ e, Ex g n at_ c e ∧ (e at_ < lim ∨ at_ = n) ∧ usd e n = B' ∧ (∀ i, i < n → υ 8 3 i = nI (e i)) ∧ ∀ d, Ex g n at_ c d → d at_ < lim ∨ at_ = n → usd d n = B' → lexle n e d))
theorem c_search61 {rec : Int32 → Int32 → St → Option St} {g : Nat → Nat → Prop} {n at_ j : Nat} {c : Nat → Nat} {x : Int32} {τ : St} (hn : n ≤ 6) (ha : at_ < n) (hj : j ≤ 6) (hcb : ∀ i, i < at_ → c i ≤ 6) (h2 : ∀ i, i < at_ → τ 8 2 i = nI (c i)) (h4 : ∀ u v, u < v → v < n → τ 8 4 (u * 6 + v) = bI (g u v)) : iter (fun z => B_X6_search_61 rec (nI at_) x (nI j) z.1 z.2 τ) ((1 : Int32), (0 : Int32)) = some (bI (∀ u, u < at_ → c u = j → ¬ g u at_)) := by
  have key := iter_row (f := fun z => B_X6_search_61 rec (nI at_) x (nI j) z.1 z.2 τ) (fun k => (bI (∀ u, u < k → c u = j → ¬ g u at_), nI k)) at_ (bI (∀ u, u < at_ → c u = j → ¬ g u at_)) ?_ ?_ 0 (Nat.zero_le _)
  · rw [← key]
    have : bI (∀ u, u < 0 → c u = j → ¬ g u at_) = 1 := by unfold bI; rw [if_pos (fun u hu => absurd hu (Nat.not_lt_zero u))]
    rw [this]; rfl
  · intro k hk
    have hck := hcb k hk
    show B_X6_search_61 rec (nI at_) x (nI j) (bI (∀ u, u < k → c u = j → ¬ g u at_)) (nI k) τ = _
    unfold B_X6_search_61
    rw [if_pos (nI_lt hk (by omega)), rdo_nI (by omega) (by decide), some_b, h2 k hk, show nI k * (6 : Int32) + nI at_ = nI (k * 6 + at_) by rw [← nI_add, ← nI_mulc]; rfl, rdo_nI (by omega) (by decide), some_b, h4 k at_ hk ha]
    by_cases p : ∀ u, u < k → c u = j → ¬ g u at_
    · have e1 : bI (∀ u, u < k → c u = j → ¬ g u at_) = 1 := by unfold bI; rw [if_pos p]
      rw [e1, if_neg (show ¬ (1 : Int32) = 0 by decide)]
      by_cases q : c k = j
      · rw [if_pos (by rw [q])]
        by_cases r : g k at_
        · have e2 : bI (∀ u, u < k + 1 → c u = j → ¬ g u at_) = 0 := by unfold bI; rw [if_neg (fun z => z k (by omega) q r)]
          have e3 : bI (g k at_) = 1 := by unfold bI; rw [if_pos r]
          rw [e3, if_neg (show ¬ (1 : Int32) = 0 by decide), some_b, nI_1, e2]
        · have e2 : bI (∀ u, u < k + 1 → c u = j → ¬ g u at_) = 1 := by
            unfold bI
            rw [if_pos]
            intro u hu hc
            by_cases e : u = k
            · subst e; exact r
            · exact p u (by omega) hc
          have e3 : bI (g k at_) = 0 := by unfold bI; rw [if_neg r]
          rw [e3, if_pos rfl, some_b, nI_1, e2]
      · have e2 : bI (∀ u, u < k + 1 → c u = j → ¬ g u at_) = 1 := by
          unfold bI
          rw [if_pos]
          intro u hu hc
          by_cases e : u = k
          · subst e; exact absurd hc q
          · exact p u (by omega) hc
        rw [if_neg (show ¬ nI (c k) = nI j by rw [nI_eq (by omega) (by omega)]; exact q), some_b, nI_1, e2]
    · have e1 : bI (∀ u, u < k → c u = j → ¬ g u at_) = 0 := by unfold bI; rw [if_neg p]
      have e2 : bI (∀ u, u < k + 1 → c u = j → ¬ g u at_) = 0 := by unfold bI; rw [if_neg (fun z => p (fun u hu => z u (by omega)))]
      rw [e1, if_pos rfl, some_b, nI_1, e2]
  · show B_X6_search_61 rec (nI at_) x (nI j) _ (nI at_) τ = _
    unfold B_X6_search_61
    rw [if_neg (nI_nlt (Nat.le_refl _) (by omega))]
theorem c_search {g : Nat → Nat → Prop} {n : Nat} (hn : n ≤ 6) : ∀ d f at_ B c τ, at_ + d = n → d < f → (∀ i, i < at_ → τ 8 2 i = nI (c i)) → RG at_ c → prp g at_ c → τ 8 0 4 = nI n → τ 8 0 5 = nI B → B ≤ 7 → (∀ u v, u < v → v < n → τ 8 4 (u * 6 + v) = bI (g u v)) → Ret (F_X6_search f (nI at_) (nI (usd c at_)) τ) (SrP g n at_ c 1000 B τ) := by
  intro d
  induction d with
  | zero =>
    intro f at_ B c τ he hf h2 hR hP h0 h5 hB h4
    have ea : at_ = n := by omega
    subst ea
    obtain ⟨f, rfl⟩ : ∃ f', f = f' + 1 := ⟨f - 1, by omega⟩
    have hcb : ∀ i, i < at_ → c i ≤ 6 := by
      have : ∀ v, v ≤ at_ → usd c v ≤ v := by
        intro v
        induction v with
        | zero => intro _; exact Nat.le_refl _
        | succ v ih => intro hv; have := hR v (by omega); have := ih (by omega); rw [usd]; omega
      intro i hi
      have h1 := hR i hi
      have h2 := this i (by omega)
      omega
    have hu := usd_le c (k := 7) at_ (fun i hi => by have := hcb i hi; omega)
    have hsame : ∀ d, Ex g at_ at_ c d → usd d at_ = usd c at_ := fun d hd => usd_eq at_ (fun i hi => hd.1 i hi)
    show Ret (G_X6_search (F_X6_search f) (nI at_) (nI (usd c at_)) τ) _
    unfold G_X6_search
    rw [h5]
    by_cases q : usd c at_ < B
    · rw [if_pos (nI_lt q (by omega)), h0, if_pos rfl, nst_b]
      refine Ret.bind (Q := fun υ => FrR τ υ ∧ υ 8 2 = τ 8 2 ∧ υ 8 0 5 = nI (usd c at_) ∧ ∀ i, i < at_ → υ 8 3 i = nI (c i)) ?_ ?_
      · refine iter_cnt (f := fun z => B_X6_search_24 (F_X6_search f) (nI at_) z.1 z.2) (fun k (υ : St) => (nI k, υ)) (fun k υ => FrR τ υ ∧ υ 8 2 = τ 8 2 ∧ υ 8 0 5 = nI (usd c at_) ∧ ∀ i, i < k → υ 8 3 i = nI (c i)) at_ ?_ ?_ (up3 τ 8 0 5 (nI (usd c at_))) ⟨(FrR.rf τ).u5, up3_j (by decide), up3_same _ _ _ _ _, fun i hi => absurd hi (Nat.not_lt_zero i)⟩
        · rintro k υ hk ⟨u1, u2, u3, u4⟩
          show Ret (B_X6_search_24 (F_X6_search f) (nI at_) (nI k) υ) _
          unfold B_X6_search_24
          rw [if_pos (nI_lt hk (by omega)), rdo_nI (by omega) (by decide), some_b, wro_nI (by omega) (by decide), some_b, u2, h2 k hk, nI_1]
          refine Ret.some ⟨_, rfl, u1.u3, by rw [up3_j (by decide)]; exact u2, by rw [up3_j (by decide)]; exact u3, fun i hi => ?_⟩
          by_cases e : i = k
          · rw [e, up3_same]
          · rw [up3_i e]; exact u4 i (by omega)
        · rintro υ h
          show Ret (B_X6_search_24 (F_X6_search f) (nI at_) (nI at_) υ) _
          unfold B_X6_search_24
          rw [if_neg (nI_nlt (Nat.le_refl _) (by omega))]
          exact Ret.some h
      · rintro υ ⟨u1, u2, u3, u4⟩
        refine Ret.some ⟨u1, fun i hi => by rw [u2]; exact h2 i hi, usd c at_, u3, by omega, fun d hd _ => by rw [hsame d hd]; exact Nat.le_refl _, Or.inr ⟨q, c, ⟨fun _ _ => rfl, hR, hP⟩, Or.inr rfl, rfl, u4, fun d hd _ _ => Or.inl (fun i hi => (hd.1 i hi).symm)⟩⟩
    · rw [if_neg (nI_nlt (by omega) (by omega))]
      exact Ret.some ⟨FrR.rf τ, h2, B, h5, Nat.le_refl _, fun d hd _ => by rw [hsame d hd]; omega, Or.inl ⟨rfl, rfl⟩⟩
  | succ d ih =>
    intro f at_ B c τ he hf h2 hR hP h0 h5 hB h4
    have ha : at_ < n := by omega
    obtain ⟨f, rfl⟩ : ∃ f', f = f' + 1 := ⟨f - 1, by omega⟩
    have hub : ∀ v, v ≤ at_ → usd c v ≤ v := by
      intro v
      induction v with
      | zero => intro _; exact Nat.le_refl _
      | succ v ih => intro hv; have := hR v (by omega); have := ih (by omega); rw [usd]; omega
    have hcb : ∀ i, i < at_ → c i ≤ 6 := by
      intro i hi
      have h1 := hR i hi
      have h2 := hub i (by omega)
      omega
    have hu := hub at_ (Nat.le_refl _)
    have hge : ∀ d, Ex g n at_ c d → usd c at_ ≤ usd d n := fun d hd => by
      rw [← usd_eq at_ (fun i hi => hd.1 i hi)]
      exact usd_mono d (by omega)
    have hdat : ∀ d, Ex g n at_ c d → d at_ ≤ usd c at_ := fun d hd => by
      have := hd.2.1 at_ ha
      rw [usd_eq at_ (fun i hi => hd.1 i hi)] at this
      exact this
    show Ret (G_X6_search (F_X6_search f) (nI at_) (nI (usd c at_)) τ) _
    unfold G_X6_search
    rw [h5]
    by_cases q : usd c at_ < B
    · rw [if_pos (nI_lt q (by omega)), h0, if_neg (show ¬ nI at_ = nI n by rw [nI_eq (by omega) (by omega)]; omega)]
      refine Ret.bind (Q := SrP g n at_ c 1000 B τ) ?_ (fun υ hυ => Ret.some hυ)
      refine iter_cnt (f := fun z => B_X6_search_50 (F_X6_search f) (nI at_) (nI (usd c at_)) z.1 z.2) (fun j (υ : St) => (nI j, υ)) (fun j υ => SrP g n at_ c j B τ υ) (usd c at_ + 1) ?_ ?_ τ ⟨FrR.rf τ, h2, B, h5, Nat.le_refl _, fun d _ hd => by omega, Or.inl ⟨rfl, rfl⟩⟩
      · rintro j υ hj ⟨u1, u2, B', u3, u4, u5, u6⟩
        have h4' : ∀ u v, u < v → v < n → υ 8 4 (u * 6 + v) = bI (g u v) := fun u v h1 h2 => by rw [u1.2.2.1]; exact h4 u v h1 h2
        show Ret (B_X6_search_50 (F_X6_search f) (nI at_) (nI (usd c at_)) (nI j) υ) _
        unfold B_X6_search_50
        rw [if_neg (nI_nlt (by omega) (by omega)), c_search61 hn ha (by omega) hcb u2 h4', some_b]
        by_cases p : ∀ u, u < at_ → c u = j → ¬ g u at_
        · have e1 : bI (∀ u, u < at_ → c u = j → ¬ g u at_) = 1 := by unfold bI; rw [if_pos p]
          rw [e1, if_neg (show ¬ (1 : Int32) = 0 by decide), wro_nI (by omega) (by decide), some_b]
          have hc' : ∀ i, i < at_ → (fun i => if i = at_ then j else c i) i = c i := fun i hi => if_neg (by omega)
          have hca : (fun i => if i = at_ then j else c i) at_ = j := if_pos rfl
          generalize (fun i => if i = at_ then j else c i) = c' at hc' hca
          have hus : usd c' (at_ + 1) = max (usd c at_) (j + 1) := by rw [usd, usd_eq at_ hc', hca]
          have hR' : RG (at_ + 1) c' := by
            intro v hv
            by_cases e : v = at_
            · subst e; rw [hca, usd_eq v hc']; omega
            · rw [hc' v (by omega), usd_eq v (fun i hi => hc' i (by omega))]; exact hR v (by omega)
          have hP' : prp g (at_ + 1) c' := by
            intro x y hxy hy hc
            by_cases e : y = at_
            · subst e
              rw [hca, hc' x hxy] at hc
              exact p x hxy hc
            · rw [hc' x (by omega), hc' y (by omega)] at hc
              exact hP x y hxy (by omega) hc
          have hex : ∀ d, Ex g n (at_ + 1) c' d ↔ (Ex g n at_ c d ∧ d at_ = j) := by
            intro d
            constructor
            · intro hd
              exact ⟨⟨fun i hi => (hd.1 i (by omega)).trans (hc' i hi), hd.2⟩, (hd.1 at_ (by omega)).trans hca⟩
            · rintro ⟨hd, hj'⟩
              refine ⟨fun i hi => ?_, hd.2⟩
              by_cases e : i = at_
              · subst e; rw [hj', hca]
              · rw [hc' i (by omega)]; exact hd.1 i (by omega)
          have hlim : ∀ d, Ex g n (at_ + 1) c' d → d (at_ + 1) < 1000 ∨ at_ + 1 = n := by
            intro d hdx
            by_cases y : at_ + 1 = n
            · exact Or.inr y
            · left
              have := hdx.2.1 (at_ + 1) (by omega)
              have h1 := usd_eq (c := d) (d := c') (at_ + 1) (fun i hi => hdx.1 i hi)
              omega
          have F1 : FrR τ (up3 υ 8 2 at_ (nI j)) := u1.u2
          have R1 := ih f (at_ + 1) B' c' (up3 υ 8 2 at_ (nI j)) (by omega) (by omega) (fun i hi => ?_) hR' hP' (by rw [F1.2.2.2]; exact h0) (by rw [up3_j (by decide)]; exact u3) (by omega) (fun u v h1 h2 => by rw [F1.2.2.1]; exact h4 u v h1 h2)
          · rw [hus, ← imax_nI (by omega) (by omega), ← nI_1, ← nI_1] at R1
            refine Ret.bind R1 ?_
            rintro ρ ⟨r1, r2, B'', r3, r4, r5, r6⟩
            rw [nI_1]
            have FR := F1.tr r1
            have r2' : ∀ i, i < at_ → ρ 8 2 i = nI (c i) := fun i hi => by rw [r2 i (by omega), hc' i hi]
            refine Ret.some ⟨ρ, rfl, FR, r2', B'', r3, by omega, ?_, ?_⟩
            · intro d hd hl
              rcases hl with hl | hl
              · by_cases e : d at_ = j
                · exact r5 d ((hex d).mpr ⟨hd, e⟩) (hlim d ((hex d).mpr ⟨hd, e⟩))
                · have := u5 d hd (Or.inl (by omega))
                  omega
              · omega
            · rcases r6 with ⟨e1, e2⟩ | ⟨e1, e, x1, x2, x3, x4, x5⟩
              · subst e1
                have e83 : ρ 8 3 = υ 8 3 := by rw [e2, up3_j (by decide)]
                rcases u6 with ⟨w1, w2⟩ | ⟨w1, e, x1, x2, x3, x4, x5⟩
                · exact Or.inl ⟨w1, e83.trans w2⟩
                · right
                  refine ⟨w1, e, x1, Or.inl (by omega), x3, fun i hi => by rw [e83]; exact x4 i hi, fun d hd hl hk => ?_⟩
                  by_cases z : d at_ = j
                  · right
                    refine ⟨at_, ha, fun i hi => ?_, by omega⟩
                    rw [x1.1 i hi, hd.1 i hi]
                  · exact x5 d hd (Or.inl (by omega)) hk
              · right
                have hej := (hex e).mp x1
                refine ⟨by omega, e, hej.1, Or.inl (by omega), x3, x4, fun d hd hl hk => ?_⟩
                by_cases z : d at_ = j
                · have hdx := (hex d).mpr ⟨hd, z⟩
                  exact x5 d hdx (hlim d hdx) hk
                · have := u5 d hd (Or.inl (by omega))
                  omega
          · by_cases e : i = at_
            · subst e; rw [up3_same, hca]
            · rw [up3_i e, u2 i (by omega), hc' i (by omega)]
        · have e1 : bI (∀ u, u < at_ → c u = j → ¬ g u at_) = 0 := by unfold bI; rw [if_neg p]
          rw [e1, if_pos rfl, nI_1]
          have none : ∀ d, Ex g n at_ c d → d at_ ≠ j := by
            intro d hd hj'
            apply p
            intro u hu hc hg
            exact hd.2.2 u at_ hu ha (by rw [hd.1 u hu, hc, hj']) hg
          refine Ret.some ⟨υ, rfl, u1, u2, B', u3, u4, fun d hd hl => u5 d hd (by have := none d hd; omega), ?_⟩
          rcases u6 with w | ⟨w1, e, x1, x2, x3, x4, x5⟩
          · exact Or.inl w
          · exact Or.inr ⟨w1, e, x1, by omega, x3, x4, fun d hd hl hk => x5 d hd (by have := none d hd; omega) hk⟩
      · rintro υ ⟨u1, u2, B', u3, u4, u5, u6⟩
        show Ret (B_X6_search_50 (F_X6_search f) (nI at_) (nI (usd c at_)) (nI (usd c at_ + 1)) υ) _
        unfold B_X6_search_50
        rw [if_pos (nI_lt (by omega) (by omega))]
        refine ⟨_, rfl, u1, u2, B', u3, u4, fun d hd hl => u5 d hd (by have := hdat d hd; omega), ?_⟩
        rcases u6 with w | ⟨w1, e, x1, x2, x3, x4, x5⟩
        · exact Or.inl w
        · exact Or.inr ⟨w1, e, x1, by omega, x3, x4, fun d hd hl hk => x5 d hd (by have := hdat d hd; omega) hk⟩
    · rw [if_neg (nI_nlt (by omega) (by omega))]
      exact Ret.some ⟨FrR.rf τ, h2, B, h5, Nat.le_refl _, fun d hd _ => by have := hge d hd; omega, Or.inl ⟨rfl, rfl⟩⟩
