/-! S11: radio of the model -/
set_option maxRecDepth 100000
def F50 (σ τ : St) : Prop := ∀ a b, ¬ (a = 20 ∧ b = 50) → τ a b = σ a b
theorem F50.rf (σ : St) : F50 σ σ := fun _ _ _ => rfl
theorem F50.tr {σ τ υ : St} (f : F50 σ τ) (g : F50 τ υ) : F50 σ υ := fun a b h => (g a b h).trans (f a b h)
theorem F50.up {σ τ : St} {i : Nat} {v : Int32} (f : F50 σ τ) : F50 σ (up3 τ 20 50 i v) := fun a b h => by
  rw [show up3 τ 20 50 i v a b = τ a b by
    by_cases e : a = 20
    · subst e; exact up3_j (fun z => h ⟨rfl, z⟩)
    · rw [up3_g e]]
  exact f a b h
def RdM (σ : St) (m : Nat → Int32) : Prop := σ 20 1 = m ∧ TabR σ m ∧ ∀ i, i < nO m → σ 20 36 i = nI (oc m i)
theorem RdM.fr {σ τ : St} {m : Nat → Int32} (h : RdM σ m) (f : F50 σ τ) : RdM τ m := ⟨by rw [f 20 1 (by omega)]; exact h.1, fun p q hp hq => by rw [f 20 34 (by omega)]; exact h.2.1 p q hp hq, fun i hi => by rw [f 20 36 (by omega)]; exact h.2.2 i hi⟩
theorem in_dI {v X : Nat} {σ : St} (hv : v ≤ 1000000) (hX : X < 2147483648) : F_X12_in (dI v) (0 : Int32) (nI X) σ = some (if v < 1000000 ∧ v ≤ X then 1 else 0) := by
  rw [in_eq]
  by_cases q : v < 1000000
  · rw [dI_fin q]
    by_cases z : v ≤ X
    · rw [if_pos ⟨nI_pos (by omega), nI_nlt z (by omega)⟩, if_pos ⟨q, z⟩]
    · rw [if_neg (fun w => w.2 (nI_lt (by omega) (by omega))), if_neg (fun w => z w.2)]
  · rw [if_neg (fun w => w.1 ((dI_neg hv).mpr q)), if_neg (fun w => q w.1)]
theorem m_areClose {σ : St} {m : Nat → Int32} {X u v : Nat} (hw : WF m) (h : RdM σ m) (h6 : nO m ≤ 6) (hX : X < 2147483648) (hu : u < nO m) (hv : v < nO m) : F_X12_areClose (nI (oc m u)) (nI (oc m v)) (nI X) σ = some (bI (nr m X u v)) := by
  obtain ⟨ou, -⟩ := oc_ok hu
  obtain ⟨ov, -⟩ := oc_ok hv
  have b3 := hw.2.2.2.1.2
  have b0 := hw.1.1.2
  obtain ⟨cu, -, -, -⟩ := hw.2.2.2.2.2.2.2.2.2.2 (oc m u) ou
  obtain ⟨cv, -, -, -⟩ := hw.2.2.2.2.2.2.2.2.2.2 (oc m v) ov
  have d1 := (DD_bd hw cu.2 cv.2).1
  have d2 := (DD_bd hw cv.2 cu.2).1
  have c0 : ∀ q, q < cn (m 3) → F_X12_call (nI q) (0 : Int32) σ = some (m (160 + 6 * q)) := fun q hq => by rw [show (0 : Int32) = nI 0 from rfl, m_call (by omega) (by decide), h.1]; rfl
  have e8 : ∀ a b : Nat, (8 : Int32) * nI a + nI b = nI (8 * a + b) := fun a b => by rw [← nI_add, ← nI_mulc]; rfl
  unfold F_X12_areClose
  rw [c0 _ ou, some_b, c0 _ ov, some_b, cu.1.1, cv.1.1, e8, rdo_nI (by have := cu.2; have := cv.2; omega) (by decide), some_b, some_b, some_b, e8, rdo_nI (by have := cu.2; have := cv.2; omega) (by decide), some_b, h.2.1 _ _ cu.2 cv.2, h.2.1 _ _ cv.2 cu.2, in_dI d1 hX, some_b, in_dI d2 hX, some_b]
  have e : nr m X u v ↔ ((DD m (cn (m (160 + 6 * oc m u))) (cn (m (160 + 6 * oc m v))) < 1000000 ∧ DD m (cn (m (160 + 6 * oc m u))) (cn (m (160 + 6 * oc m v))) ≤ X) ∨ (DD m (cn (m (160 + 6 * oc m v))) (cn (m (160 + 6 * oc m u))) < 1000000 ∧ DD m (cn (m (160 + 6 * oc m v))) (cn (m (160 + 6 * oc m u))) ≤ X)) := by
    unfold nr nrD cpl
    omega
  unfold bI
  by_cases q1 : DD m (cn (m (160 + 6 * oc m u))) (cn (m (160 + 6 * oc m v))) < 1000000 ∧ DD m (cn (m (160 + 6 * oc m u))) (cn (m (160 + 6 * oc m v))) ≤ X
  · rw [if_pos q1, if_neg (show ¬ (1 : Int32) = 0 by decide), if_pos (e.mpr (Or.inl q1))]
  · rw [if_neg q1, if_pos rfl]
    by_cases q2 : DD m (cn (m (160 + 6 * oc m v))) (cn (m (160 + 6 * oc m u))) < 1000000 ∧ DD m (cn (m (160 + 6 * oc m v))) (cn (m (160 + 6 * oc m u))) ≤ X
    · rw [if_pos q2, if_neg (show ¬ (1 : Int32) = 0 by decide), if_pos (e.mpr (Or.inr q2))]
    · rw [if_neg q2, if_pos rfl, if_neg (fun z => (e.mp z).elim q1 q2)]
theorem m_col23 {rec : Int32 → Int32 → Int32 → Int32 → St → Option (Int32 × St)} {m : Nat → Int32} {X at_ j k : Nat} {c : Nat → Nat} {x y : Int32} {τ : St} (hw : WF m) (h6 : nO m ≤ 6) (hX : X < 2147483648) (h : RdM τ m) (ha : at_ < nO m) (hj : j ≤ 6) (hcb : ∀ i, i < at_ → c i ≤ 6) (h2 : ∀ i, i < at_ → τ 20 50 i = nI (c i)) : iter (fun z => B_X12_colours_23 rec (nI at_) x (nI X) y (nI j) z.1 z.2 τ) ((1 : Int32), (0 : Int32)) = some (bI (∀ u, u < at_ → c u = j → ¬ nr m X u at_)) := by
  have key := iter_row (f := fun z => B_X12_colours_23 rec (nI at_) x (nI X) y (nI j) z.1 z.2 τ) (fun k => (bI (∀ u, u < k → c u = j → ¬ nr m X u at_), nI k)) at_ (bI (∀ u, u < at_ → c u = j → ¬ nr m X u at_)) ?_ ?_ 0 (Nat.zero_le _)
  · rw [← key]
    have : bI (∀ u, u < 0 → c u = j → ¬ nr m X u at_) = 1 := by unfold bI; rw [if_pos (fun u hu => absurd hu (Nat.not_lt_zero u))]
    rw [this]; rfl
  · intro k hk
    have hck := hcb k hk
    show B_X12_colours_23 rec (nI at_) x (nI X) y (nI j) (bI (∀ u, u < k → c u = j → ¬ nr m X u at_)) (nI k) τ = _
    unfold B_X12_colours_23
    rw [if_pos (nI_lt hk (by omega)), rdo_nI (by omega) (by decide), some_b, h2 k hk, rdo_nI (by omega) (by decide), some_b, rdo_nI (by omega) (by decide), some_b, h.2.2 k (by omega), h.2.2 at_ ha, m_areClose hw h h6 hX (by omega) ha, some_b]
    by_cases p : ∀ u, u < k → c u = j → ¬ nr m X u at_
    · have e1 : bI (∀ u, u < k → c u = j → ¬ nr m X u at_) = 1 := by unfold bI; rw [if_pos p]
      rw [e1, if_neg (show ¬ (1 : Int32) = 0 by decide)]
      by_cases q : c k = j
      · rw [if_pos (by rw [q])]
        by_cases r : nr m X k at_
        · have e2 : bI (∀ u, u < k + 1 → c u = j → ¬ nr m X u at_) = 0 := by unfold bI; rw [if_neg (fun z => z k (by omega) q r)]
          have e3 : bI (nr m X k at_) = 1 := by unfold bI; rw [if_pos r]
          rw [e3, if_neg (show ¬ (1 : Int32) = 0 by decide), some_b, nI_1, e2]
        · have e2 : bI (∀ u, u < k + 1 → c u = j → ¬ nr m X u at_) = 1 := by
            unfold bI
            rw [if_pos]
            intro u hu hc
            by_cases e : u = k
            · subst e; exact r
            · exact p u (by omega) hc
          have e3 : bI (nr m X k at_) = 0 := by unfold bI; rw [if_neg r]
          rw [e3, if_pos rfl, some_b, nI_1, e2]
      · have e2 : bI (∀ u, u < k + 1 → c u = j → ¬ nr m X u at_) = 1 := by
          unfold bI
          rw [if_pos]
          intro u hu hc
          by_cases e : u = k
          · subst e; exact absurd hc q
          · exact p u (by omega) hc
        rw [if_neg (show ¬ nI (c k) = nI j by rw [nI_eq (by omega) (by omega)]; exact q), some_b, nI_1, e2]
    · have e1 : bI (∀ u, u < k → c u = j → ¬ nr m X u at_) = 0 := by unfold bI; rw [if_neg p]
      have e2 : bI (∀ u, u < k + 1 → c u = j → ¬ nr m X u at_) = 0 := by unfold bI; rw [if_neg (fun z => p (fun u hu => z u (by omega)))]
      rw [e1, if_pos rfl, some_b, nI_1, e2]
  · show B_X12_colours_23 rec (nI at_) x (nI X) y (nI j) _ (nI at_) τ = _
    unfold B_X12_colours_23
    rw [if_neg (nI_nlt (Nat.le_refl _) (by omega))]
def EM (g : Nat → Nat → Prop) (n k at_ : Nat) (c d : Nat → Nat) : Prop := (∀ i, i < at_ → d i = c i) ∧ PrC g n k d
theorem m_colours {m : Nat → Int32} {X k : Nat} (hw : WF m) (h6 : nO m ≤ 6) (hX : X < 2147483648) (hk : k ≤ 6) : ∀ d f at_ c τ, at_ + d = nO m → d < f → RdM τ m → (∀ i, i < at_ → τ 20 50 i = nI (c i)) → (∀ i, i < at_ → c i < k) → prp (nr m X) at_ c → Ret (F_X12_colours f (nI at_) (nI (nO m)) (nI X) (nI k) τ) (fun r => F50 τ r.2 ∧ (∀ i, i < at_ → r.2 20 50 i = nI (c i)) ∧ ((r.1 = 1 ∧ ∃ e, EM (nr m X) (nO m) k at_ c e ∧ (∀ i, i < nO m → r.2 20 50 i = nI (e i)) ∧ ∀ d, EM (nr m X) (nO m) k at_ c d → lexle (nO m) e d) ∨ (r.1 = 0 ∧ ∀ d, ¬ EM (nr m X) (nO m) k at_ c d))) := by
  intro d
  induction d with
  | zero =>
    intro f at_ c τ he hf h h2 hc hP
    have ea : at_ = nO m := by omega
    obtain ⟨f, rfl⟩ : ∃ f', f = f' + 1 := ⟨f - 1, by omega⟩
    show Ret (G_X12_colours (F_X12_colours f) (nI at_) (nI (nO m)) (nI X) (nI k) τ) _
    unfold G_X12_colours
    rw [if_pos (by rw [ea])]
    exact Ret.some ⟨F50.rf τ, h2, Or.inl ⟨rfl, c, ⟨fun _ _ => rfl, fun i hi => hc i (by omega), fun i j hij hj => hP i j hij (by omega)⟩, fun i hi => h2 i (by omega), fun d hd => Or.inl (fun i hi => (hd.1 i (by omega)).symm)⟩⟩
  | succ d ih =>
    intro f at_ c τ he hf h h2 hc hP
    have ha : at_ < nO m := by omega
    obtain ⟨f, rfl⟩ : ∃ f', f = f' + 1 := ⟨f - 1, by omega⟩
    show Ret (G_X12_colours (F_X12_colours f) (nI at_) (nI (nO m)) (nI X) (nI k) τ) _
    unfold G_X12_colours
    rw [if_neg (show ¬ nI at_ = nI (nO m) by rw [nI_eq (by omega) (by omega)]; omega)]
    refine Ret.bindL (Q := fun υ => F50 τ υ ∧ (∀ i, i < at_ → υ 20 50 i = nI (c i)) ∧ ∀ d, ¬ EM (nr m X) (nO m) k at_ c d) ?_ (fun υ hυ => Ret.some ⟨hυ.1, hυ.2.1, Or.inr ⟨rfl, hυ.2.2⟩⟩)
    refine iter_cnt (f := fun z => B_X12_colours_10 (F_X12_colours f) (nI at_) (nI (nO m)) (nI X) (nI k) z.1 z.2) (fun j (υ : St) => (nI j, υ)) (fun j υ => F50 τ υ ∧ (∀ i, i < at_ → υ 20 50 i = nI (c i)) ∧ ∀ d, EM (nr m X) (nO m) k at_ c d → j ≤ d at_) k ?_ ?_ τ ⟨F50.rf τ, h2, fun d _ => Nat.zero_le _⟩
    · rintro j υ hj ⟨u1, u2, u3⟩
      have hυ := h.fr u1
      show Ret (B_X12_colours_10 (F_X12_colours f) (nI at_) (nI (nO m)) (nI X) (nI k) (nI j) υ) _
      unfold B_X12_colours_10
      rw [if_pos (nI_lt hj (by omega)), m_col23 (k := k) hw h6 hX hυ ha (by omega) (fun i hi => by have := hc i hi; omega) u2, some_b, wro_nI (by omega) (by decide), some_b]
      have F1 : F50 τ (up3 υ 20 50 at_ (nI j)) := u1.up
      have u2' : ∀ i, i < at_ → up3 υ 20 50 at_ (nI j) 20 50 i = nI (c i) := fun i hi => by rw [up3_i (by omega)]; exact u2 i hi
      by_cases p : ∀ u, u < at_ → c u = j → ¬ nr m X u at_
      · have e1 : bI (∀ u, u < at_ → c u = j → ¬ nr m X u at_) = 1 := by unfold bI; rw [if_pos p]
        rw [e1, if_neg (show ¬ (1 : Int32) = 0 by decide)]
        have hc' : ∀ i, i < at_ → (fun i => if i = at_ then j else c i) i = c i := fun i hi => if_neg (by omega)
        have hca : (fun i => if i = at_ then j else c i) at_ = j := if_pos rfl
        generalize (fun i => if i = at_ then j else c i) = c' at hc' hca
        have hP' : prp (nr m X) (at_ + 1) c' := by
          intro x y hxy hy hcc
          by_cases e : y = at_
          · subst e
            rw [hca, hc' x hxy] at hcc
            exact p x hxy hcc
          · rw [hc' x (by omega), hc' y (by omega)] at hcc
            exact hP x y hxy (by omega) hcc
        have hex : ∀ d, EM (nr m X) (nO m) k (at_ + 1) c' d ↔ (EM (nr m X) (nO m) k at_ c d ∧ d at_ = j) := by
          intro d
          constructor
          · intro hd
            exact ⟨⟨fun i hi => (hd.1 i (by omega)).trans (hc' i hi), hd.2⟩, (hd.1 at_ (by omega)).trans hca⟩
          · rintro ⟨hd, hj'⟩
            refine ⟨fun i hi => ?_, hd.2⟩
            by_cases e : i = at_
            · subst e; rw [hj', hca]
            · rw [hc' i (by omega)]; exact hd.1 i (by omega)
        have R1 := ih f (at_ + 1) c' (up3 υ 20 50 at_ (nI j)) (by omega) (by omega) (h.fr F1) (fun i hi => ?_) (fun i hi => ?_) hP'
        · rw [← nI_1] at R1
          refine Ret.bind R1 ?_
          rintro r ⟨r1, r2, r3⟩
          have FR := F1.tr r1
          have r2' : ∀ i, i < at_ → r.2 20 50 i = nI (c i) := fun i hi => by rw [r2 i (by omega), hc' i hi]
          rcases r3 with ⟨q1, e, x1, x2, x3⟩ | ⟨q1, q2⟩
          · rw [q1, if_neg (show ¬ (1 : Int32) = 0 by decide)]
            have hej := (hex e).mp x1
            have fin : F50 τ (1, r.2).2 ∧ (∀ i, i < at_ → ((1 : Int32), r.2).2 20 50 i = nI (c i)) ∧ (((1 : Int32), r.2).1 = 1 ∧ ∃ e, EM (nr m X) (nO m) k at_ c e ∧ (∀ i, i < nO m → ((1 : Int32), r.2).2 20 50 i = nI (e i)) ∧ ∀ d, EM (nr m X) (nO m) k at_ c d → lexle (nO m) e d) := by
              refine ⟨FR, r2', rfl, e, hej.1, x2, fun d hd => ?_⟩
              by_cases z : d at_ = j
              · exact x3 d ((hex d).mpr ⟨hd, z⟩)
              · right
                refine ⟨at_, ha, fun i hi => ?_, ?_⟩
                · rw [hej.1.1 i hi, hd.1 i hi]
                · have := u3 d hd; omega
            exact ⟨_, rfl, fin.1, fin.2.1, Or.inl fin.2.2⟩
          · rw [q1, if_pos rfl, nI_1]
            refine Ret.some ⟨r.2, rfl, FR, r2', fun d hd => ?_⟩
            have h1 := u3 d hd
            by_cases z : d at_ = j
            · exact absurd ((hex d).mpr ⟨hd, z⟩) (q2 d)
            · omega
        · by_cases e : i = at_
          · subst e; rw [up3_same, hca]
          · rw [up3_i e, u2 i (by omega), hc' i (by omega)]
        · by_cases e : i = at_
          · subst e; rw [hca]; exact hj
          · rw [hc' i (by omega)]; exact hc i (by omega)
      · have e1 : bI (∀ u, u < at_ → c u = j → ¬ nr m X u at_) = 0 := by unfold bI; rw [if_neg p]
        rw [e1, if_pos rfl, nI_1]
        refine Ret.some ⟨_, rfl, F1, u2', fun d hd => ?_⟩
        have h1 := u3 d hd
        by_cases z : d at_ = j
        · exfalso
          apply p
          intro u hu hcu hg
          exact hd.2.2 u at_ hu ha (by rw [hd.1 u hu, hcu, z]) hg
        · omega
    · rintro υ ⟨u1, u2, u3⟩
      show Ret (B_X12_colours_10 (F_X12_colours f) (nI at_) (nI (nO m)) (nI X) (nI k) (nI k) υ) _
      unfold B_X12_colours_10
      rw [if_neg (nI_nlt (Nat.le_refl _) (by omega))]
      exact ⟨_, rfl, u1, u2, fun d hd => by have := u3 d hd; have := hd.2.1 at_ ha; omega⟩
theorem m_radio {σ : St} {m : Nat → Int32} {k X : Nat} (R : Rok m) (hm : σ 20 1 = m) (hs : szM σ k) (hk : k ≤ 100) (hX : X < 2147483648) : Ret (F_X12_tellRadio (nI X) σ) (AskM σ (raT m X)) := by
  have hw := R.1
  have b3 := hw.2.2.2.1
  have b3' := b3.2
  have h6 := nO_6 R
  have h6' : (flt (opC m) (cn (m 3))).length ≤ 6 := h6
  unfold F_X12_tellRadio
  refine Ret.bind (m_findDistances (by rw [hm]; exact hw)) ?_
  rintro τ ⟨t1, t2⟩
  have mt : τ 20 1 = m := by rw [t1 20 1 (fun z => by omega)]; exact hm
  have hT : TabR τ m := by have := t2.r; rw [mt] at this; exact this
  refine Ret.bind (Q := fun z => z.1 = nI (nO m) ∧ (∀ a b, ¬ (a = 20 ∧ b = 36) → z.2 a b = τ a b) ∧ ∀ i, i < nO m → z.2 20 36 i = nI (oc m i)) ?_ ?_
  · refine iter_cnt (f := fun z => B_X12_tellRadio_8 (nI X) z.1 z.2.1 z.2.2) (fun j (υ : St) => (nI (flt (opC m) j).length, nI j, υ)) (fun j υ => (∀ a b, ¬ (a = 20 ∧ b = 36) → υ a b = τ a b) ∧ ∀ i, i < (flt (opC m) j).length → υ 20 36 i = nI ((flt (opC m) j).getD i 0)) (cn (m 3)) ?_ ?_ τ ⟨fun _ _ _ => rfl, fun i hi => absurd hi (Nat.not_lt_zero i)⟩
    · rintro j υ hj ⟨u1, u2⟩
      have mu : υ 20 1 = m := by rw [u1 20 1 (by omega)]; exact mt
      have lt : nI j < m 3 := by rw [b3.1]; exact nI_lt hj (by omega)
      have hlen := flt_mono (p := opC m) (n := cn (m 3)) (k := j + 1) (by omega)
      obtain ⟨-, -, -, p3⟩ := hw.2.2.2.2.2.2.2.2.2.2 j hj
      show Ret (B_X12_tellRadio_8 (nI X) (nI (flt (opC m) j).length) (nI j) υ) _
      unfold B_X12_tellRadio_8
      rw [m_rd3, some_b, mu, if_pos lt, show (3 : Int32) = nI 3 from rfl, m_call (by omega) (by decide), some_b, mu]
      by_cases q : m (160 + 6 * j + 3) = 0
      · have nq : ¬ opC m j := fun z => by have z2 := z.2; rw [q] at z2; exact absurd z2 (by decide)
        rw [if_pos q, nI_1]
        refine Ret.some ⟨υ, by rw [flt_neg nq], u1, by rw [flt_neg nq]; exact u2⟩
      · have oq : opC m j := ⟨hj, p3.resolve_left q⟩
        have hl : (flt (opC m) (j + 1)).length = (flt (opC m) j).length + 1 := by rw [flt_pos oq, List.length_append]; rfl
        rw [if_neg q, wro_nI (by omega) (by decide), some_b, nI_1, nI_1]
        refine Ret.some ⟨_, by rw [hl], fun a b h => ?_, fun i hi => ?_⟩
        · rw [show up3 υ 20 36 (flt (opC m) j).length (nI j) a b = υ a b by
            by_cases e : a = 20
            · subst e; exact up3_j (fun z => h ⟨rfl, z⟩)
            · rw [up3_g e]]
          exact u1 a b h
        · rw [hl] at hi
          rw [flt_pos oq]
          by_cases z : i < (flt (opC m) j).length
          · rw [up3_i (by omega), gd_l z]; exact u2 i z
          · have e : i = (flt (opC m) j).length := by omega
            rw [e, up3_same, gd_r]; rfl
    · rintro υ ⟨u1, u2⟩
      have mu : υ 20 1 = m := by rw [u1 20 1 (by omega)]; exact mt
      have nlt : ¬ nI (cn (m 3)) < m 3 := by
        conv => rhs; rhs; rw [b3.1]
        exact nI_nlt (Nat.le_refl _) (by omega)
      show Ret (B_X12_tellRadio_8 (nI X) (nI (flt (opC m) (cn (m 3))).length) (nI (cn (m 3))) υ) _
      unfold B_X12_tellRadio_8
      rw [m_rd3, some_b, mu, if_neg nlt]
      exact ⟨_, rfl, rfl, u1, u2⟩
  rintro z ⟨z1, z2, z3⟩
  rw [nst_b, z1]
  have RM0 : ∀ v, RdM (up3 z.2 20 0 50 v) m := fun v => ⟨by rw [up3_j (by decide), z2 20 1 (by omega)]; exact mt, fun p q hp hq => by rw [up3_j (by decide), z2 20 34 (by omega)]; exact hT p q hp hq, fun i hi => by rw [up3_j (by decide)]; exact z3 i hi⟩
  -- as many colours as are needed
  obtain ⟨k0, hk0, hmin⟩ := least_ex (P := fun q => ∃ d, PrC (nr m X) (nO m) q d) (nO m + 1) ⟨nO m, by omega, _, pr_id (nr m X) (nO m)⟩
  have hk06 : k0 ≤ nO m := by
    rcases Nat.lt_or_ge (nO m) k0 with w | w
    · exact absurd ⟨_, pr_id (nr m X) (nO m)⟩ (hmin (nO m) w)
    · exact w
  refine Ret.bind (Q := fun υ => ∃ e, LfP (nr m X) (nO m) k0 e ∧ (∀ i, i < nO m → υ 20 50 i = nI (e i)) ∧ υ 20 0 50 = nI k0 ∧ ∀ a b i, ¬ (a = 20 ∧ (b = 50 ∨ (b = 0 ∧ i = 50))) → υ a b i = z.2 a b i) ?_ ?_
  · refine iter_cnt (f := fun y => B_X12_tellRadio_51 (nI X) (nI (nO m)) y) (fun j (υ : St) => υ) (fun j υ => υ 20 0 50 = nI j ∧ ∀ a b i, ¬ (a = 20 ∧ (b = 50 ∨ (b = 0 ∧ i = 50))) → υ a b i = z.2 a b i) k0 ?_ ?_ (up3 z.2 20 0 50 0) ⟨up3_same _ _ _ _ _, fun a b i h => ?_⟩
    · rintro j υ hj ⟨u1, u2⟩
      have RM : RdM υ m := ⟨by funext i; rw [u2 20 1 i (by omega), z2 20 1 (by omega), mt], fun p q hp hq => by rw [u2 20 34 _ (by omega), z2 20 34 (by omega)]; exact hT p q hp hq, fun i hi => by rw [u2 20 36 i (by omega)]; exact z3 i hi⟩
      show Ret (B_X12_tellRadio_51 (nI X) (nI (nO m)) υ) _
      unfold B_X12_tellRadio_51
      rw [u1]
      refine Ret.bind (show Ret (F_X12_colours 8 (0 : Int32) (nI (nO m)) (nI X) (nI j) υ) _ from m_colours hw h6 hX (k := j) (by omega) (nO m) 8 0 (fun i => i) υ (by omega) (by omega) RM (fun i hi => absurd hi (Nat.not_lt_zero i)) (fun i hi => absurd hi (Nat.not_lt_zero i)) (fun i j _ hj => absurd hj (Nat.not_lt_zero j))) ?_
      rintro r ⟨r1, -, r3⟩
      rcases r3 with ⟨q1, e, x1, -⟩ | ⟨q1, q2⟩
      · exact absurd ⟨e, x1.2⟩ (hmin j hj)
      · rw [q1, if_pos rfl, nst_b, r1 20 0 (by omega), u1, nI_1]
        refine Ret.some ⟨_, rfl, up3_same _ _ _ _ _, fun a b i h => ?_⟩
        rw [show up3 r.2 20 0 50 (nI (j + 1)) a b i = r.2 a b i by
          unfold up3
          rw [if_neg (fun w => h ⟨w.1, Or.inr w.2⟩)], r1 a b (fun w => h ⟨w.1, Or.inl w.2⟩)]
        exact u2 a b i h
    · rintro υ ⟨u1, u2⟩
      have RM : RdM υ m := ⟨by funext i; rw [u2 20 1 i (by omega), z2 20 1 (by omega), mt], fun p q hp hq => by rw [u2 20 34 _ (by omega), z2 20 34 (by omega)]; exact hT p q hp hq, fun i hi => by rw [u2 20 36 i (by omega)]; exact z3 i hi⟩
      show Ret (B_X12_tellRadio_51 (nI X) (nI (nO m)) υ) _
      unfold B_X12_tellRadio_51
      rw [u1]
      refine Ret.bind (show Ret (F_X12_colours 8 (0 : Int32) (nI (nO m)) (nI X) (nI k0) υ) _ from m_colours hw h6 hX (k := k0) (by omega) (nO m) 8 0 (fun i => i) υ (by omega) (by omega) RM (fun i hi => absurd hi (Nat.not_lt_zero i)) (fun i hi => absurd hi (Nat.not_lt_zero i)) (fun i j _ hj => absurd hj (Nat.not_lt_zero j))) ?_
      rintro r ⟨r1, -, r3⟩
      rcases r3 with ⟨q1, e, x1, x2, x3⟩ | ⟨q1, q2⟩
      · rw [q1, if_neg (show ¬ (1 : Int32) = 0 by decide)]
        refine ⟨_, rfl, e, ⟨x1.2, fun k' hk' d hd => hmin k' hk' ⟨d, hd⟩, fun d hd => x3 d ⟨fun i hi => absurd hi (Nat.not_lt_zero i), hd⟩⟩, x2, by rw [r1 20 0 (by omega)]; exact u1, fun a b i h => ?_⟩
        rw [r1 a b (fun w => h ⟨w.1, Or.inl w.2⟩)]
        exact u2 a b i h
      · obtain ⟨d, hd⟩ := hk0
        exact absurd ⟨fun i hi => absurd hi (Nat.not_lt_zero i), hd⟩ (q2 d)
    · unfold up3
      rw [if_neg (fun w => h ⟨w.1, Or.inr w.2⟩)]
  rintro υ ⟨e, LF, e50, k50, fr⟩
  rw [raT_eq LF]
  have g1 : ∀ b, b ≠ 0 → b ≠ 34 → b ≠ 36 → b ≠ 50 → υ 20 b = σ 20 b := fun b h0 h34 h36 h50 => by
    funext i
    rw [fr 20 b i (by omega), z2 20 b (by omega), t1 20 b (by omega)]
  have g0 : ∀ i, i ≠ 50 → υ 20 0 i = σ 20 0 i := fun i hi => by rw [fr 20 0 i (by omega), z2 20 0 (by omega), t1 20 0 (by omega)]
  have gg : ∀ a, a ≠ 20 → υ a = σ a := fun a ha => by
    funext b i
    rw [fr a b i (by omega), z2 a b (by omega), t1 a b (by omega)]
  have s36 : ∀ i, i < nO m → υ 20 36 i = nI (oc m i) := fun i hi => by rw [fr 20 36 i (by omega)]; exact z3 i hi
  have T0 : TxM σ υ [] := (TxM.rf σ).fr (g1 15 (by decide) (by decide) (by decide) (by decide)) (g0 15 (by decide))
  have s0 : szM υ k := T0.sz hs
  have hcl : ∀ j, (cat (rdJ (oc m) e) j).length ≤ 24 * j := fun j => cat_len (f := rdJ (oc m) e) (B := 24) j (fun k _ => rdJ_len _ _ k)
  have a36 : ∀ l, appM υ l 20 36 = υ 20 36 := fun l => appM_j (by decide) (by decide)
  have a50 : ∀ l, appM υ l 20 50 = υ 20 50 := fun l => appM_j (by decide) (by decide)
  have key := iter_row (f := fun z => B_X12_tellRadio_80 (nI (nO m)) z.1 z.2) (fun j => (nI j, appM υ (cat (rdJ (oc m) e) j))) (nO m) (appM υ (cat (rdJ (oc m) e) (nO m))) ?_ ?_ 0 (Nat.zero_le _)
  · have hc := hcl (nO m)
    rw [show ((0 : Int32), υ) = (nI 0, appM υ (cat (rdJ (oc m) e) 0)) from rfl, key, some_b, appM_0 (by decide), k50, m_numA s0 (okN_nI (by omega)) (by omega), some_b]
    exact Ret.some ⟨T0.app, FrM.app ⟨gg, fun b hb => g1 b (by omega) (by omega) (by omega) (by omega), fun i hi => g0 i (by omega)⟩⟩
  · intro j hj
    have hc := hcl j
    obtain ⟨o1, -⟩ := oc_ok hj
    have ej := LF.1.1 j hj
    have l1 := numL_len (v := nI (oc m j))
    have l2 := numL_len (v := nI (e j))
    show B_X12_tellRadio_80 (nI (nO m)) (nI j) (appM υ (cat (rdJ (oc m) e) j)) = _
    unfold B_X12_tellRadio_80
    rw [if_pos (nI_lt hj (by omega)), rdo_nI (by omega) (by decide), some_b, a36, s36 j hj, m_numA s0 (okN_nI (by omega)) (by omega), some_b, m_putA s0 (by simp only [List.length_append, List.length_cons, List.length_nil]; omega), some_b, rdo_nI (by omega) (by decide), some_b, a50, e50 j hj, m_numA s0 (okN_nI (by omega)) (by simp only [List.length_append, List.length_cons, List.length_nil]; omega), some_b, m_putA s0 (by simp only [List.length_append, List.length_cons, List.length_nil]; omega), some_b, nI_1, show cat (rdJ (oc m) e) (j + 1) = cat (rdJ (oc m) e) j ++ rdJ (oc m) e j from rfl, rdJ]
    simp only [List.append_assoc, List.cons_append, List.nil_append]
  · show B_X12_tellRadio_80 (nI (nO m)) (nI (nO m)) (appM υ (cat (rdJ (oc m) e) (nO m))) = _
    unfold B_X12_tellRadio_80
    rw [if_neg (nI_nlt (Nat.le_refl _) (by omega))]
