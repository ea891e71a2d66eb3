/-! S11: ways, path -/
set_option maxRecDepth 100000
def GrC (σ : St) (h : Nat) (m : Nat → Int32) (l : List Int32) (τ : St) : Prop := HH (τ h) m ∧ (∀ a, a ≠ 1 → a ≠ h → τ a = σ a) ∧ TxC σ τ l
theorem GrC.rf {σ : St} {h : Nat} {m : Nat → Int32} (H : HH (σ h) m) : GrC σ h m [] σ := ⟨H, fun _ _ _ => rfl, TxC.rf σ⟩
theorem GrC.app {σ τ : St} {h : Nat} {m : Nat → Int32} {l l' : List Int32} (G : GrC σ h m l τ) (h1 : h ≠ 1) : GrC σ h m (l ++ l') (appC τ l') := ⟨G.1.app h1, fun a ha hh => by rw [appC_g ha]; exact G.2.1 a ha hh, G.2.2.app⟩
theorem GrC.num {σ τ : St} {h k : Nat} {m : Nat → Int32} {l : List Int32} {v : Int32} (G : GrC σ h m l τ) (hs : szC σ k) (hv : okN v) (hL : k + l.length + 11 ≤ 3200) : F_X1_number v τ = some (appC τ (numL v)) := f_numberC hv (G.2.2.sz hs) (by omega)
theorem GrC.add {σ τ : St} {h k : Nat} {m : Nat → Int32} {l : List Int32} {c : Int32} (G : GrC σ h m l τ) (hs : szC σ k) (hL : k + l.length < 3200) : F_X1_add c τ = some (appC τ [c]) := f_add (G.2.2.sz hs) (by omega) c
theorem GrC.say {σ τ : St} {h k i w : Nat} {m : Nat → Int32} {l : List Int32} (G : GrC σ h m l τ) (hi : i < 54) (hw : w < 45) (e : sTx i = aTx w) (hs : szC σ k) (hL : k + l.length + 11 ≤ 3200) : F_X1_say (nI i) τ = some (appC τ (aTx w)) := by
  have := tx_len w hw
  rw [f_sayC hi (G.2.2.sz hs) (by rw [e]; omega), e]
theorem GrC.told {σ τ : St} {h k : Nat} {m : Nat → Int32} {l : List Int32} {v : Int32} (G : GrC σ h m l τ) (hs : szC σ k) (hv : ¬ v < 0 → okN v) (hL : k + l.length + 11 ≤ 3200) : F_X1_told v τ = some (appC τ (tdL v)) := by
  unfold F_X1_told tdL
  by_cases q : v < 0
  · rw [if_pos q, G.add hs (by omega), some_b, if_pos q]
  · rw [if_neg q, G.num hs (hv q) hL, some_b, if_neg q]
theorem GrC.k {σ τ υ : St} {h : Nat} {m : Nat → Int32} {l : List Int32} (G : GrC σ h m l τ) (h1 : h ≠ 1) (H : HH (υ h) m) (F : FrK τ υ h) : GrC σ h m l υ := ⟨H, fun a ha hh => by rw [F.g hh]; exact G.2.1 a ha hh, G.2.2.g (F.g (fun z => h1 z.symm))⟩
theorem GrC.way {σ τ : St} {h u p : Nat} {m : Nat → Int32} {l : List Int32} (G : GrC σ h m l τ) (hw : WF m) (h1 : h ≠ 1) (hu : u < cn (m 2)) (hp : p < cn (m 0)) : Ret (F_X3_way h (nI u) (nI p) τ) (fun r => r.1 = nI (wyN m u p) ∧ GrC σ h m l r.2) := by
  refine (c_wayH hw G.1 hu hp).mono ?_
  rintro r ⟨r1, r2, r3⟩
  exact ⟨r1, G.k h1 r2 r3⟩
theorem GrC.far {σ τ : St} {h p q : Nat} {m : Nat → Int32} {l : List Int32} (G : GrC σ h m l τ) (hw : WF m) (h1 : h ≠ 1) (hp : p < cn (m 0)) (hq : q < cn (m 0)) : Ret (F_X3_far h (nI p) (nI q) τ) (fun r => r.1 = nI (DD m p q) ∧ GrC σ h m l r.2) := by
  refine (c_far hw G.1.1 G.1.2.1 hp hq).mono ?_
  rintro r ⟨r1, r2, r3, -⟩
  exact ⟨r1, G.k h1 (G.1.frK r2 r3) r2⟩
theorem GrC.next {σ τ : St} {h p q : Nat} {m : Nat → Int32} {l : List Int32} (G : GrC σ h m l τ) (hw : WF m) (h1 : h ≠ 1) (hp : p < cn (m 0)) (hq : q < cn (m 0)) : Ret (F_X3_nextPlace h (nI p) (nI q) τ) (fun r => r.1 = nxI m p q ∧ GrC σ h m l r.2) := by
  refine (c_nextPlace hw G.1.1 G.1.2.1 hp hq).mono ?_
  rintro r ⟨r1, r2, r3⟩
  exact ⟨r1, G.k h1 (G.1.frK r2 r3) r2⟩
theorem GrC.ask {σ τ : St} {m : Nat → Int32} {l : List Int32} (G : GrC σ 3 m l τ) (B5 : HB (σ 5)) : AskC σ m l τ := ⟨G.2.2, fun a ha => G.2.1 a (by omega) (by omega), fun b _ => by rw [G.2.1 0 (by decide) (by decide)], G.1, by rw [G.2.1 5 (by decide) (by decide)]; exact B5⟩
/-- ways -/
noncomputable def wsJ (m : Nat → Int32) (u p : Nat) : List Int32 := tdL (dI (wyN m u p)) ++ [32]
noncomputable def wsT (m : Nat → Int32) (u : Nat) : List Int32 := if u < cn (m 2) then cat (wsJ m u) (cn (m 0)) ++ [46] else aTx 10
theorem wsJ_len (m : Nat → Int32) (u p : Nat) : (wsJ m u p).length ≤ 12 := by
  have := tdL_len (dI (wyN m u p))
  unfold wsJ
  simp only [List.length_append, List.length_cons, List.length_nil]; omega
theorem wsT_len {m : Nat → Int32} (hw : WF m) (u : Nat) : (wsT m u).length ≤ 100 := by
  have b0 := hw.1.1.2
  have h1 := cat_len (f := wsJ m u) (B := 12) (cn (m 0)) (fun k _ => wsJ_len m u k)
  have h2 := tx_len 10 (by decide)
  unfold wsT
  split
  · simp only [List.length_append, List.length_cons, List.length_nil]; omega
  · omega
theorem wsT_asc (m : Nat → Int32) (u : Nat) : asc (wsT m u) := by
  unfold wsT
  split
  · exact asc_app (cat_asc _ (fun k _ => asc_app (tdL_asc _) (asc_1 (n := 32) (by decide) rfl))) (asc_1 (n := 46) (by decide) rfl)
  · exact tx_asc 10 (by decide)
theorem dI_ok {v : Nat} (h : v ≤ 1000000) : ¬ dI v < 0 → okN (dI v) := by
  intro q
  unfold dI at q ⊢
  split
  · rename_i z
    rw [if_pos z] at q
    exact absurd (by decide) q
  · exact okN_nI (by omega)
theorem c_ways {σ : St} {m : Nat → Int32} {k u : Nat} (hw : WF m) (H : HH (σ 3) m) (B5 : HB (σ 5)) (hs : szC σ k) (hk : k ≤ 100) (hu : u < 2147483648) : Ret (F_X0_ways (nI u) σ) (AskC σ m (wsT m u)) := by
  have b0 := hw.1.1
  have b0' := b0.2
  unfold F_X0_ways wsT
  rw [c_isUnit hw H.1 hu, some_b]
  by_cases c : u < cn (m 2)
  · rw [if_pos c, if_neg (show ¬ (1 : Int32) = 0 by decide), if_pos c]
    have hcl : ∀ j, (cat (wsJ m u) j).length ≤ 12 * j := fun j => cat_len (f := wsJ m u) (B := 12) j (fun k _ => wsJ_len m u k)
    refine Ret.bind (Q := GrC σ 3 m (cat (wsJ m u) (cn (m 0)))) ?_ ?_
    · refine iter_cnt (f := fun z => B_X0_ways_23 (nI u) z.1 z.2) (fun j (τ : St) => (nI j, τ)) (fun j τ => GrC σ 3 m (cat (wsJ m u) j) τ) (cn (m 0)) ?_ ?_ σ (GrC.rf H)
      · rintro j τ hj G
        have hc := hcl j
        have wb := (wyN_bd hw c hj).1
        show Ret (B_X0_ways_23 (nI u) (nI j) τ) _
        unfold B_X0_ways_23
        rw [G.1.1.1.1, b0.1, if_pos (nI_lt hj (by omega))]
        refine Ret.bind (G.way hw (by decide) c hj) ?_
        rintro r ⟨r1, G1⟩
        rw [r1]
        refine Ret.bind (Q := fun z => z.1 = dI (wyN m u j) ∧ GrC σ 3 m (cat (wsJ m u) j) z.2) ?_ ?_
        · by_cases q : wyN m u j < 1000000
          · rw [if_pos (ltF q)]
            refine Ret.bind (G1.way hw (by decide) c hj) ?_
            rintro r' ⟨r1', G2⟩
            exact Ret.some ⟨by show r'.1 = _; rw [r1', dI_fin q], G2⟩
          · rw [if_neg (nltF (by omega) (by omega))]
            have e : wyN m u j = 1000000 := by omega
            exact Ret.some ⟨by show (-1 : Int32) = _; rw [e, dI_far], G1⟩
        · rintro z ⟨z1, G2⟩
          rw [z1, G2.told hs (dI_ok wb) (by omega), some_b]
          have l1 := tdL_len (dI (wyN m u j))
          have G3 := G2.app (l' := tdL (dI (wyN m u j))) (by decide)
          rw [G3.add hs (by rw [List.length_append]; omega), some_b, nI_1]
          refine Ret.some ⟨_, rfl, ?_⟩
          have := G3.app (l' := [32]) (by decide)
          rw [List.append_assoc] at this
          exact this
      · rintro τ G
        show Ret (B_X0_ways_23 (nI u) (nI (cn (m 0))) τ) _
        unfold B_X0_ways_23
        rw [G.1.1.1.1, b0.1, cn_nI (by omega), if_neg (nI_nlt (Nat.le_refl _) (by omega))]
        exact Ret.some G
    · rintro τ G
      have hc := hcl (cn (m 0))
      rw [G.add hs (by omega), some_b]
      exact Ret.some ((G.app (by decide)).ask B5)
  · rw [if_neg c, if_pos rfl, if_neg c]
    have G := GrC.rf H
    rw [show (11 : Int32) = nI 11 from rfl, G.say (i := 11) (w := 10) (by decide) (by decide) (tx_eq (11, 10) (by decide)) hs (by rw [List.length_nil]; omega), some_b]
    exact Ret.some ((G.app (by decide)).ask B5)
theorem FrM.f34 {σ τ : St} (f : Fr σ τ 20 34) : FrM σ τ := ⟨fun a ha => by funext b; exact f a b (fun z => ha z.1), fun b hb => f 20 b (fun z => by omega), fun i _ => by rw [f 20 0 (fun z => by omega)]⟩
theorem m_ways {σ : St} {m : Nat → Int32} {k u : Nat} (hw : WF m) (hm : σ 20 1 = m) (hs : szM σ k) (hk : k ≤ 100) (c : u < cn (m 2)) : Ret (F_X12_tellWays (nI u) σ) (AskM σ (wsT m u)) := by
  have b0 := hw.1.1
  have b0' := b0.2
  unfold F_X12_tellWays wsT
  rw [if_pos c]
  refine Ret.bind (m_findDistances (by rw [hm]; exact hw)) ?_
  rintro τ ⟨t1, t2⟩
  have mt : τ 20 1 = m := by rw [t1 20 1 (fun z => by omega)]; exact hm
  have hst : szM τ k := by unfold szM; rw [t1 20 0 (fun z => by omega)]; exact hs
  have hT : TabR τ m := by have := t2.r; rw [mt] at this; exact this
  have hcl : ∀ j, (cat (wsJ m u) j).length ≤ 12 * j := fun j => cat_len (f := wsJ m u) (B := 12) j (fun k _ => wsJ_len m u k)
  have g1 : ∀ l, appM τ l 20 1 = m := fun l => by rw [appM_j (by decide) (by decide)]; exact mt
  have gT : ∀ l, TabR (appM τ l) m := fun l p q hp hq => by rw [appM_j (by decide) (by decide)]; exact hT p q hp hq
  have key := iter_row (f := fun z => B_X12_tellWays_6 (nI u) z.1 z.2) (fun j => (nI j, appM τ (cat (wsJ m u) j))) (cn (m 0)) (appM τ (cat (wsJ m u) (cn (m 0)))) ?_ ?_ 0 (Nat.zero_le _)
  · have hc := hcl (cn (m 0))
    rw [show ((0 : Int32), τ) = (nI 0, appM τ (cat (wsJ m u) 0)) from rfl, key, some_b, m_putA hst (by omega), some_b]
    refine Ret.some ⟨((TxM.rf σ).fr (t1 20 15 (fun z => by omega)) (by rw [t1 20 0 (fun z => by omega)])).app, (FrM.f34 t1).app⟩
  · intro j hj
    have hc := hcl j
    have wb := (wyN_bd hw c hj).1
    have l1 := tdL_len (dI (wyN m u j))
    show B_X12_tellWays_6 (nI u) (nI j) (appM τ (cat (wsJ m u) j)) = _
    unfold B_X12_tellWays_6
    rw [m_rd0, some_b, g1, b0.1, if_pos (nI_lt hj (by omega)), m_wayOf hw (g1 _) (gT _) c hj, some_b]
    have tl : (if dI (wyN m u j) < 0 then (F_X12_put (45 : Int32) (appM τ (cat (wsJ m u) j))).bind (fun s1005 => some s1005) else (F_X12_number (dI (wyN m u j)) (appM τ (cat (wsJ m u) j))).bind (fun s1004 => some s1004)) = some (appM τ (cat (wsJ m u) j ++ tdL (dI (wyN m u j)))) := by
      unfold tdL
      by_cases q : dI (wyN m u j) < 0
      · rw [if_pos q, if_pos q, m_putA hst (by omega), some_b]
      · rw [if_neg q, if_neg q, m_numA hst (dI_ok wb q) (by omega), some_b]
    rw [tl, some_b, m_putA hst (by rw [List.length_append]; omega), some_b, nI_1, show cat (wsJ m u) (j + 1) = cat (wsJ m u) j ++ wsJ m u j from rfl, wsJ, List.append_assoc]
  · show B_X12_tellWays_6 (nI u) (nI (cn (m 0))) (appM τ (cat (wsJ m u) (cn (m 0)))) = _
    unfold B_X12_tellWays_6
    rw [m_rd0, some_b, g1, b0.1, cn_nI (by omega), if_neg (nI_nlt (Nat.le_refl _) (by omega))]
/-- there is a next place -/
theorem DD_min {m : Nat → Int32} {p q d : Nat} (h : Walk m p q d) : Walk m p q (DD m p q) ∧ ∀ e, Walk m p q e → DD m p q ≤ e := by
  obtain ⟨x, h1, h2⟩ := least_ex (P := fun e => Walk m p q e) (d + 1) ⟨d, by omega, h⟩
  have hl : ∀ e, Walk m p q e → x ≤ e := fun e he => by
    rcases Nat.lt_or_ge e x with z | z
    · exact absurd he (h2 e z)
    · exact z
  rw [DD_of h1 hl]
  exact ⟨h1, hl⟩
theorem DD_fin {m : Nat → Int32} {p q : Nat} (h : DD m p q < 1000000) : ∃ d, Walk m p q d := by
  by_cases q' : ∃ d, Walk m p q d
  · exact q'
  · rw [DD_none (fun d hd => q' ⟨d, hd⟩)] at h
    omega
theorem nx_ex {m : Nat → Int32} {p g : Nat} (hpg : p ≠ g) (h : DD m p g < 1000000) : ∃ q, nx m p g q := by
  obtain ⟨d, hd⟩ := DD_fin h
  obtain ⟨⟨n, h1⟩, h2⟩ := DD_min hd
  cases n with
  | zero => exact absurd h1.1 hpg
  | succ n =>
    obtain ⟨r, w, e, ha, hr, he⟩ := h1
    obtain ⟨k, k1, k2, k3⟩ := ha
    obtain ⟨w1, w2⟩ := DD_min (m := m) (p := r) (q := g) ⟨n, hr⟩
    have h3 := w2 e ⟨n, hr⟩
    have h4 := h2 _ (Walk.cons ⟨k, k1, k2, k3⟩ w1)
    refine ⟨r, h, k, k1, k2, ?_⟩
    rw [← k3]
    omega
theorem nxI_ok {m : Nat → Int32} (hw : WF m) {p g : Nat} (hpg : p ≠ g) (h : DD m p g < 1000000) : ∃ q, nxI m p g = nI q ∧ q < cn (m 0) ∧ DD m q g < DD m p g := by
  rcases leastI_cases (nx m p g) with ⟨q, q1, -, q3⟩ | ⟨q1, -⟩
  · refine ⟨q, q3, nx_lt hw q1, ?_⟩
    obtain ⟨-, k, k1, k2, k3⟩ := q1
    have := (sec_lt hw k1).1
    omega
  · obtain ⟨q, hq⟩ := nx_ex hpg h
    exact absurd hq (q1 q)
noncomputable def pk (m : Nat → Int32) (g p : Nat) : Nat := sumN (fun q => if DD m q g < DD m p g then 1 else 0) (cn (m 0))
theorem sumN_lt {f g : Nat → Nat} : ∀ {n k : Nat}, (∀ i, i < n → f i ≤ g i) → k < n → f k < g k → sumN f n < sumN g n := by
  intro n
  induction n with
  | zero => intro k _ hk; omega
  | succ n ih =>
    intro k h hk hl
    rw [sumN_s, sumN_s]
    have hn := h n (by omega)
    by_cases e : k = n
    · subst e
      have : ∀ j, j ≤ k → sumN f j ≤ sumN g j := by
        intro j
        induction j with
        | zero => intro _; exact Nat.le_refl _
        | succ j ij => intro hj; rw [sumN_s, sumN_s]; have := ij (by omega); have := h j (by omega); omega
      have := this k (Nat.le_refl _)
      omega
    · have := ih (k := k) (fun i hi => h i (by omega)) (by omega) hl
      omega
theorem pk_lt {m : Nat → Int32} {g p q : Nat} (hq : q < cn (m 0)) (h : DD m q g < DD m p g) : pk m g q < pk m g p := by
  unfold pk
  refine sumN_lt (k := q) ?_ hq ?_
  · intro i _
    by_cases z : DD m i g < DD m q g
    · rw [if_pos z, if_pos (by omega)]; exact Nat.le_refl _
    · rw [if_neg z]; exact Nat.zero_le _
  · rw [if_neg (Nat.lt_irrefl _), if_pos h]
    exact Nat.zero_lt_one
theorem pk_le {m : Nat → Int32} (hw : WF m) (g p : Nat) : pk m g p ≤ 8 := by
  have b0 := hw.1.1.2
  unfold pk
  have := sumN_le (f := fun q => if DD m q g < DD m p g then 1 else 0) (B := 1) (n := cn (m 0)) (fun k _ => by split <;> omega)
  omega
noncomputable def ptL (m : Nat → Int32) (g : Nat) : Nat → Nat → List Int32
  | 0, _ => []
  | f + 1, p => if p = g then [] else [32] ++ numL (nxI m p g) ++ ptL m g f (cn (nxI m p g))
theorem ptL_len (m : Nat → Int32) (g : Nat) : ∀ f p, (ptL m g f p).length ≤ 12 * f := by
  intro f
  induction f with
  | zero => intro p; exact Nat.le_refl _
  | succ f ih =>
    intro p
    have h1 := ih (cn (nxI m p g))
    have h2 := numL_len (v := nxI m p g)
    unfold ptL
    split
    · exact Nat.zero_le _
    · simp only [List.length_append, List.length_cons, List.length_nil]; omega
theorem ptL_asc (m : Nat → Int32) (g : Nat) : ∀ f p, asc (ptL m g f p) := by
  intro f
  induction f with
  | zero => intro p; exact asc_nil
  | succ f ih =>
    intro p
    unfold ptL
    split
    · exact asc_nil
    · exact asc_app (asc_app (asc_1 (n := 32) (by decide) rfl) (asc_numL _)) (ih _)
noncomputable def paT (m : Nat → Int32) (u g : Nat) : List Int32 := if u < cn (m 2) then (if g < cn (m 0) then (if wyN m u g < 1000000 then numL (m (110 + 8 * u + 2)) ++ ptL m g 9 (cn (m (110 + 8 * u + 2))) ++ [59] ++ numL (nI (wyN m u g)) else aTx 17) else aTx 4) else aTx 10
theorem paT_len (m : Nat → Int32) (u g : Nat) : (paT m u g).length ≤ 140 := by
  have h1 := numL_len (v := m (110 + 8 * u + 2))
  have h2 := numL_len (v := nI (wyN m u g))
  have h3 := ptL_len m g 9 (cn (m (110 + 8 * u + 2)))
  have h4 := tx_len 17 (by decide)
  have h5 := tx_len 4 (by decide)
  have h6 := tx_len 10 (by decide)
  unfold paT
  split
  · split
    · split
      · simp only [List.length_append, List.length_cons, List.length_nil]; omega
      · omega
    · omega
  · omega
theorem paT_asc (m : Nat → Int32) (u g : Nat) : asc (paT m u g) := by
  unfold paT
  split
  · split
    · split
      · exact asc_app (asc_app (asc_app (asc_numL _) (ptL_asc _ _ _ _)) (asc_1 (n := 59) (by decide) rfl)) (asc_numL _)
      · exact tx_asc 17 (by decide)
    · exact tx_asc 4 (by decide)
  · exact tx_asc 10 (by decide)
theorem wyN_DD {m : Nat → Int32} {u p : Nat} (h : wyN m u p < 1000000) : DD m (cn (m (110 + 8 * u + 2))) p < 1000000 := by
  unfold wyN at h
  by_cases q : DD m (cn (m (110 + 8 * u + 2))) p < 1000000
  · exact q
  · rw [if_neg q] at h; omega
theorem c_pathL {σ : St} {m : Nat → Int32} {k g : Nat} {x : Int32} (hw : WF m) (hs : szC σ k) (hk : k ≤ 100) (hg : g < cn (m 0)) : ∀ f p L τ, pk m g p < f → p < cn (m 0) → DD m p g < 1000000 → L.length + 12 * f ≤ 1000 → GrC σ 3 m L τ → Ret (iter (fun z => B_X0_path_94 x (nI g) z.1 z.2) (nI p, τ)) (GrC σ 3 m (L ++ ptL m g f p)) := by
  have b0 := hw.1.1.2
  intro f
  induction f with
  | zero => intro p L τ h; omega
  | succ f ih =>
    intro p L τ h hp hd hL G
    by_cases e : p = g
    · have eB : B_X0_path_94 x (nI g) (nI p) τ = some (.inr τ) := by
        unfold B_X0_path_94
        rw [if_pos (by rw [e])]
      rw [iter_inr (f := fun z => B_X0_path_94 x (nI g) z.1 z.2) (a := (nI p, τ)) eB, ptL, if_pos e, List.append_nil]
      exact Ret.some G
    · obtain ⟨q, q1, q2, q3⟩ := nxI_ok hw e hd
      obtain ⟨r, r1, r2, G1⟩ := G.next hw (by decide) hp hg
      have G2 := G1.app (l' := [32]) (by decide)
      have G3 := G2.app (l' := numL (nI q)) (by decide)
      have eB : B_X0_path_94 x (nI g) (nI p) τ = some (.inl (nI q, appC (appC r.2 [32]) (numL (nI q)))) := by
        unfold B_X0_path_94
        rw [if_neg (show ¬ nI p = nI g by rw [nI_eq (by omega) (by omega)]; exact e), r1, some_b, G1.add hs (by omega), some_b, r2, q1, G2.num hs (okN_nI (by omega)) (by simp only [List.length_append, List.length_cons, List.length_nil]; omega), some_b]
      rw [iter_inl (f := fun z => B_X0_path_94 x (nI g) z.1 z.2) (a := (nI p, τ)) eB]
      have l1 := numL_len (v := nI q)
      have := ih q _ _ (by have := pk_lt q2 q3; omega) q2 (by omega) (by simp only [List.length_append, List.length_cons, List.length_nil]; omega) G3
      rw [ptL, if_neg e, q1, cn_nI (by omega)]
      simp only [List.append_assoc] at this ⊢
      exact this
theorem c_path {σ : St} {m : Nat → Int32} {k u g : Nat} (hw : WF m) (H : HH (σ 3) m) (B5 : HB (σ 5)) (hs : szC σ k) (hk : k ≤ 100) (hu : u < 2147483648) (hg : g < 2147483648) : Ret (F_X0_path (nI u) (nI g) σ) (AskC σ m (paT m u g)) := by
  have G := GrC.rf H
  have b2 := hw.2.2.1.2
  unfold F_X0_path paT
  rw [c_isUnit hw H.1 hu, some_b]
  by_cases c : u < cn (m 2)
  · rw [if_pos c, if_neg (show ¬ (1 : Int32) = 0 by decide), c_isPlace hw H.1 hg, some_b, if_pos c]
    by_cases d : g < cn (m 0)
    · rw [if_pos d, if_neg (show ¬ (1 : Int32) = 0 by decide), if_pos d]
      obtain ⟨-, -, u2, -⟩ := hw.2.2.2.2.2.2.2.2.1 u c
      have u2' := u2.1.2
      obtain ⟨wb1, wb2⟩ := wyN_bd hw c d
      obtain ⟨r, r1, r2, G1⟩ := G.way hw (by decide) c d
      rw [r1, some_b, r2]
      by_cases q : wyN m u g < 1000000
      · have hl := ptL_len m g 9 (cn (m (110 + 8 * u + 2)))
        have l1 := numL_len (v := m (110 + 8 * u + 2))
        rw [if_pos (ltF q), rdo_nI (by omega) (by decide), some_b, (G1.1.1.2.2.1 u c).2.2.1, G1.num hs (bd_ok u2.1 (by decide)) (by rw [List.length_nil]; omega), some_b, if_pos q]
        have G2 := G1.app (l' := numL (m (110 + 8 * u + 2))) (by decide)
        obtain ⟨τ, t1, G3⟩ := c_pathL (x := nI u) hw hs hk d 9 (cn (m (110 + 8 * u + 2))) _ _ (by have := pk_le hw g (cn (m (110 + 8 * u + 2))); omega) u2.2 (wyN_DD q) (by simp only [List.length_append, List.length_cons, List.length_nil]; omega) G2
        rw [← u2.1.1] at t1
        rw [t1, some_b, G3.add hs (by simp only [List.length_append, List.length_cons, List.length_nil]; omega), some_b]
        have G4 := G3.app (l' := [59]) (by decide)
        obtain ⟨r', s1, s2, G5⟩ := G4.way hw (by decide) c d
        rw [s1, some_b, s2, G5.num hs (okN_nI (by omega)) (by simp only [List.length_append, List.length_cons, List.length_nil]; omega), some_b, bindL_inr]
        have G6 := (G5.app (l' := numL (nI (wyN m u g))) (by decide)).ask B5
        rw [List.nil_append] at G6
        exact Ret.some G6
      · rw [if_neg (nltF (by omega) (by omega)), bindL_inl, if_neg (show ¬ (1 : Int32) = 0 by decide), c_isPlace hw G1.1.1 hg, some_b, if_pos d, if_neg (show ¬ (1 : Int32) = 0 by decide), some_b, show (18 : Int32) = nI 18 from rfl, G1.say (i := 18) (w := 17) (by decide) (by decide) (tx_eq (18, 17) (by decide)) hs (by rw [List.length_nil]; omega), some_b, if_neg q]
        exact Ret.some ((G1.app (by decide)).ask B5)
    · rw [if_neg d, if_pos rfl, bindL_inl, if_neg (show ¬ (1 : Int32) = 0 by decide), c_isPlace hw H.1 hg, some_b, if_neg d, if_pos rfl, some_b, show (5 : Int32) = nI 5 from rfl, G.say (i := 5) (w := 4) (by decide) (by decide) (tx_eq (5, 4) (by decide)) hs (by rw [List.length_nil]; omega), some_b, if_neg d]
      exact Ret.some ((G.app (by decide)).ask B5)
  · rw [if_neg c, if_pos rfl, bindL_inl, if_pos rfl, some_b, show (11 : Int32) = nI 11 from rfl, G.say (i := 11) (w := 10) (by decide) (by decide) (tx_eq (11, 10) (by decide)) hs (by rw [List.length_nil]; omega), some_b, if_neg c]
    exact Ret.some ((G.app (by decide)).ask B5)
theorem m_pathL {σ : St} {m : Nat → Int32} {k g : Nat} {x : Int32} (hw : WF m) (hm : σ 20 1 = m) (hT : TabR σ m) (hs : szM σ k) (hk : k ≤ 100) (hg : g < cn (m 0)) : ∀ f p L, pk m g p < f → p < cn (m 0) → DD m p g < 1000000 → L.length + 12 * f ≤ 1000 → iter (fun z => B_X12_tellPath_65 x (nI g) z.1 z.2) (nI p, appM σ L) = some (appM σ (L ++ ptL m g f p)) := by
  have b0 := hw.1.1.2
  intro f
  induction f with
  | zero => intro p L h; omega
  | succ f ih =>
    intro p L h hp hd hL
    by_cases e : p = g
    · have eB : B_X12_tellPath_65 x (nI g) (nI p) (appM σ L) = some (.inr (appM σ L)) := by
        unfold B_X12_tellPath_65
        rw [if_pos (by rw [e])]
      rw [iter_inr (f := fun z => B_X12_tellPath_65 x (nI g) z.1 z.2) (a := (nI p, appM σ L)) eB, ptL, if_pos e, List.append_nil]
    · obtain ⟨q, q1, q2, q3⟩ := nxI_ok hw e hd
      have gT : TabR (appM σ L) m := fun p q hp hq => by rw [appM_j (by decide) (by decide)]; exact hT p q hp hq
      have eB : B_X12_tellPath_65 x (nI g) (nI p) (appM σ L) = some (.inl (nI q, appM σ (L ++ [32] ++ numL (nI q)))) := by
        unfold B_X12_tellPath_65
        rw [if_neg (show ¬ nI p = nI g by rw [nI_eq (by omega) (by omega)]; exact e), m_nextPlace hw (by rw [appM_j (by decide) (by decide)]; exact hm) gT hp hg, some_b, m_putA hs (by omega), some_b, q1, m_numA hs (okN_nI (by omega)) (by simp only [List.length_append, List.length_cons, List.length_nil]; omega), some_b]
      rw [iter_inl (f := fun z => B_X12_tellPath_65 x (nI g) z.1 z.2) (a := (nI p, appM σ L)) eB]
      have l1 := numL_len (v := nI q)
      have := ih q (L ++ [32] ++ numL (nI q)) (by have := pk_lt q2 q3; omega) q2 (by omega) (by simp only [List.length_append, List.length_cons, List.length_nil]; omega)
      rw [this, ptL, if_neg e, q1, cn_nI (by omega)]
      simp only [List.append_assoc]
theorem AskM.say {σ : St} {k w : Nat} (hw : w < 45) (hS : StatM σ) (hs : szM σ k) (hk : k ≤ 100) : F_X12_say (nI w) σ = some (appM σ (aTx w)) := by
  have := m_sayA (σ := σ) (L := []) hw hS hs (by rw [List.length_nil]; omega)
  rw [appM_nil, List.nil_append] at this
  exact this
theorem m_path {σ : St} {m : Nat → Int32} {k u g : Nat} (hw : WF m) (hm : σ 20 1 = m) (hS : StatM σ) (hs : szM σ k) (hk : k ≤ 100) (hu : u < 2147483648) (hg : g < 2147483648) : Ret (F_X12_tellPath (nI u) (nI g) σ) (AskM σ (paT m u g)) := by
  have hwm : WF (σ 20 1) := by rw [hm]; exact hw
  have b2 := hw.2.2.1.2
  unfold F_X12_tellPath paT
  rw [m_isUnit hwm hu, some_b, hm]
  by_cases c : u < cn (m 2)
  · rw [if_pos c, if_neg (show ¬ (1 : Int32) = 0 by decide), m_isPlace hwm hg, some_b, hm, if_pos c]
    by_cases d : g < cn (m 0)
    · rw [if_pos d, if_neg (show ¬ (1 : Int32) = 0 by decide), if_pos d]
      obtain ⟨-, -, u2, -⟩ := hw.2.2.2.2.2.2.2.2.1 u c
      have u2' := u2.1.2
      obtain ⟨wb1, wb2⟩ := wyN_bd hw c d
      refine Ret.bind (m_findDistances hwm) ?_
      rintro τ ⟨t1, t2⟩
      have mt : τ 20 1 = m := by rw [t1 20 1 (fun z => by omega)]; exact hm
      have hst : szM τ k := by unfold szM; rw [t1 20 0 (fun z => by omega)]; exact hs
      have hT : TabR τ m := by have := t2.r; rw [mt] at this; exact this
      have hSt : StatM τ := hS.fr (t1 20 19 (fun z => by omega)) (t1 20 17 (fun z => by omega)) (t1 20 18 (fun z => by omega))
      have T0 : TxM σ τ [] := (TxM.rf σ).fr (t1 20 15 (fun z => by omega)) (by rw [t1 20 0 (fun z => by omega)])
      rw [m_wayOf hw mt hT c d, some_b]
      by_cases q : wyN m u g < 1000000
      · have hl := ptL_len m g 9 (cn (m (110 + 8 * u + 2)))
        have l1 := numL_len (v := m (110 + 8 * u + 2))
        have nq : ¬ dI (wyN m u g) < 0 := fun z => (dI_neg wb1).mp z q
        have n1 := m_numA (σ := τ) (L := []) hst (bd_ok u2.1 (by decide)) (by rw [List.length_nil]; omega)
        rw [appM_nil, List.nil_append] at n1
        have pl := m_pathL (x := dI (wyN m u g)) hw mt hT hst hk d 9 (cn (m (110 + 8 * u + 2))) (numL (m (110 + 8 * u + 2))) (by have := pk_le hw g (cn (m (110 + 8 * u + 2))); omega) u2.2 (wyN_DD q) (by omega)
        rw [← u2.1.1] at pl
        rw [if_neg nq, show (2 : Int32) = nI 2 from rfl, m_unit (by omega) (by decide), some_b, mt, n1, some_b, pl, some_b, m_putA hst (by simp only [List.length_append, List.length_cons, List.length_nil]; omega), some_b, dI_fin q, m_numA hst (okN_nI (by omega)) (by simp only [List.length_append, List.length_cons, List.length_nil]; omega), some_b, if_pos q]
        exact Ret.some ⟨T0.app, (FrM.f34 t1).app⟩
      · have nq : dI (wyN m u g) < 0 := (dI_neg wb1).mpr q
        rw [if_pos nq, show (17 : Int32) = nI 17 from rfl, AskM.say (by decide) hSt hst hk, some_b, if_neg q]
        exact Ret.some ⟨T0.app, (FrM.f34 t1).app⟩
    · rw [if_neg d, if_pos rfl, show (4 : Int32) = nI 4 from rfl, AskM.say (by decide) hS hs hk, some_b, if_neg d]
      exact Ret.some ⟨(TxM.rf σ).app (l' := aTx 4), (FrM.rf σ).app⟩
  · rw [if_neg c, if_pos rfl, show (10 : Int32) = nI 10 from rfl, AskM.say (by decide) hS hs hk, some_b, if_neg c]
    exact Ret.some ⟨(TxM.rf σ).app (l' := aTx 10), (FrM.rf σ).app⟩
