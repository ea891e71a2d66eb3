/-! S6: steps that are kept, undone; drills -/
set_option maxRecDepth 100000
def AbC (σ : St) (m : Nat → Int32) (s : Nat) (K : Nat → Nat → Int32) (D : Nat → Int32) (d : Int32) : Prop := HH (σ 3) m ∧ σ 0 0 18 = nI s ∧ (∃ p, p < 6 ∧ σ 0 0 19 = nI p ∧ ∀ k, k < s → HH (σ (14 + (p + 6 - s + k) % 6)) (K k)) ∧ σ 0 0 20 = d ∧ (d = 1 → HH (σ 4) D) ∧ HB (σ 4) ∧ HB (σ 5) ∧ ∀ k, k < 6 → HB (σ (14 + k))
def kpR (σ : St) (k : Nat) : Nat → Int32 := fun i => if i < 1532 then σ 20 2 (1532 * k + i) else 0
def AbM (σ : St) (m : Nat → Int32) (s : Nat) (K : Nat → Nat → Int32) (D : Nat → Int32) (d : Int32) : Prop := σ 20 1 = m ∧ σ 20 0 2 = nI s ∧ (∀ k, k < s → kpR σ k = K k) ∧ σ 20 0 5 = d ∧ (d = 1 → σ 20 4 = D) ∧ ∀ i, 1532 ≤ i → σ 20 4 i = 0
def AbW (m : Nat → Int32) (s : Nat) (K : Nat → Nat → Int32) (D : Nat → Int32) (d : Int32) : Prop := Rok m ∧ s ≤ 6 ∧ (∀ k, k < s → Rok (K k)) ∧ (d = 0 ∨ d = 1) ∧ (d = 1 → Rok D)
/-- other cells of the component changed -/
theorem AbC.fr {σ τ : St} {m : Nat → Int32} {s : Nat} {K : Nat → Nat → Int32} {D : Nat → Int32} {d : Int32} (A : AbC σ m s K D d) (h3 : τ 3 = σ 3) (h4 : τ 4 = σ 4) (h5 : τ 5 = σ 5) (hk : ∀ k, k < 6 → τ (14 + k) = σ (14 + k)) (h0 : ∀ i, 18 ≤ i → i ≤ 20 → τ 0 0 i = σ 0 0 i) : AbC τ m s K D d := by
  obtain ⟨a1, a2, ⟨p, p1, p2, p3⟩, a4, a5, a6, a7, a8⟩ := A
  refine ⟨by rw [h3]; exact a1, by rw [h0 18 (by decide) (by decide)]; exact a2, ⟨p, p1, by rw [h0 19 (by decide) (by decide)]; exact p2, ?_⟩, by rw [h0 20 (by decide) (by decide)]; exact a4, fun e => by rw [h4]; exact a5 e, by rw [h4]; exact a6, by rw [h5]; exact a7, ?_⟩
  · intro k hk2
    rw [hk _ (Nat.mod_lt _ (by decide))]
    exact p3 k hk2
  · intro k hk2
    rw [hk k hk2]
    exact a8 k hk2
/-- the house alone changed -/
theorem AbC.row {σ τ : St} {m m' : Nat → Int32} {s : Nat} {K : Nat → Nat → Int32} {D : Nat → Int32} {d : Int32} (A : AbC σ m s K D d) (h3 : HH (τ 3) m') (h4 : τ 4 = σ 4) (h5 : τ 5 = σ 5) (hk : ∀ k, k < 6 → τ (14 + k) = σ (14 + k)) (h0 : ∀ i, 18 ≤ i → i ≤ 20 → τ 0 0 i = σ 0 0 i) : AbC τ m' s K D d := by
  obtain ⟨a1, a2, ⟨p, p1, p2, p3⟩, a4, a5, a6, a7, a8⟩ := A
  refine ⟨h3, by rw [h0 18 (by decide) (by decide)]; exact a2, ⟨p, p1, by rw [h0 19 (by decide) (by decide)]; exact p2, ?_⟩, by rw [h0 20 (by decide) (by decide)]; exact a4, fun e => by rw [h4]; exact a5 e, by rw [h4]; exact a6, by rw [h5]; exact a7, ?_⟩
  · intro k hk2
    rw [hk _ (Nat.mod_lt _ (by decide))]
    exact p3 k hk2
  · intro k hk2
    rw [hk k hk2]
    exact a8 k hk2
theorem AbC.row' {σ τ : St} {m m' : Nat → Int32} {s : Nat} {K : Nat → Nat → Int32} {D : Nat → Int32} {d : Int32} (A : AbC σ m s K D d) (h3 : HH (τ 3) m') (hg : ∀ a, a ≠ 1 → a ≠ 3 → τ a = σ a) : AbC τ m' s K D d := A.row h3 (hg 4 (by decide) (by decide)) (hg 5 (by decide) (by decide)) (fun k hk => hg _ (by omega) (by omega)) (fun i _ _ => by rw [hg 0 (by decide) (by decide)])
theorem AbM.fr {σ τ : St} {m : Nat → Int32} {s : Nat} {K : Nat → Nat → Int32} {D : Nat → Int32} {d : Int32} (A : AbM σ m s K D d) (h1 : τ 20 1 = σ 20 1) (h2 : τ 20 2 = σ 20 2) (h4 : τ 20 4 = σ 20 4) (e2 : τ 20 0 2 = σ 20 0 2) (e5 : τ 20 0 5 = σ 20 0 5) : AbM τ m s K D d := by
  unfold AbM kpR
  rw [h1, h2, h4, e2, e5]
  exact A
theorem AbM.row {σ : St} {m m' : Nat → Int32} {s : Nat} {K : Nat → Nat → Int32} {D : Nat → Int32} {d : Int32} (A : AbM σ m s K D d) : AbM (putr σ m') m' s K D d := by
  obtain ⟨a1, a2, a3, a4, a5, a6⟩ := A
  refine ⟨putr_row, by rw [putr_j (by decide)]; exact a2, ?_, by rw [putr_j (by decide)]; exact a4, by rw [putr_j (by decide)]; exact a5, by rw [putr_j (by decide)]; exact a6⟩
  intro k hk
  unfold kpR
  rw [putr_j (by decide)]
  exact a3 k hk
theorem AbW.row {m m' : Nat → Int32} {s : Nat} {K : Nat → Nat → Int32} {D : Nat → Int32} {d : Int32} (A : AbW m s K D d) (h : Rok m') : AbW m' s K D d := ⟨h, A.2⟩
/-- a step is kept -/
def kpK (m : Nat → Int32) (s : Nat) (K : Nat → Nat → Int32) : Nat → Nat → Int32 := fun k => if s < 6 then (if k = s then m else K k) else (if k = 5 then m else K (k + 1))
def kpS (s : Nat) : Nat := if s < 6 then s + 1 else 6
theorem AbW.keep {m : Nat → Int32} {s : Nat} {K : Nat → Nat → Int32} {D : Nat → Int32} {d : Int32} (A : AbW m s K D d) : AbW m (kpS s) (kpK m s K) D d := by
  obtain ⟨a1, a2, a3, a4, a5⟩ := A
  refine ⟨a1, ?_, ?_, a4, a5⟩
  · unfold kpS
    by_cases q : s < 6
    · rw [if_pos q]; omega
    · rw [if_neg q]; omega
  · intro k hk
    unfold kpS at hk
    unfold kpK
    by_cases q : s < 6
    · rw [if_pos q] at hk
      rw [if_pos q]
      by_cases e : k = s
      · rw [if_pos e]; exact a1
      · rw [if_neg e]; exact a3 k (by omega)
    · rw [if_neg q] at hk
      rw [if_neg q]
      by_cases e : k = 5
      · rw [if_pos e]; exact a1
      · rw [if_neg e]; exact a3 (k + 1) (by omega)
theorem rso_nI {p : Nat} (h : p < 6) : rso (nI p) = some (14 + p) := by
  unfold rso
  rw [if_pos (inb_nI h (by decide)), nI_clamp (by omega)]
theorem c_keepA {σ : St} {m : Nat → Int32} {s : Nat} {K : Nat → Nat → Int32} {D : Nat → Int32} {d : Int32} (A : AbC σ m s K D d) (W : AbW m s K D d) : Ret (F_X0_keep σ) (fun τ => AbC τ m (kpS s) (kpK m s K) D d ∧ (∀ a, a ≠ 0 → a < 14 ∨ 20 ≤ a → τ a = σ a) ∧ (∀ b, b ≠ 0 → τ 0 b = σ 0 b) ∧ ∀ i, i ≠ 18 → i ≠ 19 → τ 0 0 i = σ 0 0 i) := by
  obtain ⟨a1, a2, ⟨p, p1, p2, p3⟩, a4, a5, a6, a7, a8⟩ := A
  obtain ⟨w1, w2, w3, w4, w5⟩ := W
  unfold F_X0_keep
  rw [p2, rso_nI p1, some_b]
  refine Ret.bind (c_take (show 3 ≠ 14 + p by omega) w1.1 w1.2.2.1 a1 (a8 p p1)) ?_
  rintro τ ⟨t1, t2⟩
  have e19 : τ 0 0 19 = nI p := by rw [t1 0 (by omega)]; exact p2
  have e18 : τ 0 0 18 = nI s := by rw [t1 0 (by omega)]; exact a2
  rw [e19, nst_b, up3_i (by decide), e18, nI_1, show (6 : Int32) = nI 6 from rfl, pk_rem (by omega) (by decide) (by decide), nI_1, imin_nI (by omega) (by decide), nst_b]
  have hs : min (s + 1) 6 = kpS s := by
    unfold kpS
    by_cases q : s < 6
    · rw [if_pos q]; omega
    · rw [if_neg q]; omega
  rw [hs]
  have gg : ∀ a, a ≠ 0 → up3 (up3 τ 0 0 19 (nI ((p + 1) % 6))) 0 0 18 (nI (kpS s)) a = τ a := fun a ha => by rw [up3_g ha, up3_g ha]
  refine Ret.some ⟨⟨?_, up3_same _ _ _ _ _, ⟨(p + 1) % 6, by omega, by rw [up3_i (by decide), up3_same], ?_⟩, ?_, ?_, ?_, ?_, ?_⟩, ?_, ?_, ?_⟩
  · rw [gg 3 (by decide), t1 3 (by omega)]; exact a1
  · intro k hk
    rw [gg _ (by omega)]
    unfold kpS at hk ⊢
    unfold kpK
    by_cases q : s < 6
    · rw [if_pos q] at hk ⊢
      rw [if_pos q]
      by_cases e : k = s
      · rw [if_pos e, show 14 + ((p + 1) % 6 + 6 - (s + 1) + k) % 6 = 14 + p by omega]
        exact t2
      · rw [if_neg e, show 14 + ((p + 1) % 6 + 6 - (s + 1) + k) % 6 = 14 + (p + 6 - s + k) % 6 by omega, t1 _ (by omega)]
        exact p3 k (by omega)
    · rw [if_neg q] at hk ⊢
      rw [if_neg q]
      by_cases e : k = 5
      · rw [if_pos e, show 14 + ((p + 1) % 6 + 6 - 6 + k) % 6 = 14 + p by omega]
        exact t2
      · have := p3 (k + 1) (by omega)
        rw [if_neg e, show 14 + ((p + 1) % 6 + 6 - 6 + k) % 6 = 14 + (p + 6 - s + (k + 1)) % 6 by omega, t1 _ (by omega)]
        exact this
  · rw [up3_i (by decide), up3_i (by decide), t1 0 (by omega)]; exact a4
  · intro e
    rw [gg 4 (by decide), t1 4 (by omega)]; exact a5 e
  · rw [gg 4 (by decide), t1 4 (by omega)]; exact a6
  · rw [gg 5 (by decide), t1 5 (by omega)]; exact a7
  · intro k hk
    rw [gg _ (by omega)]
    by_cases e : k = p
    · rw [e]; exact t2.2.2.2
    · rw [t1 _ (by omega)]; exact a8 k hk
  · intro a h0 ha
    rw [gg a h0, t1 a (by omega)]
  · intro b hb
    rw [up3_j hb, up3_j hb, t1 0 (by omega)]
  · intro i h18 h19
    rw [up3_i h18, up3_i h19, t1 0 (by omega)]
theorem c_undoA {σ : St} {m : Nat → Int32} {s : Nat} {K : Nat → Nat → Int32} {D : Nat → Int32} {d : Int32} (A : AbC σ m s K D d) (W : AbW m s K D d) (hs : 1 ≤ s) : Ret (F_X0_undo σ) (fun τ => AbC τ (K (s - 1)) (s - 1) K D d ∧ (∀ a, a ≠ 0 → a ≠ 3 → τ a = σ a) ∧ (∀ b, b ≠ 0 → τ 0 b = σ 0 b) ∧ ∀ i, i ≠ 18 → i ≠ 19 → τ 0 0 i = σ 0 0 i) := by
  obtain ⟨a1, a2, ⟨p, p1, p2, p3⟩, a4, a5, a6, a7, a8⟩ := A
  obtain ⟨w1, w2, w3, w4, w5⟩ := W
  unfold F_X0_undo
  rw [p2, show (6 : Int32) = nI 6 from rfl, nI_add, show (1 : Int32) = nI 1 from rfl, nI_sub (by omega), pk_rem (by omega) (by decide) (by decide), nst_b, up3_i (by decide), a2, nI_sub hs, nst_b, up3_i (by decide), up3_same, rso_nI (Nat.mod_lt _ (by decide)), some_b]
  have gg : ∀ a, a ≠ 0 → up3 (up3 σ 0 0 19 (nI ((p + 6 - 1) % 6))) 0 0 18 (nI (s - 1)) a = σ a := fun a ha => by rw [up3_g ha, up3_g ha]
  have hK := p3 (s - 1) (by omega)
  rw [show 14 + (p + 6 - s + (s - 1)) % 6 = 14 + (p + 6 - 1) % 6 by omega] at hK
  have hr := w3 (s - 1) (by omega)
  have e18 : up3 (up3 σ 0 0 19 (nI ((p + 6 - 1) % 6))) 0 0 18 (nI (s - 1)) 0 0 18 = nI (s - 1) := up3_same _ _ _ _ _
  have e19 : up3 (up3 σ 0 0 19 (nI ((p + 6 - 1) % 6))) 0 0 18 (nI (s - 1)) 0 0 19 = nI ((p + 6 - 1) % 6) := by rw [up3_i (by decide), up3_same]
  have e0 : ∀ b, b ≠ 0 → up3 (up3 σ 0 0 19 (nI ((p + 6 - 1) % 6))) 0 0 18 (nI (s - 1)) 0 b = σ 0 b := fun b hb => by rw [up3_j hb, up3_j hb]
  have e00 : ∀ i, i ≠ 18 → i ≠ 19 → up3 (up3 σ 0 0 19 (nI ((p + 6 - 1) % 6))) 0 0 18 (nI (s - 1)) 0 0 i = σ 0 0 i := fun i h1 h2 => by rw [up3_i h1, up3_i h2]
  generalize up3 (up3 σ 0 0 19 (nI ((p + 6 - 1) % 6))) 0 0 18 (nI (s - 1)) = ρ at gg e18 e19 e0 e00
  refine Ret.bind (c_take (m := K (s - 1)) (show 14 + (p + 6 - 1) % 6 ≠ 3 by omega) hr.1 hr.2.2.1 (by rw [gg _ (by omega)]; exact hK) (by rw [gg 3 (by decide)]; exact a1.2.2.2)) ?_
  rintro τ ⟨t1, t2⟩
  refine Ret.some ⟨⟨t2, ?_, ⟨(p + 6 - 1) % 6, by omega, ?_, ?_⟩, ?_, ?_, ?_, ?_, ?_⟩, ?_, ?_, ?_⟩
  · rw [t1 0 (by omega)]; exact e18
  · rw [t1 0 (by omega)]; exact e19
  · intro k hk
    rw [t1 _ (by omega), gg _ (by omega), show 14 + ((p + 6 - 1) % 6 + 6 - (s - 1) + k) % 6 = 14 + (p + 6 - s + k) % 6 by omega]
    exact p3 k (by omega)
  · rw [t1 0 (by omega), e00 20 (by decide) (by decide)]; exact a4
  · intro e
    rw [t1 4 (by omega), gg 4 (by decide)]; exact a5 e
  · rw [t1 4 (by omega), gg 4 (by decide)]; exact a6
  · rw [t1 5 (by omega), gg 5 (by decide)]; exact a7
  · intro k hk
    rw [t1 _ (by omega), gg _ (by omega)]; exact a8 k hk
  · intro a h0 h3
    rw [t1 a h3, gg a h0]
  · intro b hb
    rw [t1 0 (by omega), e0 b hb]
  · intro i h1 h2
    rw [t1 0 (by omega), e00 i h1 h2]
theorem m_keepA {σ : St} {m : Nat → Int32} {s : Nat} {K : Nat → Nat → Int32} {D : Nat → Int32} {d : Int32} (A : AbM σ m s K D d) (W : AbW m s K D d) : Ret (F_X12_keepStep σ) (fun τ => AbM τ m (kpS s) (kpK m s K) D d ∧ (∀ a, a ≠ 20 → τ a = σ a) ∧ (∀ b, b ≠ 0 → b ≠ 2 → τ 20 b = σ 20 b) ∧ ∀ i, i ≠ 2 → τ 20 0 i = σ 20 0 i) := by
  obtain ⟨a1, a2, a3, a4, a5, a6⟩ := A
  obtain ⟨w1, w2, w3, w4, w5⟩ := W
  have hz := w1.2.2.1.2.2.2.2.2
  unfold F_X12_keepStep
  -- what stands ahead of the copy
  have pre : ∃ (f : Nat → Int32) (t : Nat), t ≤ 5 ∧ (Option.bind ((if (σ 20 0 2) = (6 : Int32) then Option.bind (iter (fun z => B_X12_keepStep_11 z.1 z.2) ((0 : Int32), σ)) (fun z40 => (nst (up3 z40 20 0 2 (5 : Int32))).bind (fun s1003 => some (s1003))) else some (σ)) : Option (St)) (fun z45 => some z45)) = some (up3 (putj σ 20 2 f) 20 0 2 (nI t)) ∧ kpS s = t + 1 ∧ ∀ k, k < t → (fun i => if i < 1532 then f (1532 * k + i) else 0) = kpK m s K k := by
    by_cases q : s = 6
    · refine ⟨fun i => if 0 ≤ i ∧ i < 0 + 7660 then σ 20 2 (1532 + (i - 0)) else σ 20 2 i, 5, by decide, ?_, ?_, ?_⟩
      · rw [a2, q, if_pos (show nI 6 = (6 : Int32) from rfl)]
        have e := putj_self σ 20 2
        have key := lp_fill (σ := σ) (h := 20) (J := 2) (b := 0) (n := 7660) (m := σ 20 2) (y := fun k => σ 20 2 (1532 + k)) (f := fun z => B_X12_keepStep_11 z.1 z.2) ?_ ?_
        · rw [e] at key
          rw [show ((0 : Int32), σ) = (nI 0, σ) from rfl, key, some_b, nst_b, some_b]
          rfl
        · intro k m' hk hm
          show B_X12_keepStep_11 (nI k) (putj σ 20 2 m') = _
          unfold B_X12_keepStep_11
          rw [if_pos (show nI k < (7660 : Int32) from nI_lt (b := 7660) hk (by decide)), show (1532 : Int32) = nI 1532 from rfl, nI_add, rdo_nI (by omega) (by decide), some_b, putj_row, hm _ (by omega), wro_nI (by omega) (by decide), some_b, putj_up, nI_1, Nat.zero_add]
        · intro m'
          show B_X12_keepStep_11 (nI 7660) (putj σ 20 2 m') = _
          unfold B_X12_keepStep_11
          rw [if_neg (show ¬ nI 7660 < (7660 : Int32) by decide)]
      · rw [q]; decide
      · intro k hk
        have e3 := a3 (k + 1) (by omega)
        unfold kpK
        rw [if_neg (by omega), if_neg (by omega), ← e3]
        funext i
        unfold kpR
        by_cases z : i < 1532
        · rw [if_pos z, if_pos z]
          show (if 0 ≤ 1532 * k + i ∧ 1532 * k + i < 0 + 7660 then σ 20 2 (1532 + (1532 * k + i - 0)) else σ 20 2 (1532 * k + i)) = _
          rw [if_pos (by omega), show 1532 + (1532 * k + i - 0) = 1532 * (k + 1) + i by omega]
        · rw [if_neg z, if_neg z]
    · refine ⟨σ 20 2, s, by omega, ?_, ?_, ?_⟩
      · rw [a2, if_neg (by rw [show (6 : Int32) = nI 6 from rfl, nI_eq (by omega) (by decide)]; exact q), some_b, putj_self, up3_id a2]
      · unfold kpS
        rw [if_pos (by omega)]
      · intro k hk
        have e3 := a3 k hk
        unfold kpK
        rw [if_pos (by omega), if_neg (by omega), ← e3]
        rfl
  obtain ⟨f, t, ht, e1, e2, e3⟩ := pre
  have eb : ∀ (X : Option St) (G : St → Option St), X.bind G = (X.bind (fun z => some z)).bind G := fun X G => by cases X <;> rfl
  rw [eb, e1, some_b]
  have key : iter (fun z => B_X12_keepStep_47 z.1 z.2) (nI 0, up3 (putj σ 20 2 f) 20 0 2 (nI t)) = some (putj (up3 σ 20 0 2 (nI t)) 20 2 (fun i => if 1532 * t ≤ i ∧ i < 1532 * t + 1532 then m (i - 1532 * t) else f i)) := by
    have ec : up3 (putj σ 20 2 f) 20 0 2 (nI t) = putj (up3 σ 20 0 2 (nI t)) 20 2 f := by
      funext x y z
      simp only [up3, putj_app]
      grind
    rw [ec]
    refine lp_fill ?_ ?_
    · intro k m' hk hm
      show B_X12_keepStep_47 (nI k) (putj (up3 σ 20 0 2 (nI t)) 20 2 m') = _
      unfold B_X12_keepStep_47
      rw [if_pos (show nI k < (1532 : Int32) from nI_lt (b := 1532) hk (by decide)), m_rd hk, some_b, show putj (up3 σ 20 0 2 (nI t)) 20 2 m' 20 1 = m by rw [putj_j (by decide), up3_j (by decide), a1], show putj (up3 σ 20 0 2 (nI t)) 20 2 m' 20 0 2 = nI t by rw [putj_j (by decide), up3_same], show (1532 : Int32) = nI 1532 from rfl, pk_mul, nI_add, wro_nI (by omega) (by decide), some_b, putj_up, nI_1]
    · intro m'
      show B_X12_keepStep_47 (nI 1532) (putj (up3 σ 20 0 2 (nI t)) 20 2 m') = _
      unfold B_X12_keepStep_47
      rw [if_neg (show ¬ nI 1532 < (1532 : Int32) by decide)]
  rw [show ((0 : Int32), up3 (putj σ 20 2 f) 20 0 2 (nI t)) = (nI 0, up3 (putj σ 20 2 f) 20 0 2 (nI t)) from rfl, key, some_b, nst_b, putj_j (by decide), up3_same, nI_1, ← e2]
  refine Ret.some ⟨⟨?_, up3_same _ _ _ _ _, ?_, ?_, ?_, ?_⟩, ?_, ?_, ?_⟩
  · rw [up3_j (by decide), putj_j (by decide), up3_j (by decide), a1]
  · intro k hk
    unfold kpR
    rw [up3_j (by decide), putj_row]
    by_cases q : k = t
    · rw [q]
      funext i
      have em : kpK m s K t = m := by
        unfold kpK
        unfold kpS at e2
        by_cases z : s < 6
        · rw [if_pos z] at e2
          rw [if_pos z, if_pos (by omega)]
        · rw [if_neg z] at e2
          rw [if_neg z, if_pos (by omega)]
      rw [em]
      by_cases z : i < 1532
      · rw [if_pos z, if_pos (by omega), show 1532 * t + i - 1532 * t = i by omega]
      · rw [if_neg z, hz i (by omega)]
    · rw [← e3 k (by omega)]
      funext i
      by_cases z : i < 1532
      · rw [if_pos z, if_pos z, if_neg (by omega)]
      · rw [if_neg z, if_neg z]
  · rw [up3_i (by decide), putj_j (by decide), up3_i (by decide)]; exact a4
  · rw [up3_j (by decide), putj_j (by decide), up3_j (by decide)]; exact a5
  · rw [up3_j (by decide), putj_j (by decide), up3_j (by decide)]; exact a6
  · intro a ha
    rw [up3_g ha, putj_g ha, up3_g ha]
  · intro b hb0 hb2
    rw [up3_j hb0, putj_j hb2, up3_j hb0]
  · intro i hi
    rw [up3_i hi, putj_j (by decide), up3_i hi]
theorem row_of {m : Nat → Int32} {f : Nat → Int32} (hz : ∀ i, 1532 ≤ i → m i = 0) (g : Nat → Int32) (hg : ∀ i, 1532 ≤ i → g i = 0) : (fun i => if 0 ≤ i ∧ i < 0 + 1532 then g (i - 0) else m i) = g := by
  funext i
  by_cases z : i < 1532
  · rw [if_pos (by omega)]
    rfl
  · rw [if_neg (by omega), hz i (by omega), hg i (by omega)]
theorem m_undoA {σ : St} {m : Nat → Int32} {s : Nat} {K : Nat → Nat → Int32} {D : Nat → Int32} {d : Int32} (A : AbM σ m s K D d) (W : AbW m s K D d) (hs : 1 ≤ s) (hk : σ 20 0 20 = 20) : Ret (F_X12_turnBack σ) (fun τ => AbM τ (K (s - 1)) (s - 1) K D d ∧ (∀ a, a ≠ 20 → τ a = σ a) ∧ (∀ b, b ≠ 0 → b ≠ 1 → τ 20 b = σ 20 b) ∧ ∀ i, i ≠ 2 → τ 20 0 i = σ 20 0 i) := by
  obtain ⟨a1, a2, a3, a4, a5, a6⟩ := A
  obtain ⟨w1, w2, w3, w4, w5⟩ := W
  have hz := w1.2.2.1.2.2.2.2.2
  have hr := w3 (s - 1) (by omega)
  have e3 := a3 (s - 1) (by omega)
  unfold F_X12_turnBack
  rw [hk, if_pos rfl, a2, show (1 : Int32) = nI 1 from rfl, nI_sub hs, nst_b]
  have e0 : up3 σ 20 0 2 (nI (s - 1)) = putj (up3 σ 20 0 2 (nI (s - 1))) 20 1 m := by
    have := putj_self (up3 σ 20 0 2 (nI (s - 1))) 20 1
    rw [up3_j (by decide), a1] at this
    exact this.symm
  have key := lp_fill (σ := up3 σ 20 0 2 (nI (s - 1))) (h := 20) (J := 1) (b := 0) (n := 1532) (m := m) (y := fun k => σ 20 2 (1532 * (s - 1) + k)) (f := fun z => B_X12_turnBack_21 z.1 z.2) ?_ ?_
  · rw [← e0] at key
    rw [show ((0 : Int32), up3 σ 20 0 2 (nI (s - 1))) = (nI 0, up3 σ 20 0 2 (nI (s - 1))) from rfl, key, some_b]
    have er : (fun i => if 0 ≤ i ∧ i < 0 + 1532 then σ 20 2 (1532 * (s - 1) + (i - 0)) else m i) = K (s - 1) := by
      rw [← e3]
      funext i
      unfold kpR
      by_cases z : i < 1532
      · rw [if_pos (by omega), if_pos z]
        rfl
      · rw [if_neg (by omega), if_neg z, hz i (by omega)]
    rw [er]
    refine Ret.some ⟨⟨putj_row, by rw [putj_j (by decide), up3_same], ?_, by rw [putj_j (by decide), up3_i (by decide)]; exact a4, by rw [putj_j (by decide), up3_j (by decide)]; exact a5, by rw [putj_j (by decide), up3_j (by decide)]; exact a6⟩, ?_, ?_, ?_⟩
    · intro k hk2
      unfold kpR
      rw [putj_j (by decide), up3_j (by decide)]
      exact a3 k (by omega)
    · intro a ha
      rw [putj_g ha, up3_g ha]
    · intro b hb0 hb1
      rw [putj_j hb1, up3_j hb0]
    · intro i hi
      rw [putj_j (by decide), up3_i hi]
  · intro k m' hk2 hm
    show B_X12_turnBack_21 (nI k) (putj (up3 σ 20 0 2 (nI (s - 1))) 20 1 m') = _
    unfold B_X12_turnBack_21
    rw [if_pos (show nI k < (1532 : Int32) from nI_lt (b := 1532) hk2 (by decide)), show putj (up3 σ 20 0 2 (nI (s - 1))) 20 1 m' 20 0 2 = nI (s - 1) by rw [putj_j (by decide), up3_same], show (1532 : Int32) = nI 1532 from rfl, pk_mul, nI_add, rdo_nI (by omega) (by decide), some_b, putj_j (by decide), up3_j (by decide), wro_nI hk2 (by decide), some_b, putj_up, nI_1, Nat.zero_add]
  · intro m'
    show B_X12_turnBack_21 (nI 1532) (putj (up3 σ 20 0 2 (nI (s - 1))) 20 1 m') = _
    unfold B_X12_turnBack_21
    rw [if_neg (show ¬ nI 1532 < (1532 : Int32) by decide)]
theorem m_drillA {σ : St} {m : Nat → Int32} {s : Nat} {K : Nat → Nat → Int32} {D : Nat → Int32} {d : Int32} (A : AbM σ m s K D d) (W : AbW m s K D d) (hk : σ 20 0 20 = 21) : Ret (F_X12_turnBack σ) (fun τ => AbM τ m 0 K m 1 ∧ (∀ a, a ≠ 20 → τ a = σ a) ∧ (∀ b, b ≠ 0 → b ≠ 4 → τ 20 b = σ 20 b) ∧ ∀ i, i ≠ 2 → i ≠ 5 → τ 20 0 i = σ 20 0 i) := by
  obtain ⟨a1, a2, a3, a4, a5, a6⟩ := A
  have hz := W.1.2.2.1.2.2.2.2.2
  unfold F_X12_turnBack
  rw [hk, if_neg (by decide)]
  have key := lp_fill (σ := σ) (h := 20) (J := 4) (b := 0) (n := 1532) (m := σ 20 4) (y := m) (f := fun z => B_X12_turnBack_58 z.1 z.2) ?_ ?_
  · rw [putj_self] at key
    rw [show ((0 : Int32), σ) = (nI 0, σ) from rfl, key, some_b, row_of (f := m) a6 m hz, show putj σ 20 4 m 20 0 20 = 21 by rw [putj_j (by decide)]; exact hk, if_pos rfl, some_b, zro_1, some_b, nst_b, nst_b]
    refine Ret.some ⟨⟨?_, up3_same _ _ _ _ _, fun k hk2 => absurd hk2 (Nat.not_lt_zero k), ?_, ?_, ?_⟩, ?_, ?_, ?_⟩
    · rw [up3_j (by decide), up3_j (by decide), putj_j (by decide), a1]
    · rw [up3_i (by decide), up3_same]
    · intro _
      rw [up3_j (by decide), up3_j (by decide), putj_row]
    · rw [up3_j (by decide), up3_j (by decide), putj_row]
      exact hz
    · intro a ha
      rw [up3_g ha, up3_g ha, putj_g ha]
    · intro b hb0 hb4
      rw [up3_j hb0, up3_j hb0, putj_j hb4]
    · intro i h2 h5
      rw [up3_i h2, up3_i h5, putj_j (by decide)]
  · intro k m' hk2 hm
    show B_X12_turnBack_58 (nI k) (putj σ 20 4 m') = _
    unfold B_X12_turnBack_58
    rw [if_pos (show nI k < (1532 : Int32) from nI_lt (b := 1532) hk2 (by decide)), show putj σ 20 4 m' 20 0 20 = 21 by rw [putj_j (by decide)]; exact hk, if_pos rfl, m_rd hk2, some_b, putj_j (by decide), a1, wro_nI hk2 (by decide), some_b, putj_up, nI_1, Nat.zero_add]
  · intro m'
    show B_X12_turnBack_58 (nI 1532) (putj σ 20 4 m') = _
    unfold B_X12_turnBack_58
    rw [if_neg (show ¬ nI 1532 < (1532 : Int32) by decide)]
theorem m_doneA {σ : St} {m : Nat → Int32} {s : Nat} {K : Nat → Nat → Int32} {D : Nat → Int32} (A : AbM σ m s K D 1) (W : AbW m s K D 1) (hk : σ 20 0 20 = 22) : Ret (F_X12_turnBack σ) (fun τ => AbM τ D 0 K D 0 ∧ (∀ a, a ≠ 20 → τ a = σ a) ∧ (∀ b, b ≠ 0 → b ≠ 1 → τ 20 b = σ 20 b) ∧ ∀ i, i ≠ 2 → i ≠ 5 → τ 20 0 i = σ 20 0 i) := by
  obtain ⟨a1, a2, a3, a4, a5, a6⟩ := A
  have hz := W.1.2.2.1.2.2.2.2.2
  have hD := (W.2.2.2.2 rfl).2.2.1.2.2.2.2.2
  have eD := a5 rfl
  unfold F_X12_turnBack
  rw [hk, if_neg (by decide)]
  have key := lp_fill (σ := σ) (h := 20) (J := 1) (b := 0) (n := 1532) (m := m) (y := D) (f := fun z => B_X12_turnBack_58 z.1 z.2) ?_ ?_
  · have es : putj σ 20 1 m = σ := by rw [← a1, putj_self]
    rw [es] at key
    rw [show ((0 : Int32), σ) = (nI 0, σ) from rfl, key, some_b, row_of (f := m) hz D hD, show putj σ 20 1 D 20 0 20 = 22 by rw [putj_j (by decide)]; exact hk, if_neg (by decide), some_b, zro_0, some_b, nst_b, nst_b]
    refine Ret.some ⟨⟨?_, up3_same _ _ _ _ _, fun k hk2 => absurd hk2 (Nat.not_lt_zero k), ?_, fun z => absurd z (by decide), ?_⟩, ?_, ?_, ?_⟩
    · rw [up3_j (by decide), up3_j (by decide), putj_row]
    · rw [up3_i (by decide), up3_same]
    · rw [up3_j (by decide), up3_j (by decide), putj_j (by decide)]
      exact a6
    · intro a ha
      rw [up3_g ha, up3_g ha, putj_g ha]
    · intro b hb0 hb4
      rw [up3_j hb0, up3_j hb0, putj_j hb4]
    · intro i h2 h5
      rw [up3_i h2, up3_i h5, putj_j (by decide)]
  · intro k m' hk2 hm
    show B_X12_turnBack_58 (nI k) (putj σ 20 1 m') = _
    unfold B_X12_turnBack_58
    rw [if_pos (show nI k < (1532 : Int32) from nI_lt (b := 1532) hk2 (by decide)), show putj σ 20 1 m' 20 0 20 = 22 by rw [putj_j (by decide)]; exact hk, if_neg (by decide), rdo_nI hk2 (by decide), some_b, putj_j (by decide), eD, wro_nI hk2 (by decide), some_b, putj_up, nI_1, Nat.zero_add]
  · intro m'
    show B_X12_turnBack_58 (nI 1532) (putj σ 20 1 m') = _
    unfold B_X12_turnBack_58
    rw [if_neg (show ¬ nI 1532 < (1532 : Int32) by decide)]
