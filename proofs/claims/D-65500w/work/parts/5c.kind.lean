/-! S6: kinds -/
set_option maxRecDepth 100000
/-- a tree's nodes and bytes -/
theorem t_sum {h : Nat → Int32} {a : Nat} : ∀ N, tAll h a N → tP h a N + tU h a N = a + 2 * N + 1 := by
  intro N
  induction N with
  | zero => intro _; rfl
  | succ N ih =>
    intro hA
    have h1 := ih (fun i hi => hA i (by omega))
    have h2 := (hA N (by omega)).2
    rw [tP, tU]
    by_cases q : h (tP h a N) = 63
    · rw [if_pos q, if_pos q]; omega
    · rw [if_neg q, if_neg q]; omega
theorem tV_neg {h : Nat → Int32} {n a i : Nat} (B : Byt h n) (hk : tOk h (tP h a i)) : (h (tP h a i) = 63 ∧ tV h a i = -1) ∨ (¬ h (tP h a i) = 63 ∧ ∃ s r, s ≤ 2 ∧ 1 ≤ r ∧ r ≤ 9 ∧ tV h a i = nI (10 * s + r) ∧ h (tP h a i) = 33 ∧ h (tP h a i + 1) = nI (s + 48) ∧ h (tP h a i + 2) = nI (r + 48)) := by
  unfold tV
  by_cases q : h (tP h a i) = 63
  · exact Or.inl ⟨q, by rw [if_pos q]⟩
  · refine Or.inr ⟨q, ?_⟩
    rw [if_neg q]
    rcases hk with hk | ⟨k1, k2, k3⟩
    · exact absurd hk q
    · have l1 : tP h a i + 1 < n := B.lt (ge_pos k2.1 (by decide))
      have l2 : tP h a i + 2 < n := B.lt (ge_pos k3.1 (by decide))
      obtain ⟨c, c1, c2⟩ := B.1 _ l1
      obtain ⟨d, d1, d2⟩ := B.1 _ l2
      rw [c2] at k2 ⊢
      rw [d2] at k3 ⊢
      have c3 : 48 ≤ c := by
        rcases Nat.lt_or_ge c 48 with z | z
        · exact absurd (nI_lt (b := 48) z (by decide)) k2.1
        · exact z
      have c4 : c ≤ 50 := by
        rcases Nat.lt_or_ge 50 c with z | z
        · exact absurd (nI_lt (a := 50) z (by omega)) k2.2
        · exact z
      have d3 : 49 ≤ d := by
        rcases Nat.lt_or_ge d 49 with z | z
        · exact absurd (nI_lt (b := 49) z (by decide)) k3.1
        · exact z
      have d4 : d ≤ 57 := by
        rcases Nat.lt_or_ge 57 d with z | z
        · exact absurd (nI_lt (a := 57) z (by omega)) k3.2
        · exact z
      refine ⟨c - 48, d - 48, by omega, by omega, by omega, ?_, k1, by rw [show c - 48 + 48 = c by omega], by rw [show d - 48 + 48 = d by omega]⟩
      rw [show (48 : Int32) = nI 48 from rfl, nI_sub c3, nI_sub (by omega), show (10 : Int32) = nI 10 from rfl, pk_mul, nI_add]
def kdR (m : Nat → Int32) (N : Nat) (v : Nat → Int32) : Nat → Int32 := fun i => if i = 7 then nI (cn (m 7) + 1) else if i = 508 + 128 * cn (m 7) then nI N else if 509 + 128 * cn (m 7) ≤ i ∧ i < 509 + 128 * cn (m 7) + N then v (i - (509 + 128 * cn (m 7))) else m i
theorem kdR_cells {m : Nat → Int32} {N : Nat} {v : Nat → Int32} (hN : N ≤ 127) (hK : cn (m 7) < 8) : kdR m N v 7 = nI (cn (m 7) + 1) ∧ kdR m N v (508 + 128 * cn (m 7)) = nI N ∧ (∀ i, i < N → kdR m N v (508 + 128 * cn (m 7) + 1 + i) = v i) ∧ ∀ i, i ≠ 7 → i < 508 + 128 * cn (m 7) ∨ 508 + 128 * cn (m 7) + 128 ≤ i → kdR m N v i = m i := by
  unfold kdR
  refine ⟨?_, ?_, ?_, ?_⟩
  · rw [if_pos rfl]
  · rw [if_neg (by omega), if_pos rfl]
  · intro i hi
    rw [if_neg (by omega), if_neg (by omega), if_pos (by omega), show 508 + 128 * cn (m 7) + 1 + i - (509 + 128 * cn (m 7)) = i by omega]
  · intro i h7 hi
    rw [if_neg h7, if_neg (by omega), if_neg (by omega)]
/-- the new kind's row and the bytes -/
theorem kd_off {h m : Nat → Int32} {n a b N : Nat} (B : Byt h n) (hA : tAll h a N) (hv : ∀ i, i < N → m (b + 1 + i) = tV h a i) : ∀ i, i ≤ N → offN m b i + a = tP h a i ∧ dueN m b i = tU h a i := by
  intro i
  induction i with
  | zero => intro _; exact ⟨by simp [offN, tP], rfl⟩
  | succ i ih =>
    intro hi
    obtain ⟨h1, h2⟩ := ih (by omega)
    have hk := (hA i (by omega)).1
    rw [offN, dueN, tP, tU, hv i (by omega)]
    rcases tV_neg B hk with ⟨q, e⟩ | ⟨q, s, r, s1, r1, r2, e, -⟩
    · have z : (-1 : Int32) < 0 := by decide
      rw [e, if_pos z, if_pos z, if_pos q, if_pos q, h2]
      exact ⟨by omega, rfl⟩
    · have z : ¬ nI (10 * s + r) < 0 := nI_pos (by omega)
      rw [e, if_neg z, if_neg z, if_neg q, if_neg q, h2]
      exact ⟨by omega, rfl⟩
theorem Rok.kd {m h : Nat → Int32} (R : Rok m) {n a N : Nat} (B : Byt h n) (hA : tAll h a N) (h0 : tU h a N = 0) (hn : tP h a N ≤ a + 200) (hK : cn (m 7) < 8) : Rok (kdR m N (tV h a)) := by
  have hs := t_sum N hA
  obtain ⟨e7, e8, e9, ei⟩ := kdR_cells (m := m) (v := tV h a) (N := N) (by omega) hK
  obtain ⟨v1, v2, v3, v4, v5, v6⟩ := R.2.2.1
  have b7 := R.1.2.2.2.2.2.1
  have b8' := R.1.2.2.2.2.2.2.1.2
  have b1 := R.1.2.1.2
  have b2 := R.1.2.2.1.2
  have ko := kd_off (m := kdR m N (tV h a)) B hA e9
  refine R.words (fun i hi h7 => ei i h7 (by omega)) (by rw [e7]; exact bd_nI (by omega) (by decide)) ⟨?_, ?_, ?_, ?_, ?_, ?_⟩
  · intro q hq
    have hx := v1 q hq
    have hb := hx.1.2
    rw [ei (392 + 13 * q) (by omega) (by omega)]
    refine ⟨hx.1, ?_⟩
    intro i hi
    rw [ei _ (by omega) (by omega)]
    exact hx.2 i hi
  · intro j hj
    rw [ei 8 (by decide) (by omega)] at hj
    rw [ei _ (by omega) (by omega)]
    exact v2 j hj
  · intro j hj
    rw [e7, cn_nI (by omega)] at hj
    by_cases e : j = cn (m 7)
    · subst e
      rw [e8, cn_nI (by omega)]
      refine ⟨bd_nI (by omega) (by decide), ?_, ?_, ?_, ?_⟩
      · have := (ko N (Nat.le_refl _)).1
        omega
      · intro i hi
        rw [e9 i hi]
        rcases tV_neg B (hA i hi).1 with ⟨q, e⟩ | ⟨q, s, r, s1, r1, r2, e, -⟩
        · exact Or.inl e
        · exact Or.inr ⟨s, r, s1, r1, r2, e⟩
      · intro i hi
        rw [(ko i (by omega)).2]
        exact (hA i hi).2
      · rw [(ko N (Nat.le_refl _)).2, h0]
    · obtain ⟨u1, u2, u3, u4, u5⟩ := v3 j (by omega)
      have hN := u1.2
      rw [ei (508 + 128 * j) (by omega) (by omega), offN_eq _ (fun i hi => ei _ (by omega) (by omega)), dueN_eq _ (fun i hi => ei _ (by omega) (by omega))]
      refine ⟨u1, u2, ?_, ?_, u5⟩
      · intro i hi
        rw [ei _ (by omega) (by omega)]
        exact u3 i hi
      · intro i hi
        rw [dueN_eq _ (fun i' hi' => ei _ (by omega) (by omega))]
        exact u4 i hi
  · intro j h1 h2
    rw [ei 1 (by decide) (by omega)] at h1
    rw [ei _ (by omega) (by omega), ei _ (by omega) (by omega)]
    exact v4 j h1 h2
  · intro u h1 h2
    rw [ei 2 (by decide) (by omega)] at h1
    rw [ei _ (by omega) (by omega), ei _ (by omega) (by omega)]
    exact v5 u h1 h2
  · intro i hi
    rw [ei _ (by omega) (by omega)]
    exact v6 i hi
theorem dig10 : ∀ s, s < 3 → ∀ r, r < 10 → nI (10 * s + r) / 10 + 48 = nI (s + 48) ∧ nI (10 * s + r) - nI (10 * s + r) / 10 * 10 + 48 = nI (r + 48) := by decide +kernel
theorem c_addKind {σ : St} {g j n a N : Nat} {m h : Nat → Int32} (R : Rok m) (H : HH (σ g) m) (hg : g ≠ 0) (B : Byt h n) (hnj : n ≤ lenB j) (hby : ∀ i, i < n → σ 0 j i &&& 255 = h i ∧ b8 (σ 0 j i) = σ 0 j i) (hA : tAll h a N) (h0 : tU h a N = 0) (hn : tP h a N = n) (hn2 : n ≤ a + 200) (ha : a ≤ n) (hK : cn (m 7) < 8) : Ret (F_X3_addKind g j (nI a) (nI (n - a)) σ) (fun z => z.1 = nI (cn (m 7)) ∧ (∀ x, x ≠ g → z.2 x = σ x) ∧ HH (z.2 g) (kdR m N (tV h a))) := by
  have hj := lenB_le (j := j)
  have hs := t_sum N hA
  obtain ⟨e7, e8, e9, ei⟩ := kdR_cells (m := m) (v := tV h a) (N := N) (by omega) hK
  obtain ⟨v1, v2, v3, v4, v5, v6⟩ := R.2.2.1
  have ko := kd_off (m := kdR m N (tV h a)) B hA e9
  have b7 := R.1.2.2.2.2.2.1
  have b8' := R.1.2.2.2.2.2.2.1.2
  have z35 : σ g 0 35 = nI (cn (m 7)) := H.1.1.2.2.2.2.2.2.2.1.trans b7.1
  -- bytes of the tree as they are kept
  have raw : ∀ i, i < N → ∀ w, w < (if h (tP h a i) = 63 then 1 else 3) → σ 0 j (tP h a i + w) = h (tP h a i + w) := by
    intro i hi w hw
    have hk := (hA i hi).1
    have hl := tOk_lt B hk
    have main : ∀ c, c < 128 → h (tP h a i + w) = nI c → tP h a i + w < n → σ 0 j (tP h a i + w) = h (tP h a i + w) := by
      intro c hc e hlt
      rw [e]
      exact raw_of (hby _ hlt).2 ((hby _ hlt).1.trans e) hc
    rcases tV_neg B hk with ⟨q, -⟩ | ⟨q, s, r, s1, r1, r2, -, k1, k2, k3⟩
    · rw [if_pos q] at hw
      have : w = 0 := by omega
      subst this
      exact main 63 (by decide) q hl.1
    · rw [if_neg q] at hw
      have hl2 := hl.2 q
      have : w = 0 ∨ w = 1 ∨ w = 2 := by omega
      rcases this with e | e | e
      · subst e; exact main 33 (by decide) k1 (by omega)
      · subst e; exact main (s + 48) (by omega) k2 (by omega)
      · subst e; exact main (r + 48) (by omega) k3 (by omega)
  unfold F_X3_addKind
  refine Ret.bind (Q := fun τ => (∀ x, x ≠ g → τ x = σ x) ∧ (∀ b, b ≠ 10 → τ g b = σ g b) ∧ (∀ i, (i < 200 * cn (m 7) ∨ 200 * cn (m 7) + (n - a) ≤ i) → τ g 10 i = σ g 10 i) ∧ ∀ i, i < n - a → τ g 10 (200 * cn (m 7) + i) = σ 0 j (a + i)) ?_ ?_
  · refine iter_cnt (fun i (τ : St) => (nI i, τ)) (fun i τ => (∀ x, x ≠ g → τ x = σ x) ∧ (∀ b, b ≠ 10 → τ g b = σ g b) ∧ (∀ i, (i < 200 * cn (m 7) ∨ 200 * cn (m 7) + (n - a) ≤ i) → τ g 10 i = σ g 10 i) ∧ ∀ q, q < i → τ g 10 (200 * cn (m 7) + q) = σ 0 j (a + q)) (n - a) ?_ ?_ σ ⟨fun _ _ => rfl, fun _ _ => rfl, fun _ _ => rfl, fun i hi => by omega⟩
    · rintro i τ hi ⟨h1, h2, h3, h4⟩
      show Ret (B_X3_addKind_3 g j (nI a) (nI (n - a)) (nI i) τ) _
      unfold B_X3_addKind_3
      rw [if_pos (nI_lt hi (by omega)), nI_add, rdo_nI (by omega) (by omega), some_b, h2 0 (by decide), z35, show (200 : Int32) = nI 200 from rfl, pk_mul, nI_add, wrb_nI (by omega) (by decide), some_b, nI_1, h1 0 (fun z => hg z.symm)]
      refine Ret.some ⟨_, rfl, fun x hx => (up3_g hx).trans (h1 x hx), fun b hb => (up3_j hb).trans (h2 b hb), fun q hq => ?_, fun q hq => ?_⟩
      · rw [up3_i (by omega), h3 q hq]
      · by_cases e : q = i
        · subst e
          rw [up3_same]
          exact (hby (a + q) (by omega)).2
        · rw [up3_i (by omega), h4 q (by omega)]
    · rintro τ ⟨h1, h2, h3, h4⟩
      show Ret (B_X3_addKind_3 g j (nI a) (nI (n - a)) (nI (n - a)) τ) _
      unfold B_X3_addKind_3
      rw [if_neg (nI_nlt (Nat.le_refl _) (by omega))]
      exact Ret.some ⟨h1, h2, h3, h4⟩
  · rintro τ ⟨h1, h2, h3, h4⟩
    rw [h2 0 (by decide), z35, wro_nI hK (by decide), some_b, nst_b]
    have e35 : up3 τ g 12 (cn (m 7)) (nI (n - a)) g 0 35 = nI (cn (m 7)) := by rw [up3_j (by decide), h2 0 (by decide), z35]
    rw [e35, nI_1]
    refine Ret.some ⟨rfl, fun x hx => ((up3_g hx).trans (up3_g hx)).trans (h1 x hx), ?_⟩
    show HH (up3 (up3 τ g 12 (cn (m 7)) (nI (n - a))) g 0 35 (nI (cn (m 7) + 1)) g) _
    refine HH.wds R.1 H (fun i hi h7 => ei i h7 (by omega)) ?_ ?_ ?_ ⟨?_, ?_, ?_⟩ ?_
    · rw [up3_same, e7]
    · intro i hi
      rw [up3_i hi, up3_j (by decide), h2 0 (by decide)]
    · intro b hb0 hb
      rw [up3_j hb0, up3_j (by omega), h2 b (by omega)]
    · intro q hq
      have hx := H.2.2.1.1 q hq
      have hb := (v1 q hq).1.2
      rw [up3_j (by decide), up3_j (by decide), up3_j (by decide), up3_j (by decide), h2 13 (by decide), h2 11 (by decide), ei _ (by omega) (by omega)]
      refine ⟨hx.1, fun i hi => ?_⟩
      rw [ei _ (by omega) (by omega)]
      exact hx.2 i hi
    · intro i hi
      rw [ei 8 (by decide) (by omega)] at hi
      rw [up3_j (by decide), up3_j (by decide), h2 14 (by decide), ei _ (by omega) (by omega)]
      exact H.2.2.1.2.1 i hi
    · intro k hk
      rw [e7, cn_nI (by omega)] at hk
      rw [up3_j (show (12 : Nat) ≠ 0 by decide), up3_j (show (10 : Nat) ≠ 0 by decide), up3_j (show (10 : Nat) ≠ 12 by decide)]
      by_cases e : k = cn (m 7)
      · subst e
        rw [e8, cn_nI (by omega), up3_same]
        refine ⟨?_, ?_⟩
        · have := (ko N (Nat.le_refl _)).1
          rw [show offN (kdR m N (tV h a)) (508 + 128 * cn (m 7)) N = n - a by omega]
        · intro i hi
          have ho := (ko i (by omega)).1
          have hpl := tP_le B ha (i + 1) (fun q hq => hA q (by omega))
          have hk := (hA i hi).1
          have byt : ∀ w, w < (if h (tP h a i) = 63 then 1 else 3) → τ g 10 (200 * cn (m 7) + (offN (kdR m N (tV h a)) (508 + 128 * cn (m 7)) i + w)) = h (tP h a i + w) := by
            intro w hw
            rw [tP] at hpl
            rw [h4 _ (by omega), show a + (offN (kdR m N (tV h a)) (508 + 128 * cn (m 7)) i + w) = tP h a i + w by omega]
            exact raw i hi w hw
          rw [e9 i hi]
          unfold TN
          rcases tV_neg B hk with ⟨q, e⟩ | ⟨q, s, r, s1, r1, r2, e, k1, k2, k3⟩
          · refine Or.inl ⟨by rw [e]; decide, ?_⟩
            have := byt 0 (by rw [if_pos q]; decide)
            exact this.trans q
          · obtain ⟨d1, d2⟩ := dig10 s (by omega) r (by omega)
            refine Or.inr ⟨by rw [e]; exact nI_pos (by omega), ?_, ?_, ?_⟩
            · have := byt 0 (by rw [if_neg q]; decide)
              exact this.trans k1
            · have := byt 1 (by rw [if_neg q]; decide)
              rw [e, d1]
              exact this.trans k2
            · have := byt 2 (by rw [if_neg q]; decide)
              rw [e, d2]
              exact this.trans k3
      · have hx := H.2.2.1.2.2 k (by omega)
        obtain ⟨u1, u2, u3, u4, u5⟩ := v3 k (by omega)
        have hN := u1.2
        rw [up3_i e, h2 12 (by decide), ei (508 + 128 * k) (by omega) (by omega), offN_eq _ (fun i hi => ei _ (by omega) (by omega))]
        refine ⟨hx.1, fun q hq => ?_⟩
        rw [offN_eq _ (fun i hi => ei _ (by omega) (by omega)), ei _ (by omega) (by omega)]
        have hy := hx.2 q hq
        have o1 := offN_step (m := m) (b := 508 + 128 * k) (n := cn (m (508 + 128 * k))) (i := q) hq
        unfold TN at hy ⊢
        rcases hy with ⟨y1, y2⟩ | ⟨y1, y2, y3, y4⟩
        · refine Or.inl ⟨y1, ?_⟩
          show τ g 10 (200 * k + offN m (508 + 128 * k) q) = 63
          rw [h3 _ (by omega)]
          exact y2
        · have o3 := offN_node (m := m) (b := 508 + 128 * k) (n := cn (m (508 + 128 * k))) (i := q) hq y1
          refine Or.inr ⟨y1, ?_, ?_, ?_⟩
          · show τ g 10 (200 * k + offN m (508 + 128 * k) q) = 33
            rw [h3 _ (by omega)]
            exact y2
          · show τ g 10 (200 * k + (offN m (508 + 128 * k) q + 1)) = _
            rw [h3 _ (by omega)]
            exact y3
          · show τ g 10 (200 * k + (offN m (508 + 128 * k) q + 2)) = _
            rw [h3 _ (by omega)]
            exact y4
    · refine ⟨?_, ?_⟩
      · intro i
        rw [up3_j (by decide), up3_j (by decide)]
        by_cases e : i < 200 * cn (m 7) ∨ 200 * cn (m 7) + (n - a) ≤ i
        · rw [h3 i e]; exact H.2.2.2.1 i
        · have e' : i = 200 * cn (m 7) + (i - 200 * cn (m 7)) := by omega
          rw [e', h4 _ (by omega)]
          exact (hby _ (by omega)).2
      · intro i
        rw [up3_j (by decide), up3_j (by decide), h2 11 (by decide)]
        exact H.2.2.2.2 i
theorem m_addKindT {σ : St} {m : Nat → Int32} {N k : Nat} {v : Nat → Int32} (hw : WF m) (hS : StatM σ) (hs : szM σ k) (hk : k ≤ 3100) (hK : cn (m 7) < 8) (hN : N ≤ 127) (h24 : σ 20 0 24 = nI N) (hv : ∀ i, i < N → σ 20 24 i = v i) : F_X12_addKind (putr σ m) = some (putr (appM σ (aTx 29 ++ numL (nI (cn (m 7))))) (kdR m N v)) := by
  have b7 := hw.2.2.2.2.2.1
  have hl := tx_len 29 (by decide)
  have e24 : ∀ m', putj σ 20 1 m' 20 0 24 = nI N := fun m' => by rw [putj_j (by decide)]; exact h24
  unfold F_X12_addKind
  rw [m_rd7, some_b, putr_row, nmo_b]
  conv =>
    lhs
    rw [b7.1]
  rw [show (508 : Int32) = nI 508 from rfl, show (128 : Int32) = nI 128 from rfl, pk_mul, nI_add, m_wr (by omega), some_b, putr_j (by decide), h24]
  rw [show ((0 : Int32), putr σ (setm m (508 + 128 * cn (m 7)) (nI N))) = (nI 0, putj σ 20 1 (setm m (508 + 128 * cn (m 7)) (nI N))) from rfl]
  rw [lp_fill (b := 509 + 128 * cn (m 7)) (n := N) (y := v) ?_ ?_, some_b, ← putr_putj, m_rd7, some_b, putr_row]
  · have e7 : (if 509 + 128 * cn (m 7) ≤ 7 ∧ 7 < 509 + 128 * cn (m 7) + N then v (7 - (509 + 128 * cn (m 7))) else setm m (508 + 128 * cn (m 7)) (nI N) 7) = nI (cn (m 7)) := by
      rw [if_neg (by omega), setm_ne (by omega)]
      exact b7.1
    rw [e7, show (7 : Int32) = nI 7 from rfl, m_wr (by decide), some_b, show (29 : Int32) = nI 29 from rfl, f_sayM (by decide) hS.putr (szM_putr hs) (by omega), some_b, m_rd (by decide), some_b, appM_j (by decide) (by decide), putr_row, setm_eq, nI_1, show (1 : Int32) = nI 1 from rfl, nI_sub (by omega), Nat.add_sub_cancel, f_numberM (okN_nI (by omega)) (appM_sz (szM_putr hs)) (by omega), some_b, appM_app, appM_putr]
    congr 2
    funext i
    unfold kdR setm
    by_cases y0 : i = 7
    · rw [if_pos y0, if_pos y0]
    · rw [if_neg y0, if_neg y0]
      show (if 509 + 128 * cn (m 7) ≤ i ∧ i < 509 + 128 * cn (m 7) + N then v (i - (509 + 128 * cn (m 7))) else if i = 508 + 128 * cn (m 7) then nI N else m i) = _
      by_cases y1 : i = 508 + 128 * cn (m 7)
      · rw [if_pos y1, if_neg (by omega), if_pos y1]
      · rw [if_neg y1, if_neg y1]
  · intro q m' hq _
    show B_X12_addKind_28 (nI (508 + 128 * cn (m 7))) (nI q) (putj σ 20 1 m') = _
    unfold B_X12_addKind_28
    rw [e24, if_pos (nI_lt hq (by omega)), rdo_nI (by omega) (by decide), some_b, putj_j (by decide), hv q hq, nI_1, nI_add, ← putr_putj, m_wr (by omega), some_b, nI_1, show 508 + 128 * cn (m 7) + 1 + q = 509 + 128 * cn (m 7) + q by omega]
    rfl
  · intro m'
    show B_X12_addKind_28 (nI (508 + 128 * cn (m 7))) (nI N) (putj σ 20 1 m') = _
    unfold B_X12_addKind_28
    rw [e24, if_neg (nI_nlt (Nat.le_refl _) (by omega))]
