/-! S2: the words of requests -/
set_option maxRecDepth 100000
def reqW : List (List Int32) := [[116, 111, 119, 110],
  [115, 116, 114, 101, 101, 116],
  [108, 97, 110, 101],
  [99, 108, 111, 115, 101],
  [111, 112, 101, 110],
  [117, 110, 105, 116],
  [111, 102, 102],
  [111, 110],
  [112, 111, 115, 116],
  [99, 97, 108, 108],
  [115, 101, 110, 100],
  [103, 111],
  [101, 110, 100],
  [107, 105, 110, 100],
  [114, 101, 112, 111, 114, 116],
  [110, 97, 109, 101],
  [104, 111, 117, 114, 115],
  [97, 119, 97, 121],
  [115, 104, 105, 102, 116],
  [116, 105, 99, 107],
  [117, 110, 100, 111],
  [100, 114, 105, 108, 108],
  [100, 111, 110, 101],
  [119, 97, 121, 115],
  [112, 108, 97, 110],
  [112, 114, 111, 118, 101],
  [99, 104, 101, 99, 107],
  [99, 111, 118, 101, 114],
  [109, 111, 118, 101],
  [117, 110, 105, 116, 115],
  [99, 97, 108, 108, 115],
  [98, 105, 108, 108],
  [119, 104, 101, 114, 101],
  [112, 97, 116, 104],
  [114, 97, 100, 105, 111],
  [102, 108, 111, 119],
  [100, 97, 109],
  [106, 117, 100, 103, 101],
  [99, 111, 117, 110, 116, 115],
  [97, 104, 101, 97, 100],
  [115, 104, 105, 102, 116, 115],
  [97, 117, 100, 105, 116],
  [98, 111, 111, 107, 115],
  [99, 117, 116],
  [109, 101, 110, 100]]
def wPC : List Nat := [0, 6, 14, 20, 27, 33, 39, 44, 48, 54, 60, 66, 70, 75, 81, 89, 95, 102, 108, 115, 121, 127, 134, 140, 146, 152, 159, 166, 173, 179, 186, 193, 199, 206, 212, 219, 225, 230, 237, 245, 252, 260, 267, 274, 279, 285]
def wPM : List Nat := [0, 5, 12, 17, 23, 28, 33, 37, 40, 45, 50, 55, 58, 62, 67, 74, 79, 85, 90, 96, 101, 106, 112, 117, 122, 127, 133, 139, 145, 150, 156, 162, 167, 173, 178, 184, 189, 193, 199, 206, 212, 219, 225, 231, 235, 240]
def wTK : List Nat := [1, 3, 3, 1, 1, 2, 1, 1, 2, 3, 0, 2, 1, 8, 7, 6, 3, 5, 0, 1, 0, 0, 0, 1, 0, 0, 9, 0, 0, 0, 0, 1, 6, 2, 1, 2, 2, 4, 0, 1, 0, 0, 0, 1, 0]
def wCN : List Nat := [0, 0, 0, 0, 0, 1, 1, 1, 1, 1, 1, 1, 1, 2, 2, 2, 2, 2, 2, 3, 3, 3, 3, 3, 3, 3, 4, 4, 4, 4, 4, 4, 5, 5, 5, 5, 5, 5, 6, 6, 6, 6, 6, 7, 7, 7, 7, 8, 8, 8, 8, 8, 8, 9, 9, 9, 9, 9, 9, 10, 10, 10, 10, 10, 10, 11, 11, 11, 11, 12, 12, 12, 12, 12, 13, 13, 13, 13, 13, 13, 14, 14, 14, 14, 14, 14, 14, 14, 15, 15, 15, 15, 15, 15, 16, 16, 16, 16, 16, 16, 16, 17, 17, 17, 17, 17, 17, 18, 18, 18, 18, 18, 18, 18, 19, 19, 19, 19, 19, 19, 20, 20, 20, 20, 20, 20, 21, 21, 21, 21, 21, 21, 21, 22, 22, 22, 22, 22, 22, 23, 23, 23, 23, 23, 23, 24, 24, 24, 24, 24, 24, 25, 25, 25, 25, 25, 25, 25, 26, 26, 26, 26, 26, 26, 26, 27, 27, 27, 27, 27, 27, 27, 28, 28, 28, 28, 28, 28, 29, 29, 29, 29, 29, 29, 29, 30, 30, 30, 30, 30, 30, 30, 31, 31, 31, 31, 31, 31, 32, 32, 32, 32, 32, 32, 32, 33, 33, 33, 33, 33, 33, 34, 34, 34, 34, 34, 34, 34, 35, 35, 35, 35, 35, 35, 36, 36, 36, 36, 36, 37, 37, 37, 37, 37, 37, 37, 38, 38, 38, 38, 38, 38, 38, 38, 39, 39, 39, 39, 39, 39, 39, 40, 40, 40, 40, 40, 40, 40, 40, 41, 41, 41, 41, 41, 41, 41, 42, 42, 42, 42, 42, 42, 42, 43, 43, 43, 43, 43, 44, 44, 44, 44, 44, 44, 45, 45]
def wLN : List Nat := [4, 6, 4, 5, 4, 4, 3, 2, 4, 4, 4, 2, 3, 4, 6, 4, 5, 4, 5, 4, 4, 5, 4, 4, 4, 5, 5, 5, 4, 5, 5, 4, 5, 4, 5, 4, 3, 5, 6, 5, 6, 5, 5, 3, 4]
abbrev wL (w : Nat) : Nat := wLN.getD w 0
abbrev wW (w i : Nat) : Int32 := (reqW.getD w []).getD i 0
abbrev pC (w : Nat) : Nat := wPC.getD w 0
abbrev pM (w : Nat) : Nat := wPM.getD w 0
abbrev tkW (w : Nat) : Nat := wTK.getD w 0
abbrev chW (k : Nat) : Int32 := (sTx 0).getD k 0
theorem w_slen : slen 0 = 285 := by decide +kernel
theorem w_tabC : ∀ w, w < 45 → (pC w + wL w + 2 ≤ 285 ∧ pC (w + 1) = pC w + wL w + 2 ∧ chW (pC w + wL w) = nI (48 + tkW w) ∧ tkW w ≤ 9 ∧ wL w ≤ 10 ∧ ∀ i, i < wL w → chW (pC w + i) = wW w i ∧ 57 < wW w i ∧ 96 < wW w i) := by decide +kernel
theorem w_tabM : ∀ w, w < 45 → (pM w + wL w < 240 ∧ pM (w + 1) = pM w + wL w + 1 ∧ reqL.getD (pM w + wL w) 0 = 0 ∧ (∀ i, i < wL w → reqL.getD (pM w + i) 0 = wW w i ∧ ¬ wW w i = 0)) := by decide +kernel
theorem w_uniq : ∀ w, w < 45 → ∀ v, v < 45 → wL w = wL v → (∀ i, i < wL w → wW w i = wW v i) → w = v := by decide +kernel
theorem w_end : pC 45 = 285 ∧ pM 45 = 240 ∧ pC 0 = 0 ∧ pM 0 = 0 := by decide +kernel
theorem w_cnt : ∀ k, k < 285 → (((57 < chW k ∨ chW k = 32) ∧ wCN.getD (k + 1) 0 = wCN.getD k 0) ∨ (¬ 57 < chW k ∧ ¬ chW k = 32 ∧ k = pC (wCN.getD k 0) + wL (wCN.getD k 0) ∧ wCN.getD (k + 1) 0 = wCN.getD k 0 + 1)) := by decide +kernel
theorem w_cnt2 : ∀ w, w < 45 → wCN.getD (pC w + wL w) 0 = w := by decide +kernel
theorem w_cnt3 : ∀ k, k < 286 → wCN.getD k 0 ≤ 45 := by decide +kernel
/-- word w begins with the request's first i bytes -/
abbrev eqP (h : Nat → Int32) (w i : Nat) : Prop := ∀ k, k < i → h k = wW w k
def wd (h : Nat → Int32) (a w : Nat) : Prop := wL w = a ∧ eqP h w a
def pfx (h : Nat → Int32) (a : Nat) : Prop := ∃ w, w < 45 ∧ a ≤ wL w ∧ eqP h w a
/-- as far as some word goes -/
def LW (h : Nat → Int32) (a : Nat) : Prop := pfx h a ∧ ¬ pfx h (a + 1)
theorem wd_uniq {h : Nat → Int32} {a w v : Nat} (hw : w < 45) (hv : v < 45) (x : wd h a w) (y : wd h a v) : w = v := by
  refine w_uniq w hw v hv (x.1.trans y.1.symm) ?_
  intro i hi
  have := x.1
  rw [← x.2 i (by omega), y.2 i (by omega)]
theorem pfx_le {h : Nat → Int32} {a b : Nat} (x : pfx h a) (hb : b ≤ a) : pfx h b := by
  obtain ⟨w, h1, h2, h3⟩ := x
  exact ⟨w, h1, by omega, fun k hk => h3 k (by omega)⟩
theorem pfx_10 {h : Nat → Int32} {a : Nat} (x : pfx h a) : a ≤ 10 := by
  obtain ⟨w, h1, h2, -⟩ := x
  have := (w_tabC w h1).2.2.2.2.1
  omega
theorem pfx_n {h : Nat → Int32} {n a : Nat} (B : Byt h n) (x : pfx h a) : a ≤ n := by
  obtain ⟨w, h1, h2, h3⟩ := x
  rcases Nat.lt_or_ge n a with q | q
  · exfalso
    have e := h3 n q
    rw [B.2 n (Nat.le_refl _)] at e
    have := ((w_tabC w h1).2.2.2.2.2 n (by omega)).2.1
    rw [← e] at this
    exact absurd this (by decide)
  · exact q
theorem pfx_0 (h : Nat → Int32) : pfx h 0 := ⟨0, by decide, Nat.zero_le _, fun k hk => absurd hk (Nat.not_lt_zero k)⟩
theorem LW_ex (h : Nat → Int32) : ∃ a, LW h a := by
  have key : ∀ d a, a + d = 11 → pfx h a → ∃ b, LW h b := by
    intro d
    induction d with
    | zero => intro a ha x; have := pfx_10 x; omega
    | succ d ih =>
      intro a ha x
      by_cases q : pfx h (a + 1)
      · exact ih (a + 1) (by omega) q
      · exact ⟨a, x, q⟩
  exact key 11 0 rfl (pfx_0 h)
theorem LW_le {h : Nat → Int32} {a b : Nat} (x : LW h a) (y : pfx h b) : b ≤ a := by
  rcases Nat.lt_or_ge a b with q | q
  · exact absurd (pfx_le y (by omega)) x.2
  · exact q
theorem wd_pfx {h : Nat → Int32} {a w : Nat} (hw : w < 45) (x : wd h a w) : pfx h a := ⟨w, hw, by have := x.1; omega, x.2⟩
theorem strC {k : Nat} (h : k < 285) : ((sok (0 : Int32)).bind (fun i => strChr i (nI k))) = some (chW k) := by
  rw [show (0 : Int32) = nI 0 from rfl, sok_nI (by decide), some_b, strChr_nI (by decide) (by rw [w_slen]; exact h)]
theorem strN : ((sok (0 : Int32)).bind strLen) = some (nI 285) := by
  rw [show (0 : Int32) = nI 0 from rfl, sok_nI (by decide), some_b]
  unfold strLen
  rw [w_slen]
  rfl
theorem lp_w18 {σ : St} {j n a w : Nat} {v1 : Int32} {h : Nat → Int32} (S : SrcC σ j n h) (ha : σ 2 0 8 = nI a) (han : a ≤ n) (hw : w < 45) : iter (fun z => B_X2_word_18 v1 (nI (pC w)) z.1 z.2 σ) ((0 : Int32), (1 : Int32)) = some (nI (wL w), if wL w ≤ a ∧ eqP h w (wL w) then 1 else 0) := by
  obtain ⟨t1, t2, t3, t4, t5, t6⟩ := w_tabC w hw
  have hj := lenB_le (j := j)
  obtain ⟨s1, s2, s3, s4, s5, s6⟩ := S
  have key := iter_row (f := fun z => B_X2_word_18 v1 (nI (pC w)) z.1 z.2 σ) (fun i => (nI i, if i ≤ a ∧ eqP h w i then (1 : Int32) else 0)) (wL w) (nI (wL w), if wL w ≤ a ∧ eqP h w (wL w) then 1 else 0) ?_ ?_ 0 (Nat.zero_le _)
  · rw [if_pos (show 0 ≤ a ∧ eqP h w 0 from ⟨Nat.zero_le _, fun k hk => absurd hk (Nat.not_lt_zero k)⟩)] at key
    exact key
  · intro i hi
    show B_X2_word_18 v1 (nI (pC w)) (nI i) (if i ≤ a ∧ eqP h w i then (1 : Int32) else 0) σ = _
    unfold B_X2_word_18
    obtain ⟨u1, u2, -⟩ := t6 i hi
    rw [nI_add, strC (by omega), some_b, u1, if_pos u2]
    by_cases q : i ≤ a ∧ eqP h w i
    · rw [if_pos q, if_neg (by decide), ha]
      by_cases q2 : i < a
      · rw [if_pos (nI_lt q2 (by omega)), s2, dyb_nI s1, some_b, rdo_nI (by omega) (by omega), some_b, some_b, (s6 i (by omega)).1]
        by_cases q3 : h i = wW w i
        · rw [if_pos q3, some_b, nI_1, if_pos]
          refine ⟨by omega, ?_⟩
          intro k hk
          by_cases e : k = i
          · rw [e]; exact q3
          · exact q.2 k (by omega)
        · rw [if_neg q3, some_b, nI_1, if_neg]
          intro z
          exact q3 (z.2 i (by omega))
      · rw [if_neg (nI_nlt (by omega) (by omega)), some_b, nI_1, if_neg]
        intro z
        omega
    · rw [if_neg q, if_pos rfl, some_b, nI_1, if_neg]
      intro z
      exact q ⟨by omega, fun k hk => z.2 k (by omega)⟩
  · show B_X2_word_18 v1 (nI (pC w)) (nI (wL w)) (if wL w ≤ a ∧ eqP h w (wL w) then (1 : Int32) else 0) σ = _
    unfold B_X2_word_18
    rw [nI_add, strC (by omega), some_b, t3, if_neg (show ¬ (57 : Int32) < nI (48 + tkW w) from nI_nlt (a := 57) (by omega) (by decide))]
theorem c_wordStep {σ : St} {j n a w : Nat} {h : Nat → Int32} (S : SrcC σ j n h) (ha : σ 2 0 8 = nI a) (han : a ≤ n) (hw : w < 45) (hn : ¬ wd h a w) : B_X2_word_4 (nI w) (nI (pC w)) σ = some (.inl (nI (w + 1), nI (pC (w + 1)))) := by
  obtain ⟨t1, t2, t3, t4, t5, t6⟩ := w_tabC w hw
  have hj := lenB_le (j := j)
  have s4 := S.2.2.2.1
  unfold B_X2_word_4
  rw [strN, some_b, if_pos (nI_lt (by omega) (by decide)), lp_w18 S ha han hw, some_b]
  have e : (nI (pC w) + (nI (wL w) + 2) : Int32) = nI (pC (w + 1)) := by
    rw [show (2 : Int32) = nI 2 from rfl, nI_add, nI_add, t2, Nat.add_assoc]
  by_cases q : wL w ≤ a ∧ eqP h w (wL w)
  · rw [if_pos q]
    have q2 : ¬ nI (wL w) = nI a := by
      rw [nI_eq (by omega) (by omega)]
      intro z
      exact hn ⟨z, by rw [← z]; exact q.2⟩
    rw [if_neg (show ¬ (1 : Int32) = 0 by decide), ha, if_neg q2, bindL_inl, nmo_b, nI_1, e]
  · rw [if_neg q, if_pos rfl, bindL_inl, nmo_b, nI_1, e]
theorem c_wordEnd {σ : St} {j n a w : Nat} {h : Nat → Int32} (S : SrcC σ j n h) (ha : σ 2 0 8 = nI a) (han : a ≤ n) (hw : w < 45) (hn : wd h a w) : B_X2_word_4 (nI w) (nI (pC w)) σ = some (.inr (.inr (nI w))) := by
  obtain ⟨t1, t2, t3, t4, t5, t6⟩ := w_tabC w hw
  unfold B_X2_word_4
  have q : wL w ≤ a ∧ eqP h w (wL w) := ⟨by have := hn.1; omega, by rw [hn.1]; exact hn.2⟩
  rw [strN, some_b, if_pos (nI_lt (by omega) (by decide)), lp_w18 S ha han hw, some_b, if_pos q, if_neg (show ¬ (1 : Int32) = 0 by decide), ha, hn.1, if_pos rfl, bindL_inr]
theorem c_word {σ : St} {j n a w : Nat} {h : Nat → Int32} (S : SrcC σ j n h) (ha : σ 2 0 8 = nI a) (han : a ≤ n) (hw : w < 45) (hd : wd h a w) : F_X2_word σ = some (nI w) := by
  unfold F_X2_word
  have key := iter_row (f := fun z => B_X2_word_4 z.1 z.2 σ) (fun k => (nI k, nI (pC k))) w (.inr (nI w)) ?_ ?_ 0 (Nat.zero_le _)
  · rw [show ((0 : Int32), (0 : Int32)) = (nI 0, nI (pC 0)) by rw [w_end.2.2.1]; rfl, key, bindL_inr]
  · intro k hk
    exact c_wordStep S ha han (by omega) (fun z => by have := wd_uniq (by omega) hw z hd; omega)
  · exact c_wordEnd S ha han hw hd
theorem c_noword {σ : St} {j n a : Nat} {h : Nat → Int32} (S : SrcC σ j n h) (ha : σ 2 0 8 = nI a) (han : a ≤ n) (hd : ∀ w, w < 45 → ¬ wd h a w) : F_X2_word σ = some (-1) := by
  unfold F_X2_word
  have key := iter_row (f := fun z => B_X2_word_4 z.1 z.2 σ) (fun k => (nI k, nI (pC k))) 45 (.inl ()) ?_ ?_ 0 (Nat.zero_le _)
  · rw [show ((0 : Int32), (0 : Int32)) = (nI 0, nI (pC 0)) by rw [w_end.2.2.1]; rfl, key, bindL_inl]
  · intro k hk
    exact c_wordStep S ha han hk (hd k hk)
  · show B_X2_word_4 (nI 45) (nI (pC 45)) σ = _
    unfold B_X2_word_4
    rw [strN, some_b, w_end.1, if_neg (nI_nlt (Nat.le_refl _) (by decide))]
theorem c_takes {σ : St} {w : Nat} (hw : w < 45) : F_X2_takes (nI w) σ = some (nI (tkW w)) := by
  obtain ⟨t1, t2, t3, t4, t5, t6⟩ := w_tabC w hw
  unfold F_X2_takes
  have key := iter_row (f := fun z => B_X2_takes_4 (nI w) z.1 z.2 σ) (fun k => (nI (wCN.getD k 0), nI k)) (pC w + wL w) (nI (tkW w)) ?_ ?_ 0 (Nat.zero_le _)
  · exact key
  · intro k hk
    show B_X2_takes_4 (nI w) (nI (wCN.getD k 0)) (nI k) σ = _
    unfold B_X2_takes_4
    have hc := w_cnt3 k (by omega)
    rw [strC (by omega), some_b, nI_1]
    rcases w_cnt k (by omega) with ⟨c1, c2⟩ | ⟨c1, c2, c3, c4⟩
    · rw [c2]
      rcases c1 with c1 | c1
      · rw [if_pos c1]
      · rw [if_neg (by rw [c1]; decide), if_pos c1]
    · have hne : ¬ nI (wCN.getD k 0) = nI w := by
        rw [nI_eq (by omega) (by omega)]
        intro z
        rw [z] at c3
        omega
      rw [if_neg c1, if_neg c2, if_neg hne, nI_1, c4]
  · show B_X2_takes_4 (nI w) (nI (wCN.getD (pC w + wL w) 0)) (nI (pC w + wL w)) σ = _
    unfold B_X2_takes_4
    have h32 : ¬ nI (48 + tkW w) = (32 : Int32) := by
      rw [show (32 : Int32) = nI 32 from rfl, nI_eq (by omega) (by decide)]
      omega
    rw [strC (by omega), some_b, t3, if_neg (show ¬ (57 : Int32) < nI (48 + tkW w) from nI_nlt (a := 57) (by omega) (by decide)), if_neg h32, w_cnt2 w hw, if_pos rfl, show (48 : Int32) = nI 48 from rfl, nI_sub (by omega), Nat.add_sub_cancel_left]
