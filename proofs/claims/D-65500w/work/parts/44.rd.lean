/-! S2: reading: bytes, numbers -/
set_option maxRecDepth 100000
theorem up3_up {σ : St} {g j i : Nat} {v w : Int32} : up3 (up3 σ g j i v) g j i w = up3 σ g j i w := by
  funext a b c
  unfold up3
  by_cases e : a = g ∧ b = j ∧ c = i
  · rw [if_pos e, if_pos e]
  · rw [if_neg e, if_neg e, if_neg e]
theorem up3_id {σ : St} {g j i : Nat} {v : Int32} (h : σ g j i = v) : up3 σ g j i v = σ := by
  funext a b c
  unfold up3
  by_cases e : a = g ∧ b = j ∧ c = i
  · rw [if_pos e, e.1, e.2.1, e.2.2, h]
  · rw [if_neg e]
/-- the bytes of a request: -1 behind its end -/
def Byt (h : Nat → Int32) (n : Nat) : Prop := (∀ k, k < n → ∃ c, c < 256 ∧ h k = nI c) ∧ ∀ k, n ≤ k → h k = -1
abbrev isD (c : Int32) : Prop := ¬ c < 48 ∧ ¬ 57 < c
abbrev isL (c : Int32) : Prop := ¬ c < 97 ∧ ¬ 122 < c
def SrcC (σ : St) (j n : Nat) (h : Nat → Int32) : Prop := (j = 1 ∨ j = 2 ∨ j = 3) ∧ σ 2 0 6 = nI j ∧ σ 2 0 7 = nI n ∧ n ≤ lenB j ∧ Byt h n ∧ ∀ k, k < n → σ 0 j k &&& 255 = h k ∧ b8 (σ 0 j k) = σ 0 j k
def SrcM (σ : St) (n : Nat) (h : Nat → Int32) : Prop := σ 20 0 13 = nI n ∧ n ≤ 6600 ∧ Byt h n ∧ ∀ k, k < n → σ 20 13 k = h k
theorem lenB_le {j : Nat} : lenB j ≤ 4006 := by
  unfold lenB
  by_cases h1 : j = 1
  · rw [if_pos h1]; decide
  · rw [if_neg h1]
    by_cases h2 : j = 2
    · rw [if_pos h2]; decide
    · rw [if_neg h2]; decide
theorem SrcC.fr {σ τ : St} {j n : Nat} {h : Nat → Int32} (S : SrcC σ j n h) (e0 : τ 0 = σ 0) (e6 : τ 2 0 6 = σ 2 0 6) (e7 : τ 2 0 7 = σ 2 0 7) : SrcC τ j n h := by
  unfold SrcC
  rw [e0, e6, e7]
  exact S
theorem SrcM.fr {σ τ : St} {n : Nat} {h : Nat → Int32} (S : SrcM σ n h) (e0 : τ 20 13 = σ 20 13) (e6 : τ 20 0 13 = σ 20 0 13) : SrcM τ n h := by
  unfold SrcM
  rw [e0, e6]
  exact S
theorem SrcC.u0 {σ : St} {j n i : Nat} {v : Int32} {h : Nat → Int32} (S : SrcC σ j n h) (h6 : i ≠ 6) (h7 : i ≠ 7) : SrcC (up3 σ 2 0 i v) j n h := S.fr (up3_g (by decide)) (up3_i (fun e => h6 e.symm)) (up3_i (fun e => h7 e.symm))
theorem SrcC.uj {σ : St} {j n b i : Nat} {v : Int32} {h : Nat → Int32} (S : SrcC σ j n h) (hb : b ≠ 0) : SrcC (up3 σ 2 b i v) j n h := S.fr (up3_g (by decide)) (by rw [up3_j (fun e => hb e.symm)]) (by rw [up3_j (fun e => hb e.symm)])
theorem SrcM.u0 {σ : St} {n i : Nat} {v : Int32} {h : Nat → Int32} (S : SrcM σ n h) (h6 : i ≠ 13) : SrcM (up3 σ 20 0 i v) n h := S.fr (by rw [up3_j (by decide)]) (up3_i (fun e => h6 e.symm))
theorem SrcM.uj {σ : St} {n b i : Nat} {v : Int32} {h : Nat → Int32} (S : SrcM σ n h) (hb : b ≠ 0) (hb2 : b ≠ 13) : SrcM (up3 σ 20 b i v) n h := S.fr (by rw [up3_j (fun e => hb2 e.symm)]) (by rw [up3_j (fun e => hb e.symm)])
theorem dyb_nI {j : Nat} (h : j = 1 ∨ j = 2 ∨ j = 3) : dyb (nI j) = some j := by
  rcases h with rfl | rfl | rfl <;> decide
theorem c_here {σ : St} {j n a : Nat} {h : Nat → Int32} (S : SrcC σ j n h) (ha : σ 2 0 8 = nI a) (hb : a < 2147483648) : F_X2_here σ = some (h a) := by
  obtain ⟨s1, s2, s3, s4, s5, s6⟩ := S
  have hl := lenB_le (j := j)
  unfold F_X2_here
  rw [ha, s3, s2, dyb_nI s1, some_b]
  by_cases q : a < n
  · rw [if_pos (nI_lt q (by omega)), rdo_nI (by omega) (by omega), some_b, (s6 a q).1]
  · rw [if_neg (nI_nlt (by omega) (by omega)), s5.2 a (by omega)]
theorem m_here {σ : St} {n a : Nat} {h : Nat → Int32} (S : SrcM σ n h) (ha : σ 20 0 21 = nI a) (hb : a < 2147483648) : F_X12_byteHere σ = some (h a) := by
  obtain ⟨s1, s2, s3, s4⟩ := S
  unfold F_X12_byteHere
  rw [ha, s1]
  by_cases q : a < n
  · rw [if_pos (nI_lt q (by omega)), rdo_nI (by omega) (by omega), some_b, s4 a q]
  · rw [if_neg (nI_nlt (by omega) (by omega)), s3.2 a (by omega)]
theorem m_isDigit {σ : St} {n a : Nat} {h : Nat → Int32} (S : SrcM σ n h) (ha : σ 20 0 21 = nI a) (hb : a < 2147483648) : F_X12_isDigit σ = some (if isD (h a) then 1 else 0) := by
  unfold F_X12_isDigit
  rw [m_here S ha hb, some_b, in_eq, some_b, zro_ite, some_b]
theorem Byt.lt {h : Nat → Int32} {n a : Nat} (B : Byt h n) (hd : ¬ h a < 0) : a < n := by
  rcases Nat.lt_or_ge a n with q | q
  · exact q
  · exfalso
    rw [B.2 a q] at hd
    exact hd (by decide)
theorem ge_pos {c x : Int32} (h : ¬ c < x) (hx : ¬ x < 0) : ¬ c < 0 := by
  intro q
  exact h (by
    rw [Int32.lt_iff_toInt_lt] at q hx ⊢
    omega)
theorem isD_nI {h : Nat → Int32} {n a : Nat} (B : Byt h n) (hd : isD (h a)) : a < n ∧ ∃ c, 48 ≤ c ∧ c ≤ 57 ∧ h a = nI c := by
  have hl := B.lt (ge_pos hd.1 (by decide))
  obtain ⟨c, hc, e⟩ := B.1 a hl
  refine ⟨hl, c, ?_, ?_, e⟩
  · rcases Nat.lt_or_ge c 48 with q | q
    · exact absurd (by rw [e]; exact nI_lt (b := 48) q (by decide)) hd.1
    · exact q
  · rcases Nat.lt_or_ge 57 c with q | q
    · exact absurd (by rw [e]; exact nI_lt (a := 57) q (by omega)) hd.2
    · exact q
theorem isL_nI {h : Nat → Int32} {n a : Nat} (B : Byt h n) (hd : isL (h a)) : a < n ∧ ∃ c, 97 ≤ c ∧ c ≤ 122 ∧ h a = nI c := by
  have hl := B.lt (ge_pos hd.1 (by decide))
  obtain ⟨c, hc, e⟩ := B.1 a hl
  refine ⟨hl, c, ?_, ?_, e⟩
  · rcases Nat.lt_or_ge c 97 with q | q
    · exact absurd (by rw [e]; exact nI_lt (b := 97) q (by decide)) hd.1
    · exact q
  · rcases Nat.lt_or_ge 122 c with q | q
    · exact absurd (by rw [e]; exact nI_lt (a := 122) q (by omega)) hd.2
    · exact q
/-- a byte below 128 is kept as it is -/
theorem raw_of {r : Int32} {c : Nat} (hb : b8 r = r) (hr : r &&& 255 = nI c) (hc : c < 128) : r = nI c := by
  have key : ∀ x : Int8, x.toInt32 &&& 255 = nI c → x.toInt32 = nI c := by
    have k2 : ∀ y : BitVec 8, ∀ c, c < 128 → (Int8.ofBitVec y).toInt32 &&& 255 = nI c → (Int8.ofBitVec y).toInt32 = nI c := by decide +kernel
    intro x
    have := k2 x.toBitVec c hc
    exact this
  unfold b8 at hb
  have := key r.toInt8
  rw [hb] at this
  exact this hr
/-- a number's digits from a place on -/
def nmL (h : Nat → Int32) : Nat → Nat → Nat → Nat × Nat
  | 0, v, a => (v, a)
  | f + 1, v, a => if 0 < v ∧ isD (h a) then nmL h f (10 * v + cn (h a) - 48) (a + 1) else (v, a)
abbrev nmV (h : Nat → Int32) (d a : Nat) : Nat := (nmL h (d - 1) (cn (h a) - 48) (a + 1)).1
abbrev nmA (h : Nat → Int32) (d a : Nat) : Nat := (nmL h (d - 1) (cn (h a) - 48) (a + 1)).2
theorem nmL_bd {h : Nat → Int32} {n : Nat} (B : Byt h n) : ∀ f v a k, v < 10 ^ k → a ≤ n → (nmL h f v a).1 < 10 ^ (k + f) ∧ a ≤ (nmL h f v a).2 ∧ (nmL h f v a).2 ≤ n := by
  intro f
  induction f with
  | zero => intro v a k hv ha; exact ⟨hv, Nat.le_refl _, ha⟩
  | succ f ih =>
    intro v a k hv ha
    unfold nmL
    by_cases q : 0 < v ∧ isD (h a)
    · rw [if_pos q]
      obtain ⟨hl, c, c1, c2, e⟩ := isD_nI B q.2
      have hp : 10 ^ (k + 1) = 10 * 10 ^ k := by rw [Nat.pow_succ]; omega
      have := ih (10 * v + cn (h a) - 48) (a + 1) (k + 1) (by rw [e, cn_nI (by omega)]; omega) (by omega)
      rw [show k + (f + 1) = k + 1 + f by omega]
      exact ⟨this.1, by omega, this.2.2⟩
    · rw [if_neg q]
      refine ⟨?_, Nat.le_refl _, ha⟩
      exact Nat.lt_of_lt_of_le hv (Nat.pow_le_pow_right (by decide) (by omega))
theorem nm_bd {h : Nat → Int32} {n d a : Nat} (B : Byt h n) (hd : 1 ≤ d) (q : isD (h a)) : nmV h d a < 10 ^ d ∧ a < nmA h d a ∧ nmA h d a ≤ n := by
  obtain ⟨hl, c, c1, c2, e⟩ := isD_nI B q
  have := nmL_bd B (d - 1) (cn (h a) - 48) (a + 1) 1 (by rw [e, cn_nI (by omega)]; omega) (by omega)
  rw [show 1 + (d - 1) = d by omega] at this
  exact ⟨this.1, Nat.lt_of_succ_le this.2.1, this.2.2⟩
theorem p10_8 {k : Nat} (h : k ≤ 8) : 10 ^ k ≤ 100000000 := by
  have h2 : ∀ k, k < 9 → 10 ^ k ≤ 100000000 := by decide
  exact h2 k (by omega)
theorem lp_nmC {j n d : Nat} {h : Nat → Int32} {σ : St} (S : SrcC σ j n h) (hd : d ≤ 8) : ∀ f v a k, k + f = d → v < 10 ^ k → a ≤ n → iter (fun z => B_X2_number_49 (nI d) z.1 z.2.1 z.2.2) (nI v, nI k, up3 σ 2 0 8 (nI a)) = some (nI (nmL h f v a).1, up3 σ 2 0 8 (nI (nmL h f v a).2)) := by
  have hB := S.2.2.2.2.1
  have hj := lenB_le (j := j)
  have hn := S.2.2.2.1
  intro f
  induction f with
  | zero =>
    intro v a k hk hv ha
    refine iter_inr ?_
    show B_X2_number_49 (nI d) (nI v) (nI k) _ = _
    unfold B_X2_number_49
    rw [if_neg (nI_nlt (by omega) (by omega))]
    rfl
  | succ f ih =>
    intro v a k hk hv ha
    have hv2 := p10_8 (k := k) (by omega)
    have S2 : SrcC (up3 σ 2 0 8 (nI a)) j n h := S.u0 (by decide) (by decide)
    unfold nmL
    by_cases q : 0 < v ∧ isD (h a)
    · rw [if_pos q]
      obtain ⟨hl, c, c1, c2, e⟩ := isD_nI hB q.2
      have hr : σ 0 j a = nI c := raw_of (S.2.2.2.2.2 a hl).2 ((S.2.2.2.2.2 a hl).1.trans e) (by omega)
      have e1 : B_X2_number_49 (nI d) (nI v) (nI k) (up3 σ 2 0 8 (nI a)) = some (.inl (nI (10 * v + cn (h a) - 48), nI (k + 1), up3 σ 2 0 8 (nI (a + 1)))) := by
        unfold B_X2_number_49
        rw [if_pos (nI_lt (by omega) (by omega)), if_pos (show (0 : Int32) < nI v from nI_lt (a := 0) q.1 (by omega)), c_here S2 (up3_same _ _ _ _ _) (by omega), some_b, in_eqC, some_b, if_pos q.2, if_neg (by decide), up3_i (by decide), S.2.1, dyb_nI S.1, some_b, nst_b, up3_same, rdo_nI (by omega) (by omega), some_b, nmo_b, up3_up, nI_1]
        rw [up3_g (by decide), hr, show (10 : Int32) = nI 10 from rfl, pk_mul, nI_add, show (48 : Int32) = nI 48 from rfl, nI_sub (by omega), e, cn_nI (by omega), show (1 : Int32) = nI 1 from rfl, nI_add]
      rw [iter_inl e1]
      refine ih _ (a + 1) (k + 1) (by omega) ?_ (by omega)
      rw [e, cn_nI (by omega), Nat.pow_succ]
      omega
    · rw [if_neg q]
      refine iter_inr ?_
      show B_X2_number_49 (nI d) (nI v) (nI k) _ = _
      unfold B_X2_number_49
      rw [if_pos (nI_lt (by omega) (by omega))]
      by_cases q0 : 0 < v
      · rw [if_pos (show (0 : Int32) < nI v from nI_lt (a := 0) q0 (by omega)), c_here S2 (up3_same _ _ _ _ _) (by omega), some_b, in_eqC, some_b, if_neg (fun z => q ⟨q0, z⟩), if_pos rfl]
      · rw [if_neg (show ¬ (0 : Int32) < nI v from nI_nlt (a := 0) (b := v) (by omega) (by decide))]
theorem lp_nmM {n d : Nat} {h : Nat → Int32} {σ : St} (S : SrcM σ n h) (hd : d ≤ 8) : ∀ f v a k, k + f = d → v < 10 ^ k → a ≤ n → iter (fun z => B_X12_readNumber_46 (nI d) z.1 z.2.1 z.2.2) (nI v, nI k, up3 σ 20 0 21 (nI a)) = some (nI (nmL h f v a).1, up3 σ 20 0 21 (nI (nmL h f v a).2)) := by
  have hB := S.2.2.1
  have hn := S.2.1
  intro f
  induction f with
  | zero =>
    intro v a k hk hv ha
    refine iter_inr ?_
    show B_X12_readNumber_46 (nI d) (nI v) (nI k) _ = _
    unfold B_X12_readNumber_46
    rw [if_neg (nI_nlt (by omega) (by omega))]
    rfl
  | succ f ih =>
    intro v a k hk hv ha
    have hv2 := p10_8 (k := k) (by omega)
    have S2 : SrcM (up3 σ 20 0 21 (nI a)) n h := S.u0 (by decide)
    unfold nmL
    by_cases q : 0 < v ∧ isD (h a)
    · rw [if_pos q]
      obtain ⟨hl, c, c1, c2, e⟩ := isD_nI hB q.2
      have e1 : B_X12_readNumber_46 (nI d) (nI v) (nI k) (up3 σ 20 0 21 (nI a)) = some (.inl (nI (10 * v + cn (h a) - 48), nI (k + 1), up3 σ 20 0 21 (nI (a + 1)))) := by
        unfold B_X12_readNumber_46
        rw [if_pos (nI_lt (by omega) (by omega)), if_pos (show (0 : Int32) < nI v from nI_lt (a := 0) q.1 (by omega)), m_isDigit S2 (up3_same _ _ _ _ _) (by omega), some_b, if_pos q.2, if_neg (by decide), m_here S2 (up3_same _ _ _ _ _) (by omega), some_b, nmo_b, nst_b, up3_same, up3_up, nI_1]
        rw [e, show (10 : Int32) = nI 10 from rfl, pk_mul, nI_add, show (48 : Int32) = nI 48 from rfl, nI_sub (by omega), cn_nI (by omega), show (1 : Int32) = nI 1 from rfl, nI_add]
      rw [iter_inl e1]
      refine ih _ (a + 1) (k + 1) (by omega) ?_ (by omega)
      rw [e, cn_nI (by omega), Nat.pow_succ]
      omega
    · rw [if_neg q]
      refine iter_inr ?_
      show B_X12_readNumber_46 (nI d) (nI v) (nI k) _ = _
      unfold B_X12_readNumber_46
      rw [if_pos (nI_lt (by omega) (by omega))]
      by_cases q0 : 0 < v
      · rw [if_pos (show (0 : Int32) < nI v from nI_lt (a := 0) q0 (by omega)), m_isDigit S2 (up3_same _ _ _ _ _) (by omega), some_b, if_neg (fun z => q ⟨q0, z⟩), if_pos rfl]
      · rw [if_neg (show ¬ (0 : Int32) < nI v from nI_nlt (a := 0) (b := v) (by omega) (by decide))]
/-- the component's cursor stands at a, nothing wrong yet -/
def OkC (σ : St) (a : Nat) : Prop := σ 2 0 8 = nI a ∧ σ 2 0 9 = -1
def OkM (σ : St) (a : Nat) : Prop := σ 20 0 21 = nI a ∧ σ 20 0 19 = -1
theorem c_number {σ : St} {j n a d : Nat} {h : Nat → Int32} (S : SrcC σ j n h) (O : OkC σ a) (ha : a ≤ n) (h1 : 1 ≤ d) (hd : d ≤ 8) : F_X2_number (nI d) σ = some (if isD (h a) then (nI (nmV h d a), up3 σ 2 0 8 (nI (nmA h d a))) else (0, up3 σ 2 0 9 (nI a))) := by
  have hj := lenB_le (j := j)
  have hn := S.2.2.2.1
  unfold F_X2_number
  rw [if_pos (by rw [O.2]; decide), c_here S O.1 (by omega), some_b, in_eqC, some_b]
  by_cases q : isD (h a)
  · obtain ⟨hl, c, c1, c2, e⟩ := isD_nI S.2.2.2.2.1 q
    rw [if_pos q, if_neg (by decide), if_pos q, some_b, nmo_b, nst_b, O.1, nI_1]
    have := lp_nmC S hd (d - 1) (cn (h a) - 48) (a + 1) 1 (by omega) (by rw [e, cn_nI (by omega)]; omega) (by omega)
    rw [show (1 : Int32) = nI 1 from rfl, show h a - 48 = nI (cn (h a) - 48) by rw [e, show (48 : Int32) = nI 48 from rfl, nI_sub c1, cn_nI (by omega)], this]
    rfl
  · rw [if_neg q, if_pos rfl, if_neg q]
    unfold F_X2_fail
    rw [if_pos (by rw [O.2]; decide), nst_b, O.1]
    rfl
theorem m_number {σ : St} {n a d : Nat} {h : Nat → Int32} (S : SrcM σ n h) (O : OkM σ a) (ha : a ≤ n) (h1 : 1 ≤ d) (hd : d ≤ 8) : F_X12_readNumber (nI d) σ = some (if isD (h a) then (nI (nmV h d a), up3 σ 20 0 21 (nI (nmA h d a))) else (0, up3 σ 20 0 19 (nI a))) := by
  have hn := S.2.1
  unfold F_X12_readNumber
  rw [if_pos (by rw [O.2]; decide), m_isDigit S O.1 (by omega), some_b]
  by_cases q : isD (h a)
  · obtain ⟨hl, c, c1, c2, e⟩ := isD_nI S.2.2.1 q
    rw [if_pos q, if_neg (by decide), if_pos q, m_here S O.1 (by omega), some_b, nmo_b, nst_b, O.1, nI_1]
    have := lp_nmM S hd (d - 1) (cn (h a) - 48) (a + 1) 1 (by omega) (by rw [e, cn_nI (by omega)]; omega) (by omega)
    rw [show (1 : Int32) = nI 1 from rfl, show h a - 48 = nI (cn (h a) - 48) by rw [e, show (48 : Int32) = nI 48 from rfl, nI_sub c1, cn_nI (by omega)], this]
    rfl
  · rw [if_neg q, if_pos rfl, if_neg q, nst_b, O.1]
theorem c_take' {σ : St} {j n a : Nat} {x : Int32} {h : Nat → Int32} (S : SrcC σ j n h) (O : OkC σ a) (ha : a ≤ n) : F_X2_take x σ = some (if h a = x then up3 σ 2 0 8 (nI (a + 1)) else up3 σ 2 0 9 (nI a)) := by
  have hj := lenB_le (j := j)
  have hn := S.2.2.2.1
  unfold F_X2_take
  rw [if_pos (by rw [O.2]; decide), c_here S O.1 (by omega), some_b]
  by_cases q : h a = x
  · rw [if_pos q, if_pos q, nst_b, O.1, nI_1]
  · rw [if_neg q, if_neg q]
    unfold F_X2_fail
    rw [if_pos (by rw [O.2]; decide), nst_b, O.1]
    rfl
theorem c_blank {σ : St} {j n a : Nat} {h : Nat → Int32} (S : SrcC σ j n h) (O : OkC σ a) (ha : a ≤ n) : F_X2_blank σ = some (if h a = 32 then up3 σ 2 0 8 (nI (a + 1)) else up3 σ 2 0 9 (nI a)) := c_take' (x := 32) S O ha
theorem c_digit {σ : St} {j n a : Nat} {x y : Int32} {h : Nat → Int32} (S : SrcC σ j n h) (O : OkC σ a) (ha : a ≤ n) : F_X2_digit x y σ = some (if ¬ h a < x ∧ ¬ y < h a then up3 σ 2 0 8 (nI (a + 1)) else up3 σ 2 0 9 (nI a)) := by
  have hj := lenB_le (j := j)
  have hn := S.2.2.2.1
  unfold F_X2_digit
  rw [if_pos (by rw [O.2]; decide), c_here S O.1 (by omega), some_b, in_eqC, some_b]
  by_cases q : ¬ h a < x ∧ ¬ y < h a
  · rw [if_pos q, if_neg (by decide), if_pos q, nst_b, O.1, nI_1]
  · rw [if_neg q, if_pos rfl, if_neg q]
    unfold F_X2_fail
    rw [if_pos (by rw [O.2]; decide), nst_b, O.1]
    rfl
theorem m_expect {σ : St} {n a : Nat} {x : Int32} {h : Nat → Int32} (S : SrcM σ n h) (O : OkM σ a) (ha : a ≤ n) : F_X12_expect x σ = some (if h a = x then up3 σ 20 0 21 (nI (a + 1)) else up3 σ 20 0 19 (nI a)) := by
  have hn := S.2.1
  unfold F_X12_expect
  rw [if_pos (by rw [O.2]; decide), m_here S O.1 (by omega), some_b]
  by_cases q : h a = x
  · rw [if_pos q, if_pos q, nst_b, O.1, nI_1]
  · rw [if_neg q, if_neg q, nst_b, O.1]
/-- once something is wrong nothing moves -/
theorem c_skT {σ : St} {x : Int32} (hw : ¬ σ 2 0 9 < 0) : F_X2_take x σ = some σ := by unfold F_X2_take; rw [if_neg hw]
theorem c_skB {σ : St} (hw : ¬ σ 2 0 9 < 0) : F_X2_blank σ = some σ := by unfold F_X2_blank; rw [if_neg hw]
theorem c_skD {σ : St} {x y : Int32} (hw : ¬ σ 2 0 9 < 0) : F_X2_digit x y σ = some σ := by unfold F_X2_digit; rw [if_neg hw]
theorem c_skN {σ : St} {x : Int32} (hw : ¬ σ 2 0 9 < 0) : F_X2_number x σ = some (0, σ) := by unfold F_X2_number; rw [if_neg hw]
theorem m_skT {σ : St} {x : Int32} (hw : ¬ σ 20 0 19 < 0) : F_X12_expect x σ = some σ := by unfold F_X12_expect; rw [if_neg hw]
theorem m_skN {σ : St} {x : Int32} (hw : ¬ σ 20 0 19 < 0) : F_X12_readNumber x σ = some (0, σ) := by unfold F_X12_readNumber; rw [if_neg hw]
