/-! S2: the word at the request's begin -/
set_option maxRecDepth 100000
abbrev gp (h : Nat → Int32) (c : Int32) (a w : Nat) : Prop := a < wL w ∧ eqP h w a ∧ c = wW w a
theorem lp_goY {σ : St} {j n a w : Nat} {c : Int32} {h : Nat → Int32} (S : SrcC σ j n h) (ha : σ 2 0 8 = nI a) (han : a ≤ n) (hw : w < 45) (g : gp h c a w) : iter (fun z => B_X2_goesOn_16 c (nI (pC w)) z.1 z.2 σ) ((0 : Int32), (1 : Int32)) = some (.inr (.inr (.inr 1))) := by
  obtain ⟨t1, t2, t3, t4, t5, t6⟩ := w_tabC w hw
  have hj := lenB_le (j := j)
  obtain ⟨s1, s2, s3, s4, s5, s6⟩ := S
  obtain ⟨g1, g2, g3⟩ := g
  refine iter_row (f := fun z => B_X2_goesOn_16 c (nI (pC w)) z.1 z.2 σ) (fun i => (nI i, (1 : Int32))) a _ ?_ ?_ 0 (Nat.zero_le _)
  · intro i hi
    show B_X2_goesOn_16 c (nI (pC w)) (nI i) 1 σ = _
    unfold B_X2_goesOn_16
    obtain ⟨u1, u2, -⟩ := t6 i (by omega)
    rw [nI_add, strC (by omega), some_b, u1, if_pos u2, ha, if_pos (nI_lt hi (by omega)), if_neg (by decide), s2, dyb_nI s1, some_b, rdo_nI (by omega) (by omega), some_b, some_b, (s6 i (by omega)).1, if_pos (g2 i hi), some_b, nI_1]
  · show B_X2_goesOn_16 c (nI (pC w)) (nI a) 1 σ = _
    unfold B_X2_goesOn_16
    obtain ⟨u1, u2, -⟩ := t6 a g1
    rw [nI_add, strC (by omega), some_b, u1, if_pos u2, ha, if_neg (nI_nlt (Nat.le_refl _) (by omega)), if_pos rfl, if_neg (by decide), some_b, if_pos g3]
theorem lp_goN {σ : St} {j n a w : Nat} {c : Int32} {h : Nat → Int32} (S : SrcC σ j n h) (ha : σ 2 0 8 = nI a) (han : a ≤ n) (hw : w < 45) (g : ¬ gp h c a w) : iter (fun z => B_X2_goesOn_16 c (nI (pC w)) z.1 z.2 σ) ((0 : Int32), (1 : Int32)) = some (.inl (nI (wL w))) := by
  obtain ⟨t1, t2, t3, t4, t5, t6⟩ := w_tabC w hw
  have hj := lenB_le (j := j)
  obtain ⟨s1, s2, s3, s4, s5, s6⟩ := S
  have key := iter_row (f := fun z => B_X2_goesOn_16 c (nI (pC w)) z.1 z.2 σ) (fun i => (nI i, if eqP h w (min i a) then (1 : Int32) else 0)) (wL w) (.inl (nI (wL w))) ?_ ?_ 0 (Nat.zero_le _)
  · rw [if_pos (show eqP h w (min 0 a) from fun k hk => by omega)] at key
    exact key
  · intro i hi
    show B_X2_goesOn_16 c (nI (pC w)) (nI i) (if eqP h w (min i a) then (1 : Int32) else 0) σ = _
    unfold B_X2_goesOn_16
    obtain ⟨u1, u2, -⟩ := t6 i hi
    rw [nI_add, strC (by omega), some_b, u1, if_pos u2, ha]
    rcases Nat.lt_or_ge i a with q | q
    · rw [if_pos (nI_lt q (by omega)), Nat.min_eq_left (by omega), Nat.min_eq_left (by omega)]
      by_cases e : eqP h w i
      · rw [if_pos e, if_neg (by decide), s2, dyb_nI s1, some_b, rdo_nI (by omega) (by omega), some_b, some_b, (s6 i (by omega)).1]
        by_cases q3 : h i = wW w i
        · rw [if_pos q3, some_b, nI_1, if_pos]
          intro k hk
          by_cases e2 : k = i
          · rw [e2]; exact q3
          · exact e k (by omega)
        · rw [if_neg q3, some_b, nI_1, if_neg]
          intro z
          exact q3 (z i (by omega))
      · rw [if_neg e, if_pos rfl, some_b, nI_1, if_neg]
        intro z
        exact e (fun k hk => z k (by omega))
    · rw [if_neg (nI_nlt q (by omega)), Nat.min_eq_right q, Nat.min_eq_right (by omega), nI_1]
      by_cases e : i = a
      · rw [e, if_pos rfl]
        by_cases e2 : eqP h w a
        · have : ¬ c = wW w a := fun z => g ⟨by omega, e2, z⟩
          rw [if_pos e2, if_neg (by decide), some_b, if_neg this]
        · rw [if_neg e2, if_pos rfl]
      · rw [if_neg (by rw [nI_eq (by omega) (by omega)]; exact e)]
  · show B_X2_goesOn_16 c (nI (pC w)) (nI (wL w)) (if eqP h w (min (wL w) a) then (1 : Int32) else 0) σ = _
    unfold B_X2_goesOn_16
    rw [nI_add, strC (by omega), some_b, t3, if_neg (show ¬ (57 : Int32) < nI (48 + tkW w) from nI_nlt (a := 57) (by omega) (by decide))]
theorem c_goStep {σ : St} {j n a w : Nat} {c : Int32} {h : Nat → Int32} (S : SrcC σ j n h) (ha : σ 2 0 8 = nI a) (han : a ≤ n) (hw : w < 45) (g : ¬ gp h c a w) : B_X2_goesOn_2 c (nI (pC w)) σ = some (.inl (nI (pC (w + 1)))) := by
  obtain ⟨t1, t2, t3, t4, t5, t6⟩ := w_tabC w hw
  unfold B_X2_goesOn_2
  rw [strN, some_b, if_pos (nI_lt (by omega) (by decide)), lp_goN S ha han hw g, bindL_inl, nmo_b, show (2 : Int32) = nI 2 from rfl, nI_add, nI_add, t2, Nat.add_assoc]
theorem c_goesOnY {σ : St} {j n a : Nat} {c : Int32} {h : Nat → Int32} (S : SrcC σ j n h) (ha : σ 2 0 8 = nI a) (han : a ≤ n) (g : ∃ w, w < 45 ∧ gp h c a w) : F_X2_goesOn c σ = some 1 := by
  obtain ⟨w, ⟨hw, g1⟩, g2⟩ := pk_least _ g
  obtain ⟨t1, t2, t3, t4, t5, t6⟩ := w_tabC w hw
  unfold F_X2_goesOn
  have key := iter_row (f := fun z => B_X2_goesOn_2 c z σ) (fun k => nI (pC k)) w (.inr 1) ?_ ?_ 0 (Nat.zero_le _)
  · rw [show (0 : Int32) = nI (pC 0) by rw [w_end.2.2.1]; rfl, key, bindL_inr]
  · intro k hk
    exact c_goStep S ha han (by omega) (fun z => g2 k hk ⟨by omega, z⟩)
  · show B_X2_goesOn_2 c (nI (pC w)) σ = _
    unfold B_X2_goesOn_2
    rw [strN, some_b, if_pos (nI_lt (by omega) (by decide)), lp_goY S ha han hw g1, bindL_inr]
theorem c_goesOnN {σ : St} {j n a : Nat} {c : Int32} {h : Nat → Int32} (S : SrcC σ j n h) (ha : σ 2 0 8 = nI a) (han : a ≤ n) (g : ¬ ∃ w, w < 45 ∧ gp h c a w) : F_X2_goesOn c σ = some 0 := by
  unfold F_X2_goesOn
  have key := iter_row (f := fun z => B_X2_goesOn_2 c z σ) (fun k => nI (pC k)) 45 (.inl ()) ?_ ?_ 0 (Nat.zero_le _)
  · rw [show (0 : Int32) = nI (pC 0) by rw [w_end.2.2.1]; rfl, key, bindL_inl]
  · intro k hk
    exact c_goStep S ha han hk (fun z => g ⟨k, hk, z⟩)
  · show B_X2_goesOn_2 c (nI (pC 45)) σ = _
    unfold B_X2_goesOn_2
    rw [strN, some_b, w_end.1, if_neg (nI_nlt (Nat.le_refl _) (by decide))]
theorem gp_pfx {h : Nat → Int32} {a : Nat} : (∃ w, w < 45 ∧ gp h (h a) a w) ↔ pfx h (a + 1) := by
  constructor
  · rintro ⟨w, h1, h2, h3, h4⟩
    refine ⟨w, h1, by omega, ?_⟩
    intro k hk
    by_cases e : k = a
    · rw [e]; exact h4
    · exact h3 k (by omega)
  · rintro ⟨w, h1, h2, h3⟩
    exact ⟨w, h1, by omega, fun k hk => h3 k (by omega), h3 a (by omega)⟩
/-- the byte with which a word goes on is a letter -/
theorem pfx_let {h : Nat → Int32} {a : Nat} (x : pfx h (a + 1)) : 96 < h a := by
  obtain ⟨w, h1, h2, h3⟩ := x
  rw [h3 a (by omega)]
  exact ((w_tabC w h1).2.2.2.2.2 a (by omega)).2.2
/-- the word is a whole one and what comes behind it is right -/
def whl (h : Nat → Int32) (n L w : Nat) : Prop := wd h L w ∧ ((h L = -1 ∧ tkW w = 0) ∨ (h L = 32 ∧ 0 < tkW w))
theorem c_readStep {σ : St} {j n a : Nat} {h : Nat → Int32} (S : SrcC σ j n h) (O : OkC σ a) (hc : σ 2 0 10 = -1) (han : a ≤ n) (x : pfx h (a + 1)) : B_X2_read_35 σ = some (.inl (up3 σ 2 0 8 (nI (a + 1)))) := by
  have hj := lenB_le (j := j)
  have hn := S.2.2.2.1
  have hl := pfx_let x
  have n1 : ¬ h a = -1 := by intro z; rw [z] at hl; exact absurd hl (by decide)
  have n2 : ¬ h a = 32 := by intro z; rw [z] at hl; exact absurd hl (by decide)
  unfold B_X2_read_35
  rw [if_pos (by rw [O.2]; decide), if_pos (by rw [hc]; decide)]
  have hw : ∃ r, F_X2_word σ = some r := by
    by_cases q : ∃ w, w < 45 ∧ wd h a w
    · obtain ⟨w, q1, q2⟩ := q
      exact ⟨_, c_word S O.1 han q1 q2⟩
    · exact ⟨_, c_noword S O.1 han (fun w h1 h2 => q ⟨w, h1, h2⟩)⟩
  obtain ⟨r, hr⟩ := hw
  rw [hr, some_b, c_here S O.1 (by omega), some_b, if_neg n1, if_neg n2, bindL_inl]
  have e : (if r < 0 then some (0 : Int32) else some 0) = some 0 := by by_cases q : r < 0 <;> simp [q]
  rw [e, some_b, if_pos rfl, if_neg n1, c_goesOnY S O.1 han (gp_pfx.mpr x), some_b, if_neg (by decide), nst_b, bindL_inr, O.1, nI_1]
theorem c_readWhl {σ : St} {j n a w : Nat} {h : Nat → Int32} (S : SrcC σ j n h) (O : OkC σ a) (hc : σ 2 0 10 = -1) (han : a ≤ n) (hw : w < 45) (x : whl h n a w) : B_X2_read_35 σ = some (.inl (up3 σ 2 0 10 (nI w))) := by
  have hj := lenB_le (j := j)
  have hn := S.2.2.2.1
  obtain ⟨t1, t2, t3, t4, t5, t6⟩ := w_tabC w hw
  unfold B_X2_read_35
  rw [if_pos (by rw [O.2]; decide), if_pos (by rw [hc]; decide), c_word S O.1 han hw x.1, some_b, c_here S O.1 (by omega), some_b, if_neg (nI_pos (by omega)), c_takes hw, some_b, some_b]
  rcases x.2 with ⟨e1, e2⟩ | ⟨e1, e2⟩
  · rw [if_pos e1, e2, if_pos (show nI 0 = 0 from rfl), bindL_inr, some_b, if_neg (by decide), nst_b]
  · rw [if_neg (by rw [e1]; decide), bindL_inl, if_pos e1, if_pos (show (0 : Int32) < nI (tkW w) from nI_lt (a := 0) e2 (by omega)), some_b, if_neg (by decide), nst_b]
theorem c_readBad {σ : St} {j n a : Nat} {h : Nat → Int32} (S : SrcC σ j n h) (O : OkC σ a) (hc : σ 2 0 10 = -1) (han : a ≤ n) (x : ¬ pfx h (a + 1)) (y : ∀ w, w < 45 → ¬ whl h n a w) : B_X2_read_35 σ = some (.inl (up3 σ 2 0 9 (nI a))) := by
  have hj := lenB_le (j := j)
  have hn := S.2.2.2.1
  unfold B_X2_read_35
  rw [if_pos (by rw [O.2]; decide), if_pos (by rw [hc]; decide)]
  have key : ∀ r, F_X2_word σ = some r → (if r < 0 then some (0 : Int32) else bindL (if h a = -1 then (F_X2_takes r σ).bind (fun r1010 => if r1010 = 0 then some (.inr (1 : Int32)) else some (.inl ())) else some (.inl ())) (fun _ => if h a = 32 then (F_X2_takes r σ).bind (fun r1011 => if 0 < r1011 then some (1 : Int32) else some 0) else some 0)) = some 0 := by
    intro r hr
    by_cases q : ∃ w, w < 45 ∧ wd h a w
    · obtain ⟨w, q1, q2⟩ := q
      obtain ⟨t1, t2, t3, t4, t5, t6⟩ := w_tabC w q1
      rw [c_word S O.1 han q1 q2] at hr
      have hr : nI w = r := by injection hr
      rw [← hr, if_neg (nI_pos (by omega)), c_takes q1, some_b, some_b]
      by_cases e : h a = -1
      · have h0 : ¬ tkW w = 0 := fun z => y w q1 ⟨q2, Or.inl ⟨e, z⟩⟩
        rw [if_pos e, if_neg (nI_ne0 (by omega) (by omega)), bindL_inl, if_neg (by rw [e]; decide)]
      · rw [if_neg e, bindL_inl]
        by_cases e2 : h a = 32
        · have h0 : ¬ 0 < tkW w := fun z => y w q1 ⟨q2, Or.inr ⟨e2, z⟩⟩
          rw [if_pos e2, if_neg (show ¬ (0 : Int32) < nI (tkW w) from nI_nlt (a := 0) (by omega) (by decide))]
        · rw [if_neg e2]
    · rw [c_noword S O.1 han (fun w h1 h2 => q ⟨w, h1, h2⟩)] at hr
      have hr : (-1 : Int32) = r := by injection hr
      rw [← hr, if_pos (by decide)]
  have hw : ∃ r, F_X2_word σ = some r := by
    by_cases q : ∃ w, w < 45 ∧ wd h a w
    · obtain ⟨w, q1, q2⟩ := q
      exact ⟨_, c_word S O.1 han q1 q2⟩
    · exact ⟨_, c_noword S O.1 han (fun w h1 h2 => q ⟨w, h1, h2⟩)⟩
  obtain ⟨r, hr⟩ := hw
  rw [hr, some_b, c_here S O.1 (by omega), some_b, key r hr, some_b, if_pos rfl, c_goesOnN S O.1 han (fun z => x (gp_pfx.mp z)), some_b, if_pos rfl]
  have e : (if h a = -1 then some (Sum.inl ()) else some (Sum.inl ()) : Option (Unit ⊕ (St ⊕ St))) = some (.inl ()) := by by_cases q : h a = -1 <;> simp [q]
  rw [e, bindL_inl]
  unfold F_X2_fail
  rw [if_pos (by rw [O.2]; decide), nst_b, O.1]
  rfl
/-- the component's first loop -/
theorem c_findY {σ : St} {j n L w : Nat} {h : Nat → Int32} (S : SrcC σ j n h) (O : OkC σ 0) (hc : σ 2 0 10 = -1) (x : LW h L) (hw : w < 45) (y : whl h n L w) : iter (fun z => B_X2_read_35 z) σ = some (up3 (up3 σ 2 0 8 (nI L)) 2 0 10 (nI w)) := by
  have hB := S.2.2.2.2.1
  have hL := pfx_n hB x.1
  have O2 : ∀ a, OkC (up3 σ 2 0 8 (nI a)) a := fun a => ⟨up3_same _ _ _ _ _, by rw [up3_i (by decide)]; exact O.2⟩
  have h2 : ∀ a, SrcC (up3 σ 2 0 8 (nI a)) j n h := fun a => S.u0 (by decide) (by decide)
  have h3 : ∀ a, up3 σ 2 0 8 (nI a) 2 0 10 = -1 := fun a => by rw [up3_i (by decide)]; exact hc
  have key := iter_row (f := fun z => B_X2_read_35 z) (fun i => if i ≤ L then up3 σ 2 0 8 (nI i) else up3 (up3 σ 2 0 8 (nI L)) 2 0 10 (nI w)) (L + 1) (up3 (up3 σ 2 0 8 (nI L)) 2 0 10 (nI w)) ?_ ?_ 0 (Nat.zero_le _)
  · rw [if_pos (Nat.zero_le _), up3_id O.1] at key
    exact key
  · intro i hi
    show B_X2_read_35 (if i ≤ L then up3 σ 2 0 8 (nI i) else _) = _
    rw [if_pos (by omega)]
    by_cases e : i = L
    · rw [e, if_neg (by omega)]
      exact c_readWhl (h2 L) (O2 L) (h3 L) hL hw y
    · rw [if_pos (show i + 1 ≤ L by omega)]
      have := c_readStep (h2 i) (O2 i) (h3 i) (by omega) (pfx_le x.1 (by omega))
      rw [up3_up] at this
      exact this
  · show B_X2_read_35 (if L + 1 ≤ L then _ else _) = _
    rw [if_neg (by omega)]
    unfold B_X2_read_35
    have hw2 : ¬ nI w < 0 := nI_pos (by omega)
    rw [up3_same, if_neg hw2]
    by_cases q : up3 (up3 σ 2 0 8 (nI L)) 2 0 10 (nI w) 2 0 9 < 0
    · rw [if_pos q]
    · rw [if_neg q]
theorem c_findN {σ : St} {j n L : Nat} {h : Nat → Int32} (S : SrcC σ j n h) (O : OkC σ 0) (hc : σ 2 0 10 = -1) (x : LW h L) (y : ∀ w, w < 45 → ¬ whl h n L w) : iter (fun z => B_X2_read_35 z) σ = some (up3 (up3 σ 2 0 8 (nI L)) 2 0 9 (nI L)) := by
  have hB := S.2.2.2.2.1
  have hL := pfx_n hB x.1
  have h10 := pfx_10 x.1
  have O2 : ∀ a, OkC (up3 σ 2 0 8 (nI a)) a := fun a => ⟨up3_same _ _ _ _ _, by rw [up3_i (by decide)]; exact O.2⟩
  have h2 : ∀ a, SrcC (up3 σ 2 0 8 (nI a)) j n h := fun a => S.u0 (by decide) (by decide)
  have h3 : ∀ a, up3 σ 2 0 8 (nI a) 2 0 10 = -1 := fun a => by rw [up3_i (by decide)]; exact hc
  have key := iter_row (f := fun z => B_X2_read_35 z) (fun i => if i ≤ L then up3 σ 2 0 8 (nI i) else up3 (up3 σ 2 0 8 (nI L)) 2 0 9 (nI L)) (L + 1) (up3 (up3 σ 2 0 8 (nI L)) 2 0 9 (nI L)) ?_ ?_ 0 (Nat.zero_le _)
  · rw [if_pos (Nat.zero_le _), up3_id O.1] at key
    exact key
  · intro i hi
    show B_X2_read_35 (if i ≤ L then up3 σ 2 0 8 (nI i) else _) = _
    rw [if_pos (by omega)]
    by_cases e : i = L
    · rw [e, if_neg (by omega)]
      exact c_readBad (h2 L) (O2 L) (h3 L) hL x.2 y
    · rw [if_pos (show i + 1 ≤ L by omega)]
      have := c_readStep (h2 i) (O2 i) (h3 i) (by omega) (pfx_le x.1 (by omega))
      rw [up3_up] at this
      exact this
  · show B_X2_read_35 (if L + 1 ≤ L then _ else _) = _
    rw [if_neg (by omega)]
    unfold B_X2_read_35
    rw [up3_same, if_neg (nI_pos (by omega))]
