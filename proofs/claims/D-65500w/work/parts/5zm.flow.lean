/-! S11: flows of the component -/
set_option maxRecDepth 100000
def FlC (σ : St) (m : Nat → Int32) (f : Nat → Int) : Prop := ∀ k, k < cn (m 1) → σ 9 1 k = zI (f k)
theorem FlC.fr {σ τ : St} {m : Nat → Int32} {f : Nat → Int} (h : FlC σ m f) (e : τ 9 1 = σ 9 1) : FlC τ m f := fun k hk => by rw [e]; exact h k hk
theorem c_other {σ : St} {m : Nat → Int32} {k p : Nat} (hw : WF m) (hc : HC (σ 3) m) (hk : k < cn (m 1)) (hp : p < 100) : F_X7_other 3 (nI k) (nI p) σ = some (nI (ot m k p)) := by
  have b1 := hw.2.1.2
  have b0 := hw.1.1.2
  obtain ⟨⟨a, b, c⟩, ⟨ea, eb, -⟩, -⟩ := pipe hw hk
  obtain ⟨h1, h2, -⟩ := hc.2.1 k hk
  unfold F_X7_other ot
  rw [rdo_nI (by omega) (by decide), some_b, h1, ea]
  by_cases q : eA m k = p
  · rw [if_pos (by rw [q]), rdo_nI (by omega) (by decide), some_b, h2, eb, if_pos q]
  · rw [if_neg (by rw [nI_eq (by omega) (by omega)]; exact q), some_b, if_neg q]
theorem cap_dv {m : Nat → Int32} {k : Nat} (hw : WF m) (hk : k < cn (m 1)) : dvo (3600 : Int32) (m (10 + 5 * k + 2)) = some (nI (cap m k)) := by
  obtain ⟨-, -, ⟨s1, s2, es⟩, -⟩ := pipe hw hk
  rw [es, dvo_ok (nI_ne0 (by omega) (by omega)), show (3600 : Int32) = nI 3600 from rfl, pk_div (by decide) (by omega) (by omega)]
  rfl
theorem c_capac {σ : St} {m : Nat → Int32} {k : Nat} (hw : WF m) (hc : HC (σ 3) m) (hk : k < cn (m 1)) : F_X7_capacity 3 (nI k) σ = some (nI (cap m k)) := by
  have b1 := hw.2.1.2
  obtain ⟨-, -, h3, -⟩ := hc.2.1 k hk
  unfold F_X7_capacity
  rw [rdo_nI (by omega) (by decide), some_b, h3, cap_dv hw hk, some_b]
theorem c_room {σ : St} {m : Nat → Int32} {f : Nat → Int} {k p : Nat} (hw : WF m) (hc : HC (σ 3) m) (F : FlC σ m f) (hk : k < cn (m 1)) (hp : p < 100) : F_X7_room 3 (nI k) (nI p) σ = some (zI (rm m f k p)) := by
  have b1 := hw.2.1.2
  have b0 := hw.1.1.2
  obtain ⟨⟨a, b, c⟩, ⟨ea, eb, ow⟩, -, c1, c2⟩ := pipe hw hk
  obtain ⟨h1, h2, -, h4, -⟩ := hc.2.1 k hk
  unfold F_X7_room rm
  rw [c_isOpenStreet hw hc hk, some_b]
  by_cases so : stOpen m k
  · rw [if_pos so, if_neg (show ¬ (1 : Int32) = 0 by decide), rdo_nI (by omega) (by decide), some_b, h1, ea, if_pos so]
    by_cases q : eA m k = p
    · rw [if_pos (by rw [q]), c_capac hw hc hk, some_b, rdo_nI (by omega) (by decide), some_b, F k hk, ← zI_nat, zI_sub, if_pos q]
    · rw [if_neg (by rw [nI_eq (by omega) (by omega)]; exact q), rdo_nI (by omega) (by decide), some_b, h2, eb, if_neg q]
      by_cases r : eB m k = p
      · rw [if_pos (by rw [r]), rdo_nI (by omega) (by decide), some_b, h4, if_pos r]
        by_cases o : m (10 + 5 * k + 3) = 0
        · rw [if_pos o, c_capac hw hc hk, some_b, rdo_nI (by omega) (by decide), some_b, F k hk, ← zI_nat, zI_add, if_pos o]
        · rw [if_neg o, rdo_nI (by omega) (by decide), some_b, F k hk, if_neg o]
      · rw [if_neg (by rw [nI_eq (by omega) (by omega)]; exact r), if_neg r]; rfl
  · rw [if_neg so, if_pos rfl, if_neg so]; rfl
theorem zI_pos {x : Int} (h : zB x) : (0 : Int32) < zI x ↔ 0 < x := by
  rw [← zI_0]
  exact zI_lt (by unfold zB; omega) h
/-- steps measured: what is known on the way -/
def MsI (m : Nat → Int32) (f : Nat → Int) (b : Nat) (g : Nat → Nat) : Prop := g b = 0 ∧ ∀ p, p < cn (m 0) → g p ≤ 1000000 ∧ (g p < 1000000 → Pn (Rs m f) b (g p) p)
abbrev en (m : Nat → Int32) (k c : Nat) : Nat := if c = 0 then eA m k else eB m k
def rlx (m : Nat → Int32) (f : Nat → Int) (g : Nat → Nat) (k z : Nat) : Prop := 0 < rm m f k z → g z ≤ g (ot m k z) + 1
theorem ms_fix {m : Nat → Int32} {f : Nat → Int} {b : Nat} {g : Nat → Nat} (hw : WF m) (hb : b < cn (m 0)) (M : MsI m f b g) (h : ∀ k, k < cn (m 1) → ∀ c, c < 2 → rlx m f g k (en m k c)) : ∀ p, p < cn (m 0) → g p = hd (Rs m f) b p := by
  have b0 := hw.1.1.2
  have e : ∀ p q, Rs m f p q → g p ≤ g q + 1 := by
    rintro p q ⟨k, k1, k2, k3⟩
    rcases rm_end k2 with z | z
    · have := h k k1 0 (by omega)
      rw [show en m k 0 = eA m k from rfl, z] at this
      rw [k3]; exact this k2
    · have := h k k1 1 (by omega)
      rw [show en m k 1 = eB m k from rfl, z] at this
      rw [k3]; exact this k2
  have le : ∀ n p, Pn (Rs m f) b n p → g p ≤ n := by
    intro n
    induction n with
    | zero => intro p hp; have hp : p = b := hp
              rw [hp, M.1]; exact Nat.le_refl _
    | succ n ih => rintro p ⟨q, q1, q2⟩; have := ih q q2; have := e p q q1; omega
  intro p hp
  obtain ⟨m1, m2⟩ := M.2 p hp
  by_cases hh : hf (Rs m f) b p
  · have h1 := le _ p (hd_some hh).1
    have h2 := hd_7 (E := Rs m f) (fun p q hpq => Rs_lt hw hpq) hb hp hh
    have h3 := (hd_some hh).2 _ (m2 (by omega))
    omega
  · rw [hd_none hh]
    rcases Nat.lt_or_ge (g p) 1000000 with z | z
    · exact absurd ⟨_, m2 z⟩ hh
    · omega
theorem c_fpass {σ : St} {m : Nat → Int32} {f : Nat → Int} {b : Nat} {x : Int32} {g0 : Nat → Nat} (hw : WF m) (hb : b < cn (m 0)) (hc : HC (σ 3) m) (F : FlC σ m f) (FI : FlI m f) (M0 : MsI m f b g0) (h0 : ∀ p, p < cn (m 0) → σ 9 2 p = nI (g0 p)) : Ret (iter (fun z => B_X7_measure_51 3 x z.1 z.2.1 z.2.2) ((0 : Int32), (0 : Int32), σ)) (fun r => Fr σ r.2 9 2 ∧ ∃ g, MsI m f b g ∧ (∀ p, p < cn (m 0) → r.2 9 2 p = nI (g p)) ∧ ((r.1 = 0 ∧ g = g0 ∧ ∀ k, k < cn (m 1) → ∀ c, c < 2 → rlx m f g k (en m k c)) ∨ (r.1 = 1 ∧ sumN g (cn (m 0)) < sumN g0 (cn (m 0))))) := by
  have b1 := hw.2.1
  have b1' := b1.2
  have b0 := hw.1.1.2
  refine iter_cnt (f := fun z => B_X7_measure_51 3 x z.1 z.2.1 z.2.2) (fun k (y : Int32 × St) => (y.1, nI k, y.2)) (fun k y => Fr σ y.2 9 2 ∧ ∃ g, MsI m f b g ∧ (∀ p, p < cn (m 0) → y.2 9 2 p = nI (g p)) ∧ ((y.1 = 0 ∧ g = g0 ∧ ∀ j, j < k → ∀ c, c < 2 → rlx m f g j (en m j c)) ∨ (y.1 = 1 ∧ sumN g (cn (m 0)) < sumN g0 (cn (m 0))))) (cn (m 1)) ?_ ?_ ((0 : Int32), σ) ⟨Fr.rf σ 9 2, g0, M0, h0, Or.inl ⟨rfl, rfl, fun j hj => absurd hj (Nat.not_lt_zero j)⟩⟩
  · rintro k ⟨fl, τ⟩ hk ⟨t1, gg, t2, t3, t4⟩
    have t1 : Fr σ τ 9 2 := t1
    have t3 : ∀ p, p < cn (m 0) → τ 9 2 p = nI (gg p) := t3
    have t4 : (fl = 0 ∧ gg = g0 ∧ ∀ j, j < k → ∀ c, c < 2 → rlx m f gg j (en m j c)) ∨ (fl = 1 ∧ sumN gg (cn (m 0)) < sumN g0 (cn (m 0))) := t4
    obtain ⟨⟨pa, pb, pne⟩, ⟨pea, peb, -⟩, -⟩ := pipe hw hk
    have lt : nI k < m 1 := by rw [b1.1]; exact nI_lt hk (by omega)
    have hcτ : HC (τ 3) m := by rw [show τ 3 = σ 3 by funext j; exact t1 3 j (by omega)]; exact hc
    show Ret (B_X7_measure_51 3 x fl (nI k) τ) _
    unfold B_X7_measure_51
    rw [hcτ.1.2.1, if_pos lt]
    refine Ret.bind (Q := fun r => Fr σ r.2 9 2 ∧ ∃ g, MsI m f b g ∧ (∀ p, p < cn (m 0) → r.2 9 2 p = nI (g p)) ∧ ((r.1 = 0 ∧ g = g0 ∧ ∀ j, j < k + 1 → ∀ c, c < 2 → rlx m f g j (en m j c)) ∨ (r.1 = 1 ∧ sumN g (cn (m 0)) < sumN g0 (cn (m 0))))) ?_ (fun r hr => by rw [nI_1]; exact Ret.some ⟨r, rfl, hr⟩)
    refine iter_cnt (f := fun z => B_X7_measure_63 3 x (nI k) z.1 z.2.1 z.2.2) (fun c (y : Int32 × St) => (y.1, nI c, y.2)) (fun c y => Fr σ y.2 9 2 ∧ ∃ g, MsI m f b g ∧ (∀ p, p < cn (m 0) → y.2 9 2 p = nI (g p)) ∧ ((y.1 = 0 ∧ g = g0 ∧ (∀ j, j < k → ∀ c, c < 2 → rlx m f g j (en m j c)) ∧ ∀ c', c' < c → rlx m f g k (en m k c')) ∨ (y.1 = 1 ∧ sumN g (cn (m 0)) < sumN g0 (cn (m 0))))) 2 ?_ ?_ (fl, τ) ⟨t1, gg, t2, t3, ?_⟩
    · rintro c ⟨fl, υ⟩ hc2 ⟨u1, g, u2, u3, u4⟩
      have u1 : Fr σ υ 9 2 := u1
      have u3 : ∀ p, p < cn (m 0) → υ 9 2 p = nI (g p) := u3
      have u4 : (fl = 0 ∧ g = g0 ∧ (∀ j, j < k → ∀ c, c < 2 → rlx m f g j (en m j c)) ∧ ∀ c', c' < c → rlx m f g k (en m k c')) ∨ (fl = 1 ∧ sumN g (cn (m 0)) < sumN g0 (cn (m 0))) := u4
      have hcυ : HC (υ 3) m := by rw [show υ 3 = σ 3 by funext j; exact u1 3 j (by omega)]; exact hc
      have Fυ : FlC υ m f := F.fr (u1 9 1 (by omega))
      have hz : en m k c < cn (m 0) := by unfold en; split <;> omega
      have ho : ot m k (en m k c) < cn (m 0) := by unfold ot; split <;> omega
      obtain ⟨r1, r2⟩ := rm_nn (p := en m k c) hw FI hk
      obtain ⟨gz1, gz2⟩ := u2.2 _ hz
      obtain ⟨go1, go2⟩ := u2.2 _ ho
      show Ret (B_X7_measure_63 3 x (nI k) fl (nI c) υ) _
      unfold B_X7_measure_63
      have ez : (if nI c = 0 then (rdo υ 3 1 20 (nI k)).bind (fun r4003 => some r4003) else (rdo υ 3 2 20 (nI k)).bind (fun r4002 => some r4002)) = some (nI (en m k c)) := by
        obtain ⟨h1, h2, -⟩ := hcυ.2.1 k hk
        rw [rdo_nI (by omega) (by decide), some_b, rdo_nI (by omega) (by decide), some_b, h1, h2, pea, peb]
        unfold en
        by_cases c0 : c = 0
        · rw [if_pos (by rw [c0]; rfl), if_pos c0]
        · rw [if_neg (nI_ne0 (by omega) (by omega)), if_neg c0]
      rw [if_pos (show nI c < (2 : Int32) from nI_lt (b := 2) hc2 (by decide)), ez, some_b, c_other hw hcυ hk (by omega), some_b, c_room hw hcυ Fυ hk (by omega), some_b]
      have stay : (¬ (0 < rm m f k (en m k c)) ∨ g (en m k c) ≤ g (ot m k (en m k c)) + 1) → ((fl = 0 ∧ g = g0 ∧ (∀ j, j < k → ∀ c, c < 2 → rlx m f g j (en m j c)) ∧ ∀ c', c' < c + 1 → rlx m f g k (en m k c')) ∨ (fl = 1 ∧ sumN g (cn (m 0)) < sumN g0 (cn (m 0)))) := by
        intro hst
        rcases u4 with ⟨x1, x2, x3, x4⟩ | x
        · refine Or.inl ⟨x1, x2, x3, fun c' hc' => ?_⟩
          by_cases e : c' = c
          · subst e
            intro hr
            rcases hst with y | y
            · exact absurd hr y
            · exact y
          · exact x4 c' (by omega)
        · exact Or.inr x
      by_cases q : 0 < rm m f k (en m k c)
      · rw [if_pos ((zI_pos (by unfold zB; omega)).mpr q), rdo_nI (by omega) (by decide), some_b, rdo_nI (by omega) (by decide), some_b, u3 _ ho, u3 _ hz, nI_1]
        by_cases l : g (ot m k (en m k c)) + 1 < g (en m k c)
        · rw [if_pos (nI_lt l (by omega)), some_b, nI_1, wro_nI (by omega) (by decide), some_b, nI_1]
          have hzb : en m k c ≠ b := fun e => by rw [e, u2.1] at l; omega
          refine Ret.some ⟨((1 : Int32), up3 υ 9 2 (en m k c) (nI (g (ot m k (en m k c)) + 1))), rfl, u1.up _ _, updN g (en m k c) (g (ot m k (en m k c)) + 1), ⟨?_, fun p hp => ?_⟩, fun p hp => ?_, Or.inr ⟨rfl, ?_⟩⟩
          · show (if b = en m k c then _ else _) = 0
            rw [if_neg (fun e => hzb e.symm)]; exact u2.1
          · show (if p = en m k c then _ else _) ≤ _ ∧ ((if p = en m k c then _ else _) < _ → Pn (Rs m f) b (if p = en m k c then _ else _) p)
            by_cases e : p = en m k c
            · rw [if_pos e]
              refine ⟨by omega, fun _ => ?_⟩
              rw [e]
              exact ⟨_, ⟨k, hk, q, rfl⟩, go2 (by omega)⟩
            · rw [if_neg e]; exact u2.2 p hp
          · show up3 υ 9 2 (en m k c) _ 9 2 p = nI (if p = en m k c then _ else _)
            by_cases e : p = en m k c
            · rw [if_pos e, e, up3_same]
            · rw [if_neg e, up3_i e]; exact u3 p hp
          · have := sumN_upd (f := g) (i := en m k c) (v := g (ot m k (en m k c)) + 1) hz
            rcases u4 with ⟨-, x2, -⟩ | ⟨-, x⟩
            · rw [← x2]; omega
            · omega
        · rw [if_neg (nI_nlt (by omega) (by omega)), nI_1]
          exact Ret.some ⟨(fl, υ), rfl, u1, g, u2, u3, stay (Or.inr (by omega))⟩
      · rw [if_neg (fun z => q ((zI_pos (by unfold zB; omega)).mp z)), nI_1]
        exact Ret.some ⟨(fl, υ), rfl, u1, g, u2, u3, stay (Or.inl q)⟩
    · rintro ⟨fl, υ⟩ ⟨u1, g, u2, u3, u4⟩
      show Ret (B_X7_measure_63 3 x (nI k) fl (nI 2) υ) _
      unfold B_X7_measure_63
      rw [if_neg (by decide)]
      refine ⟨_, rfl, u1, g, u2, u3, ?_⟩
      rcases u4 with ⟨x1, x2, x3, x4⟩ | x
      · refine Or.inl ⟨x1, x2, fun j hj c hc => ?_⟩
        by_cases e : j = k
        · subst e; exact x4 c hc
        · exact x3 j (by omega) c hc
      · exact Or.inr x
    · rcases t4 with ⟨x1, x2, x3⟩ | x
      · exact Or.inl ⟨x1, x2, x3, fun c' hc' => absurd hc' (Nat.not_lt_zero c')⟩
      · exact Or.inr x
  · rintro ⟨fl, τ⟩ ⟨t1, gg, t2, t3, t4⟩
    have t1 : Fr σ τ 9 2 := t1
    have hcτ : HC (τ 3) m := by rw [show τ 3 = σ 3 by funext j; exact t1 3 j (by omega)]; exact hc
    have nlt : ¬ nI (cn (m 1)) < m 1 := by
      conv => rhs; rhs; rw [b1.1]
      exact nI_nlt (Nat.le_refl _) (by omega)
    show Ret (B_X7_measure_51 3 x fl (nI (cn (m 1))) τ) _
    unfold B_X7_measure_51
    rw [hcτ.1.2.1, if_neg nlt]
    exact ⟨_, rfl, t1, gg, t2, t3, t4⟩
theorem c_fmeas {σ : St} {m : Nat → Int32} {f : Nat → Int} {a b : Nat} (hw : WF m) (ha : a < cn (m 0)) (hb : b < cn (m 0)) (hc : HC (σ 3) m) (F : FlC σ m f) (FI : FlI m f) : Ret (F_X7_measure 3 (nI a) (nI b) σ) (fun r => Fr σ r.2 9 2 ∧ (∀ p, p < cn (m 0) → r.2 9 2 p = nI (hd (Rs m f) b p)) ∧ ((hf (Rs m f) b a ∧ r.1 = 1) ∨ (¬ hf (Rs m f) b a ∧ r.1 = 0))) := by
  have b0 := hw.1.1
  have b0' := b0.2
  unfold F_X7_measure
  refine Ret.bind (Q := fun τ => Fr σ τ 9 2 ∧ ∀ p, p < cn (m 0) → τ 9 2 p = nI (if p = b then 0 else 1000000)) ?_ ?_
  · refine iter_cnt (f := fun z => B_X7_measure_3 3 (nI a) (nI b) z.1 z.2) (fun k (τ : St) => (nI k, τ)) (fun k τ => Fr σ τ 9 2 ∧ ∀ p, p < k → τ 9 2 p = nI (if p = b then 0 else 1000000)) (cn (m 0)) ?_ ?_ σ ⟨Fr.rf σ 9 2, fun p hp => absurd hp (Nat.not_lt_zero p)⟩
    · rintro k τ hk ⟨t1, t2⟩
      have lt : nI k < m 0 := by rw [b0.1]; exact nI_lt hk (by omega)
      have e3 : τ 3 = σ 3 := by funext j; exact t1 3 j (by omega)
      show Ret (B_X7_measure_3 3 (nI a) (nI b) (nI k) τ) _
      unfold B_X7_measure_3
      rw [e3, hc.1.1, if_pos lt]
      have ev : (if nI k = nI b then some ((0 : Int32)) else some ((1000000 : Int32))) = some (nI (if k = b then 0 else 1000000)) := by
        by_cases e : k = b
        · rw [if_pos (by rw [e]), if_pos e]; rfl
        · rw [if_neg (by rw [nI_eq (by omega) (by omega)]; exact e), if_neg e]; rfl
      rw [ev, some_b, wro_nI (by omega) (by decide), some_b, nI_1]
      refine Ret.some ⟨_, rfl, t1.up _ _, fun p hp => ?_⟩
      by_cases e : p = k
      · rw [e, up3_same]
      · rw [up3_i e]; exact t2 p (by omega)
    · rintro τ ⟨t1, t2⟩
      have nlt : ¬ nI (cn (m 0)) < m 0 := by
        conv => rhs; rhs; rw [b0.1]
        exact nI_nlt (Nat.le_refl _) (by omega)
      have e3 : τ 3 = σ 3 := by funext j; exact t1 3 j (by omega)
      show Ret (B_X7_measure_3 3 (nI a) (nI b) (nI (cn (m 0))) τ) _
      unfold B_X7_measure_3
      rw [e3, hc.1.1, if_neg nlt]
      exact Ret.some ⟨t1, t2⟩
  rintro τ ⟨t1, t2⟩
  refine Ret.bind (Q := fun υ => Fr σ υ 9 2 ∧ ∀ p, p < cn (m 0) → υ 9 2 p = nI (hd (Rs m f) b p)) ?_ ?_
  · refine iter_wf (f := fun z => B_X7_measure_40 3 (nI a) z.1 z.2) (fun y => Fr σ y.2 9 2 ∧ ∃ g, MsI m f b g ∧ (∀ p, p < cn (m 0) → y.2 9 2 p = nI (g p)) ∧ (y.1 = 1 ∨ (y.1 = 0 ∧ ∀ k, k < cn (m 1) → ∀ c, c < 2 → rlx m f g k (en m k c)))) (fun y => 2 * sumN (fun p => cn (y.2 9 2 p)) (cn (m 0)) + (if y.1 = 0 then 0 else 1)) _ ?_ ((1 : Int32), τ) ⟨t1, fun p => if p = b then 0 else 1000000, ⟨if_pos rfl, fun p hp => ?_⟩, t2, Or.inl rfl⟩
    · rintro ⟨fl, υ⟩ ⟨u1, g, u2, u3, u4⟩
      have u1 : Fr σ υ 9 2 := u1
      have u3 : ∀ p, p < cn (m 0) → υ 9 2 p = nI (g p) := u3
      have u4 : fl = 1 ∨ (fl = 0 ∧ ∀ k, k < cn (m 1) → ∀ c, c < 2 → rlx m f g k (en m k c)) := u4
      show Ret (B_X7_measure_40 3 (nI a) fl υ) _
      unfold B_X7_measure_40
      rcases u4 with z | ⟨z, hfx⟩
      · rw [if_neg (show ¬ fl = 0 by rw [z]; decide)]
        have hcυ : HC (υ 3) m := by rw [show υ 3 = σ 3 by funext j; exact u1 3 j (by omega)]; exact hc
        refine Ret.bind (c_fpass (x := nI a) hw hb hcυ (F.fr (u1 9 1 (by omega))) FI u2 u3) ?_
        rintro r ⟨r1, g', r2, r3, r4⟩
        have fr : Fr σ r.2 9 2 := Fr.tr u1 r1
        have s1 : sumN (fun p => cn (r.2 9 2 p)) (cn (m 0)) = sumN g' (cn (m 0)) := sumN_congr (fun p hp => by rw [r3 p hp]; exact cn_nI (by have := (r2.2 p hp).1; omega))
        have s2 : sumN (fun p => cn (υ 9 2 p)) (cn (m 0)) = sumN g (cn (m 0)) := sumN_congr (fun p hp => by rw [u3 p hp]; exact cn_nI (by have := (u2.2 p hp).1; omega))
        refine ⟨.inl (r.1, r.2), rfl, ⟨fr, g', r2, r3, ?_⟩, ?_⟩
        · rcases r4 with ⟨x1, x2, x3⟩ | ⟨x1, -⟩
          · exact Or.inr ⟨x1, x3⟩
          · exact Or.inl x1
        · show 2 * sumN (fun p => cn (r.2 9 2 p)) (cn (m 0)) + (if r.1 = 0 then 0 else 1) < 2 * sumN (fun p => cn (υ 9 2 p)) (cn (m 0)) + (if fl = 0 then 0 else 1)
          rw [s1, s2, if_neg (show ¬ fl = 0 by rw [z]; decide)]
          rcases r4 with ⟨x1, x2, x3⟩ | ⟨x1, x2⟩
          · rw [if_pos x1, x2]; omega
          · rw [if_neg (show ¬ r.1 = 0 by rw [x1]; decide)]; omega
      · rw [if_pos z]
        exact ⟨_, rfl, u1, fun p hp => by rw [u3 p hp, ms_fix hw hb u2 hfx p hp]⟩
    · by_cases e : p = b
      · have ee : (fun p => if p = b then 0 else 1000000) p = 0 := if_pos e
        rw [ee]
        exact ⟨by omega, fun _ => e⟩
      · have ee : (fun p => if p = b then 0 else 1000000) p = 1000000 := if_neg e
        rw [ee]
        exact ⟨Nat.le_refl _, fun z => absurd z (by omega)⟩
  rintro υ ⟨u1, u2⟩
  rw [rdo_nI (by omega) (by decide), some_b, u2 a ha]
  by_cases q : hf (Rs m f) b a
  · have := hd_7 (E := Rs m f) (fun p q hpq => Rs_lt hw hpq) hb ha q
    rw [if_pos (ltF (by omega))]
    exact Ret.some ⟨u1, u2, Or.inl ⟨q, rfl⟩⟩
  · rw [hd_none q, if_neg (by decide)]
    exact Ret.some ⟨u1, u2, Or.inr ⟨q, rfl⟩⟩
