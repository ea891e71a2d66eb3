/-! S11: ahead -/
set_option maxRecDepth 100000
noncomputable def ahT (m : Nat → Int32) (a : Nat) : List Int32 := if 1 ≤ a ∧ a ≤ 3600 then cvT (tickN m a) else aTx 5
theorem ahT_len (m : Nat → Int32) (a : Nat) : (ahT m a).length ≤ 23 := by
  have h1 := cvT_len (tickN m a)
  have h2 := tx_len 5 (by decide)
  unfold ahT
  split <;> omega
theorem ahT_asc (m : Nat → Int32) (a : Nat) : asc (ahT m a) := by
  unfold ahT
  split
  · exact cvT_asc _
  · exact tx_asc 5 (by decide)
theorem tick_rok {m : Nat → Int32} (R : Rok m) {a : Nat} (ha : a ≤ 3600) : RokB (tickN m a) 1003600 := by
  have h4 := R.2.2.2
  obtain ⟨k1, k2, k3, k4⟩ := tickN_ok R.1 R.2.1 a (by omega)
  exact ⟨k1, k2, R.2.2.1.same (fun i hi => k4 i (by omega)) (k4 1 (by omega)) (k4 2 (by omega)) (k4 7 (by omega)) (k4 8 (by omega)), by rw [k3]; omega⟩
theorem c_ahead {σ : St} {m : Nat → Int32} {k a : Nat} (R : Rok m) (H : HH (σ 3) m) (B5 : HB (σ 5)) (hs : szC σ k) (hk : k ≤ 100) (ha : a < 2147483648) : Ret (F_X0_ahead (nI a) σ) (AskC σ m (ahT m a)) := by
  have hw := R.1
  have h4 := R.2.2.2
  unfold F_X0_ahead ahT
  rw [show F_X0_in (nI a) (1 : Int32) (3600 : Int32) σ = _ from inC_nI (lo := 1) (hi := 3600) ha (by decide) (by decide), some_b]
  by_cases q : 1 ≤ a ∧ a ≤ 3600
  · rw [if_pos q, if_neg (show ¬ (1 : Int32) = 0 by decide), if_pos q]
    refine Ret.bind (c_take (h := 5) (o := 3) (by decide) hw R.2.2.1 H B5) ?_
    rintro τ ⟨t1, t2⟩
    refine Ret.bind (Q := fun υ => (∀ a, a ≠ 5 → υ a = σ a) ∧ HH (υ 5) (tickN m a)) ?_ ?_
    · obtain ⟨υ, u1, u2⟩ := c_tick (σ := τ) (h := 5) (a := a) hw R.2.1 t2.1 t2.2.1 (by omega) (f := fun z => B_X0_ahead_34 (nI a) z.1 z.2) (fun c s => rfl)
      have ok := tickN_ok hw R.2.1 a (by omega)
      refine ⟨υ, u1, fun x hx => by rw [u2.2.2.1 x hx]; exact t1 x hx, u2.1, u2.2.1, ?_, ?_⟩
      · exact t2.2.2.1.same (fun i hi => ok.2.2.2 i (by omega)) (ok.2.2.2 7 (by omega)) (ok.2.2.2 8 (by omega)) (fun j h1 h2 => u2.2.2.2 _ h1 h2)
      · exact t2.2.2.2.same (fun j h1 h2 => u2.2.2.2 _ h1 h2)
    · rintro υ ⟨u1, u2⟩
      have hs1 : szC υ k := by unfold szC; rw [u1 1 (by decide)]; exact hs
      refine Ret.bind (c_coverTell (h := 5) (tick_rok R q.2).1 (by decide) (by decide) u2 hs1 hk) ?_
      rintro ρ ⟨p1, p2, p3⟩
      have e1 : υ 1 = σ 1 := u1 1 (by decide)
      refine Ret.some ⟨?_, fun x hx => by rw [p2 x (by omega) (by omega) (by omega)]; exact u1 x (by omega), fun b _ => by rw [p2 0 (by decide) (by decide) (by decide), u1 0 (by decide)], by rw [p2 3 (by decide) (by decide) (by decide), u1 3 (by decide)]; exact H, p1.2.2.2⟩
      exact (show ρ 1 = _ from p3).trans (appC_1' e1)
  · have := c_sayA (σ := σ) (L := []) (i := 6) (w := 5) (by decide) (by decide) (tx_eq (6, 5) (by decide)) hs (by rw [List.length_nil]; omega)
    rw [appC_nil, List.nil_append] at this
    rw [if_neg q, if_pos rfl, show (6 : Int32) = nI 6 from rfl, this, some_b, if_neg q]
    exact AskC.ex H B5 rfl
theorem m_ahead {σ : St} {m : Nat → Int32} {k a : Nat} (R : Rok m) (hm : σ 20 1 = m) (hS : StatM σ) (hs : szM σ k) (hk : k ≤ 100) (ha : a < 2147483648) : Ret (F_X12_tellAhead (nI a) σ) (AskM σ (ahT m a)) := by
  have hw := R.1
  have h4 := R.2.2.2
  unfold F_X12_tellAhead ahT
  rw [show F_X12_in (nI a) (1 : Int32) (3600 : Int32) σ = _ from inM_nI (lo := 1) (hi := 3600) ha (by decide) (by decide), some_b]
  by_cases q : 1 ≤ a ∧ a ≤ 3600
  · rw [if_pos q, if_neg (show ¬ (1 : Int32) = 0 by decide), if_pos q]
    have c1 := lp_fill (σ := σ) (h := 20) (J := 5) (b := 0) (n := 1532) (m := σ 20 5) (y := fun k => m k) (f := fun z => B_X12_tellAhead_19 (nI a) z.1 z.2) ?_ ?_
    · rw [putj_self] at c1
      rw [show ((0 : Int32), σ) = (nI 0, σ) from rfl, c1, some_b]
      have z1 : ∀ b, b ≠ 5 → (putj σ 20 5 (fun i => if 0 ≤ i ∧ i < 0 + 1532 then m (i - 0) else σ 20 5 i)) 20 b = σ 20 b := fun b hb => by funext i; rw [putj_app]; simp [hb]
      have zg : ∀ x, x ≠ 20 → (putj σ 20 5 (fun i => if 0 ≤ i ∧ i < 0 + 1532 then m (i - 0) else σ 20 5 i)) x = σ x := fun x hx => by funext b i; rw [putj_app]; simp [hx]
      have z5 : ∀ i, i < 1532 → (putj σ 20 5 (fun i => if 0 ≤ i ∧ i < 0 + 1532 then m (i - 0) else σ 20 5 i)) 20 5 i = m i := fun i hi => by rw [putj_row, if_pos (by omega), Nat.sub_zero]
      generalize putj σ 20 5 (fun i => if 0 ≤ i ∧ i < 0 + 1532 then m (i - 0) else σ 20 5 i) = τ at z1 zg z5
      refine Ret.bind (m_tick (σ := τ) hw R.2.1 ((z1 1 (by decide)).trans hm) (by omega)) ?_
      rintro υ ⟨u1, u2⟩
      have ub : ∀ b, b ≠ 34 → b ≠ 1 → b ≠ 5 → υ 20 b = σ 20 b := fun b h34 h1 h5 => by rw [u2 20 b (fun z => z.2.elim h34 h1), z1 b h5]
      have ug : ∀ x, x ≠ 20 → υ x = σ x := fun x hx => by
        funext b
        rw [u2 x b (fun z => hx z.1), zg x hx]
      have hSu : StatM υ := hS.fr (ub 19 (by decide) (by decide) (by decide)) (ub 17 (by decide) (by decide) (by decide)) (ub 18 (by decide) (by decide) (by decide))
      have hsu : szM υ k := by unfold szM; rw [ub 0 (by decide) (by decide) (by decide)]; exact hs
      -- the cover of the later row; member 5 is not touched
      obtain ⟨ρ, r1, r2, r3, r5⟩ : Ret (F_X12_tellCover υ) (fun ρ => TxM υ ρ (cvT (tickN m a)) ∧ FrM υ ρ ∧ ρ 20 5 = υ 20 5) := m_tellCover5 (tick_rok R q.2) u1 hSu hsu hk
      rw [r1, some_b]
      have e5 : ∀ i, i < 1532 → ρ 20 5 i = m i := fun i hi => by rw [r5, u2 20 5 (fun z => by omega)]; exact z5 i hi
      have c2 := lp_fill (σ := ρ) (h := 20) (J := 1) (b := 0) (n := 1532) (m := ρ 20 1) (y := fun k => m k) (f := fun z => B_X12_tellAhead_55 z.1 z.2) ?_ ?_
      · rw [putj_self] at c2
        rw [show ((0 : Int32), ρ) = (nI 0, ρ) from rfl, c2, some_b]
        have er : (fun i => if 0 ≤ i ∧ i < 0 + 1532 then m (i - 0) else ρ 20 1 i) = m := by
          funext i
          by_cases z : i < 1532
          · rw [if_pos (by omega), Nat.sub_zero]
          · have ok := tickN_ok hw R.2.1 a (by omega)
            rw [if_neg (by omega), r3.2.1 1 (by decide), u1, ok.2.2.2 i (by omega)]
        rw [er, ← putr_putj]
        refine Ret.some ⟨?_, ?_⟩
        · obtain ⟨h1, h2⟩ := appM_15 (l := cvT (tickN m a)) (ub 15 (by decide) (by decide) (by decide)) (by rw [ub 0 (by decide) (by decide) (by decide)])
          exact ⟨(putr_j (by decide)).trans (r2.1.trans h1), (congrFun (putr_j (by decide)) 15).trans (r2.2.trans h2)⟩
        · refine ⟨fun x hx => by rw [putr_g hx, r3.1 x hx, ug x hx], fun b hb => ?_, fun i hi => ?_⟩
          · by_cases e : b = 1
            · subst e; rw [putr_row, hm]
            · rw [putr_j e, r3.2.1 b hb, ub b (by omega) e (by omega)]
          · rw [putr_j (by decide), r3.2.2 i hi, ub 0 (by decide) (by decide) (by decide)]
      · intro i m' hi hm'
        show B_X12_tellAhead_55 (nI i) (putj ρ 20 1 m') = _
        unfold B_X12_tellAhead_55
        rw [if_pos (show nI i < (1532 : Int32) from nI_lt (b := 1532) hi (by decide)), rdo_nI (by omega) (by decide), some_b, show putj ρ 20 1 m' 20 5 i = m i by rw [putj_app, if_neg (by omega)]; exact e5 i hi, wro_nI (by omega) (by decide), some_b, putj_up, nI_1, Nat.zero_add]
      · intro m'
        show B_X12_tellAhead_55 (nI 1532) (putj ρ 20 1 m') = _
        unfold B_X12_tellAhead_55
        rw [if_neg (show ¬ nI 1532 < (1532 : Int32) by decide)]
    · intro i m' hi hm'
      show B_X12_tellAhead_19 (nI a) (nI i) (putj σ 20 5 m') = _
      unfold B_X12_tellAhead_19
      rw [if_pos (show nI i < (1532 : Int32) from nI_lt (b := 1532) hi (by decide)), rdo_nI (by omega) (by decide), some_b, show putj σ 20 5 m' 20 1 i = m i by rw [putj_app, if_neg (by omega), hm], wro_nI (by omega) (by decide), some_b, putj_up, nI_1, Nat.zero_add]
    · intro m'
      show B_X12_tellAhead_19 (nI a) (nI 1532) (putj σ 20 5 m') = _
      unfold B_X12_tellAhead_19
      rw [if_neg (show ¬ nI 1532 < (1532 : Int32) by decide)]
  · rw [if_neg q, if_pos rfl, show (5 : Int32) = nI 5 from rfl, AskM.say (by decide) hS hs hk, some_b, if_neg q]
    exact AskM.ex rfl
