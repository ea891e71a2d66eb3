/-! S2: reading, whole: the component -/
set_option maxRecDepth 100000
def wrI : Nat ⊕ Nat → Int32 := Sum.elim (fun _ => -1) nI
def PreC (σ : St) (j n : Nat) (h : Nat → Int32) : Prop := (j = 1 ∨ j = 2 ∨ j = 3) ∧ n ≤ lenB j ∧ Byt h n ∧ ∀ k, k < n → σ 0 j k &&& 255 = h k ∧ b8 (σ 0 j k) = σ 0 j k
def rd7 (σ : St) (j n : Nat) : St := up3 (up3 (up3 (up3 (up3 (up3 (up3 σ 2 0 6 (nI j)) 2 0 7 (nI n)) 2 0 8 0) 2 0 9 (-1)) 2 0 11 0) 2 0 12 0) 2 0 10 (-1)
theorem rd7_ok {σ : St} {j n : Nat} {h : Nat → Int32} (P : PreC σ j n h) : SrcC (rd7 σ j n) j n h ∧ OkC (rd7 σ j n) 0 ∧ rd7 σ j n 2 0 10 = -1 ∧ rd7 σ j n 2 0 11 = 0 ∧ rd7 σ j n 2 0 12 = 0 ∧ ∀ a, a ≠ 2 → rd7 σ j n a = σ a := by
  have hg : ∀ a, a ≠ 2 → rd7 σ j n a = σ a := by
    intro a ha
    unfold rd7
    rw [up3_g ha, up3_g ha, up3_g ha, up3_g ha, up3_g ha, up3_g ha, up3_g ha]
  refine ⟨⟨P.1, ?_, ?_, P.2.1, P.2.2.1, ?_⟩, ⟨?_, ?_⟩, ?_, ?_, ?_, hg⟩
  · unfold rd7
    rw [up3_i (by decide), up3_i (by decide), up3_i (by decide), up3_i (by decide), up3_i (by decide), up3_i (by decide), up3_same]
  · unfold rd7
    rw [up3_i (by decide), up3_i (by decide), up3_i (by decide), up3_i (by decide), up3_i (by decide), up3_same]
  · rw [hg 0 (by decide)]
    exact P.2.2.2
  · unfold rd7
    rw [up3_i (by decide), up3_i (by decide), up3_i (by decide), up3_i (by decide), up3_same]
    rfl
  · unfold rd7
    rw [up3_i (by decide), up3_i (by decide), up3_i (by decide), up3_same]
  · unfold rd7
    rw [up3_same]
  · unfold rd7
    rw [up3_i (by decide), up3_i (by decide), up3_same]
  · unfold rd7
    rw [up3_i (by decide), up3_same]
theorem c_wrI {τ : St} {n : Nat} {c : Nat ⊕ Nat} (O : CuC τ n c) : τ 2 0 9 = wrI c := by
  cases c with
  | inl a => exact O.1.2
  | inr w => exact O.1
theorem CuC_le {τ : St} {n : Nat} {c : Nat ⊕ Nat} (O : CuC τ n c) : ∀ ww, c = .inr ww → ww ≤ n := by
  intro ww e
  subst e
  exact O.2.1
theorem m_wrI {τ : St} {n : Nat} {c : Nat ⊕ Nat} (O : CuM τ n c) : τ 20 0 19 = wrI c := by
  cases c with
  | inl a => exact O.1.2
  | inr w => exact O.1
theorem lin_end {h : Nat → Int32} {n a : Nat} : endS n (linS h n a) = linS h n a ∨ (∃ e, linS h n a = .inl e ∧ e < n) := by
  cases q : linS h n a with
  | inr w => exact Or.inl rfl
  | inl e =>
    rcases Nat.lt_or_ge e n with z | z
    · exact Or.inr ⟨e, rfl, z⟩
    · refine Or.inl ?_
      show (if e < n then Sum.inr e else Sum.inl e) = _
      rw [if_neg (by omega)]
theorem DatC.u9 {τ υ : St} {h : Nat → Int32} {n w a N : Nat} (D : DatC τ h n w a N) (h0 : ∀ i, i ≠ 9 → υ 2 0 i = τ 2 0 i) (hb : ∀ b, b ≠ 0 → υ 2 b = τ 2 b) : DatC υ h n w a N := by
  unfold DatC LnC
  rw [h0 13 (by decide), h0 14 (by decide), h0 15 (by decide), h0 16 (by decide), h0 12 (by decide), h0 11 (by decide), hb 5 (by decide), hb 2 (by decide), hb 3 (by decide), hb 4 (by decide)]
  exact D
theorem c_readY {σ : St} {j n L w : Nat} {h : Nat → Int32} (P : PreC σ j n h) (x : LW h L) (hw : w < 45) (y : whl h n L w) (hck : n ≤ 3200 ∨ w = 26) : Ret (F_X2_read j (nI n) σ) (fun z => z.1 = wrI (rdS h n L w) ∧ (∀ ww, rdS h n L w = .inr ww → ww ≤ n) ∧ (∀ a, a ≠ 2 → z.2 a = σ a) ∧ z.2 2 0 10 = nI w ∧ z.2 2 0 6 = nI j ∧ z.2 2 0 7 = nI n ∧ ∀ e, rdS h n L w = .inl e → (∀ i, i < plC w → z.2 2 1 i = nI (vlN h (dgF w) L i)) ∧ Ext h n w (rdA h L w) (rdN h n w (rdA h L w)) ∧ DatC z.2 h n w (rdA h L w) (rdN h n w (rdA h L w))) := by
  obtain ⟨c1, c2, c3, c4, c5, c6, c7, c8, -⟩ := w_cls w hw
  obtain ⟨t1, t2, t3, t4, t5, t6⟩ := w_tabC w hw
  obtain ⟨S7, O7, i10, i11, i12, g7⟩ := rd7_ok P
  have hB := P.2.2.1
  have hj := lenB_le (j := j)
  have hn := P.2.1
  have hL := pfx_n hB x.1
  have eF : F_X2_read j (nI n) σ = Option.bind (iter (fun z => B_X2_read_35 z) (rd7 σ j n)) (fun z148 => (if (z148 2 0 9) < 0 then (F_X2_takes (z148 2 0 10) z148).bind (fun r1016 => (if r1016 = (9 : Int32) then (F_X2_blank z148).bind (fun s2025 => Option.bind (iter (fun z => B_X2_read_179 z) s2025) (fun z211 => some ((z211 2 0 9), z211))) else Option.bind ((if r1016 < (4 : Int32) then some (r1016) else (if r1016 = (5 : Int32) then some ((3 : Int32)) else (if r1016 = (4 : Int32) then some ((2 : Int32)) else (if r1016 = (7 : Int32) then some ((2 : Int32)) else (if (z148 2 0 10) = (15 : Int32) then some ((1 : Int32)) else some ((0 : Int32))))))) : Option (Int32)) (fun z263 => Option.bind (iter (fun z => B_X2_read_268 z263 r1016 z.1 z.2) ((0 : Int32), z148)) (fun z312 => Option.bind ((if r1016 < (4 : Int32) then some (z312) else (if r1016 = (5 : Int32) then some (z312) else (F_X2_blank z312).bind (fun s2022 => some (s2022)))) : Option (St)) (fun z326 => Option.bind ((if (z326 2 0 9) < 0 then (F_X2_special r1016 z326).bind (fun s2023 => some (s2023)) else some (z326)) : Option (St)) (fun z338 => Option.bind ((if (z338 2 0 9) < 0 then (if (z338 2 0 8) < (z338 2 0 7) then (F_X2_fail z338).bind (fun s2024 => some (s2024)) else some (z338)) else some (z338)) : Option (St)) (fun z360 => some ((z360 2 0 9), z360)))))))) else some ((z148 2 0 9), z148))) := rfl
  rw [eF, c_findY S7 O7 i10 x hw y, some_b]
  have S8 : SrcC (up3 (up3 (rd7 σ j n) 2 0 8 (nI L)) 2 0 10 (nI w)) j n h := (S7.u0 (by decide) (by decide)).u0 (by decide) (by decide)
  have O8 : OkC (up3 (up3 (rd7 σ j n) 2 0 8 (nI L)) 2 0 10 (nI w)) L := (O7.at).u0 (by decide) (by decide)
  have i10 : (up3 (up3 (rd7 σ j n) 2 0 8 (nI L)) 2 0 10 (nI w)) 2 0 10 = nI w := up3_same _ _ _ _ _
  have i11 : (up3 (up3 (rd7 σ j n) 2 0 8 (nI L)) 2 0 10 (nI w)) 2 0 11 = 0 := by rw [up3_i (by decide), up3_i (by decide)]; exact i11
  have i12 : (up3 (up3 (rd7 σ j n) 2 0 8 (nI L)) 2 0 10 (nI w)) 2 0 12 = 0 := by rw [up3_i (by decide), up3_i (by decide)]; exact i12
  have g8 : ∀ a, a ≠ 2 → (up3 (up3 (rd7 σ j n) 2 0 8 (nI L)) 2 0 10 (nI w)) a = σ a := fun a ha => by rw [up3_g ha, up3_g ha, g7 a ha]
  generalize (up3 (up3 (rd7 σ j n) 2 0 8 (nI L)) 2 0 10 (nI w)) = ρ at S8 O8 i10 i11 i12 g8
  have fin : ∀ τ, KpC ρ τ → (∀ a, a ≠ 2 → τ a = σ a) ∧ τ 2 0 10 = nI w ∧ τ 2 0 6 = nI j ∧ τ 2 0 7 = nI n := fun τ k => ⟨fun a ha => (k.1 a ha).trans (g8 a ha), k.2.2.2.trans i10, k.2.1.trans S8.2.1, k.2.2.1.trans S8.2.2.1⟩
  rw [if_pos (by rw [O8.2]; decide), i10, c_takes hw, some_b]
  by_cases h26 : w = 26
  · -- a proof
    have t := c7.mp h26
    have hs : ¬ sml w := fun z => c2.mp z (by omega)
    have p0 : plC w = 0 := by rw [h26]; decide +kernel
    have h32 : h L = 32 := by
      rcases y.2 with z | z
      · omega
      · exact z.1
    have hl : L < n := hB.lt (by rw [h32]; decide)
    have cu : cu1 h L w = .inl L := by unfold cu1; rw [p0]; rfl
    have ra : rdA h L w = L + 1 := by unfold rdA; rw [cu]; rfl
    have rn : rdN h n w (L + 1) = lM h n (L + 1) := by unfold rdN; rw [if_neg (by omega)]
    have ers : rdS h n L w = endS n (linS h n (L + 1)) := by
      unfold rdS
      rw [if_neg hs, cu]
      have e1 : tkS h 32 (.inl L) = .inl (L + 1) := by
        show (if h L = 32 then Sum.inl (L + 1) else Sum.inr L) = _
        rw [if_pos h32]
      rw [e1]
      show endS n (spS h n w (L + 1)) = _
      unfold spS
      rw [if_neg (by omega), if_neg (by omega), if_neg (by omega), if_pos h26]
    rw [t, if_pos (show nI 9 = (9 : Int32) from rfl), c_blank S8 O8 hL, if_pos h32, some_b]
    have K1 : KpC ρ (up3 ρ 2 0 8 (nI (L + 1))) := (KpC.rf ρ).u0 (by decide) (by decide) (by decide)
    have hM := lM_end hB (show L + 1 ≤ n by omega)
    refine Ret.bind (c_lines (M := lM h n (L + 1)) (K1.src S8) O8.at (by omega) (by rw [up3_i (by decide)]; exact i11) (by rw [up3_i (by decide)]; exact i12) hM) ?_
    rintro τ ⟨k1, k2, k3, k4⟩
    have f := fin τ (K1.tr k1)
    rw [ers, ra, rn, p0]
    have C : CuC τ n (endS n (linS h n (L + 1))) := by
      unfold linS
      by_cases q : 1 ≤ lM h n (L + 1) ∧ ¬ lX h (L + 1) (lM h n (L + 1)) < n
      · rw [if_pos q]
        show CuC τ n (if lX h (L + 1) (lM h n (L + 1)) < n then _ else _)
        rw [if_neg q.2]
        exact (k3 q).1
      · rw [if_neg q]
        have q2 := hM.2.resolve_left q
        obtain ⟨ww, q3⟩ := q2.2
        rw [q3]
        exact k4 ww q2.1 q3
    refine Ret.some ⟨c_wrI C, CuC_le C, f.1, f.2.1, f.2.2.1, f.2.2.2, ?_⟩
    · intro e he
      obtain ⟨he1, he2⟩ := endS_inl he
      unfold linS at he1
      have q : 1 ≤ lM h n (L + 1) ∧ ¬ lX h (L + 1) (lM h n (L + 1)) < n := by
        rcases Classical.em (1 ≤ lM h n (L + 1) ∧ ¬ lX h (L + 1) (lM h n (L + 1)) < n) with z | z
        · exact z
        · rw [if_neg z] at he1
          obtain ⟨ww, q3⟩ := (hM.2.resolve_left z).2
          rw [q3] at he1
          cases he1
      have hb := lX_bd hB (show L + 1 ≤ n by omega) _ hM.1
      refine ⟨fun i hi => absurd hi (Nat.not_lt_zero i), ⟨by omega, by omega, by omega, by omega, fun _ => ⟨hM.1, q.1, by omega⟩⟩, ⟨by omega, by omega, by omega, by omega, fun _ => (k3 q).2⟩⟩
  · have hn3 : n ≤ 3200 := hck.resolve_right h26
    have t9 : ¬ nI (tkW w) = (9 : Int32) := by
      rw [show (9 : Int32) = nI 9 from rfl, nI_eq (by omega) (by decide)]
      exact fun z => h26 (c7.mpr z)
    rw [if_neg t9, w_plain w hw, some_b]
    refine Ret.bind (c_nums (dg := dgF w) S8 O8 hL c1 (by omega) (fun k => rfl)) ?_
    rintro τ ⟨k1, k2, k3, k4, k5⟩
    have k4 : CuC τ n (cu1 h L w) := k4
    by_cases hs : sml w
    · -- numbers alone
      have e1 : (if nI (tkW w) < (4 : Int32) then some τ else (if nI (tkW w) = (5 : Int32) then some τ else (F_X2_blank τ).bind (fun s2022 => some (s2022)))) = some τ := by
        rcases hs with z | z
        · rw [if_pos (show nI (tkW w) < (4 : Int32) from nI_lt (b := 4) z (by decide))]
        · rw [z]
          rfl
      have e2 : F_X2_special (nI (tkW w)) τ = some τ := by
        have key : ∀ t, t < 10 → (t < 4 ∨ t = 5) → ¬ nI t = (8 : Int32) ∧ ¬ nI t = (7 : Int32) ∧ ¬ nI t = (6 : Int32) ∧ ¬ nI t = (4 : Int32) := by decide
        obtain ⟨z1, z2, z3, z4⟩ := key (tkW w) (by omega) hs
        unfold F_X2_special
        rw [if_neg z1, some_b, if_neg z2, some_b, if_neg z3, some_b, if_neg z4]
      have e3 : (if (τ 2 0 9) < 0 then (F_X2_special (nI (tkW w)) τ).bind (fun s2023 => some (s2023)) else some τ) = some τ := by
        rw [e2, some_b]
        by_cases z : τ 2 0 9 < 0
        · rw [if_pos z]
        · rw [if_neg z]
      rw [e1, some_b, e3, some_b]
      obtain ⟨υ, f1, f2, f3, f4, f5⟩ := c_endS (k1.src S8) k4
      rw [f1, some_b]
      have f := fin υ (k1.tr f2)
      have ers : rdS h n L w = endS n (cu1 h L w) := by unfold rdS; rw [if_pos hs]
      rw [ers]
      refine Ret.some ⟨c_wrI f3, CuC_le f3, f.1, f.2.1, f.2.2.1, f.2.2.2, ?_⟩
      intro e he
      have hx := c2.mp hs
      obtain ⟨he1, he2⟩ := endS_inl he
      refine ⟨?_, ⟨by omega, by omega, by omega, by omega, by omega⟩, ⟨by omega, by omega, by omega, by omega, by omega⟩⟩
      intro i hi
      show υ 2 1 i = _
      rw [f4 1 (by decide)]
      exact k5 e he1 i hi
    · have n4 : ¬ tkW w < 4 := fun z => hs (Or.inl z)
      have n5 : ¬ tkW w = 5 := fun z => hs (Or.inr z)
      have e1 : (if nI (tkW w) < (4 : Int32) then some τ else (if nI (tkW w) = (5 : Int32) then some τ else (F_X2_blank τ).bind (fun s2022 => some (s2022)))) = F_X2_take 32 τ := by
        rw [if_neg (show ¬ nI (tkW w) < (4 : Int32) from nI_nlt (b := 4) (by omega) (by omega)), if_neg (by rw [show (5 : Int32) = nI 5 from rfl, nI_eq (by omega) (by decide)]; exact n5)]
        show (F_X2_take 32 τ).bind _ = _
        cases F_X2_take 32 τ <;> rfl
      obtain ⟨υ, f1, f2, f3, f4, f5⟩ := c_tkS (x := 32) (k1.src S8) k4 (by decide)
      rw [e1, f1, some_b]
      have ers : rdS h n L w = endS n (Sum.elim (spS h n w) Sum.inr (tkS h 32 (cu1 h L w))) := by unfold rdS; rw [if_neg hs]
      have K2 := k1.tr f2
      cases q : tkS h 32 (cu1 h L w) with
      | inr ww =>
        rw [q] at f5 ers
        have hneg := f5.neg (by omega)
        rw [if_neg hneg, some_b]
        obtain ⟨ν, g1, g2, g3, g4, g5⟩ := c_endS (K2.src S8) f5
        rw [g1, some_b, ers]
        have f := fin ν (K2.tr g2)
        refine Ret.some ⟨c_wrI g3, CuC_le g3, f.1, f.2.1, f.2.2.1, f.2.2.2, ?_⟩
        intro e he
        cases he
      | inl a =>
        rw [q] at f5 ers
        obtain ⟨b, b1, b2, b3⟩ := tkS_inl q
        obtain ⟨O2, ha⟩ : OkC υ a ∧ a ≤ n := f5
        have ra : rdA h L w = a := by unfold rdA; rw [b1, b3]; rfl
        have ht : υ 2 0 12 = 0 := by rw [f4 12 (by decide) (by decide), k3 12 (by decide) (by decide)]; exact i12
        rw [if_pos (by rw [O2.2]; decide)]
        obtain ⟨ν, g1, g2, g3, g4, g5⟩ := c_special (K2.src S8) O2 hw hs h26 hn3 ha (by omega) ht
        rw [g1, some_b, some_b]
        obtain ⟨μ, h1, h2, h3, h4, h5⟩ := c_endS ((K2.tr g2).src S8) g4
        rw [h1, some_b, ers, ra]
        have f := fin μ ((K2.tr g2).tr h2)
        refine Ret.some ⟨c_wrI h3, CuC_le h3, f.1, f.2.1, f.2.2.1, f.2.2.2, ?_⟩
        intro e he
        obtain ⟨he1, he2⟩ := endS_inl he
        have he1 : spS h n w a = .inl e := he1
        have hen : e = n := by
          rw [he1] at g4
          have : e ≤ n := g4.2
          omega
        rw [hen] at he1
        obtain ⟨d1, d2⟩ := g5 he1
        refine ⟨?_, d1, d2.u9 h5 h4⟩
        intro i hi
        show μ 2 1 i = _
        rw [h4 1 (by decide), g3, f3 1 (by decide)]
        exact k5 b b1 i hi
theorem c_readN {σ : St} {j n L : Nat} {h : Nat → Int32} (P : PreC σ j n h) (x : LW h L) (y : ∀ w, w < 45 → ¬ whl h n L w) : Ret (F_X2_read j (nI n) σ) (fun z => z.1 = nI L ∧ (∀ a, a ≠ 2 → z.2 a = σ a) ∧ z.2 2 0 6 = nI j ∧ z.2 2 0 7 = nI n) := by
  obtain ⟨S7, O7, i10, i11, i12, g7⟩ := rd7_ok P
  have h10 := pfx_10 x.1
  have eF : F_X2_read j (nI n) σ = Option.bind (iter (fun z => B_X2_read_35 z) (rd7 σ j n)) (fun z148 => (if (z148 2 0 9) < 0 then (F_X2_takes (z148 2 0 10) z148).bind (fun r1016 => (if r1016 = (9 : Int32) then (F_X2_blank z148).bind (fun s2025 => Option.bind (iter (fun z => B_X2_read_179 z) s2025) (fun z211 => some ((z211 2 0 9), z211))) else Option.bind ((if r1016 < (4 : Int32) then some (r1016) else (if r1016 = (5 : Int32) then some ((3 : Int32)) else (if r1016 = (4 : Int32) then some ((2 : Int32)) else (if r1016 = (7 : Int32) then some ((2 : Int32)) else (if (z148 2 0 10) = (15 : Int32) then some ((1 : Int32)) else some ((0 : Int32))))))) : Option (Int32)) (fun z263 => Option.bind (iter (fun z => B_X2_read_268 z263 r1016 z.1 z.2) ((0 : Int32), z148)) (fun z312 => Option.bind ((if r1016 < (4 : Int32) then some (z312) else (if r1016 = (5 : Int32) then some (z312) else (F_X2_blank z312).bind (fun s2022 => some (s2022)))) : Option (St)) (fun z326 => Option.bind ((if (z326 2 0 9) < 0 then (F_X2_special r1016 z326).bind (fun s2023 => some (s2023)) else some (z326)) : Option (St)) (fun z338 => Option.bind ((if (z338 2 0 9) < 0 then (if (z338 2 0 8) < (z338 2 0 7) then (F_X2_fail z338).bind (fun s2024 => some (s2024)) else some (z338)) else some (z338)) : Option (St)) (fun z360 => some ((z360 2 0 9), z360)))))))) else some ((z148 2 0 9), z148))) := rfl
  rw [eF, c_findN S7 O7 i10 x y, some_b, up3_same, if_neg (nI_pos (by omega))]
  refine Ret.some ⟨rfl, ?_, ?_, ?_⟩
  · intro a ha
    show up3 (up3 (rd7 σ j n) 2 0 8 (nI L)) 2 0 9 (nI L) a = σ a
    rw [up3_g ha, up3_g ha, g7 a ha]
  · show up3 (up3 (rd7 σ j n) 2 0 8 (nI L)) 2 0 9 (nI L) 2 0 6 = _
    rw [up3_i (by decide), up3_i (by decide), S7.2.1]
  · show up3 (up3 (rd7 σ j n) 2 0 8 (nI L)) 2 0 9 (nI L) 2 0 7 = _
    rw [up3_i (by decide), up3_i (by decide), S7.2.2.1]
