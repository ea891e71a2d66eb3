/-! S2: reading, whole: the spec -/
set_option maxRecDepth 100000
def endS (n : Nat) : Nat ⊕ Nat → Nat ⊕ Nat := Sum.elim (fun a => if a < n then .inr a else .inl a) Sum.inr
def tEnd (h : Nat → Int32) (a N : Nat) : Prop := tAll h a N ∧ (tU h a N = 0 ∨ (1 ≤ tU h a N ∧ ¬ tOk h (tP h a N)))
noncomputable def tN (h : Nat → Int32) (a : Nat) : Nat := @dite _ (∃ N, tEnd h a N) (Classical.propDecidable _) (fun e => Classical.choose e) (fun _ => 0)
theorem tN_end {h : Nat → Int32} {n a : Nat} (B : Byt h n) (ha : a ≤ n) : tEnd h a (tN h a) := by
  have he : ∃ N, tEnd h a N := t_ex B ha
  unfold tN
  rw [dif_pos he]
  exact Classical.choose_spec he
noncomputable def rE (P : Int32 → Prop) (h : Nat → Int32) (a : Nat) : Nat := @dite _ (∃ e, runE P h a e) (Classical.propDecidable _) (fun e => Classical.choose e) (fun _ => 0)
theorem rE_end {P : Int32 → Prop} {h : Nat → Int32} {n a : Nat} (B : Byt h n) (hP : ¬ P (-1)) : runE P h a (rE P h a) ∧ (a ≤ n → rE P h a ≤ n) := by
  have he : ∃ e, runE P h a e ∧ (a ≤ n → e ≤ n) := by
    rcases Nat.lt_or_ge n a with q | q
    · exact ⟨a, ⟨Nat.le_refl _, fun i h1 h2 => by omega, by rw [B.2 a (by omega)]; exact hP⟩, fun z => by omega⟩
    · obtain ⟨e, e1, e2⟩ := runE_ex B hP q
      exact ⟨e, e1, fun _ => e2⟩
  obtain ⟨e, e1, e2⟩ := he
  have e3 : runE P h a (rE P h a) := by
    unfold rE
    rw [dif_pos ⟨e, e1⟩]
    exact Classical.choose_spec (⟨e, e1⟩ : ∃ e, runE P h a e)
  exact ⟨e3, by rw [runE_uniq e3 e1]; exact e2⟩
noncomputable def lM (h : Nat → Int32) (n x0 : Nat) : Nat := @dite _ (∃ M, lStop h n x0 M) (Classical.propDecidable _) (fun e => Classical.choose e) (fun _ => 0)
theorem lM_end {h : Nat → Int32} {n x0 : Nat} (B : Byt h n) (hx : x0 ≤ n) : lStop h n x0 (lM h n x0) := by
  unfold lM
  rw [dif_pos (lStop_ex B hx)]
  exact Classical.choose_spec (lStop_ex B hx)
noncomputable def treS (h : Nat → Int32) (a : Nat) : Nat ⊕ Nat := if tU h a (tN h a) = 0 then .inl (tP h a (tN h a)) else .inr (tEr h (tP h a (tN h a)))
noncomputable def ansS (h : Nat → Int32) (a : Nat) : Nat ⊕ Nat := if h a = 46 then .inl (rE isY h (a + 1)) else .inr a
noncomputable def letS (h : Nat → Int32) (a : Nat) : Nat ⊕ Nat := if isL (h a) then .inl (rE isL h a) else .inr a
noncomputable def linS (h : Nat → Int32) (n a : Nat) : Nat ⊕ Nat := if 1 ≤ lM h n a ∧ ¬ lX h a (lM h n a) < n then .inl (lX h a (lM h n a)) else lnS h (lX h a (lM h n a))
noncomputable def spS (h : Nat → Int32) (n w a : Nat) : Nat ⊕ Nat := if w = 13 then treS h a else if w = 14 then ansS h a else if w = 37 then agS h (.inl a) else if w = 26 then linS h n a else letS h a
def plC (w : Nat) : Nat := if tkW w < 4 then tkW w else if tkW w = 5 then 3 else if tkW w = 4 ∨ tkW w = 7 then 2 else if w = 15 then 1 else 0
def dgF (w k : Nat) : Nat := if tkW w = 5 ∧ 0 < k then 8 else 4
abbrev sml (w : Nat) : Prop := tkW w < 4 ∨ tkW w = 5
def cu1 (h : Nat → Int32) (L w : Nat) : Nat ⊕ Nat := cuN h (dgF w) L (plC w)
noncomputable def rdS (h : Nat → Int32) (n L w : Nat) : Nat ⊕ Nat := if sml w then endS n (cu1 h L w) else endS n (Sum.elim (spS h n w) Sum.inr (tkS h 32 (cu1 h L w)))
/-- the words with something behind their numbers -/
theorem w_cls1 : ∀ w, w < 45 → (plC w ≤ 3 ∧ (sml w ↔ ¬ (w = 13 ∨ w = 14 ∨ w = 15 ∨ w = 32 ∨ w = 37 ∨ w = 26))) := by decide +kernel
theorem w_cls2 : ∀ w, w < 45 → ((w = 13 ↔ tkW w = 8) ∧ (w = 14 ↔ tkW w = 7) ∧ ((w = 15 ∨ w = 32) ↔ tkW w = 6)) := by decide +kernel
theorem w_cls3 : ∀ w, w < 45 → ((w = 37 ↔ tkW w = 4) ∧ (w = 26 ↔ tkW w = 9) ∧ (w = 17 ↔ tkW w = 5)) := by decide +kernel
theorem w_cls4 : ∀ w, w < 45 → ((¬ w = 17 → plM w = plC w) ∧ (w = 17 → plM w = 1 ∧ plC w = 3) ∧ (tkW w = 0 → plC w = 0)) := by decide +kernel
theorem w_cls (w : Nat) (h : w < 45) : plC w ≤ 3 ∧ (sml w ↔ ¬ (w = 13 ∨ w = 14 ∨ w = 15 ∨ w = 32 ∨ w = 37 ∨ w = 26)) ∧ (w = 13 ↔ tkW w = 8) ∧ (w = 14 ↔ tkW w = 7) ∧ ((w = 15 ∨ w = 32) ↔ tkW w = 6) ∧ (w = 37 ↔ tkW w = 4) ∧ (w = 26 ↔ tkW w = 9) ∧ (w = 17 ↔ tkW w = 5) ∧ (¬ w = 17 → plM w = plC w) ∧ (w = 17 → plM w = 1 ∧ plC w = 3) ∧ (tkW w = 0 → plC w = 0) := ⟨(w_cls1 w h).1, (w_cls1 w h).2, (w_cls2 w h).1, (w_cls2 w h).2.1, (w_cls2 w h).2.2, (w_cls3 w h).1, (w_cls3 w h).2.1, (w_cls3 w h).2.2, (w_cls4 w h).1, (w_cls4 w h).2.1, (w_cls4 w h).2.2⟩
theorem w_plain : ∀ w, w < 45 → (if nI (tkW w) < (4 : Int32) then some (nI (tkW w)) else (if nI (tkW w) = (5 : Int32) then some ((3 : Int32)) else (if nI (tkW w) = (4 : Int32) then some ((2 : Int32)) else (if nI (tkW w) = (7 : Int32) then some ((2 : Int32)) else (if nI w = (15 : Int32) then some ((1 : Int32)) else some ((0 : Int32))))))) = some (nI (plC w)) := by decide +kernel
/-- what was read behind the numbers -/
def Ext (h : Nat → Int32) (n w a N : Nat) : Prop := (w = 13 → tAll h a N ∧ tU h a N = 0 ∧ tP h a N = n) ∧ (w = 14 → h a = 46 ∧ a + 1 ≤ n ∧ ∀ i, a + 1 ≤ i → i < n → isY (h i)) ∧ (w = 15 ∨ w = 32 → a < n ∧ ∀ i, a ≤ i → i < n → isL (h i)) ∧ (w = 37 → agS h (.inl a) = .inl n) ∧ (w = 26 → lAll h n a N ∧ 1 ≤ N ∧ lX h a N = n)
def DatC (τ : St) (h : Nat → Int32) (n w a N : Nat) : Prop := (w = 13 → τ 2 0 13 = nI a ∧ τ 2 0 14 = nI n ∧ τ 2 0 15 = nI (tC h a N)) ∧ (w = 14 → τ 2 0 13 = nI (a + 1) ∧ τ 2 0 14 = nI n) ∧ (w = 15 ∨ w = 32 → τ 2 0 13 = nI a ∧ τ 2 0 14 = nI n) ∧ (w = 37 → τ 2 0 16 = nI (agK1 h a) ∧ τ 2 0 12 = nI (agK1 h a + agK2 h a) ∧ (∀ i, i < agK1 h a → τ 2 5 i = gV h true (gP h true (a + 1) i)) ∧ ∀ i, i < agK2 h a → τ 2 5 (agK1 h a + i) = gV h false (gP h false (agX2 h a) i)) ∧ (w = 26 → LnC τ h a N)
def DatM (τ : St) (h : Nat → Int32) (n w a N : Nat) : Prop := (w = 13 → τ 20 0 24 = nI N ∧ (∀ m, m < N → m < 127 → τ 20 24 m = tV h a m) ∧ τ 20 0 25 = nI (tM h a N)) ∧ (w = 14 → τ 20 0 28 = nI (n - (a + 1)) ∧ ∀ k, k < n - (a + 1) → τ 20 28 k = h (a + 1 + k)) ∧ (w = 15 ∨ w = 32 → τ 20 0 28 = nI (n - a) ∧ ∀ k, k < n - a → τ 20 28 k = h (a + k)) ∧ (w = 37 → τ 20 0 30 = nI (agK1 h a) ∧ τ 20 0 32 = nI (agK2 h a) ∧ (∀ i, i < agK1 h a → τ 20 30 i = gV h true (gP h true (a + 1) i)) ∧ ∀ i, i < agK2 h a → τ 20 32 i = gV h false (gP h false (agX2 h a) i))
noncomputable def rdN (h : Nat → Int32) (n w a : Nat) : Nat := if w = 13 then tN h a else lM h n a
/-- the place behind the numbers' blank -/
def rdA (h : Nat → Int32) (L w : Nat) : Nat := Sum.elim (fun a => a + 1) (fun _ => 0) (cu1 h L w)
theorem endS_inl {n e : Nat} {c : Nat ⊕ Nat} (q : endS n c = .inl e) : c = .inl e ∧ n ≤ e := by
  cases c with
  | inr w => cases q
  | inl a =>
    have q : (if a < n then Sum.inr a else Sum.inl a) = (Sum.inl e : Nat ⊕ Nat) := q
    by_cases z : a < n
    · rw [if_pos z] at q
      cases q
    · rw [if_neg z] at q
      injection q with q
      subst q
      exact ⟨rfl, by omega⟩
theorem c_endS {τ : St} {j n : Nat} {h : Nat → Int32} {c : Nat ⊕ Nat} (S : SrcC τ j n h) (O : CuC τ n c) : ∃ υ, (if (τ 2 0 9) < 0 then (if (τ 2 0 8) < (τ 2 0 7) then (F_X2_fail τ).bind (fun s2024 => some (s2024)) else some τ) else some τ) = some υ ∧ KpC τ υ ∧ CuC υ n (endS n c) ∧ (∀ b, b ≠ 0 → υ 2 b = τ 2 b) ∧ ∀ i, i ≠ 9 → υ 2 0 i = τ 2 0 i := by
  have hj := lenB_le (j := j)
  have hn := S.2.2.2.1
  cases c with
  | inr w =>
    rw [if_neg (CuC.neg O (by omega))]
    exact ⟨τ, rfl, KpC.rf τ, O, fun _ _ => rfl, fun _ _ => rfl⟩
  | inl a =>
    obtain ⟨O1, O2⟩ : OkC τ a ∧ a ≤ n := O
    rw [if_pos (by rw [O1.2]; decide), O1.1, S.2.2.1]
    show ∃ υ, _ ∧ _ ∧ CuC υ n (if a < n then .inr a else .inl a) ∧ _
    by_cases q : a < n
    · unfold F_X2_fail
      rw [if_pos (nI_lt q (by omega)), if_pos (by rw [O1.2]; decide), nst_b, some_b, if_pos q, O1.1]
      exact ⟨_, rfl, (KpC.rf τ).u0 (by decide) (by decide) (by decide), O1.bad O2 (by omega), fun b hb => up3_j hb, fun i hi => up3_i hi⟩
    · rw [if_neg (nI_nlt (by omega) (by omega)), if_neg q]
      exact ⟨τ, rfl, KpC.rf τ, ⟨O1, O2⟩, fun _ _ => rfl, fun _ _ => rfl⟩
theorem m_endS {τ : St} {n : Nat} {h : Nat → Int32} {c : Nat ⊕ Nat} (S : SrcM τ n h) (O : CuM τ n c) : ∃ υ, (if (τ 20 0 19) < 0 then (if (τ 20 0 21) < (τ 20 0 13) then (nst (up3 τ 20 0 19 (τ 20 0 21))).bind (fun s1010 => some s1010) else some τ) else some τ) = some υ ∧ MvM τ υ ∧ CuM υ n (endS n c) := by
  have hn := S.2.1
  cases c with
  | inr w =>
    rw [if_neg (CuM.neg O (by omega))]
    exact ⟨τ, rfl, MvM.rf τ, O⟩
  | inl a =>
    obtain ⟨O1, O2⟩ : OkM τ a ∧ a ≤ n := O
    rw [if_pos (by rw [O1.2]; decide), O1.1, S.1]
    show ∃ υ, _ ∧ _ ∧ CuM υ n (if a < n then .inr a else .inl a)
    by_cases q : a < n
    · rw [if_pos (nI_lt q (by omega)), nst_b, if_pos q]
      exact ⟨_, rfl, (MvM.rf τ).wr, O1.bad O2⟩
    · rw [if_neg (nI_nlt (by omega) (by omega)), if_neg q]
      exact ⟨τ, rfl, MvM.rf τ, ⟨O1, O2⟩⟩
theorem tkI {n : Nat} : ∀ t, t < 10 → nI t = (4 : Int32) → t = 4 := by decide
/-- what is behind the numbers, the component -/
theorem c_special {σ : St} {j n w a : Nat} {h : Nat → Int32} (S : SrcC σ j n h) (O : OkC σ a) (hw : w < 45) (hs : ¬ sml w) (h26 : ¬ w = 26) (hn : n ≤ 3200) (ha : a ≤ n) (ha1 : 1 ≤ a) (ht : σ 2 0 12 = 0) : Ret (F_X2_special (nI (tkW w)) σ) (fun τ => KpC σ τ ∧ τ 2 1 = σ 2 1 ∧ CuC τ n (spS h n w a) ∧ (spS h n w a = .inl n → Ext h n w a (rdN h n w a) ∧ DatC τ h n w a (rdN h n w a))) := by
  have hB := S.2.2.2.2.1
  obtain ⟨-, c2, c3, c4, c5, c6, c7, -⟩ := w_cls w hw
  have hcl : w = 13 ∨ w = 14 ∨ (w = 15 ∨ w = 32) ∨ w = 37 := by
    rcases Classical.em (w = 13 ∨ w = 14 ∨ (w = 15 ∨ w = 32) ∨ w = 37) with z | z
    · exact z
    · exact absurd (c2.mpr (by omega)) hs
  unfold F_X2_special spS
  rcases hcl with e | e | e | e
  · have t := c3.mp e
    obtain ⟨tA, tB⟩ := tN_end hB ha
    obtain ⟨f1, f2⟩ := c_tree S O hn ha tA
    have nx : ∀ s : St, (Option.bind ((if nI 8 = (7 : Int32) then (F_X2_answers s).bind (fun s2 => some (s2)) else some s) : Option (St)) (fun z20 => Option.bind ((if nI 8 = (6 : Int32) then (F_X2_letters z20).bind (fun s3 => some (s3)) else some (z20)) : Option (St)) (fun z30 => (if nI 8 = (4 : Int32) then (F_X2_argument z30).bind (fun s4 => some s4) else some z30)))) = some s := fun s => rfl
    rw [t, if_pos (show nI 8 = (8 : Int32) from rfl), if_pos e]
    unfold treS
    have rn : rdN h n w a = tN h a := by unfold rdN; rw [if_pos e]
    by_cases q : tU h a (tN h a) = 0
    · obtain ⟨τ, g1, g2, g3, g4, g5, g6, g7⟩ := f1 q
      rw [g1, some_b, some_b, nx, if_pos q]
      refine Ret.some ⟨g2, g3, g4, ?_⟩
      intro ee
      injection ee with ee
      rw [rn]
      refine ⟨⟨fun _ => ⟨tA, q, ee⟩, by omega, by omega, by omega, by omega⟩, ⟨fun _ => ⟨g5, by rw [g6, ee], g7⟩, by omega, by omega, by omega, by omega⟩⟩
    · obtain ⟨τ, g1, g2, g3, g4⟩ := f2 (tB.resolve_left q).1 (tB.resolve_left q).2
      rw [g1, some_b, some_b, nx, if_neg q]
      refine Ret.some ⟨g2, g3, g4, ?_⟩
      intro ee
      cases ee
  · have t := c4.mp e
    obtain ⟨r1, r2⟩ := rE_end (P := isY) (a := a + 1) hB (by decide)
    obtain ⟨τ, g1, g2, g3, g4, g5⟩ := c_answers S O ha r1 (fun q => r2 (by have : a < n := hB.lt (by rw [q]; decide); omega))
    have nx : ∀ s : St, (Option.bind ((if nI 7 = (6 : Int32) then (F_X2_letters s).bind (fun s3 => some (s3)) else some (s)) : Option (St)) (fun z30 => (if nI 7 = (4 : Int32) then (F_X2_argument z30).bind (fun s4 => some s4) else some z30))) = some s := fun s => rfl
    rw [t, if_neg (show ¬ nI 7 = (8 : Int32) by decide), some_b, if_pos (show nI 7 = (7 : Int32) from rfl), g1, some_b, some_b, nx, if_neg (by omega), if_pos e]
    unfold ansS
    by_cases q : h a = 46
    · have hl : a < n := hB.lt (by rw [q]; decide)
      rw [if_pos q]
      refine Ret.some ⟨g2, g3, (g4 q).1, ?_⟩
      intro ee
      injection ee with ee
      refine ⟨⟨by omega, fun _ => ⟨q, by omega, fun i h1 h2 => r1.2.1 i h1 (by omega)⟩, by omega, by omega, by omega⟩, ⟨by omega, fun _ => ⟨(g4 q).2.1, by rw [(g4 q).2.2, ee]⟩, by omega, by omega, by omega⟩⟩
    · rw [if_neg q]
      refine Ret.some ⟨g2, g3, g5 q, ?_⟩
      intro ee
      cases ee
  · have t := c5.mp e
    obtain ⟨r1, r2⟩ := rE_end (P := isL) (a := a) hB (by decide)
    obtain ⟨τ, g1, g2, g3, g4, g5⟩ := c_letters S O ha r1 (r2 ha)
    have nx : ∀ s : St, (if nI 6 = (4 : Int32) then (F_X2_argument s).bind (fun s4 => some s4) else some s) = some s := fun s => rfl
    rw [t, if_neg (show ¬ nI 6 = (8 : Int32) by decide), some_b, if_neg (show ¬ nI 6 = (7 : Int32) by decide), some_b, if_pos (show nI 6 = (6 : Int32) from rfl), g1, some_b, some_b, nx, if_neg (by omega), if_neg (by omega), if_neg (by omega), if_neg h26]
    unfold letS
    by_cases q : isL (h a)
    · have hl : a < n := (isL_nI hB q).1
      rw [if_pos q]
      refine Ret.some ⟨g2, g3, (g4 q).1, ?_⟩
      intro ee
      injection ee with ee
      refine ⟨⟨by omega, by omega, fun _ => ⟨hl, fun i h1 h2 => r1.2.1 i h1 (by omega)⟩, by omega, by omega⟩, ⟨by omega, by omega, fun _ => ⟨(g4 q).2.1, by rw [(g4 q).2.2, ee]⟩, by omega, by omega⟩⟩
    · rw [if_neg q]
      refine Ret.some ⟨g2, g3, g5 q, ?_⟩
      intro ee
      cases ee
  · have t := c6.mp e
    obtain ⟨τ, g1, g2, g3, g4, g5⟩ := c_argument S O hn ha ha1 ht
    rw [t, if_neg (show ¬ nI 4 = (8 : Int32) by decide), some_b, if_neg (show ¬ nI 4 = (7 : Int32) by decide), some_b, if_neg (show ¬ nI 4 = (6 : Int32) by decide), some_b, if_pos (show nI 4 = (4 : Int32) from rfl), g1, some_b, if_neg (by omega), if_neg (by omega), if_pos e]
    refine Ret.some ⟨g2, g3, g4, ?_⟩
    intro ee
    refine ⟨⟨by omega, by omega, by omega, fun _ => ee, by omega⟩, ⟨by omega, by omega, by omega, fun _ => g5 n ee, by omega⟩⟩
