/-! S9: doing what is told: the model, whole; soundness is kept -/
set_option maxRecDepth 100000
def BtQ (σ : St) (w Kk N : Nat) (y v : Nat → Int32) : Prop := (w = 15 → σ 20 0 28 = nI Kk ∧ ∀ i, i < Kk → σ 20 28 i = y i) ∧ (w = 13 → N ≤ 127 ∧ σ 20 0 24 = nI N ∧ ∀ i, i < N → σ 20 24 i = v i)
theorem ok_row {σ z : St} {m m' : Nat → Int32} {s : Nat} {K : Nat → Nat → Int32} {D : Nat → Int32} {d : Int32} {k : Nat} {X : Option St} (eX : X = some (putr z m')) (A : AbM z m s K D d) (hS : StatM z) (hs : szM z k) (hk : k ≤ 3000) (h15 : z 20 15 = σ 20 15) (h0 : z 20 0 15 = σ 20 0 15) (f : FrTl σ z) : Ret (okT X) (PfM σ m' s K D d (aTx 0)) :=
  ok_say eX A.row hS.putr (szM_putr hs) hk (by rw [putr_j (by decide)]; exact h15) (by rw [putr_j (by decide)]; exact h0) (f.tr (FrTl.put _ _))
theorem m_tell {σ : St} {m : Nat → Int32} {s w Kk N k dp : Nat} {K : Nat → Nat → Int32} {D : Nat → Int32} {d : Int32} {A : Nat → Nat} {y v : Nat → Int32} (B : AbM σ m s K D d) (W : AbW m s K D d) (hrf : rfS m s d w A y Kk dp = 0) (hw22 : w ≤ 22) (hkd : σ 20 0 20 = nI w) (hA : ∀ i, i < plC w → σ 20 23 i = nI (A i) ∧ A i ≤ 99999999) (hS : StatM σ) (hs : szM σ k) (hk : k ≤ 100) (BM : BtQ σ w Kk N y v) (h42 : w = 14 → σ 20 0 42 = wkV m (A 1) y Kk) (hT : w = 11 → TabR σ m) : Ret (F_X12_tell σ) (PfM σ (pfR m s K D w A y Kk v N) (pfS s w) (pfK m s w K) (pfD m w D) (pfd w d) (pfT m w A y Kk)) := by
  have R := W.1
  have hw := R.1
  have hww := R.2.2.1
  obtain ⟨q0, q1, q3, q5, q6, q8⟩ := rfS_cases R hrf
  obtain ⟨q9, q11, q12, q13, q14, q15, q16, q17, q19, q20, q22⟩ := rfS_cas2 R W.2.2.2.1 hrf
  have b0 := hw.1.1.2
  have b1 := hw.2.1
  have b1' := b1.2
  have b2 := hw.2.2.1
  have b2' := b2.2
  have b3 := hw.2.2.2.1.2
  have mz : σ 20 1 = m := B.1
  have mz0 : ∀ i, 1532 ≤ i → σ 20 1 i = 0 := fun i hi => by rw [mz]; exact hww.2.2.2.2.2 i hi
  have hcs : w = 0 ∨ (w = 1 ∨ w = 2) ∨ (w = 3 ∨ w = 4) ∨ w = 5 ∨ (w = 6 ∨ w = 7) ∨ w = 8 ∨ w = 9 ∨ w = 10 ∨ w = 11 ∨ w = 12 ∨ w = 13 ∨ w = 14 ∨ w = 15 ∨ w = 16 ∨ w = 17 ∨ w = 18 ∨ w = 19 ∨ w = 20 ∨ w = 21 ∨ w = 22 := by omega
  rcases hcs with e | e | e | e | e | e | e | e | e | e | e | e | e | e | e | e | e | e | e | e
  · subst e
    obtain ⟨a0, -⟩ := hA 0 (by decide +kernel)
    have p0 : pfS s 0 = 0 := by unfold pfS; rw [if_neg (by decide), if_neg (fun z => z.1 rfl)]
    have p1 : pfK m s 0 K = K := by unfold pfK; rw [if_neg (fun z => z.1 rfl)]
    refine tell_raw (Or.inl rfl) hkd ?_
    rw [tl0, p0, p1, a0]
    refine ok_say (m_begin mz0) ⟨?_, ?_, fun k hk => absurd hk (Nat.not_lt_zero k), up3_same _ _ _ _ _, fun z => absurd (show (0 : Int32) = 1 from z) (by decide), ?_⟩ ?_ (k := k) ?_ (by omega) ?_ ?_ ⟨?_, ?_, ?_⟩
    · rw [up3_j (by decide), up3_j (by decide), putr_row]; rfl
    · rw [up3_i (by decide), up3_same]; rfl
    · intro i hi
      rw [up3_j (by decide), up3_j (by decide), putr_j (by decide)]
      exact B.2.2.2.2.2 i hi
    · exact (hS.putr.u0).u0
    · unfold szM; rw [up3_i (by decide), up3_i (by decide), putr_j (by decide)]; exact hs
    · rw [up3_j (by decide), up3_j (by decide), putr_j (by decide)]
    · rw [up3_i (by decide), up3_i (by decide), putr_j (by decide)]
    · intro a ha
      rw [up3_g ha, up3_g ha, putr_g ha]
    · intro b h0 h1 _ _ _ _ _ _ _ _
      rw [up3_j h0, up3_j h0, putr_j h1]
    · intro i h2 h5 _ _ _ _ _
      rw [up3_i h5, up3_i h2, putr_j (by decide)]
  · have p3 : plC w = 3 := by rcases e with e | e <;> subst e <;> decide +kernel
    obtain ⟨a0, -⟩ := hA 0 (by omega)
    obtain ⟨a1, -⟩ := hA 1 (by omega)
    obtain ⟨a2, -⟩ := hA 2 (by omega)
    obtain ⟨y1, y2, y3⟩ := q1 e
    have hi : isS w := by unfold isS; omega
    obtain ⟨p1, p2, p3, p4⟩ := pf_st (s := s) (m := m) (K := K) (D := D) (d := d) hi
    have eR : pfR m s K D w A y Kk v N = asR m (A 0) (A 1) (A 2) (if nI w = 2 then 1 else 0) ∧ pfT m w A y Kk = aTx 0 := by rcases e with e | e <;> subst e <;> exact ⟨rfl, rfl⟩
    rw [p1, p2, p3, p4, eR.1, eR.2]
    refine tell_kept B W hi hkd (fun z z1 z2 z3 z4 zf => ?_)
    have e23 := z3 23 (by decide) (by decide)
    have hb : bd (m 1) 19 := ⟨b1.1, by omega⟩
    have := m_addStreet (σ := z) (m := m) (a := A 0) (b := A 1) (s := A 2) hb (by rw [e23, a0]) (by rw [e23, a1]) (by rw [e23, a2])
    rw [z4 20 (by decide), hkd, ← putr_of z1.1] at this
    rw [tl12 e]
    exact ok_row this z1 (hS.fr (z3 19 (by decide) (by decide)) (z3 17 (by decide) (by decide)) (z3 18 (by decide) (by decide))) (by unfold szM; rw [z4 15 (by decide)]; exact hs) (by omega) (z3 15 (by decide) (by decide)) (z4 15 (by decide)) zf
  · have p1 : plC w = 1 := by rcases e with e | e <;> subst e <;> decide +kernel
    obtain ⟨a0, -⟩ := hA 0 (by omega)
    have hi : isS w := by unfold isS; omega
    have y1 := q3 e
    obtain ⟨p1, p2, p3, p4⟩ := pf_st (s := s) (m := m) (K := K) (D := D) (d := d) hi
    have eR : pfR m s K D w A y Kk v N = setm m (10 + 5 * A 0 + 4) (if w = 4 then 1 else 0) ∧ pfT m w A y Kk = aTx 0 := by rcases e with e | e <;> subst e <;> exact ⟨rfl, rfl⟩
    rw [p1, p2, p3, p4, eR.1, eR.2]
    refine tell_kept B W hi hkd (fun z z1 z2 z3 z4 zf => ?_)
    have := m_wr (σ := z) (m := m) (k := 10 + 5 * A 0 + 4) (v := if w = 4 then 1 else 0) (by omega)
    rw [← putr_of z1.1] at this
    rw [tl34 e, a0, show ((10 : Int32) + (5 : Int32) * nI (A 0)) + (4 : Int32) = nI (10 + 5 * A 0 + 4) by rw [← nI_add, ← nI_add, ← nI_mulc]; rfl]
    exact ok_row this z1 (hS.fr (z3 19 (by decide) (by decide)) (z3 17 (by decide) (by decide)) (z3 18 (by decide) (by decide))) (by unfold szM; rw [z4 15 (by decide)]; exact hs) (by omega) (z3 15 (by decide) (by decide)) (z4 15 (by decide)) zf
  · subst e
    obtain ⟨a0, -⟩ := hA 0 (by decide +kernel)
    obtain ⟨a1, -⟩ := hA 1 (by decide +kernel)
    obtain ⟨y1, y2, y3⟩ := q5 rfl
    have hi : isS 5 := ⟨by decide, by decide⟩
    obtain ⟨p1, p2, p3, p4⟩ := pf_st (s := s) (m := m) (K := K) (D := D) (d := d) hi
    rw [p1, p2, p3, p4]
    refine tell_kept B W hi hkd (fun z z1 z2 z3 z4 zf => ?_)
    have := m_addUnit (σ := z) (m := m) (p := A 0) (d := A 1) ⟨b2.1, by omega⟩
    rw [← putr_of z1.1] at this
    rw [tl5, a0, a1]
    exact ok_row this z1 (hS.fr (z3 19 (by decide) (by decide)) (z3 17 (by decide) (by decide)) (z3 18 (by decide) (by decide))) (by unfold szM; rw [z4 15 (by decide)]; exact hs) (by omega) (z3 15 (by decide) (by decide)) (z4 15 (by decide)) zf
  · have p1 : plC w = 1 := by rcases e with e | e <;> subst e <;> decide +kernel
    obtain ⟨a0, -⟩ := hA 0 (by omega)
    have hi : isS w := by unfold isS; omega
    obtain ⟨y1, y2⟩ := q6 e
    obtain ⟨p1, p2, p3, p4⟩ := pf_st (s := s) (m := m) (K := K) (D := D) (d := d) hi
    have eR : pfR m s K D w A y Kk v N = setm m (110 + 8 * A 0 + 5) (if w = 6 then 4 else 0) ∧ pfT m w A y Kk = aTx 0 := by rcases e with e | e <;> subst e <;> exact ⟨rfl, rfl⟩
    rw [p1, p2, p3, p4, eR.1, eR.2]
    refine tell_kept B W hi hkd (fun z z1 z2 z3 z4 zf => ?_)
    have := m_setUnit (σ := z) (m := m) (u := A 0) (w := 5) (v := if w = 6 then 4 else 0) (by omega) (by decide)
    rw [← putr_of z1.1] at this
    rw [tl67 e, a0]
    exact ok_row this z1 (hS.fr (z3 19 (by decide) (by decide)) (z3 17 (by decide) (by decide)) (z3 18 (by decide) (by decide))) (by unfold szM; rw [z4 15 (by decide)]; exact hs) (by omega) (z3 15 (by decide) (by decide)) (z4 15 (by decide)) zf
  · subst e
    obtain ⟨a0, -⟩ := hA 0 (by decide +kernel)
    obtain ⟨a1, -⟩ := hA 1 (by decide +kernel)
    obtain ⟨y1, y2, y3⟩ := q8 rfl
    have hi : isS 8 := ⟨by decide, by decide⟩
    obtain ⟨p1, p2, p3, p4⟩ := pf_st (s := s) (m := m) (K := K) (D := D) (d := d) hi
    rw [p1, p2, p3, p4]
    refine tell_kept B W hi hkd (fun z z1 z2 z3 z4 zf => ?_)
    have e1 := m_setUnit (σ := z) (m := m) (u := A 0) (w := 0) (v := nI (A 1)) (by omega) (by decide)
    rw [← putr_of z1.1, Nat.add_zero] at e1
    have e2 := m_unit (σ := putr z (setm m (110 + 8 * A 0) (nI (A 1)))) (u := A 0) (w := 5) (by omega) (by decide)
    rw [putr_row, setm_ne (by omega)] at e2
    rw [a0, a1, tl8 e1 e2]
    have eX : (if 1 < m (110 + 8 * A 0 + 5) then some (putr z (setm m (110 + 8 * A 0) (nI (A 1)))) else F_X12_letGo (nI (A 0)) (putr z (setm m (110 + 8 * A 0) (nI (A 1))))) = some (putr z (ptR m (A 0) (A 1))) := by
      rw [m_letGo (by omega)]
      unfold ptR
      by_cases q : 1 < m (110 + 8 * A 0 + 5)
      · rw [if_pos q, if_pos q]
      · rw [if_neg q, if_neg q]
    exact ok_row eX z1 (hS.fr (z3 19 (by decide) (by decide)) (z3 17 (by decide) (by decide)) (z3 18 (by decide) (by decide))) (by unfold szM; rw [z4 15 (by decide)]; exact hs) (by omega) (z3 15 (by decide) (by decide)) (z4 15 (by decide)) zf
  · subst e
    obtain ⟨a0, -⟩ := hA 0 (by decide +kernel)
    obtain ⟨a1, -⟩ := hA 1 (by decide +kernel)
    obtain ⟨a2, -⟩ := hA 2 (by decide +kernel)
    obtain ⟨y1, y2, y3, y4⟩ := q9 rfl
    have hi : isS 9 := ⟨by decide, by decide⟩
    obtain ⟨p1, p2, p3, p4⟩ := pf_st (s := s) (m := m) (K := K) (D := D) (d := d) hi
    rw [p1, p2, p3, p4]
    refine tell_kept B W hi hkd (fun z z1 z2 z3 z4 zf => ?_)
    have hSz : StatM z := hS.fr (z3 19 (by decide) (by decide)) (z3 17 (by decide) (by decide)) (z3 18 (by decide) (by decide))
    have hsz : szM z k := by unfold szM; rw [z4 15 (by decide)]; exact hs
    have := m_addCallT (σ := z) (k := k) (p := A 0) (d := A 1) (r := A 2) hw hSz hsz (by omega) y3.2 (fun hj => (rfCall_0 R y4 hj).1)
    rw [← putr_of z1.1] at this
    rw [a0, a1, tl9, z3 23 (by decide) (by decide), a2, this]
    refine Ret.some ⟨z1.app.row, ?_, (zf.tr (FrTl.app _ _)).tr (FrTl.put _ _)⟩
    exact (((TxM.rf σ).fr (z3 15 (by decide) (by decide)) (z4 15 (by decide))).app (l' := caT m (A 0) (A 1))).fr (putr_j (by decide)) (congrFun (putr_j (by decide)) 15)
  · subst e
    have hi : isS 10 := ⟨by decide, by decide⟩
    obtain ⟨p1, p2, p3, p4⟩ := pf_st (s := s) (m := m) (K := K) (D := D) (d := d) hi
    rw [p1, p2, p3, p4]
    refine tell_kept B W hi hkd (fun z z1 z2 z3 z4 zf => ?_)
    have hsz : szM z k := by unfold szM; rw [z4 15 (by decide)]; exact hs
    rw [tl10]
    refine (m_sendAll R z1.1 hsz (by omega)).mono ?_
    rintro τ ⟨t1, t2, t3⟩
    refine ⟨z1.row1 t1 (t2.2.1 2 (by decide) (by decide) (by decide) (by decide) (by decide) (by decide) (by decide) (by decide)) (t2.2.1 4 (by decide) (by decide) (by decide) (by decide) (by decide) (by decide) (by decide) (by decide)) (t2.2.2 2 (by decide) (by decide) (by decide) (by decide) (by decide)) (t2.2.2 5 (by decide) (by decide) (by decide) (by decide) (by decide)), ?_, zf.tr (FrTl.fs t2)⟩
    obtain ⟨h1, h2⟩ := appM_15 (l := plT m (gc m)) (z3 15 (by decide) (by decide)) (z4 15 (by decide))
    exact ⟨t3.1.trans h1, t3.2.trans h2⟩
  · subst e
    obtain ⟨a0, -⟩ := hA 0 (by decide +kernel)
    obtain ⟨a1, -⟩ := hA 1 (by decide +kernel)
    obtain ⟨y1, y2, y3⟩ := q11 rfl
    have hi : isS 11 := ⟨by decide, by decide⟩
    obtain ⟨p1, p2, p3, p4⟩ := pf_st (s := s) (m := m) (K := K) (D := D) (d := d) hi
    rw [p1, p2, p3, p4]
    refine tell_kept B W hi hkd (fun z z1 z2 z3 z4 zf => ?_)
    have hTz : TabR z m := fun p q hp hq => by rw [z3 34 (by decide) (by decide)]; exact hT rfl p q hp hq
    have := m_sendTo (σ := z) (u := A 0) (q := A 1) hw hTz y1 y3.1.1
    rw [← putr_of z1.1] at this
    rw [tl11, a0, a1]
    exact ok_row this z1 (hS.fr (z3 19 (by decide) (by decide)) (z3 17 (by decide) (by decide)) (z3 18 (by decide) (by decide))) (by unfold szM; rw [z4 15 (by decide)]; exact hs) (by omega) (z3 15 (by decide) (by decide)) (z4 15 (by decide)) zf
  · subst e
    obtain ⟨a0, -⟩ := hA 0 (by decide +kernel)
    have y1 := q12 rfl
    have hi : isS 12 := ⟨by decide, by decide⟩
    obtain ⟨p1, p2, p3, p4⟩ := pf_st (s := s) (m := m) (K := K) (D := D) (d := d) hi
    rw [p1, p2, p3, p4]
    refine tell_kept B W hi hkd (fun z z1 z2 z3 z4 zf => ?_)
    have e1 := m_wr (σ := z) (m := m) (k := 160 + 6 * A 0 + 3) (v := 0) (by omega)
    rw [← putr_of z1.1] at e1
    have e2 : wro z 20 1 1532 (((160 : Int32) + ((6 : Int32) * nI (A 0))) + (3 : Int32)) (0 : Int32) = some (putr z (setm m (160 + 6 * A 0 + 3) 0)) := by
      rw [show ((160 : Int32) + (6 : Int32) * nI (A 0)) + (3 : Int32) = nI (160 + 6 * A 0 + 3) by rw [← nI_add, ← nI_add, ← nI_mulc]; rfl]
      exact e1
    have := m_endL (σ := z) (m := m) hw y1
    rw [a0, tl12' e2]
    exact ok_row this z1 (hS.fr (z3 19 (by decide) (by decide)) (z3 17 (by decide) (by decide)) (z3 18 (by decide) (by decide))) (by unfold szM; rw [z4 15 (by decide)]; exact hs) (by omega) (z3 15 (by decide) (by decide)) (z4 15 (by decide)) zf
  · subst e
    obtain ⟨n1, n2, n3⟩ := BM.2 rfl
    have hi : isS 13 := ⟨by decide, by decide⟩
    obtain ⟨p1, p2, p3, p4⟩ := pf_st (s := s) (m := m) (K := K) (D := D) (d := d) hi
    rw [p1, p2, p3, p4]
    refine tell_kept B W hi hkd (fun z z1 z2 z3 z4 zf => ?_)
    have hSz : StatM z := hS.fr (z3 19 (by decide) (by decide)) (z3 17 (by decide) (by decide)) (z3 18 (by decide) (by decide))
    have hsz : szM z k := by unfold szM; rw [z4 15 (by decide)]; exact hs
    have := m_addKindT (σ := z) (k := k) (N := N) (v := v) hw hSz hsz (by omega) (q13 rfl) n1 (by rw [z4 24 (by decide)]; exact n2) (fun i hi => by rw [z3 24 (by decide) (by decide)]; exact n3 i hi)
    rw [← putr_of z1.1] at this
    rw [tl13, this]
    refine Ret.some ⟨z1.app.row, ?_, (zf.tr (FrTl.app _ _)).tr (FrTl.put _ _)⟩
    exact (((TxM.rf σ).fr (z3 15 (by decide) (by decide)) (z4 15 (by decide))).app (l' := aTx 29 ++ numL (nI (cn (m 7))))).fr (putr_j (by decide)) (congrFun (putr_j (by decide)) 15)
  · subst e
    obtain ⟨a0, -⟩ := hA 0 (by decide +kernel)
    obtain ⟨y1, y2, y3, y4⟩ := q14 rfl
    obtain ⟨sk, rk, s1, r1, r2, e1, e2, e3, e4⟩ := wkV_lf hw hww y2 y3
    have erk : cn (wkV m (A 1) y Kk) % 10 = rk := by rw [e1, cn_nI (by omega)]; omega
    have hi : isS 14 := ⟨by decide, by decide⟩
    obtain ⟨p1, p2, p3, p4⟩ := pf_st (s := s) (m := m) (K := K) (D := D) (d := d) hi
    have eP : pfR m s K D 14 A y Kk v N = caR m (A 0) sk rk := by
      show caR m (A 0) (cn (wkV m (A 1) y Kk) / 10) (cn (wkV m (A 1) y Kk) % 10) = _
      rw [e4, erk]
    have eT : pfT m 14 A y Kk = caT m (A 0) sk := by
      show caT m (A 0) (cn (wkV m (A 1) y Kk) / 10) = _
      rw [e4]
    rw [p1, p2, p3, p4, eP, eT]
    refine tell_kept B W hi hkd (fun z z1 z2 z3 z4 zf => ?_)
    have hSz : StatM z := hS.fr (z3 19 (by decide) (by decide)) (z3 17 (by decide) (by decide)) (z3 18 (by decide) (by decide))
    have hsz : szM z k := by unfold szM; rw [z4 15 (by decide)]; exact hs
    rw [e4] at y4
    have := m_addCallT (σ := z) (k := k) (p := A 0) (d := sk) (r := rk) hw hSz hsz (by omega) r2 (fun hj => (rfCall_0 R y4 hj).1)
    rw [← putr_of z1.1] at this
    rw [a0, tl14, z4 42 (by decide), h42 rfl, e3, e2, this]
    refine Ret.some ⟨z1.app.row, ?_, (zf.tr (FrTl.app _ _)).tr (FrTl.put _ _)⟩
    exact (((TxM.rf σ).fr (z3 15 (by decide) (by decide)) (z4 15 (by decide))).app (l' := caT m (A 0) sk)).fr (putr_j (by decide)) (congrFun (putr_j (by decide)) 15)
  · subst e
    obtain ⟨a0, -⟩ := hA 0 (by decide +kernel)
    obtain ⟨y1, y2⟩ := q15 rfl
    obtain ⟨n1, n2⟩ := BM.1 rfl
    have hi : isS 15 := ⟨by decide, by decide⟩
    obtain ⟨p1, p2, p3, p4⟩ := pf_st (s := s) (m := m) (K := K) (D := D) (d := d) hi
    rw [p1, p2, p3, p4]
    refine tell_kept B W hi hkd (fun z z1 z2 z3 z4 zf => ?_)
    have := m_name (σ := z) (m := m) (y := y) (p := A 0) (k := Kk) (x := σ 20 23 1) (by rw [z4 20 (by decide)]; exact hkd) (by omega) y2 (by rw [z4 28 (by decide)]; exact n1) (fun i hi => by rw [z3 28 (by decide) (by decide)]; exact n2 i hi)
    rw [← putr_of z1.1] at this
    rw [tl15 (Or.inl rfl), a0]
    exact ok_row this z1 (hS.fr (z3 19 (by decide) (by decide)) (z3 17 (by decide) (by decide)) (z3 18 (by decide) (by decide))) (by unfold szM; rw [z4 15 (by decide)]; exact hs) (by omega) (z3 15 (by decide) (by decide)) (z4 15 (by decide)) zf
  · subst e
    obtain ⟨a0, -⟩ := hA 0 (by decide +kernel)
    obtain ⟨a1, -⟩ := hA 1 (by decide +kernel)
    obtain ⟨a2, -⟩ := hA 2 (by decide +kernel)
    obtain ⟨y1, y2, y3⟩ := q16 rfl
    have hi : isS 16 := ⟨by decide, by decide⟩
    obtain ⟨p1, p2, p3, p4⟩ := pf_st (s := s) (m := m) (K := K) (D := D) (d := d) hi
    rw [p1, p2, p3, p4]
    refine tell_kept B W hi hkd (fun z z1 z2 z3 z4 zf => ?_)
    have k20 : z 20 0 20 = nI 16 := by rw [z4 20 (by decide)]; exact hkd
    have this : F_X12_tellMore (nI (A 0)) (nI (A 1)) z = some (putr z (hoR m (A 0) (A 1) (A 2))) := by
      unfold F_X12_tellMore
      have w1 := m_wr (σ := z) (m := m) (k := 340 + 2 * A 0) (v := nI (A 1)) (by omega)
      rw [← putr_of z1.1] at w1
      rw [k20, if_neg (show ¬ nI 16 = (15 : Int32) by decide), if_pos (show nI 16 = (16 : Int32) from rfl), show (340 : Int32) + (2 : Int32) * nI (A 0) = nI (340 + 2 * A 0) by rw [← nI_add, ← nI_mulc]; rfl, w1, some_b, show rdo (putr z (setm m (340 + 2 * A 0) (nI (A 1)))) 20 23 3 (2 : Int32) = some (putr z (setm m (340 + 2 * A 0) (nI (A 1))) 20 23 2) from rd3 (k := 2) (by decide), some_b, putr_j (by decide), z3 23 (by decide) (by decide), a2, show nI (340 + 2 * A 0) + (1 : Int32) = nI (340 + 2 * A 0 + 1) from nI_add (340 + 2 * A 0) 1, m_wr (by omega), some_b]
      rfl
    rw [tl15 (Or.inr (Or.inl rfl)), a0, a1]
    exact ok_row this z1 (hS.fr (z3 19 (by decide) (by decide)) (z3 17 (by decide) (by decide)) (z3 18 (by decide) (by decide))) (by unfold szM; rw [z4 15 (by decide)]; exact hs) (by omega) (z3 15 (by decide) (by decide)) (z4 15 (by decide)) zf
  · subst e
    obtain ⟨a0, -⟩ := hA 0 (by decide +kernel)
    obtain ⟨a1, -⟩ := hA 1 (by decide +kernel)
    obtain ⟨a2, -⟩ := hA 2 (by decide +kernel)
    have y1 := q17 rfl
    have hi : isS 17 := ⟨by decide, by decide⟩
    obtain ⟨p1, p2, p3, p4⟩ := pf_st (s := s) (m := m) (K := K) (D := D) (d := d) hi
    rw [p1, p2, p3, p4]
    refine tell_kept B W hi hkd (fun z z1 z2 z3 z4 zf => ?_)
    have k20 : z 20 0 20 = nI 17 := by rw [z4 20 (by decide)]; exact hkd
    have this : F_X12_tellMore (nI (A 0)) (nI (A 1)) z = some (putr z (awR m (A 0) (A 1) (A 2))) := by
      unfold F_X12_tellMore
      have w1 := m_wr (σ := z) (m := m) (k := 380 + 2 * A 0) (v := nI (A 1)) (by omega)
      rw [← putr_of z1.1] at w1
      rw [k20, if_neg (show ¬ nI 17 = (15 : Int32) by decide), if_neg (show ¬ nI 17 = (16 : Int32) by decide), if_pos (show nI 17 = (17 : Int32) from rfl), show (380 : Int32) + (2 : Int32) * nI (A 0) = nI (380 + 2 * A 0) by rw [← nI_add, ← nI_mulc]; rfl, w1, some_b, show rdo (putr z (setm m (380 + 2 * A 0) (nI (A 1)))) 20 23 3 (2 : Int32) = some (putr z (setm m (380 + 2 * A 0) (nI (A 1))) 20 23 2) from rd3 (k := 2) (by decide), some_b, putr_j (by decide), z3 23 (by decide) (by decide), a2, show nI (380 + 2 * A 0) + (1 : Int32) = nI (380 + 2 * A 0 + 1) from nI_add (380 + 2 * A 0) 1, m_wr (by omega), some_b]
      rfl
    rw [tl15 (Or.inr (Or.inr (Or.inl rfl))), a0, a1]
    exact ok_row this z1 (hS.fr (z3 19 (by decide) (by decide)) (z3 17 (by decide) (by decide)) (z3 18 (by decide) (by decide))) (by unfold szM; rw [z4 15 (by decide)]; exact hs) (by omega) (z3 15 (by decide) (by decide)) (z4 15 (by decide)) zf
  · subst e
    have hi : isS 18 := ⟨by decide, by decide⟩
    obtain ⟨p1, p2, p3, p4⟩ := pf_st (s := s) (m := m) (K := K) (D := D) (d := d) hi
    rw [p1, p2, p3, p4]
    refine tell_kept B W hi hkd (fun z z1 z2 z3 z4 zf => ?_)
    have := m_shift (σ := z) (m := m) (x := σ 20 23 0) (y := σ 20 23 1) (by rw [z4 20 (by decide)]; exact hkd) hw.2.2.2.2.2.2.1
    rw [← putr_of z1.1] at this
    rw [tl15 (Or.inr (Or.inr (Or.inr rfl)))]
    exact ok_row this z1 (hS.fr (z3 19 (by decide) (by decide)) (z3 17 (by decide) (by decide)) (z3 18 (by decide) (by decide))) (by unfold szM; rw [z4 15 (by decide)]; exact hs) (by omega) (z3 15 (by decide) (by decide)) (z4 15 (by decide)) zf
  · subst e
    obtain ⟨a0, -⟩ := hA 0 (by decide +kernel)
    obtain ⟨y1, y2, y3⟩ := q19 rfl
    have hi : isS 19 := ⟨by decide, by decide⟩
    obtain ⟨p1, p2, p3, p4⟩ := pf_st (s := s) (m := m) (K := K) (D := D) (d := d) hi
    rw [p1, p2, p3, p4]
    refine tell_kept B W hi hkd (fun z z1 z2 z3 z4 zf => ?_)
    obtain ⟨τ, t1, t2, t3⟩ := m_tick (σ := z) (a := A 0) hw R.2.1 z1.1 (by omega)
    have g : ∀ b, b ≠ 1 → b ≠ 34 → τ 20 b = z 20 b := fun b h1 h34 => t3 20 b (fun q => q.2.elim h34 h1)
    have hSz : StatM z := hS.fr (z3 19 (by decide) (by decide)) (z3 17 (by decide) (by decide)) (z3 18 (by decide) (by decide))
    rw [tl19, a0]
    refine ok_say t1 (z1.row1 t2 (g 2 (by decide) (by decide)) (g 4 (by decide) (by decide)) (by rw [g 0 (by decide) (by decide)]) (by rw [g 0 (by decide) (by decide)])) (hSz.fr (g 19 (by decide) (by decide)) (g 17 (by decide) (by decide)) (g 18 (by decide) (by decide))) (k := k) ?_ (by omega) ?_ ?_ (zf.tr ⟨?_, ?_, ?_⟩)
    · unfold szM; rw [g 0 (by decide) (by decide), z4 15 (by decide)]; exact hs
    · rw [g 15 (by decide) (by decide), z3 15 (by decide) (by decide)]
    · rw [g 0 (by decide) (by decide), z4 15 (by decide)]
    · intro a ha
      funext b
      exact t3 a b (fun q => ha q.1)
    · intro b h0 h1 _ _ _ h34 _ _ _ _
      exact g b h1 h34
    · intro i _ _ _ _ _ _ _
      rw [g 0 (by decide) (by decide)]
  · subst e
    have y1 := q20 rfl
    have p0 : pfS s 20 = s - 1 := by unfold pfS; rw [if_pos rfl]
    have p1 : pfK m s 20 K = K := by unfold pfK; rw [if_neg (fun z => absurd z.2 (by decide))]
    refine tell_raw (Or.inr (Or.inl rfl)) hkd ?_
    rw [tl20 (Or.inl rfl), p0, p1]
    obtain ⟨τ, t1, t2, t3, t4, t5⟩ := m_undoA B W y1 hkd
    exact ok_say t1 t2 (hS.fr (t4 19 (by decide) (by decide)) (t4 17 (by decide) (by decide)) (t4 18 (by decide) (by decide))) (k := k) (by unfold szM; rw [t5 15 (by decide)]; exact hs) (by omega) (t4 15 (by decide) (by decide)) (t5 15 (by decide)) ⟨t3, fun b h0 h1 _ _ _ _ _ _ _ _ => t4 b h0 h1, fun i h2 _ _ _ _ _ _ => t5 i h2⟩
  · subst e
    have p0 : pfS s 21 = 0 := by unfold pfS; rw [if_neg (by decide), if_neg (fun z => absurd z.2 (by decide))]
    have p1 : pfK m s 21 K = K := by unfold pfK; rw [if_neg (fun z => absurd z.2 (by decide))]
    refine tell_raw (Or.inr (Or.inr (Or.inl rfl))) hkd ?_
    rw [tl20 (Or.inr (Or.inl rfl)), p0, p1]
    obtain ⟨τ, t1, t2, t3, t4, t5⟩ := m_drillA B W hkd
    exact ok_say t1 t2 (hS.fr (t4 19 (by decide) (by decide)) (t4 17 (by decide) (by decide)) (t4 18 (by decide) (by decide))) (k := k) (by unfold szM; rw [t5 15 (by decide) (by decide)]; exact hs) (by omega) (t4 15 (by decide) (by decide)) (t5 15 (by decide) (by decide)) ⟨t3, fun b h0 _ _ h4 _ _ _ _ _ _ => t4 b h0 h4, fun i h2 h5 _ _ _ _ _ => t5 i h2 h5⟩
  · subst e
    have hd1 := q22 rfl
    have p0 : pfS s 22 = 0 := by unfold pfS; rw [if_neg (by decide), if_neg (fun z => absurd z.2 (by decide))]
    have p1 : pfK m s 22 K = K := by unfold pfK; rw [if_neg (fun z => absurd z.2 (by decide))]
    subst hd1
    refine tell_raw (Or.inr (Or.inr (Or.inr rfl))) hkd ?_
    rw [tl20 (Or.inr (Or.inr rfl)), p0, p1]
    obtain ⟨τ, t1, t2, t3, t4, t5⟩ := m_doneA B W hkd
    exact ok_say t1 t2 (hS.fr (t4 19 (by decide) (by decide)) (t4 17 (by decide) (by decide)) (t4 18 (by decide) (by decide))) (k := k) (by unfold szM; rw [t5 15 (by decide) (by decide)]; exact hs) (by omega) (t4 15 (by decide) (by decide)) (t5 15 (by decide) (by decide)) ⟨t3, fun b h0 h1 _ _ _ _ _ _ _ _ => t4 b h0 h1, fun i h2 h5 _ _ _ _ _ => t5 i h2 h5⟩
/-- what is kept sound by a command -/
theorem pf_ok {m : Nat → Int32} {s w a Kk n N dp : Nat} {K : Nat → Nat → Int32} {D : Nat → Int32} {d : Int32} {A : Nat → Nat} {h y : Nat → Int32} (W : AbW m s K D d) (hrf : rfS m s d w A y Kk dp = 0) (hw22 : w ≤ 22) (hA : ∀ i, i < plC w → A i ≤ 99999999) (h13 : w = 13 → Byt h n ∧ tAll h a N ∧ tU h a N = 0 ∧ tP h a N ≤ a + 200) (h15 : w = 15 → ∀ i, i < Kk → ∃ l, 97 ≤ l ∧ l ≤ 122 ∧ y i = nI l) : AbW (pfR m s K D w A y Kk (tV h a) N) (pfS s w) (pfK m s w K) (pfD m w D) (pfd w d) := by
  have R := W.1
  have hw := R.1
  have hww := R.2.2.1
  obtain ⟨q0, q1, q3, q5, q6, q8⟩ := rfS_cases R hrf
  obtain ⟨q9, q11, q12, q13, q14, q15, q16, q17, q19, q20, q22⟩ := rfS_cas2 R W.2.2.2.1 hrf
  have b0 := hw.1.1.2
  by_cases hi : isS w
  · obtain ⟨p1, p2, p3, p4⟩ := pf_st (s := s) (m := m) (K := K) (D := D) (d := d) hi
    rw [p1, p2, p3, p4]
    refine W.keep.row ?_
    have h0 := hi.1
    have h20 := hi.2
    have hcs : w = 1 ∨ w = 2 ∨ w = 3 ∨ w = 4 ∨ w = 5 ∨ w = 6 ∨ w = 7 ∨ w = 8 ∨ w = 9 ∨ w = 10 ∨ w = 11 ∨ w = 12 ∨ w = 13 ∨ w = 14 ∨ w = 15 ∨ w = 16 ∨ w = 17 ∨ w = 18 ∨ w = 19 := by omega
    rcases hcs with e | e | e | e | e | e | e | e | e | e | e | e | e | e | e | e | e | e | e <;> subst e
    · obtain ⟨y1, y2, y3⟩ := q1 (Or.inl rfl)
      exact R.as y3 y1.1 y1.2.1 y1.2.2 y2.1 y2.2 (Or.inl rfl)
    · obtain ⟨y1, y2, y3⟩ := q1 (Or.inr rfl)
      exact R.as y3 y1.1 y1.2.1 y1.2.2 y2.1 y2.2 (Or.inr rfl)
    · exact R.st4 (q3 (Or.inl rfl)) (Or.inl rfl)
    · exact R.st4 (q3 (Or.inr rfl)) (Or.inr rfl)
    · obtain ⟨y1, y2, y3⟩ := q5 rfl
      exact R.au y3 y1 y2
    · obtain ⟨y1, y2⟩ := q6 (Or.inl rfl)
      exact R.oo y1 y2 (Or.inr rfl)
    · obtain ⟨y1, y2⟩ := q6 (Or.inr rfl)
      exact R.oo y1 y2 (Or.inl rfl)
    · obtain ⟨y1, y2, y3⟩ := q8 rfl
      exact R.pt y1 y2 y3
    · obtain ⟨y1, y2, y3, y4⟩ := q9 rfl
      exact R.ca (fun hj => rfCall_0 R y4 hj) y1 y2 y3.1 y3.2
    · exact (sR_ok R (nC m) (Nat.le_refl _)).1
    · obtain ⟨y1, y2, y3⟩ := q11 rfl
      exact R.sd y1 y2 y3
    · exact R.en (q12 rfl)
    · obtain ⟨j1, j2, j3, j4⟩ := h13 rfl
      exact R.kd j1 j2 j3 j4 (q13 rfl)
    · obtain ⟨y1, y2, y3, y4⟩ := q14 rfl
      obtain ⟨sk, rk, s1, r1, r2, e1, e2, e3, e4⟩ := wkV_lf hw hww y2 y3
      have erk : cn (wkV m (A 1) y Kk) % 10 = rk := by rw [e1, cn_nI (by omega)]; omega
      have eP : pfR m s K D 14 A y Kk (tV h a) N = caR m (A 0) sk rk := by
        show caR m (A 0) (cn (wkV m (A 1) y Kk) / 10) (cn (wkV m (A 1) y Kk) % 10) = _
        rw [e4, erk]
      rw [eP]
      rw [e4] at y4
      exact R.ca (fun hj => rfCall_0 R y4 hj) y1 s1 r1 r2
    · obtain ⟨y1, y2⟩ := q15 rfl
      exact R.nm (by omega) y2 (h15 rfl)
    · obtain ⟨y1, y2, y3⟩ := q16 rfl
      exact R.ho y1 y2 y3
    · exact R.aw (q17 rfl) (hA 1 (by decide +kernel)) (hA 2 (by decide +kernel))
    · exact R.sh
    · obtain ⟨y1, y2, y3⟩ := q19 rfl
      obtain ⟨k1, k2, k3, k4⟩ := tickN_ok hw R.2.1 (A 0) (by omega)
      refine ⟨k1, k2, ?_, ?_⟩
      · exact hww.same (fun i hi => k4 i (by omega)) (k4 1 (by omega)) (k4 2 (by omega)) (k4 7 (by omega)) (k4 8 (by omega))
      · show cn (tickN m (A 0) 4) ≤ 1000000
        rw [k3]; exact y3
  · have hcs : w = 0 ∨ w = 20 ∨ w = 21 ∨ w = 22 := by unfold isS at hi; omega
    have p1 : pfK m s w K = K := by unfold pfK; rw [if_neg hi]
    have p0 : w ≠ 20 → pfS s w = 0 := fun h20 => by unfold pfS; rw [if_neg h20, if_neg hi]
    rw [p1]
    rcases hcs with e | e | e | e <;> subst e
    · rw [p0 (by decide)]
      exact ⟨Rok.bg (q0 rfl).1 (q0 rfl).2, by decide, fun k hk => absurd hk (Nat.not_lt_zero k), Or.inl rfl, fun z => absurd (show (0 : Int32) = 1 from z) (by decide)⟩
    · have hs1 := q20 rfl
      have e1 : pfS s 20 = s - 1 := by unfold pfS; rw [if_pos rfl]
      rw [e1]
      have := W.2.1
      exact ⟨W.2.2.1 (s - 1) (by omega), by omega, fun k hk => W.2.2.1 k (by omega), W.2.2.2.1, W.2.2.2.2⟩
    · rw [p0 (by decide)]
      exact ⟨R, by decide, fun k hk => absurd hk (Nat.not_lt_zero k), Or.inr rfl, fun _ => R⟩
    · rw [p0 (by decide)]
      have hd1 := q22 rfl
      exact ⟨W.2.2.2.2 hd1, by decide, fun k hk => absurd hk (Nat.not_lt_zero k), Or.inl rfl, fun z => absurd (show (0 : Int32) = 1 from z) (by decide)⟩
