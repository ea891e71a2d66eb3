/-! S9: doing what is told: the component -/
set_option maxRecDepth 100000
theorem FrPf.app {σ τ : St} {l : List Int32} (f : FrPf σ τ) : FrPf σ (appC τ l) := ⟨fun a h0 h1 h3 h4 h10 h => by rw [appC_g h1]; exact f.1 a h0 h1 h3 h4 h10 h, fun b hb => by rw [appC_g (by decide)]; exact f.2.1 b hb, fun i hi => by rw [appC_g (by decide)]; exact f.2.2 i hi⟩
theorem c_perform {σ : St} {m : Nat → Int32} {s w j a Kk n N k dp : Nat} {K : Nat → Nat → Int32} {D : Nat → Int32} {d : Int32} {A : Nat → Nat} {h y : Nat → Int32} {r : Nat → Int32} (B : AbC σ m s K D d) (W : AbW m s K D d) (hrf : rfS m s d w A y Kk dp = 0) (hw22 : w ≤ 22) (hA : ∀ i, i < plC w → r i = nI (A i) ∧ A i ≤ 99999999) (BT : BtP σ w j a Kk n N h y) (AK : w = 14 → AkC σ m (A 1) y Kk) (hs : szC σ k) (hk : k ≤ 100) : Ret (F_X0_perform (nI w) (r 0) (r 1) (r 2) σ) (PfC σ (pfR m s K D w A y Kk (tV h a) N) (pfS s w) (pfK m s w K) (pfD m w D) (pfd w d) (pfT m w A y Kk)) := by
  have R := W.1
  have hw := R.1
  have hww := R.2.2.1
  obtain ⟨q0, q1, q3, q5, q6, q8⟩ := rfS_cases R hrf
  obtain ⟨q9, q11, q12, q13, q14, q15, q16, q17, q19, q20, q22⟩ := rfS_cas2 R W.2.2.2.1 hrf
  have b0 := hw.1.1.2
  have b1 := hw.2.1.2
  have b2 := hw.2.2.1.2
  have b3 := hw.2.2.2.1.2
  have hcs : w = 0 ∨ w = 1 ∨ w = 2 ∨ w = 3 ∨ w = 4 ∨ w = 5 ∨ w = 6 ∨ w = 7 ∨ w = 8 ∨ w = 9 ∨ w = 10 ∨ w = 11 ∨ w = 12 ∨ w = 13 ∨ w = 14 ∨ w = 15 ∨ w = 16 ∨ w = 17 ∨ w = 18 ∨ w = 19 ∨ w = 20 ∨ w = 21 ∨ w = 22 := by omega
  rcases hcs with e | e | e | e | e | e | e | e | e | e | e | e | e | e | e | e | e | e | e | e | e | e | e
  · subst e
    obtain ⟨a0, -⟩ := hA 0 (by decide +kernel)
    have eF : F_X0_perform (nI 0) (r 0) (r 1) (r 2) σ = ((F_X0_forget σ).bind (fun s1 => some s1)).bind (fun z39 => bindL ((F_X3_begin 3 (r 0) z39).bind (fun s5 => ((zro (0 : Int32)).bind (fun r => nst (up3 s5 0 0 20 r))).bind (fun s6 => some (.inl s6)))) (fun z561 => (F_X1_say (32 : Int32) z561).bind (fun s1038 => some s1038))) := rfl
    have eg : F_X0_forget σ = some (up3 (up3 σ 0 0 18 0) 0 0 19 0) := rfl
    have p0 : pfS s 0 = 0 := by unfold pfS; rw [if_neg (by decide), if_neg (fun z => z.1 rfl)]
    have p1 : pfK m s 0 K = K := by unfold pfK; rw [if_neg (fun z => z.1 rfl)]
    rw [eF, eg, some_b, some_b, a0, p0, p1]
    obtain ⟨h3, -, -, -, h4, h44, h5, hk6⟩ := B
    obtain ⟨τ, t1, t2, t3⟩ := c_begin (σ := up3 (up3 σ 0 0 18 0) 0 0 19 0) (h := 3) (n := A 0) (by rw [up3_g (by decide), up3_g (by decide)]; exact h3.2.2.2)
    have gg : ∀ a, a ≠ 0 → a ≠ 3 → τ a = σ a := fun a ha h3 => by rw [t2 a h3, up3_g ha, up3_g ha]
    have e1 : up3 τ 0 0 20 0 1 = σ 1 := by rw [up3_g (by decide), gg 1 (by decide) (by decide)]
    have hst : szC (up3 τ 0 0 20 0) k := by unfold szC; rw [e1]; exact hs
    rw [t1, some_b, zro_0, some_b, nst_b, bindL_inl, c_sayOk hst (by omega), some_b]
    have A2 : AbC (up3 τ 0 0 20 0) (bgR (A 0)) 0 K D 0 := by
      refine ⟨by rw [up3_g (by decide)]; exact t3, ?_, ⟨0, by decide, ?_, fun k hk => absurd hk (Nat.not_lt_zero k)⟩, up3_same _ _ _ _ _, fun z => absurd z (by decide), ?_, ?_, ?_⟩
      · rw [up3_i (by decide), t2 0 (by decide), up3_i (by decide), up3_same]; rfl
      · rw [up3_i (by decide), t2 0 (by decide), up3_same]; rfl
      · rw [up3_g (by decide), gg 4 (by decide) (by decide)]; exact h44
      · rw [up3_g (by decide), gg 5 (by decide) (by decide)]; exact h5
      · intro k hk
        rw [up3_g (by omega), gg _ (by omega) (by omega)]; exact hk6 k hk
    refine Ret.some ⟨A2.app, ((TxC.rf σ).g e1).app, FrPf.app ⟨?_, ?_, ?_⟩⟩
    · intro a h0 h1 h3 h4 h10 _
      rw [up3_g h0, gg a h0 h3]
    · intro b hb
      rw [up3_j hb, t2 0 (by decide), up3_j hb, up3_j hb]
    · intro i hi
      rw [up3_i (by omega), t2 0 (by decide), up3_i (by omega), up3_i (by omega)]
  · subst e
    obtain ⟨a0, -⟩ := hA 0 (by decide +kernel)
    obtain ⟨a1, -⟩ := hA 1 (by decide +kernel)
    obtain ⟨a2, -⟩ := hA 2 (by decide +kernel)
    obtain ⟨y1, y2, y3⟩ := q1 (Or.inl rfl)
    obtain ⟨p1, p2, p3, p4⟩ := pf_st (s := s) (w := 1) (m := m) (K := K) (D := D) (d := d) ⟨by decide, by decide⟩
    rw [p1, p2, p3, p4, a0, a1, a2]
    exact c_pfOk (X := F_X3_addStreet 3 (nI (A 0)) (nI (A 1)) (nI (A 2)) 0) B W hs (by omega) (fun z hz _ _ _ => c_addStreet hw hww hz y3 (Or.inl rfl))
  · subst e
    obtain ⟨a0, -⟩ := hA 0 (by decide +kernel)
    obtain ⟨a1, -⟩ := hA 1 (by decide +kernel)
    obtain ⟨a2, -⟩ := hA 2 (by decide +kernel)
    obtain ⟨y1, y2, y3⟩ := q1 (Or.inr rfl)
    obtain ⟨p1, p2, p3, p4⟩ := pf_st (s := s) (w := 2) (m := m) (K := K) (D := D) (d := d) ⟨by decide, by decide⟩
    rw [p1, p2, p3, p4, a0, a1, a2]
    exact c_pfOk (X := F_X3_addStreet 3 (nI (A 0)) (nI (A 1)) (nI (A 2)) 1) B W hs (by omega) (fun z hz _ _ _ => c_addStreet hw hww hz y3 (Or.inr rfl))
  · subst e
    obtain ⟨a0, -⟩ := hA 0 (by decide +kernel)
    obtain ⟨p1, p2, p3, p4⟩ := pf_st (s := s) (w := 3) (m := m) (K := K) (D := D) (d := d) ⟨by decide, by decide⟩
    rw [p1, p2, p3, p4, a0]
    exact c_pfOk (X := F_X3_shut 3 (nI (A 0)) 1) B W hs (by omega) (fun z hz _ _ _ => c_shut (v := 0) hw hz (q3 (Or.inl rfl)) (Or.inl rfl))
  · subst e
    obtain ⟨a0, -⟩ := hA 0 (by decide +kernel)
    obtain ⟨p1, p2, p3, p4⟩ := pf_st (s := s) (w := 4) (m := m) (K := K) (D := D) (d := d) ⟨by decide, by decide⟩
    rw [p1, p2, p3, p4, a0]
    exact c_pfOk (X := F_X3_shut 3 (nI (A 0)) 0) B W hs (by omega) (fun z hz _ _ _ => c_shut (v := 1) hw hz (q3 (Or.inr rfl)) (Or.inr rfl))
  · subst e
    obtain ⟨a0, -⟩ := hA 0 (by decide +kernel)
    obtain ⟨a1, -⟩ := hA 1 (by decide +kernel)
    obtain ⟨y1, y2, y3⟩ := q5 rfl
    obtain ⟨p1, p2, p3, p4⟩ := pf_st (s := s) (w := 5) (m := m) (K := K) (D := D) (d := d) ⟨by decide, by decide⟩
    rw [p1, p2, p3, p4, a0, a1]
    exact c_pfOk (X := F_X3_addUnit 3 (nI (A 0)) (nI (A 1))) B W hs (by omega) (fun z hz _ _ _ => c_addUnit hw hww hz y3)
  · subst e
    obtain ⟨a0, -⟩ := hA 0 (by decide +kernel)
    obtain ⟨y1, y2⟩ := q6 (Or.inl rfl)
    obtain ⟨p1, p2, p3, p4⟩ := pf_st (s := s) (w := 6) (m := m) (K := K) (D := D) (d := d) ⟨by decide, by decide⟩
    rw [p1, p2, p3, p4, a0]
    refine c_pfOk (X := fun z => wro z 3 20 6 (nI (A 0)) 4) B W hs (by omega) (fun z hz _ _ _ => ?_)
    rw [wro_nI (by omega) (by decide)]
    exact Ret.some ⟨fun a ha => up3_g ha, HH.oo hw hz y1 (Or.inr rfl)⟩
  · subst e
    obtain ⟨a0, -⟩ := hA 0 (by decide +kernel)
    obtain ⟨y1, y2⟩ := q6 (Or.inr rfl)
    obtain ⟨p1, p2, p3, p4⟩ := pf_st (s := s) (w := 7) (m := m) (K := K) (D := D) (d := d) ⟨by decide, by decide⟩
    rw [p1, p2, p3, p4, a0]
    refine c_pfOk (X := fun z => wro z 3 20 6 (nI (A 0)) 0) B W hs (by omega) (fun z hz _ _ _ => ?_)
    rw [wro_nI (by omega) (by decide)]
    exact Ret.some ⟨fun a ha => up3_g ha, HH.oo hw hz y1 (Or.inl rfl)⟩
  · subst e
    obtain ⟨a0, -⟩ := hA 0 (by decide +kernel)
    obtain ⟨a1, -⟩ := hA 1 (by decide +kernel)
    obtain ⟨y1, y2, y3⟩ := q8 rfl
    obtain ⟨p1, p2, p3, p4⟩ := pf_st (s := s) (w := 8) (m := m) (K := K) (D := D) (d := d) ⟨by decide, by decide⟩
    rw [p1, p2, p3, p4, a0, a1]
    exact c_pfOk (X := F_X0_post (nI (A 0)) (nI (A 1))) B W hs (by omega) (fun z hz _ _ _ => c_post hw hz y1 y2)
  · subst e
    obtain ⟨a0, -⟩ := hA 0 (by decide +kernel)
    obtain ⟨a1, -⟩ := hA 1 (by decide +kernel)
    obtain ⟨a2, -⟩ := hA 2 (by decide +kernel)
    obtain ⟨y1, y2, y3, y4⟩ := q9 rfl
    obtain ⟨p1, p2, p3, p4⟩ := pf_st (s := s) (w := 9) (m := m) (K := K) (D := D) (d := d) ⟨by decide, by decide⟩
    have eF : F_X0_perform (nI 9) (r 0) (r 1) (r 2) σ = ((F_X0_keep σ).bind (fun s2 => some s2)).bind (fun z39 => bindL ((F_X0_call (r 0) (r 1) (r 2) z39).bind (fun s15 => some (.inr s15))) (fun z561 => (F_X1_say (32 : Int32) z561).bind (fun s1038 => some s1038))) := rfl
    rw [eF, p1, p2, p3, p4, a0, a1, a2]
    refine c_kept B W (fun z z1 z2 z3 zf => ?_)
    have hsz : szC z k := by unfold szC; rw [z2 1 (by decide) (by decide)]; exact hs
    obtain ⟨τ, t1, t2, t3, t4⟩ := c_call (p := A 0) (d := A 1) (r := A 2) hw z1.1 hsz (by omega) y3.2 (fun hj => (rfCall_0 R y4 hj).1)
    rw [t1, some_b, bindL_inr]
    refine Ret.some ⟨z1.row' t3 t4, ?_, zf.tr (FrPf.g3 (fun a h1 h3 _ _ => t4 a h1 h3))⟩
    exact (show τ 1 = _ from t2).trans (appC_1' (z2 1 (by decide) (by decide)))
  · subst e
    obtain ⟨p1, p2, p3, p4⟩ := pf_st (s := s) (w := 10) (m := m) (K := K) (D := D) (d := d) ⟨by decide, by decide⟩
    have eF : F_X0_perform (nI 10) (r 0) (r 1) (r 2) σ = ((F_X0_keep σ).bind (fun s2 => some s2)).bind (fun z39 => bindL ((F_X8_plan 3 (0 : Int32) z39).bind (fun s16 => (F_X8_tell 3 s16).bind (fun s17 => (F_X8_send 3 s17).bind (fun s18 => some (.inr s18))))) (fun z561 => (F_X1_say (32 : Int32) z561).bind (fun s1038 => some s1038))) := rfl
    rw [eF, p1, p2, p3, p4]
    refine c_kept B W (fun z z1 z2 z3 zf => ?_)
    have hsz : szC z k := by unfold szC; rw [z2 1 (by decide) (by decide)]; exact hs
    obtain ⟨τ1, t1, t2, t3, t4, t5⟩ := c_plan (h := 3) (du := 0) (by decide) R z1.1 (Or.inl rfl)
    have hs1 : szC τ1 k := by unfold szC; rw [t3.g (by decide) (by decide)]; exact hsz
    obtain ⟨τ2, u1, u2, u3, u4⟩ := c_planTell (h := 3) (by decide) (by decide) R t2 t4 hs1 (by omega)
    have P2 : PR τ2 m := by
      have e10 : τ2 10 = τ1 10 := u3.g (by decide) (by decide)
      unfold PR PL PW
      rw [e10]
      exact t4
    obtain ⟨τ3, v1, v2, v3⟩ := c_send (h := 3) (by decide) R u2 P2
    rw [t1, some_b, u1, some_b, v1, some_b, bindL_inr]
    have gg : ∀ a, a ≠ 1 → a ≠ 3 → a ≠ 10 → τ3 a = z a := fun a h1 h3 h10 => by rw [v2 a h3, u3.g h3 h1, t3.g h3 h10]
    refine Ret.some ⟨z1.row v3 (gg 4 (by decide) (by decide) (by decide)) (gg 5 (by decide) (by decide) (by decide)) (fun k hk => gg _ (by omega) (by omega) (by omega)) (fun i _ _ => by rw [gg 0 (by decide) (by decide) (by decide)]), ?_, zf.tr (FrPf.g3 (fun a h1 h3 _ h10 => gg a h1 h3 h10))⟩
    have e1 : τ1 1 = σ 1 := by rw [t3.g (by decide) (by decide), z2 1 (by decide) (by decide)]
    show τ3 1 = _
    rw [v2 1 (by decide)]
    exact (show τ2 1 = _ from u4).trans (appC_1' e1)
  · subst e
    obtain ⟨a0, -⟩ := hA 0 (by decide +kernel)
    obtain ⟨a1, -⟩ := hA 1 (by decide +kernel)
    obtain ⟨y1, y2, y3⟩ := q11 rfl
    obtain ⟨p1, p2, p3, p4⟩ := pf_st (s := s) (w := 11) (m := m) (K := K) (D := D) (d := d) ⟨by decide, by decide⟩
    rw [p1, p2, p3, p4, a0, a1]
    exact c_pfOk (X := F_X3_sends 3 (nI (A 0)) (nI (A 1))) B W hs (by omega) (fun z hz _ _ _ => c_sends hw hz y1 y2 y3)
  · subst e
    obtain ⟨a0, -⟩ := hA 0 (by decide +kernel)
    obtain ⟨p1, p2, p3, p4⟩ := pf_st (s := s) (w := 12) (m := m) (K := K) (D := D) (d := d) ⟨by decide, by decide⟩
    rw [p1, p2, p3, p4, a0]
    exact c_pfOk (X := F_X3_end 3 (nI (A 0))) B W hs (by omega) (fun z hz _ _ _ => c_end hw hz (q12 rfl))
  · subst e
    obtain ⟨p1, p2, p3, p4⟩ := pf_st (s := s) (w := 13) (m := m) (K := K) (D := D) (d := d) ⟨by decide, by decide⟩
    obtain ⟨j0, j6, j13, j14, j15, j16, j17, j18, j19, j20, j21, j22⟩ := BT.2.2 rfl
    have t31 : sTx 31 = aTx 29 := tx_eq (31, 29) (by decide)
    have hl := tx_len 29 (by decide)
    have b7 := hw.2.2.2.2.2.1.2
    have eF : F_X0_perform (nI 13) (r 0) (r 1) (r 2) σ = ((F_X0_keep σ).bind (fun s2 => some s2)).bind (fun z39 => bindL ((F_X1_say (31 : Int32) z39).bind (fun s21 => (dyb (s21 2 0 6)).bind (fun j22 => (F_X3_addKind 3 j22 (s21 2 0 13) ((s21 2 0 14) - (s21 2 0 13)) s21).bind (fun q23 => (F_X1_number q23.1 q23.2).bind (fun s26 => some (.inr s26)))))) (fun z561 => (F_X1_say (32 : Int32) z561).bind (fun s1038 => some s1038))) := rfl
    rw [eF, p1, p2, p3, p4]
    refine c_kept B W (fun z z1 z2 z3 zf => ?_)
    have hsz : szC z k := by unfold szC; rw [z2 1 (by decide) (by decide)]; exact hs
    have g2 : appC z (sTx 31) 2 = σ 2 := by rw [appC_g (by decide), z2 2 (by decide) (by decide)]
    rw [show (31 : Int32) = nI 31 from rfl, f_sayC (by decide) hsz (by rw [t31]; omega), some_b, g2, j6, dyb_nI j0, some_b, j13, j14, nI_sub j15]
    have g0 : ∀ b, b ≠ 0 → appC z (sTx 31) 0 b = σ 0 b := fun b hb => by rw [appC_g (by decide), z3 b hb]
    obtain ⟨q, t1, t2, t3, t4⟩ := c_addKind (σ := appC z (sTx 31)) (g := 3) (j := j) (h := h) (n := n) (a := a) (N := N) R (by rw [appC_g (by decide)]; exact z1.1) (by decide) j18 j16 (by rw [g0 j (by omega)]; exact j19) j20 j21 j22 j17 j15 (q13 rfl)
    have hs2 : szC q.2 (k + (aTx 29).length) := by unfold szC; rw [t3 1 (by decide), ← t31]; exact appC_sz hsz
    rw [t1, some_b, t2, f_numberC (okN_nI (by omega)) hs2 (by omega), some_b, bindL_inr]
    have hT : TxC σ (appC z (sTx 31)) (aTx 29) := by rw [t31]; exact ((TxC.rf σ).g (z2 1 (by decide) (by decide))).app
    refine Ret.some ⟨(z1.app.row' t4 (fun a h1 h3 => t3 a h3)).app, ?_, FrPf.app (zf.tr (FrPf.g3 (fun a h1 h3 _ _ => by rw [t3 a h3, appC_g h1])))⟩
    exact (hT.g (t3 1 (by decide))).app
  · subst e
    obtain ⟨a0, -⟩ := hA 0 (by decide +kernel)
    obtain ⟨y1, y2, y3, y4⟩ := q14 rfl
    obtain ⟨p1, p2, p3, p4⟩ := pf_st (s := s) (w := 14) (m := m) (K := K) (D := D) (d := d) ⟨by decide, by decide⟩
    obtain ⟨k1, k2⟩ := AK rfl
    obtain ⟨sk, rk, s1, r1, r2, e1, e2, e3, e4⟩ := wkV_lf hw hww y2 y3
    have erk : cn (wkV m (A 1) y Kk) % 10 = rk := by rw [e1, cn_nI (by omega)]; omega
    have eF : F_X0_perform (nI 14) (r 0) (r 1) (r 2) σ = ((F_X0_keep σ).bind (fun s2 => some s2)).bind (fun z39 => bindL ((F_X0_call (r 0) (z39 6 0 1) (z39 6 0 2) z39).bind (fun s15 => some (.inr s15))) (fun z561 => (F_X1_say (32 : Int32) z561).bind (fun s1038 => some s1038))) := rfl
    have eP : pfR m s K D 14 A y Kk (tV h a) N = caR m (A 0) sk rk := by
      show caR m (A 0) (cn (wkV m (A 1) y Kk) / 10) (cn (wkV m (A 1) y Kk) % 10) = _
      rw [e4, erk]
    have eT : pfT m 14 A y Kk = caT m (A 0) sk := by
      show caT m (A 0) (cn (wkV m (A 1) y Kk) / 10) = _
      rw [e4]
    rw [eF, p1, p2, p3, p4, a0, eP, eT]
    refine c_kept B W (fun z z1 z2 z3 zf => ?_)
    have hsz : szC z k := by unfold szC; rw [z2 1 (by decide) (by decide)]; exact hs
    have z61 : z 6 0 1 = nI sk := by rw [z2 6 (by decide) (by decide), k1, e2]
    have z62 : z 6 0 2 = nI rk := by rw [z2 6 (by decide) (by decide), k2, e3]
    rw [e4] at y4
    obtain ⟨τ, t1, t2, t3, t4⟩ := c_call (p := A 0) (d := sk) (r := rk) hw z1.1 hsz (by omega) r2 (fun hj => (rfCall_0 R y4 hj).1)
    rw [z61, z62, t1, some_b, bindL_inr]
    refine Ret.some ⟨z1.row' t3 t4, ?_, zf.tr (FrPf.g3 (fun a h1 h3 _ _ => t4 a h1 h3))⟩
    exact (show τ 1 = _ from t2).trans (appC_1' (z2 1 (by decide) (by decide)))
  · subst e
    obtain ⟨a0, -⟩ := hA 0 (by decide +kernel)
    obtain ⟨y1, y2⟩ := q15 rfl
    obtain ⟨j0, j6, j13, j14, j15, j16⟩ := BT.1 (Or.inr rfl)
    have jl := BT.2.1 rfl
    obtain ⟨p1, p2, p3, p4⟩ := pf_st (s := s) (w := 15) (m := m) (K := K) (D := D) (d := d) ⟨by decide, by decide⟩
    rw [p1, p2, p3, p4, a0]
    have eF : ∀ z39 : St, ((dyb (z39 2 0 6)).bind (fun j28 => (F_X3_setName 3 (nI (A 0)) j28 (z39 2 0 13) ((z39 2 0 14) - (z39 2 0 13)) z39).bind (fun s29 => (some (.inl s29) : Option (St ⊕ St))))) = (((dyb (z39 2 0 6)).bind (fun j28 => F_X3_setName 3 (nI (A 0)) j28 (z39 2 0 13) ((z39 2 0 14) - (z39 2 0 13)) z39)).bind (fun s29 => some (.inl s29))) := by
      intro z39
      cases dyb (z39 2 0 6) <;> rfl
    have eF2 : F_X0_perform (nI 15) (nI (A 0)) (r 1) (r 2) σ = ((F_X0_keep σ).bind (fun s2 => some s2)).bind (fun z39 => bindL (((dyb (z39 2 0 6)).bind (fun j28 => F_X3_setName 3 (nI (A 0)) j28 (z39 2 0 13) ((z39 2 0 14) - (z39 2 0 13)) z39)).bind (fun s29 => some (.inl s29))) (fun z561 => (F_X1_say (32 : Int32) z561).bind (fun s1038 => some s1038))) := by
      have : F_X0_perform (nI 15) (nI (A 0)) (r 1) (r 2) σ = ((F_X0_keep σ).bind (fun s2 => some s2)).bind (fun z39 => bindL ((dyb (z39 2 0 6)).bind (fun j28 => (F_X3_setName 3 (nI (A 0)) j28 (z39 2 0 13) ((z39 2 0 14) - (z39 2 0 13)) z39).bind (fun s29 => some (.inl s29)))) (fun z561 => (F_X1_say (32 : Int32) z561).bind (fun s1038 => some s1038))) := rfl
      rw [this]
      congr 1
      funext z39
      rw [eF]
    rw [eF2]
    refine c_pfOk (X := fun z39 => (dyb (z39 2 0 6)).bind (fun j28 => F_X3_setName 3 (nI (A 0)) j28 (z39 2 0 13) ((z39 2 0 14) - (z39 2 0 13)) z39)) B W hs (by omega) (fun z hz h2 _ h0 => ?_)
    rw [h2, j6, dyb_nI j0, some_b, j13, j14, nI_sub (by omega), Nat.add_sub_cancel_left]
    exact c_setName hw hww hz (by decide) (by omega) y2 j15 (fun i hi => ⟨jl i hi, by rw [h0 j (by omega)]; exact j16 i hi⟩)
  · subst e
    obtain ⟨a0, -⟩ := hA 0 (by decide +kernel)
    obtain ⟨a1, -⟩ := hA 1 (by decide +kernel)
    obtain ⟨a2, -⟩ := hA 2 (by decide +kernel)
    obtain ⟨y1, y2, y3⟩ := q16 rfl
    obtain ⟨p1, p2, p3, p4⟩ := pf_st (s := s) (w := 16) (m := m) (K := K) (D := D) (d := d) ⟨by decide, by decide⟩
    rw [p1, p2, p3, p4, a0, a1, a2]
    exact c_pfOk (X := F_X3_keepHours 3 (nI (A 0)) (nI (A 1)) (nI (A 2))) B W hs (by omega) (fun z hz _ _ _ => c_keepHours hw hz y1 y2 y3)
  · subst e
    obtain ⟨a0, -⟩ := hA 0 (by decide +kernel)
    obtain ⟨a1, a1'⟩ := hA 1 (by decide +kernel)
    obtain ⟨a2, a2'⟩ := hA 2 (by decide +kernel)
    have y1 := q17 rfl
    obtain ⟨p1, p2, p3, p4⟩ := pf_st (s := s) (w := 17) (m := m) (K := K) (D := D) (d := d) ⟨by decide, by decide⟩
    rw [p1, p2, p3, p4, a0, a1, a2]
    have eF : F_X0_perform (nI 17) (nI (A 0)) (nI (A 1)) (nI (A 2)) σ = ((F_X0_keep σ).bind (fun s2 => some s2)).bind (fun z39 => bindL (((wro z39 3 8 6 (nI (A 0)) (nI (A 1))).bind (fun s31 => wro s31 3 9 6 (nI (A 0)) (nI (A 2)))).bind (fun s32 => some (.inl s32))) (fun z561 => (F_X1_say (32 : Int32) z561).bind (fun s1038 => some s1038))) := by
      have : F_X0_perform (nI 17) (nI (A 0)) (nI (A 1)) (nI (A 2)) σ = ((F_X0_keep σ).bind (fun s2 => some s2)).bind (fun z39 => bindL ((wro z39 3 8 6 (nI (A 0)) (nI (A 1))).bind (fun s31 => (wro s31 3 9 6 (nI (A 0)) (nI (A 2))).bind (fun s32 => some (.inl s32)))) (fun z561 => (F_X1_say (32 : Int32) z561).bind (fun s1038 => some s1038))) := rfl
      rw [this]
      congr 1
      funext z39
      cases wro z39 3 8 6 (nI (A 0)) (nI (A 1)) <;> rfl
    rw [eF]
    refine c_pfOk (X := fun z39 => (wro z39 3 8 6 (nI (A 0)) (nI (A 1))).bind (fun s31 => wro s31 3 9 6 (nI (A 0)) (nI (A 2)))) B W hs (by omega) (fun z hz _ _ _ => ?_)
    rw [wro_nI (by omega) (by decide), some_b, wro_nI (by omega) (by decide)]
    exact Ret.some ⟨fun a ha => by rw [up3_g ha, up3_g ha], HH.aw hw hz y1 (by omega) (by omega)⟩
  · subst e
    obtain ⟨p1, p2, p3, p4⟩ := pf_st (s := s) (w := 18) (m := m) (K := K) (D := D) (d := d) ⟨by decide, by decide⟩
    rw [p1, p2, p3, p4]
    exact c_pfOk (X := F_X3_shift 3) B W hs (by omega) (fun z hz _ _ _ => c_shift hw hww hz)
  · subst e
    obtain ⟨a0, -⟩ := hA 0 (by decide +kernel)
    obtain ⟨y1, y2, y3⟩ := q19 rfl
    obtain ⟨p1, p2, p3, p4⟩ := pf_st (s := s) (w := 19) (m := m) (K := K) (D := D) (d := d) ⟨by decide, by decide⟩
    rw [p1, p2, p3, p4, a0]
    refine c_pfOk (X := fun z39 => iter (fun z => B_X0_perform_497 (nI (A 0)) z.1 z.2) ((0 : Int32), z39)) B W hs (by omega) (fun z hz _ _ _ => ?_)
    obtain ⟨τ, t1, t2⟩ := c_tick (σ := z) (h := 3) (a := A 0) hw R.2.1 hz.1 hz.2.1 (by omega) (f := fun z => B_X0_perform_497 (nI (A 0)) z.1 z.2) (fun c s => rfl)
    have ok := tickN_ok hw R.2.1 (A 0) (by omega)
    refine ⟨τ, t1, fun a ha => t2.2.2.1 a ha, t2.1, t2.2.1, ?_, ?_⟩
    · exact hz.2.2.1.same (fun i hi => ok.2.2.2 i (by omega)) (ok.2.2.2 7 (by omega)) (ok.2.2.2 8 (by omega)) (fun j h1 h2 => t2.2.2.2 _ h1 h2)
    · exact hz.2.2.2.same (fun j h1 h2 => t2.2.2.2 _ h1 h2)
  · subst e
    have y1 := q20 rfl
    have eF : F_X0_perform (nI 20) (r 0) (r 1) (r 2) σ = bindL ((F_X0_undo σ).bind (fun s1035 => some (.inl s1035))) (fun z561 => (F_X1_say (32 : Int32) z561).bind (fun s1038 => some s1038)) := rfl
    have p0 : pfS s 20 = s - 1 := by unfold pfS; rw [if_pos rfl]
    have p1 : pfK m s 20 K = K := by unfold pfK; rw [if_neg (fun z => absurd z.2 (by decide))]
    rw [eF, p0, p1]
    obtain ⟨τ, t1, t2, t3, t4, t5⟩ := c_undoA B W y1
    have ht1 : τ 1 = σ 1 := t3 1 (by decide) (by decide)
    have hst : szC τ k := by unfold szC; rw [ht1]; exact hs
    rw [t1, some_b, bindL_inl, c_sayOk hst (by omega), some_b]
    exact Ret.some ⟨t2.app, ((TxC.rf σ).g ht1).app, FrPf.app ⟨fun a h0 h1 h3 h4 h10 _ => t3 a h0 h3, t4, fun i hi => t5 i (by omega) (by omega)⟩⟩
  · subst e
    have eF : F_X0_perform (nI 21) (r 0) (r 1) (r 2) σ = ((F_X0_forget σ).bind (fun s1 => some s1)).bind (fun z39 => bindL ((F_X3_take 4 3 z39).bind (fun s1036 => ((zro (1 : Int32)).bind (fun r => nst (up3 s1036 0 0 20 r))).bind (fun s1037 => some (.inl s1037)))) (fun z561 => (F_X1_say (32 : Int32) z561).bind (fun s1038 => some s1038))) := rfl
    have eg : F_X0_forget σ = some (up3 (up3 σ 0 0 18 0) 0 0 19 0) := rfl
    have p0 : pfS s 21 = 0 := by unfold pfS; rw [if_neg (by decide), if_neg (fun z => absurd z.2 (by decide))]
    have p1 : pfK m s 21 K = K := by unfold pfK; rw [if_neg (fun z => absurd z.2 (by decide))]
    rw [eF, eg, some_b, some_b, p0, p1]
    obtain ⟨h3, -, -, -, h4, h44, h5, hk6⟩ := B
    obtain ⟨τ, t1, t2, t3⟩ := c_take (σ := up3 (up3 σ 0 0 18 0) 0 0 19 0) (h := 4) (o := 3) (m := m) (by decide) hw hww (by rw [up3_g (by decide), up3_g (by decide)]; exact h3) (by rw [up3_g (by decide), up3_g (by decide)]; exact h44)
    have gg : ∀ a, a ≠ 0 → a ≠ 4 → τ a = σ a := fun a ha h3 => by rw [t2 a h3, up3_g ha, up3_g ha]
    have e1 : up3 τ 0 0 20 1 1 = σ 1 := by rw [up3_g (by decide), gg 1 (by decide) (by decide)]
    have hst : szC (up3 τ 0 0 20 1) k := by unfold szC; rw [e1]; exact hs
    rw [t1, some_b, zro_1, some_b, nst_b, bindL_inl, c_sayOk hst (by omega), some_b]
    have A2 : AbC (up3 τ 0 0 20 1) m 0 K m 1 := by
      refine ⟨by rw [up3_g (by decide), gg 3 (by decide) (by decide)]; exact h3, ?_, ⟨0, by decide, ?_, fun k hk => absurd hk (Nat.not_lt_zero k)⟩, up3_same _ _ _ _ _, fun _ => by rw [up3_g (by decide)]; exact t3, ?_, ?_, ?_⟩
      · rw [up3_i (by decide), t2 0 (by decide), up3_i (by decide), up3_same]; rfl
      · rw [up3_i (by decide), t2 0 (by decide), up3_same]; rfl
      · rw [up3_g (by decide)]; exact t3.2.2.2
      · rw [up3_g (by decide), gg 5 (by decide) (by decide)]; exact h5
      · intro k hk
        rw [up3_g (by omega), gg _ (by omega) (by omega)]; exact hk6 k hk
    refine Ret.some ⟨A2.app, ((TxC.rf σ).g e1).app, FrPf.app ⟨?_, ?_, ?_⟩⟩
    · intro a h0 h1 h3 h4 h10 _
      rw [up3_g h0, gg a h0 h4]
    · intro b hb
      rw [up3_j hb, t2 0 (by decide), up3_j hb, up3_j hb]
    · intro i hi
      rw [up3_i (by omega), t2 0 (by decide), up3_i (by omega), up3_i (by omega)]
  · subst e
    have hd1 := q22 rfl
    have eF : F_X0_perform (nI 22) (r 0) (r 1) (r 2) σ = ((F_X0_forget σ).bind (fun s1 => some s1)).bind (fun z39 => bindL ((F_X3_take 3 4 z39).bind (fun s3 => ((zro (0 : Int32)).bind (fun r => nst (up3 s3 0 0 20 r))).bind (fun s4 => some (.inl s4)))) (fun z561 => (F_X1_say (32 : Int32) z561).bind (fun s1038 => some s1038))) := rfl
    have eg : F_X0_forget σ = some (up3 (up3 σ 0 0 18 0) 0 0 19 0) := rfl
    have p0 : pfS s 22 = 0 := by unfold pfS; rw [if_neg (by decide), if_neg (fun z => absurd z.2 (by decide))]
    have p1 : pfK m s 22 K = K := by unfold pfK; rw [if_neg (fun z => absurd z.2 (by decide))]
    rw [eF, eg, some_b, some_b, p0, p1]
    obtain ⟨h3, -, -, -, h4, h44, h5, hk6⟩ := B
    have RD := W.2.2.2.2 hd1
    obtain ⟨τ, t1, t2, t3⟩ := c_take (σ := up3 (up3 σ 0 0 18 0) 0 0 19 0) (h := 3) (o := 4) (m := D) (by decide) RD.1 RD.2.2.1 (by rw [up3_g (by decide), up3_g (by decide)]; exact h4 hd1) (by rw [up3_g (by decide), up3_g (by decide)]; exact h3.2.2.2)
    have gg : ∀ a, a ≠ 0 → a ≠ 3 → τ a = σ a := fun a ha h3 => by rw [t2 a h3, up3_g ha, up3_g ha]
    have e1 : up3 τ 0 0 20 0 1 = σ 1 := by rw [up3_g (by decide), gg 1 (by decide) (by decide)]
    have hst : szC (up3 τ 0 0 20 0) k := by unfold szC; rw [e1]; exact hs
    rw [t1, some_b, zro_0, some_b, nst_b, bindL_inl, c_sayOk hst (by omega), some_b]
    have A2 : AbC (up3 τ 0 0 20 0) D 0 K D 0 := by
      refine ⟨by rw [up3_g (by decide)]; exact t3, ?_, ⟨0, by decide, ?_, fun k hk => absurd hk (Nat.not_lt_zero k)⟩, up3_same _ _ _ _ _, fun z => absurd z (by decide), ?_, ?_, ?_⟩
      · rw [up3_i (by decide), t2 0 (by decide), up3_i (by decide), up3_same]; rfl
      · rw [up3_i (by decide), t2 0 (by decide), up3_same]; rfl
      · rw [up3_g (by decide), gg 4 (by decide) (by decide)]; exact h44
      · rw [up3_g (by decide), gg 5 (by decide) (by decide)]; exact h5
      · intro k hk
        rw [up3_g (by omega), gg _ (by omega) (by omega)]; exact hk6 k hk
    refine Ret.some ⟨A2.app, ((TxC.rf σ).g e1).app, FrPf.app ⟨?_, ?_, ?_⟩⟩
    · intro a h0 h1 h3 h4 h10 _
      rw [up3_g h0, gg a h0 h3]
    · intro b hb
      rw [up3_j hb, t2 0 (by decide), up3_j hb, up3_j hb]
    · intro i hi
      rw [up3_i (by omega), t2 0 (by decide), up3_i (by omega), up3_i (by omega)]
