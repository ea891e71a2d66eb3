/-! S7: the component's planner: looking, filling, choosing -/
set_option maxRecDepth 100000
theorem HH.frK {σ τ : St} {h : Nat} {m : Nat → Int32} (H : HH (σ h) m) (F : FrK σ τ h) (K : KnC (τ h) m) : HH (τ h) m := ⟨H.1.frK F, K, H.2.2.1.same (fun _ _ => rfl) rfl rfl (fun j h1 h2 => F.j (by omega) (by omega)), H.2.2.2.same (fun j h1 h2 => F.j (by omega) (by omega))⟩
theorem c_wayH {σ : St} {h u p : Nat} {m : Nat → Int32} (hw : WF m) (H : HH (σ h) m) (hu : u < cn (m 2)) (hp : p < cn (m 0)) : Ret (F_X3_way h (nI u) (nI p) σ) (fun r => r.1 = nI (wyN m u p) ∧ HH (r.2 h) m ∧ FrK σ r.2 h) := by
  refine Ret.mono (c_way hw H.1 H.2.1 hu hp) ?_
  rintro r ⟨r1, r2, r3⟩
  exact ⟨r1, H.frK r2 r3, r2⟩
/-- a house's cache and the planner's group may change -/
def FrA (σ τ : St) (h g : Nat) : Prop := ∀ a b i, a ≠ g → ¬ (a = h ∧ b = 28) → ¬ (a = h ∧ b = 0 ∧ i = 37) → τ a b i = σ a b i
theorem FrA.rf (σ : St) (h g : Nat) : FrA σ σ h g := fun _ _ _ _ _ _ => rfl
theorem FrA.tr {σ τ υ : St} {h g : Nat} (a : FrA σ τ h g) (b : FrA τ υ h g) : FrA σ υ h g := fun x y i h1 h2 h3 => (b x y i h1 h2 h3).trans (a x y i h1 h2 h3)
theorem FrA.k {σ τ υ : St} {h g : Nat} (a : FrA σ τ h g) (b : FrK τ υ h) : FrA σ υ h g := fun x y i h1 h2 h3 => (b x y h2 i h3).trans (a x y i h1 h2 h3)
theorem FrA.up {σ τ : St} {h g j i : Nat} {v : Int32} (a : FrA σ τ h g) : FrA σ (up3 τ g j i v) h g := fun x y z h1 h2 h3 => by rw [up3_g h1]; exact a x y z h1 h2 h3
theorem FrA.g {σ τ : St} {h g a : Nat} (f : FrA σ τ h g) (h1 : a ≠ h) (h2 : a ≠ g) : τ a = σ a := by
  funext b i
  exact f a b i h2 (fun z => h1 z.1) (fun z => h1 z.1)
theorem FrP.toA {σ τ : St} {h g J ci : Nat} (f : FrP σ τ g J ci) : FrA σ τ h g := fun a b i h1 _ _ => f a b i (fun z => h1 z.1)
theorem FrP.g {σ τ : St} {g J ci a : Nat} (f : FrP σ τ g J ci) (h : a ≠ g) : τ a = σ a := by
  funext b i
  exact f a b i (fun z => h z.1)
/-- the planner's lists -/
def PL (σ : St) (m : Nat → Int32) : Prop := σ 10 0 6 = nI (nU m) ∧ σ 10 0 7 = nI (nC m) ∧ (∀ i, i < nU m → σ 10 1 i = nI (fr m i)) ∧ ∀ j, j < nC m → σ 10 2 j = nI (wt m j)
def PW (σ : St) (m : Nat → Int32) : Prop := ∀ i j, i < nU m → j < nC m → σ 10 3 (6 * i + j) = wI m i j
theorem PL.fr {σ τ : St} {m : Nat → Int32} (P : PL σ m) (e6 : τ 10 0 6 = σ 10 0 6) (e7 : τ 10 0 7 = σ 10 0 7) (e1 : τ 10 1 = σ 10 1) (e2 : τ 10 2 = σ 10 2) : PL τ m := by
  unfold PL
  rw [e6, e7, e1, e2]
  exact P
theorem c_look {σ : St} {h : Nat} {m : Nat → Int32} (hh : h ≠ 10) (R : Rok m) (H : HH (σ h) m) : Ret (F_X8_look h σ) (fun τ => HH (τ h) m ∧ FrA σ τ h 10 ∧ PL τ m ∧ PW τ m) := by
  have hw := R.1
  have h2 := hw.2.2.1
  have h3 := hw.2.2.2.1
  have b2 := h2.2
  have b3 := h3.2
  have u6 := nU_6 R
  have c6 := nC_6 R
  unfold F_X8_look
  rw [nst_b, nst_b]
  have z6 : up3 (up3 σ 10 0 6 0) 10 0 7 0 10 0 6 = 0 := by rw [up3_i (by decide), up3_same]
  have z7 : up3 (up3 σ 10 0 6 0) 10 0 7 0 10 0 7 = 0 := up3_same _ _ _ _ _
  have F0 : FrA σ (up3 (up3 σ 10 0 6 0) 10 0 7 0) h 10 := ((FrA.rf σ h 10).up).up
  have H0 : HH (up3 (up3 σ 10 0 6 0) 10 0 7 0 h) m := by rw [up3_g hh, up3_g hh]; exact H
  generalize up3 (up3 σ 10 0 6 0) 10 0 7 0 = ρ at z6 z7 F0 H0
  have z30 : ρ h 0 30 = nI (cn (m 2)) := H0.1.1.2.2.1.trans h2.1
  have z31 : ρ h 0 31 = nI (cn (m 3)) := H0.1.1.2.2.2.1.trans h3.1
  refine Ret.bind (lp_coll (σ := ρ) (g := 10) (ci := 6) (J := 1) (n := cn (m 2)) (p := frU m) (by decide) z6 ?_ ?_) ?_
  · intro k τ hk F e
    have Hk : HH (τ h) m := by rw [F.g hh]; exact H0
    have hl := flt_mono (p := frU m) (k := k + 1) (n := cn (m 2)) (by omega)
    show B_X8_look_12 h (nI k) τ = _
    unfold B_X8_look_12
    rw [F.g hh, z30, if_pos (nI_lt hk (by omega)), c_isFree hw Hk.1 hk, some_b]
    by_cases q : frU m k
    · have : (flt (frU m) k).length < 6 := by
        rw [flt_pos q, List.length_append] at hl
        have h1 : [k].length = 1 := rfl
        have h5 : nU m ≤ 6 := u6
        have h6 : nU m = (flt (frU m) (cn (m 2))).length := rfl
        omega
      rw [if_pos q, if_neg (by decide), nst_b, e, nI_1, wro_nI this (by decide), some_b, nI_1, if_pos q]
    · rw [if_neg q, if_pos rfl, nI_1, if_neg q]
  · intro τ F
    show B_X8_look_12 h (nI (cn (m 2))) τ = _
    unfold B_X8_look_12
    rw [F.g hh, z30, if_neg (nI_nlt (Nat.le_refl _) (by omega))]
  rintro τ1 ⟨F1, e61, l1⟩
  have H1 : HH (τ1 h) m := by rw [F1.g hh]; exact H0
  have z71 : τ1 10 0 7 = 0 := by rw [F1 10 0 7 (by omega)]; exact z7
  have z311 : τ1 h 0 31 = nI (cn (m 3)) := by rw [F1.g hh]; exact z31
  refine Ret.bind (lp_coll (σ := τ1) (g := 10) (ci := 7) (J := 2) (n := cn (m 3)) (p := wtC m) (by decide) z71 ?_ ?_) ?_
  · intro k τ hk F e
    have Hk : HH (τ h) m := by rw [F.g hh]; exact H1
    have hl := flt_mono (p := wtC m) (k := k + 1) (n := cn (m 3)) (by omega)
    show B_X8_look_53 h (nI k) τ = _
    unfold B_X8_look_53
    rw [F.g hh, z311, if_pos (nI_lt hk (by omega)), c_waits hw Hk.1 (by omega), some_b]
    by_cases q : wtC m k
    · have : (flt (wtC m) k).length < 6 := by
        rw [flt_pos q, List.length_append] at hl
        have h1 : [k].length = 1 := rfl
        have h5 : nC m ≤ 6 := c6
        have h6 : nC m = (flt (wtC m) (cn (m 3))).length := rfl
        omega
      rw [wtI_pos q, if_neg (by decide), nst_b, e, nI_1, wro_nI this (by decide), some_b, nI_1, if_pos q]
    · rw [wtI_neg q, if_pos rfl, nI_1, if_neg q]
  · intro τ F
    show B_X8_look_53 h (nI (cn (m 3))) τ = _
    unfold B_X8_look_53
    rw [F.g hh, z311, if_neg (nI_nlt (Nat.le_refl _) (by omega))]
  rintro τ2 ⟨F2, e72, l2⟩
  have H2 : HH (τ2 h) m := by rw [F2.g hh]; exact H1
  have P2 : PL τ2 m := ⟨by rw [F2 10 0 6 (by omega)]; exact e61, e72, fun i hi => by rw [F2 10 1 i (by omega)]; exact l1 i hi, l2⟩
  have A2 : FrA σ τ2 h 10 := (F0.tr F1.toA).tr F2.toA
  refine Ret.bind (Q := fun τ => HH (τ h) m ∧ FrA σ τ h 10 ∧ PL τ m ∧ PW τ m) ?_ (fun b hb => Ret.some hb)
  refine iter_cnt (fun i (τ : St) => (nI i, τ)) (fun i τ => HH (τ h) m ∧ FrA σ τ h 10 ∧ PL τ m ∧ ∀ i' j, i' < i → j < nC m → τ 10 3 (6 * i' + j) = wI m i' j) (nU m) ?_ ?_ τ2 ⟨H2, A2, P2, fun i' j hi => absurd hi (Nat.not_lt_zero i')⟩
  · rintro i τ hi ⟨k1, k2, k3, k4⟩
    show Ret (B_X8_look_94 h (nI i) τ) _
    unfold B_X8_look_94
    rw [k3.1, if_pos (nI_lt hi (by omega))]
    refine Ret.bind (Q := fun τ' => HH (τ' h) m ∧ FrA σ τ' h 10 ∧ PL τ' m ∧ (∀ i' j, i' < i → j < nC m → τ' 10 3 (6 * i' + j) = wI m i' j) ∧ ∀ j, j < nC m → τ' 10 3 (6 * i + j) = wI m i j) ?_ ?_
    · refine iter_cnt (fun j (τ : St) => (nI j, τ)) (fun jj τ' => HH (τ' h) m ∧ FrA σ τ' h 10 ∧ PL τ' m ∧ (∀ i' j, i' < i → j < nC m → τ' 10 3 (6 * i' + j) = wI m i' j) ∧ ∀ j, j < jj → τ' 10 3 (6 * i + j) = wI m i j) (nC m) ?_ ?_ τ ⟨k1, k2, k3, k4, fun j hj => absurd hj (Nat.not_lt_zero j)⟩
      · rintro j τ' hj ⟨j1, j2, j3, j4, j5⟩
        obtain ⟨hf1, hf2⟩ := fr_ok hi
        obtain ⟨ht1, ht2⟩ := wt_ok hj
        obtain ⟨hp, hr1, hr2, ep, er⟩ := wt_bd R hj
        show Ret (B_X8_look_104 h (nI i) (nI j) τ') _
        unfold B_X8_look_104
        rw [j3.2.1, if_pos (nI_lt hj (by omega)), rdo_nI (by omega) (by decide), some_b, rdo_nI (by omega) (by decide), some_b, j3.2.2.1 i hi, j3.2.2.2 j hj, rdo_nI (by omega) (by decide), some_b, (j1.1.2.2.2 _ ht1).1, ep]
        refine Ret.bind (c_wayH hw j1 hf1 hp) ?_
        rintro r ⟨r1, r2, r3⟩
        have r1 : r.1 = nI (wyP m i j) := r1
        have P3 : PL r.2 m := j3.fr (by rw [r3.g (fun z => hh z.symm)]) (by rw [r3.g (fun z => hh z.symm)]) (by rw [r3.g (fun z => hh z.symm)]) (by rw [r3.g (fun z => hh z.symm)])
        have e3 : r.2 10 3 = τ' 10 3 := by rw [r3.g (fun z => hh z.symm)]
        rw [r1, rdo_nI (by omega) (by decide), some_b, rdo_nI (by omega) (by decide), some_b, P3.2.2.1 i hi, P3.2.2.2 j hj, c_has hw r2.1 hf1 ht1, some_b]
        have hv : (if (if hsk m (fr m i) (wt m j) then (1 : Int32) else 0) = 0 then some (-1 : Int32) else (if nI (wyP m i j) < (1000000 : Int32) then (some (nI (wt m j))).bind (fun r4018 => (rdo r.2 h 24 30 r4018).bind (fun r4019 => some ((((1000000 : Int32) * r4019) - nI (wyP m i j))))) else some ((-1 : Int32)))) = some (wI m i j) := by
          unfold wI
          have hwb := (wyP_bd R hi hj).1
          by_cases s1 : hsk m (fr m i) (wt m j)
          · rw [if_pos s1, if_neg (by decide)]
            by_cases s2 : wyP m i j < 1000000
            · have hw2 := wN_bd R hi hj ⟨s1, s2⟩
              rw [if_pos (show nI (wyP m i j) < (1000000 : Int32) from nI_lt (b := 1000000) s2 (by decide)), some_b, rdo_nI (by omega) (by decide), some_b, (r2.1.2.2.2 _ ht1).2.2.1, er, show (1000000 : Int32) = nI 1000000 from rfl, pk_mul, nI_sub (by omega), if_pos ⟨s1, s2⟩]
              rfl
            · rw [if_neg (show ¬ nI (wyP m i j) < (1000000 : Int32) from nI_nlt (b := 1000000) (by omega) (by omega)), if_neg (fun z => s2 z.2)]
          · rw [if_neg s1, if_pos rfl, if_neg (fun z => s1 z.1)]
        rw [hv, some_b, show (6 : Int32) = nI 6 from rfl, pk_mul, nI_add, wro_nI (by omega) (by decide), some_b, nI_1]
        refine Ret.some ⟨_, rfl, ?_, (j2.k r3).up, P3.fr (by rw [up3_j (by decide)]) (by rw [up3_j (by decide)]) (up3_j (by decide)) (up3_j (by decide)), ?_, ?_⟩
        · rw [up3_g hh]; exact r2
        · intro i' j' hi' hj'
          rw [up3_i (by omega), e3]
          exact j4 i' j' hi' hj'
        · intro j' hj'
          by_cases e : j' = j
          · rw [e, show i * 6 + j = 6 * i + j by omega, up3_same]
          · rw [up3_i (by omega), e3]
            exact j5 j' (by omega)
      · rintro τ' ⟨j1, j2, j3, j4, j5⟩
        show Ret (B_X8_look_104 h (nI i) (nI (nC m)) τ') _
        unfold B_X8_look_104
        rw [j3.2.1, if_neg (nI_nlt (Nat.le_refl _) (by omega))]
        exact Ret.some ⟨j1, j2, j3, j4, j5⟩
    · rintro τ' ⟨j1, j2, j3, j4, j5⟩
      rw [nI_1]
      refine Ret.some ⟨_, rfl, j1, j2, j3, ?_⟩
      intro i' j hi' hj
      by_cases e : i' = i
      · rw [e]; exact j5 j hj
      · exact j4 i' j (by omega) hj
  · rintro τ ⟨k1, k2, k3, k4⟩
    show Ret (B_X8_look_94 h (nI (nU m)) τ) _
    unfold B_X8_look_94
    rw [k3.1, if_neg (nI_nlt (Nat.le_refl _) (by omega))]
    exact Ret.some ⟨k1, k2, k3, k4⟩
/-- sets as bits -/
theorem bt_tab : ∀ x, x < 64 → ∀ t, t < 6 → ((nI x >>> (nI t &&& 31)) &&& 1 = (if x.testBit t then 1 else 0)) ∧ nI x ||| ((1 : Int32) <<< (nI t &&& 31)) = nI (x ||| 2 ^ t) := by decide +kernel
theorem bt_pow : ∀ n, n < 7 → (1 : Int32) <<< (nI n &&& 31) = nI (2 ^ n) ∧ 2 ^ n ≤ 64 := by decide +kernel
theorem bt_or : ∀ n, n < 7 → ∀ x, x < 2 ^ n → ∀ t, t < n → x ||| 2 ^ t < 2 ^ n := by decide +kernel
theorem bt_lt {n x : Nat} (hn : n < 7) (hx : x < 2 ^ n) : x < 64 := by
  have := (bt_pow n hn).2
  omega
def TBl (τ : St) (m : Nat → Int32) (wo : Int32) (j0 : Nat) : Prop := ∀ j, j0 ≤ j → j ≤ nC m → ∀ x, x < 2 ^ nU m → τ 10 4 (j * 2 ^ nU m + x) = nI (VV m wo (nC m - j) x)
theorem ix_lt {n j x c : Nat} (hn : n < 7) (hc : c ≤ 6) (hj : j ≤ c) (hx : x < 2 ^ n) : j * 2 ^ n + x < 448 := by
  have h1 := (bt_pow n hn).2
  have h2 : j * 2 ^ n ≤ 6 * 2 ^ n := Nat.mul_le_mul_right _ (by omega)
  omega
theorem ix_ne {n j j' x x' : Nat} (hx : x < 2 ^ n) (hx' : x' < 2 ^ n) (h : ¬ (j = j' ∧ x = x')) : j * 2 ^ n + x ≠ j' * 2 ^ n + x' := by
  intro e
  rcases Nat.lt_trichotomy j j' with q | q | q
  · have : (j + 1) * 2 ^ n ≤ j' * 2 ^ n := Nat.mul_le_mul_right _ q
    rw [Nat.add_mul, Nat.one_mul] at this
    omega
  · subst q
    exact h ⟨rfl, by omega⟩
  · have : (j' + 1) * 2 ^ n ≤ j * 2 ^ n := Nat.mul_le_mul_right _ q
    rw [Nat.add_mul, Nat.one_mul] at this
    omega
/-- the table's cells alone changed -/
def FrT4 (σ τ : St) : Prop := ∀ a b, ¬ (a = 10 ∧ b = 4) → τ a b = σ a b
theorem FrT4.up {σ τ : St} {i : Nat} {v : Int32} (f : FrT4 σ τ) : FrT4 σ (up3 τ 10 4 i v) := fun a b h => by
  funext i'
  unfold up3
  rw [if_neg (fun z => h ⟨z.1, z.2.1⟩), f a b h]
theorem FrT4.pl {σ τ : St} {m : Nat → Int32} (f : FrT4 σ τ) (P : PL σ m) : PL τ m := P.fr (by rw [f 10 0 (by omega)]) (by rw [f 10 0 (by omega)]) (f 10 1 (by omega)) (f 10 2 (by omega))
theorem FrT4.pw {σ τ : St} {m : Nat → Int32} (f : FrT4 σ τ) (P : PW σ m) : PW τ m := by
  unfold PW
  rw [f 10 3 (by omega)]
  exact P
theorem lp_f72 {τ : St} {m : Nat → Int32} {wo : Int32} {d x : Nat} (R : Rok m) (P : PL τ m) (W : PW τ m) (hd : d + 1 ≤ nC m) (hx : x < 2 ^ nU m) (T : TBl τ m wo (nC m - d)) : iter (fun z => B_X8_fill_72 (nI (2 ^ nU m)) wo (nI (nC m - (d + 1))) (nI x) z.1 z.2 τ) (nI (VV m wo d x), (0 : Int32)) = some (nI (VV m wo (d + 1) x)) := by
  have u6 := nU_6 R
  have c6 := nC_6 R
  have hx6 := bt_lt (by omega) hx
  have hp := (bt_pow (nU m) (by omega)).2
  have hj : nC m - (d + 1) < nC m := by omega
  by_cases q : nI (nC m - (d + 1)) = wo
  · have e : VV m wo (d + 1) x = VV m wo d x := by
      have : ∀ t, mxF m wo (VV m wo d) (nC m - (d + 1)) x t = VV m wo d x := by
        intro t
        induction t with
        | zero => rfl
        | succ t ih => rw [mxF, if_neg (fun z => z.1 q), ih]
      exact this _
    rw [e]
    refine iter_inr ?_
    show B_X8_fill_72 _ _ _ _ (nI (VV m wo d x)) 0 τ = _
    unfold B_X8_fill_72
    rw [if_pos q]
    by_cases z : (0 : Int32) < τ 10 0 6
    · rw [if_pos z]
    · rw [if_neg z]
  · have key := iter_row (f := fun z => B_X8_fill_72 (nI (2 ^ nU m)) wo (nI (nC m - (d + 1))) (nI x) z.1 z.2 τ) (fun t => (nI (mxF m wo (VV m wo d) (nC m - (d + 1)) x t), nI t)) (nU m) (nI (VV m wo (d + 1) x)) ?_ ?_ 0 (Nat.zero_le _)
    · exact key
    · intro t ht
      obtain ⟨b1, b2⟩ := bt_tab x hx6 t (by omega)
      have hor := bt_or (nU m) (by omega) x hx t ht
      have hmb := mxF_bd R (wo := wo) (V := VV m wo d) (j := nC m - (d + 1)) (x := x) (B := 9000000 * d) hj (VV_bd R wo d (by omega)) t (by omega)
      have hW := W t (nC m - (d + 1)) ht hj
      have hT := T (nC m - (d + 1) + 1) (by omega) (by omega) _ hor
      have hvv := VV_bd R wo d (by omega) (x ||| 2 ^ t)
      rw [show nC m - (nC m - (d + 1) + 1) = d by omega] at hT
      show B_X8_fill_72 (nI (2 ^ nU m)) wo (nI (nC m - (d + 1))) (nI x) (nI (mxF m wo (VV m wo d) (nC m - (d + 1)) x t)) (nI t) τ = _
      unfold B_X8_fill_72
      rw [P.1, if_pos (nI_lt ht (by omega)), if_neg q, b1, nI_1 t]
      show _ = some (Sum.inl (nI (mxF m wo (VV m wo d) (nC m - (d + 1)) x (t + 1)), nI (t + 1)))
      rw [mxF]
      by_cases tb : x.testBit t = true
      · rw [if_pos tb, if_neg (by decide), if_neg (fun z => by have := z.2.2; rw [tb] at this; exact absurd this (by decide))]
      · have tb' : x.testBit t = false := by simpa using tb
        rw [if_neg tb, if_pos rfl, show (6 : Int32) = nI 6 from rfl, pk_mul, nI_add, rdo_nI (by omega) (by decide), some_b, show t * 6 + (nC m - (d + 1)) = 6 * t + (nC m - (d + 1)) by omega, hW]
        unfold wI
        by_cases v : vdP m t (nC m - (d + 1))
        · have hwn := wN_bd R ht hj v
          rw [if_pos v, if_neg (nI_pos (by omega)), some_b, nI_1, pk_mul, b2, nI_add, rdo_nI (ix_lt (by omega) c6 (by omega) hor) (by decide), some_b, hT, nI_add, imax_nI (by omega) (by omega), nmo_b, if_pos ⟨q, v, tb'⟩]
        · rw [if_neg v, if_pos (by decide), if_neg (fun z => v z.2.1)]
    · show B_X8_fill_72 (nI (2 ^ nU m)) wo (nI (nC m - (d + 1))) (nI x) _ (nI (nU m)) τ = _
      unfold B_X8_fill_72
      rw [P.1, if_neg (nI_nlt (Nat.le_refl _) (by omega))]
      rfl
theorem c_fill {σ : St} {m : Nat → Int32} {wo : Int32} (R : Rok m) (P : PL σ m) (W : PW σ m) : Ret (F_X8_fill wo σ) (fun z => z.1 = nI (VV m wo (nC m) 0) ∧ FrT4 σ z.2 ∧ TBl z.2 m wo 0) := by
  have u6 := nU_6 R
  have c6 := nC_6 R
  obtain ⟨p1, p2⟩ := bt_pow (nU m) (by omega)
  have hpos : 0 < 2 ^ nU m := Nat.pow_pos (by decide)
  unfold F_X8_fill
  rw [P.1, p1, nmo_b]
  refine Ret.bind (Q := fun τ => FrT4 σ τ ∧ TBl τ m wo (nC m)) ?_ ?_
  · refine iter_cnt (fun x (τ : St) => (nI x, τ)) (fun x τ => FrT4 σ τ ∧ ∀ y, y < x → τ 10 4 (nC m * 2 ^ nU m + y) = 0) (2 ^ nU m) ?_ ?_ σ ⟨fun _ _ _ => rfl, fun y hy => absurd hy (Nat.not_lt_zero y)⟩
    · rintro x τ hx ⟨h1, h2⟩
      show Ret (B_X8_fill_9 (nI (2 ^ nU m)) wo (nI x) τ) _
      unfold B_X8_fill_9
      rw [if_pos (nI_lt hx (by omega)), (h1.pl P).2.1, pk_mul, nI_add, wro_nI (ix_lt (by omega) c6 (Nat.le_refl _) hx) (by decide), some_b, nI_1]
      refine Ret.some ⟨_, rfl, h1.up, ?_⟩
      intro y hy
      by_cases e : y = x
      · rw [e, up3_same]
      · rw [up3_i (by omega)]; exact h2 y (by omega)
    · rintro τ ⟨h1, h2⟩
      show Ret (B_X8_fill_9 (nI (2 ^ nU m)) wo (nI (2 ^ nU m)) τ) _
      unfold B_X8_fill_9
      rw [if_neg (nI_nlt (Nat.le_refl _) (by omega))]
      refine Ret.some ⟨h1, ?_⟩
      intro j hj1 hj2 x hx
      have : j = nC m := by omega
      subst this
      rw [Nat.sub_self, h2 x hx]
      rfl
  rintro τ1 ⟨F1, T1⟩
  rw [(F1.pl P).2.1, nmo_b]
  refine Ret.bind (Q := fun τ => FrT4 σ τ ∧ TBl τ m wo 0) ?_ ?_
  · -- calls from the last one back
    obtain ⟨z, ⟨τ, rfl, h1, h2⟩, e⟩ := iter_to (f := fun z : Int32 × St => B_X8_fill_41 (nI (2 ^ nU m)) wo z.1 z.2) (fun d z => ∃ τ, z = (nI (nC m - d) - 1, τ) ∧ FrT4 σ τ ∧ TBl τ m wo (nC m - d)) (nC m) (by
      rintro d z hd ⟨τ, rfl, h1, h2⟩
      have ej : nI (nC m - d) - 1 = nI (nC m - (d + 1)) := by
        rw [show (1 : Int32) = nI 1 from rfl, nI_sub (by omega), show nC m - d - 1 = nC m - (d + 1) by omega]
      have inner : Ret (iter (fun z => B_X8_fill_48 (nI (2 ^ nU m)) wo (nI (nC m - (d + 1))) z.1 z.2) (nI 0, τ)) (fun τ' => FrT4 σ τ' ∧ TBl τ' m wo (nC m - (d + 1))) := by
        refine iter_cnt (fun x (τ : St) => (nI x, τ)) (fun x τ' => FrT4 σ τ' ∧ TBl τ' m wo (nC m - d) ∧ ∀ y, y < x → τ' 10 4 ((nC m - (d + 1)) * 2 ^ nU m + y) = nI (VV m wo (d + 1) y)) (2 ^ nU m) ?_ ?_ τ ⟨h1, h2, fun y hy => absurd hy (Nat.not_lt_zero y)⟩
        · rintro x τ' hx ⟨g1, g2, g3⟩
          have hT := g2 (nC m - (d + 1) + 1) (by omega) (by omega) x hx
          rw [show nC m - (nC m - (d + 1) + 1) = d by omega] at hT
          show Ret (B_X8_fill_48 (nI (2 ^ nU m)) wo (nI (nC m - (d + 1))) (nI x) τ') _
          unfold B_X8_fill_48
          rw [if_pos (nI_lt hx (by omega)), nI_1, pk_mul, nI_add, rdo_nI (ix_lt (by omega) c6 (by omega) hx) (by decide), some_b, hT, lp_f72 R (g1.pl P) (g1.pw W) (by omega) hx g2, some_b, pk_mul, nI_add, wro_nI (ix_lt (by omega) c6 (by omega) hx) (by decide), some_b, nI_1]
          refine Ret.some ⟨_, rfl, g1.up, ?_, ?_⟩
          · intro j hj1 hj2 y hy
            rw [up3_i (ix_ne hy hx (by omega))]
            exact g2 j hj1 hj2 y hy
          · intro y hy
            by_cases z : y = x
            · rw [z, up3_same]
            · rw [up3_i (ix_ne (by omega) hx (by omega))]
              exact g3 y (by omega)
        · rintro τ' ⟨g1, g2, g3⟩
          show Ret (B_X8_fill_48 (nI (2 ^ nU m)) wo (nI (nC m - (d + 1))) (nI (2 ^ nU m)) τ') _
          unfold B_X8_fill_48
          rw [if_neg (nI_nlt (Nat.le_refl _) (by omega))]
          refine Ret.some ⟨g1, ?_⟩
          intro j hj1 hj2 y hy
          by_cases z : j = nC m - (d + 1)
          · rw [z, show nC m - (nC m - (d + 1)) = d + 1 by omega]
            exact g3 y hy
          · exact g2 j (by omega) hj2 y hy
      obtain ⟨τ', e1, e2, e3⟩ := inner
      refine ⟨(nI (nC m - (d + 1)) - 1, τ'), ?_, τ', rfl, e2, e3⟩
      show B_X8_fill_41 (nI (2 ^ nU m)) wo (nI (nC m - d) - 1) τ = _
      unfold B_X8_fill_41
      rw [ej, if_neg (nI_pos (by omega)), show ((0 : Int32), τ) = (nI 0, τ) from rfl, e1, some_b, Int32.sub_eq_add_neg]) (nI (nC m) - 1, τ1) ⟨τ1, rfl, F1, T1⟩
    rw [e]
    refine ⟨τ, iter_inr ?_, h1, by rw [Nat.sub_self] at h2; exact h2⟩
    show B_X8_fill_41 (nI (2 ^ nU m)) wo (nI (nC m - nC m) - 1) τ = _
    unfold B_X8_fill_41
    rw [Nat.sub_self, if_pos (by decide)]
  rintro τ ⟨h1, h2⟩
  have h3 := h2 0 (Nat.zero_le _) (Nat.zero_le _) 0 hpos
  rw [show 0 * 2 ^ nU m + 0 = 0 by omega, Nat.sub_zero] at h3
  rw [show (0 : Int32) = nI 0 from rfl, rdo_nI (by decide) (by decide), some_b, h3]
  exact Ret.some ⟨rfl, h1, h2⟩
/-- the choice -/
noncomputable def amI (m : Nat → Int32) (wo : Int32) (d x : Nat) : Int32 := if amN m wo d x < (flt (frU m) (cn (m 2))).length then nI (amN m wo d x) else -1
theorem c_choose {τ : St} {m : Nat → Int32} {d x : Nat} (R : Rok m) (P : PL τ m) (W : PW τ m) (hd : d + 1 ≤ nC m) (hx : x < 2 ^ nU m) (T : TBl τ m (-1) 0) : F_X8_choose (nI (nC m - (d + 1))) (nI x) τ = some (amI m (-1) d x) := by
  have u6 := nU_6 R
  have c6 := nC_6 R
  have hx6 := bt_lt (by omega) hx
  obtain ⟨p1, p2⟩ := bt_pow (nU m) (by omega)
  have hj : nC m - (d + 1) < nC m := by omega
  have hwo : ¬ nI (nC m - (d + 1)) = -1 := fun z => absurd (by rw [z]; decide : nI (nC m - (d + 1)) < 0) (nI_pos (by omega))
  unfold F_X8_choose
  rw [P.1, p1, nmo_b]
  have stp : ∀ t, t < nU m → B_X8_choose_10 (nI (2 ^ nU m)) (nI (nC m - (d + 1))) (nI x) (nI t) τ = @ite _ (okA m (-1) d x t) (Classical.propDecidable _) (some (.inr (.inr (nI t)))) (some (.inl (nI (t + 1)))) := by
    intro t ht
    obtain ⟨b1, b2⟩ := bt_tab x hx6 t (by omega)
    have hor := bt_or (nU m) (by omega) x hx t ht
    have hW := W t (nC m - (d + 1)) ht hj
    have hT := T (nC m - (d + 1) + 1) (by omega) (by omega) _ hor
    have hT0 := T (nC m - (d + 1)) (by omega) (by omega) _ hx
    have hvv := VV_bd R (-1) d (by omega) (x ||| 2 ^ t)
    have hvv0 := VV_bd R (-1) (d + 1) (by omega) x
    rw [show nC m - (nC m - (d + 1) + 1) = d by omega] at hT
    rw [show nC m - (nC m - (d + 1)) = d + 1 by omega] at hT0
    unfold B_X8_choose_10
    rw [P.1, if_pos (nI_lt ht (by omega)), b1, nI_1 t]
    by_cases tb : x.testBit t = true
    · rw [if_pos tb, if_neg (by decide), if_neg (fun z => by have := z.2.1.2.2; rw [tb] at this; exact absurd this (by decide))]
    · have tb' : x.testBit t = false := by simpa using tb
      rw [if_neg tb, if_pos rfl, show (6 : Int32) = nI 6 from rfl, pk_mul, nI_add, rdo_nI (by omega) (by decide), some_b, show t * 6 + (nC m - (d + 1)) = 6 * t + (nC m - (d + 1)) by omega, hW]
      unfold wI
      by_cases v : vdP m t (nC m - (d + 1))
      · have hwn := wN_bd R ht hj v
        rw [if_pos v, if_neg (nI_pos (by omega)), some_b, nI_1, pk_mul, b2, nI_add, rdo_nI (ix_lt (by omega) c6 (by omega) hor) (by decide), some_b, hT, pk_mul, nI_add, rdo_nI (ix_lt (by omega) c6 (by omega) hx) (by decide), some_b, hT0, nI_add]
        by_cases s : wN m t (nC m - (d + 1)) + VV m (-1) d (x ||| 2 ^ t) = VV m (-1) (d + 1) x
        · rw [if_pos (by rw [s]), if_pos ⟨ht, ⟨hwo, v, tb'⟩, s⟩]
        · rw [if_neg (by rw [nI_eq (by omega) (by omega)]; exact s), if_neg (fun z => s z.2.2)]
      · rw [if_neg v, if_pos (by decide), if_neg (fun z => v z.2.1.2.1)]
  unfold amI
  rcases amN_cases m (-1) d x with ⟨a1, a2⟩ | ⟨a1, a2⟩
  · have ha : amN m (-1) d x < (flt (frU m) (cn (m 2))).length := a1.1
    rw [if_pos ha]
    have key := iter_row (f := fun z => B_X8_choose_10 (nI (2 ^ nU m)) (nI (nC m - (d + 1))) (nI x) z τ) (fun t => nI t) (amN m (-1) d x) (.inr (nI (amN m (-1) d x))) ?_ ?_ 0 (Nat.zero_le _)
    · rw [show (0 : Int32) = nI 0 from rfl, key, bindL_inr]
    · intro t ht
      have := stp t (Nat.lt_trans ht a1.1)
      rw [if_neg (a2 t ht)] at this
      exact this
    · have := stp _ a1.1
      rw [if_pos a1] at this
      exact this
  · rw [if_neg (by rw [a1]; exact Nat.lt_irrefl _)]
    have key := iter_row (f := fun z => B_X8_choose_10 (nI (2 ^ nU m)) (nI (nC m - (d + 1))) (nI x) z τ) (fun t => nI t) (nU m) (.inl ()) ?_ ?_ 0 (Nat.zero_le _)
    · rw [show (0 : Int32) = nI 0 from rfl, key, bindL_inl]
    · intro t ht
      have := stp t ht
      rw [if_neg (a2 t)] at this
      exact this
    · show B_X8_choose_10 _ _ _ (nI (nU m)) τ = _
      unfold B_X8_choose_10
      rw [P.1, if_neg (nI_nlt (Nat.le_refl _) (by omega))]
