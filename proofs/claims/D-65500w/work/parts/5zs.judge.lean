/-! S11: judge -/
set_option maxRecDepth 100000
def zcap (m : Nat → Int32) (k : Nat) : Int := if stOpen m k then (cap m k : Int) else 0
def badS (m : Nat → Int32) (fv : Nat → Int) (k : Nat) : Prop := zcap m k < fv k ∨ fv k < -zcap m k ∨ (fv k < 0 ∧ ¬ m (10 + 5 * k + 3) = 0)
def badP (m : Nat → Int32) (fv : Nat → Int) (a b p : Nat) : Prop := p ≠ a ∧ p ≠ b ∧ ¬ zI (ou m fv p) = 0
/-- the first below n, or n -/
noncomputable def fst (Q : Nat → Prop) : Nat → Nat
  | 0 => 0
  | k + 1 => if fst Q k < k then fst Q k else @ite _ (Q k) (Classical.propDecidable _) k (k + 1)
theorem fst_le (Q : Nat → Prop) : ∀ n, fst Q n ≤ n := by
  intro n
  induction n with
  | zero => exact Nat.le_refl _
  | succ n ih =>
    unfold fst
    split
    · omega
    · split <;> omega
theorem fst_stay {Q : Nat → Prop} {k : Nat} : ∀ n, k ≤ n → fst Q k < k → fst Q n = fst Q k := by
  intro n
  induction n with
  | zero => intro h h2; have : k = 0 := by omega
            subst this; omega
  | succ n ih =>
    intro h h2
    by_cases e : k = n + 1
    · subst e; rfl
    · have := ih (by omega) h2
      rw [fst, if_pos (by omega)]
      exact this
theorem fst_bad {Q : Nat → Prop} {k n : Nat} (hk : k < n) (h0 : fst Q k = k) (hb : Q k) : fst Q n = k := by
  have h1 : fst Q (k + 1) = k := by rw [fst, if_neg (by omega), if_pos hb]
  rw [fst_stay (k := k + 1) n (by omega) (by omega), h1]
theorem fst_ok {Q : Nat → Prop} {k : Nat} (h0 : fst Q k = k) (hb : ¬ Q k) : fst Q (k + 1) = k + 1 := by rw [fst, if_neg (by omega), if_neg hb]
def inC (cv : Nat → Nat) (K2 p : Nat) : Prop := ∃ i, i < K2 ∧ cv i = p
def okC (m : Nat → Int32) (cv : Nat → Nat) (K2 : Nat) : Prop := ∀ i, i < K2 → cv i < cn (m 0) ∧ (i = 0 ∨ cv (i - 1) < cv i)
def crs (m : Nat → Int32) (cv : Nat → Nat) (K2 k : Nat) : Prop := stOpen m k ∧ ((inC cv K2 (eA m k) ∧ ¬ inC cv K2 (eB m k)) ∨ (inC cv K2 (eB m k) ∧ ¬ inC cv K2 (eA m k) ∧ m (10 + 5 * k + 3) = 0))
noncomputable def acN (m : Nat → Int32) (cv : Nat → Nat) (K2 : Nat) : Nat → Nat := sumN (fun k => @ite _ (crs m cv K2 k) (Classical.propDecidable _) (cap m k) 0)
def insd (m : Nat → Int32) (cv : Nat → Nat) (K2 a b : Nat) : Prop := okC m cv K2 ∧ inC cv K2 a ∧ ¬ inC cv K2 b
noncomputable def juL (m : Nat → Int32) (fv : Nat → Int) (K1 : Nat) (cv : Nat → Nat) (K2 a b : Nat) : List Int32 :=
  if K1 = cn (m 1) then
    (if fst (badS m fv) (cn (m 1)) < cn (m 1) then aTx 38 ++ numL (nI (fst (badS m fv) (cn (m 1))))
    else if fst (badP m fv a b) (cn (m 0)) < cn (m 0) then aTx 39 ++ numL (nI (fst (badP m fv a b) (cn (m 0))))
    else @ite _ (insd m cv K2 a b) (Classical.propDecidable _) (if nI (acN m cv K2 (cn (m 1))) = zI (ou m fv a) then aTx 42 ++ numL (zI (ou m fv a)) else aTx 41) (aTx 40))
  else aTx 37
theorem juL_len (m : Nat → Int32) (fv : Nat → Int) (K1 : Nat) (cv : Nat → Nat) (K2 a b : Nat) : (juL m fv K1 cv K2 a b).length ≤ 22 := by
  have t37 := tx_len 37 (by decide)
  have t38 := tx_len 38 (by decide)
  have t39 := tx_len 39 (by decide)
  have t40 := tx_len 40 (by decide)
  have t41 := tx_len 41 (by decide)
  have t42 := tx_len 42 (by decide)
  have n1 := numL_len (v := nI (fst (badS m fv) (cn (m 1))))
  have n2 := numL_len (v := nI (fst (badP m fv a b) (cn (m 0))))
  have n3 := numL_len (v := zI (ou m fv a))
  unfold juL
  repeat' split
  all_goals (try rw [List.length_append]); omega
theorem juL_asc (m : Nat → Int32) (fv : Nat → Int) (K1 : Nat) (cv : Nat → Nat) (K2 a b : Nat) : asc (juL m fv K1 cv K2 a b) := by
  unfold juL
  split
  · split
    · exact asc_app (tx_asc 38 (by decide)) (asc_numL _)
    · split
      · exact asc_app (tx_asc 39 (by decide)) (asc_numL _)
      · split
        · split
          · exact asc_app (tx_asc 42 (by decide)) (asc_numL _)
          · exact tx_asc 41 (by decide)
        · exact tx_asc 40 (by decide)
  · exact tx_asc 37 (by decide)
theorem c_out {σ : St} {m : Nat → Int32} {f : Nat → Int} {v : Nat} (hw : WF m) (hc : HC (σ 3) m) (F : FlC σ m f) (hv : v < 100) : F_X7_out 3 (nI v) σ = some (zI (ou m f v)) := by
  have b1 := hw.2.1
  have b1' := b1.2
  have b0 := hw.1.1.2
  unfold F_X7_out
  have key := iter_row (f := fun z => B_X7_out_5 3 (nI v) z.1 z.2 σ) (fun k => (zI (sumZ (fun k => cf m k v * f k) k), nI k)) (cn (m 1)) (zI (ou m f v)) ?_ ?_ 0 (Nat.zero_le _)
  · rw [show ((0 : Int32), (0 : Int32)) = (zI (sumZ (fun k => cf m k v * f k) 0), nI 0) from rfl, key, some_b]
  · intro k hk
    obtain ⟨⟨pa, pb, pne⟩, ⟨pea, peb, -⟩, -⟩ := pipe hw hk
    obtain ⟨h1, h2, -⟩ := hc.2.1 k hk
    have lt : nI k < m 1 := by rw [b1.1]; exact nI_lt hk (by omega)
    have es : sumZ (fun k => cf m k v * f k) (k + 1) = sumZ (fun k => cf m k v * f k) k + cf m k v * f k := rfl
    show B_X7_out_5 3 (nI v) (zI (sumZ (fun k => cf m k v * f k) k)) (nI k) σ = _
    unfold B_X7_out_5
    rw [hc.1.2.1, if_pos lt, rdo_nI (by omega) (by decide), some_b, h1, pea, es]
    generalize sumZ (fun k => cf m k v * f k) k = S
    unfold cf
    by_cases q : eA m k = v
    · rw [if_pos (by rw [q]), rdo_nI (by omega) (by decide), some_b, F k hk, some_b, nmo_b, zI_add, if_pos q, Int.one_mul, nI_1]
    · rw [if_neg (show ¬ nI (eA m k) = nI v by rw [nI_eq (by omega) (by omega)]; exact q), rdo_nI (by omega) (by decide), some_b, h2, peb, if_neg q]
      by_cases r : eB m k = v
      · rw [if_pos (by rw [r]), rdo_nI (by omega) (by decide), some_b, F k hk, some_b, nmo_b, zI_neg, zI_add, if_pos r, nI_1, show S + -1 * f k = S + -f k by omega]
      · rw [if_neg (show ¬ nI (eB m k) = nI v by rw [nI_eq (by omega) (by omega)]; exact r), some_b, nmo_b, if_neg r, Int.zero_mul, ← zI_0, zI_add, nI_1]
  · have nlt : ¬ nI (cn (m 1)) < m 1 := by
      conv => rhs; rhs; rw [b1.1]
      exact nI_nlt (Nat.le_refl _) (by omega)
    show B_X7_out_5 3 (nI v) _ (nI (cn (m 1))) σ = _
    unfold B_X7_out_5
    rw [hc.1.2.1, if_neg nlt]
    rfl
/-- what is argued, in the reader -/
def JuC (σ : St) (fv : Nat → Int) (K1 : Nat) (cv : Nat → Nat) (K2 : Nat) : Prop := σ 2 0 16 = nI K1 ∧ σ 2 0 12 = nI (K1 + K2) ∧ K1 + K2 ≤ 3200 ∧ (∀ i, i < K1 → σ 2 5 i = zI (fv i)) ∧ ∀ i, i < K2 → σ 2 5 (K1 + i) = nI (cv i)
def JuB (fv : Nat → Int) (K1 : Nat) (cv : Nat → Nat) (K2 : Nat) : Prop := (∀ i, i < K1 → -9999 ≤ fv i ∧ fv i ≤ 9999) ∧ ∀ i, i < K2 → cv i ≤ 9999
theorem c_badStreet {σ : St} {m : Nat → Int32} {fv : Nat → Int} (hw : WF m) (hc : HC (σ 3) m) (hf : ∀ i, i < cn (m 1) → σ 2 5 i = zI (fv i) ∧ zB (fv i)) : Ret (F_X7_badStreet 3 σ) (fun r => F9 σ r.2 ∧ ((fst (badS m fv) (cn (m 1)) < cn (m 1) ∧ r.1 = nI (fst (badS m fv) (cn (m 1)))) ∨ (fst (badS m fv) (cn (m 1)) = cn (m 1) ∧ r.1 = -1 ∧ FlC r.2 m fv))) := by
  have b1 := hw.2.1
  have b1' := b1.2
  unfold F_X7_badStreet
  refine Ret.bindL (Q := fun τ => F9 σ τ ∧ fst (badS m fv) (cn (m 1)) = cn (m 1) ∧ FlC τ m fv) ?_ (fun τ h => Ret.some ⟨h.1, Or.inr ⟨h.2.1, rfl, h.2.2⟩⟩)
  refine iter_cnt (f := fun z => B_X7_badStreet_2 3 z.1 z.2) (fun k (τ : St) => (nI k, τ)) (fun k τ => F9 σ τ ∧ fst (badS m fv) k = k ∧ ∀ j, j < k → τ 9 1 j = zI (fv j)) (cn (m 1)) ?_ ?_ σ ⟨fun _ _ => rfl, rfl, fun j hj => absurd hj (Nat.not_lt_zero j)⟩
  · rintro k τ hk ⟨t1, t2, t3⟩
    obtain ⟨-, ⟨-, -, ow⟩, -, -, c2⟩ := pipe hw hk
    obtain ⟨f1, f2⟩ := hf k hk
    have lt : nI k < m 1 := by rw [b1.1]; exact nI_lt hk (by omega)
    have hcτ : HC (τ 3) m := by rw [t1 3 (by decide)]; exact hc
    have h4 := (hcτ.2.1 k hk).2.2.2.1
    have zc : zB (zcap m k) ∧ zB (-zcap m k) := by unfold zcap zB; split <;> omega
    show Ret (B_X7_badStreet_2 3 (nI k) τ) _
    unfold B_X7_badStreet_2
    have ez : (if (if stOpen m k then (1 : Int32) else 0) = 0 then some ((0 : Int32)) else (F_X7_capacity 3 (nI k) τ).bind (fun r1003 => some r1003)) = some (zI (zcap m k)) := by
      unfold zcap
      by_cases so : stOpen m k
      · rw [if_pos so, if_neg (show ¬ (1 : Int32) = 0 by decide), c_capac hw hcτ hk, some_b, if_pos so, zI_nat]
      · rw [if_neg so, if_pos rfl, if_neg so]; rfl
    have bad : badS m fv k → F9 σ τ ∧ (fst (badS m fv) (cn (m 1)) < cn (m 1) ∧ nI k = nI (fst (badS m fv) (cn (m 1)))) := fun hb => by
      have e := fst_bad hk t2 hb
      exact ⟨t1, by omega, by rw [e]⟩
    rw [hcτ.1.2.1, if_pos lt, rdo_nI (by omega) (by decide), some_b, t1 2 (by decide), f1, c_isOpenStreet hw hcτ hk, some_b, ez, some_b]
    by_cases q1 : zcap m k < fv k
    · rw [if_pos ((zI_lt zc.1 f2).mpr q1)]
      obtain ⟨y1, y2⟩ := bad (Or.inl q1)
      exact ⟨_, rfl, y1, Or.inl y2⟩
    · rw [if_neg (fun z => q1 ((zI_lt zc.1 f2).mp z)), zI_neg]
      by_cases q2 : fv k < -zcap m k
      · rw [if_pos ((zI_lt f2 zc.2).mpr q2)]
        obtain ⟨y1, y2⟩ := bad (Or.inr (Or.inl q2))
        exact ⟨_, rfl, y1, Or.inl y2⟩
      · rw [if_neg (fun z => q2 ((zI_lt f2 zc.2).mp z)), rdo_nI (by omega) (by decide), some_b, h4]
        have go : ¬ badS m fv k → Ret ((wro τ 9 1 20 (nI k) (zI (fv k))).bind (fun s1005 => (some (.inl ((nI k + (1 : Int32)), s1005)) : Option ((Int32 × St) ⊕ (St ⊕ (Int32 × St)))))) (SumP (fun z => ∃ b, z = (nI (k + 1), b) ∧ F9 σ b ∧ fst (badS m fv) (k + 1) = k + 1 ∧ ∀ j, j < k + 1 → b 9 1 j = zI (fv j)) (SumP (fun τ => F9 σ τ ∧ fst (badS m fv) (cn (m 1)) = cn (m 1) ∧ FlC τ m fv) (fun r => F9 σ r.2 ∧ ((fst (badS m fv) (cn (m 1)) < cn (m 1) ∧ r.1 = nI (fst (badS m fv) (cn (m 1)))) ∨ (fst (badS m fv) (cn (m 1)) = cn (m 1) ∧ r.1 = -1 ∧ FlC r.2 m fv))))) := by
          intro nb
          rw [wro_nI (by omega) (by decide), some_b, nI_1]
          refine ⟨_, rfl, _, rfl, fun x hx => by rw [up3_g hx]; exact t1 x hx, fst_ok t2 nb, fun j hj => ?_⟩
          by_cases e : j = k
          · rw [e, up3_same]
          · rw [up3_i e]; exact t3 j (by omega)
        by_cases q3 : fv k < 0
        · rw [if_pos (show zI (fv k) < 0 by rw [← zI_0]; exact (zI_lt f2 (by unfold zB; omega)).mpr q3)]
          by_cases q4 : m (10 + 5 * k + 3) = 0
          · rw [if_pos q4, bindL_inl]
            exact go (fun z => z.elim q1 (fun y => y.elim q2 (fun x => x.2 q4)))
          · rw [if_neg q4, bindL_inr]
            obtain ⟨y1, y2⟩ := bad (Or.inr (Or.inr ⟨q3, q4⟩))
            exact ⟨_, rfl, y1, Or.inl y2⟩
        · rw [if_neg (show ¬ zI (fv k) < 0 from fun z => q3 (by rw [← zI_0] at z; exact (zI_lt f2 (by unfold zB; omega)).mp z)), bindL_inl]
          exact go (fun z => z.elim q1 (fun y => y.elim q2 (fun x => q3 x.1)))
  · rintro τ ⟨t1, t2, t3⟩
    have nlt : ¬ nI (cn (m 1)) < m 1 := by
      conv => rhs; rhs; rw [b1.1]
      exact nI_nlt (Nat.le_refl _) (by omega)
    show Ret (B_X7_badStreet_2 3 (nI (cn (m 1))) τ) _
    unfold B_X7_badStreet_2
    rw [t1 3 (by decide), hc.1.2.1, if_neg nlt]
    exact ⟨_, rfl, t1, t2, t3⟩
theorem c_badPlace {σ : St} {m : Nat → Int32} {fv : Nat → Int} {a b : Nat} (hw : WF m) (hc : HC (σ 3) m) (F : FlC σ m fv) (ha : a < cn (m 0)) (hb : b < cn (m 0)) : F_X7_badPlace 3 (nI a) (nI b) σ = some (if fst (badP m fv a b) (cn (m 0)) < cn (m 0) then nI (fst (badP m fv a b) (cn (m 0))) else -1) := by
  have b0 := hw.1.1
  have b0' := b0.2
  unfold F_X7_badPlace
  have key : Ret (iter (fun z => B_X7_badPlace_3 3 (nI a) (nI b) z σ) (0 : Int32)) (fun r => r = if fst (badP m fv a b) (cn (m 0)) < cn (m 0) then .inr (nI (fst (badP m fv a b) (cn (m 0)))) else .inl ()) := by
    refine iter_cnt (f := fun z => B_X7_badPlace_3 3 (nI a) (nI b) z σ) (fun p (_ : Unit) => nI p) (fun p _ => fst (badP m fv a b) p = p) (cn (m 0)) ?_ ?_ () rfl
    · rintro p - hp hI
      have lt : nI p < m 0 := by rw [b0.1]; exact nI_lt hp (by omega)
      show Ret (B_X7_badPlace_3 3 (nI a) (nI b) (nI p) σ) _
      unfold B_X7_badPlace_3
      rw [hc.1.1, if_pos lt]
      by_cases q1 : p = a
      · rw [if_pos (by rw [q1]), nI_1]
        exact Ret.some ⟨(), rfl, fst_ok hI (fun z => z.1 q1)⟩
      · rw [if_neg (by rw [nI_eq (by omega) (by omega)]; exact q1)]
        by_cases q2 : p = b
        · rw [if_pos (by rw [q2]), nI_1]
          exact Ret.some ⟨(), rfl, fst_ok hI (fun z => z.2.1 q2)⟩
        · rw [if_neg (by rw [nI_eq (by omega) (by omega)]; exact q2), c_out hw hc F (by omega), some_b]
          by_cases q3 : zI (ou m fv p) = 0
          · rw [if_pos q3, nI_1]
            exact Ret.some ⟨(), rfl, fst_ok hI (fun z => z.2.2 q3)⟩
          · have e := fst_bad hp hI (⟨q1, q2, q3⟩ : badP m fv a b p)
            rw [if_neg q3, if_pos (by omega), e]
            exact ⟨_, rfl, rfl⟩
    · rintro - hI
      have nlt : ¬ nI (cn (m 0)) < m 0 := by
        conv => rhs; rhs; rw [b0.1]
        exact nI_nlt (Nat.le_refl _) (by omega)
      show Ret (B_X7_badPlace_3 3 (nI a) (nI b) (nI (cn (m 0))) σ) _
      unfold B_X7_badPlace_3
      rw [hc.1.1, if_neg nlt, if_neg (show ¬ fst (badP m fv a b) (cn (m 0)) < cn (m 0) by omega)]
      exact ⟨_, rfl, rfl⟩
  obtain ⟨r, r1, r2⟩ := key
  rw [r1, r2]
  by_cases c : fst (badP m fv a b) (cn (m 0)) < cn (m 0)
  · rw [if_pos c, if_pos c, bindL_inr]
  · rw [if_neg c, if_neg c, bindL_inl]
theorem c_inside {σ : St} {m : Nat → Int32} {fv : Nat → Int} {cv : Nat → Nat} {K1 K2 a b : Nat} (hw : WF m) (hc : HC (σ 3) m) (J : JuC σ fv K1 cv K2) (JB : JuB fv K1 cv K2) (ha : a < cn (m 0)) (hb : b < cn (m 0)) : Ret (F_X7_inside 3 (nI a) (nI b) σ) (fun r => (insd m cv K2 a b ∧ ∃ M, r = nI M ∧ M < 256 ∧ ∀ p, p < cn (m 0) → (bit M p ↔ inC cv K2 p)) ∨ (¬ insd m cv K2 a b ∧ r = -1)) := by
  have b0 := hw.1.1.2
  obtain ⟨j1, j2, j3, j4, j5⟩ := J
  unfold F_X7_inside
  rw [nmo_b, j1]
  refine Ret.bindL (Q := fun z => okC m cv K2 ∧ ∃ M, z = nI M ∧ M < 256 ∧ ∀ p, p < 8 → (bit M p ↔ inC cv K2 p)) ?_ ?_
  · refine iter_cnt (f := fun z => B_X7_inside_12 3 (nI a) (nI b) z.1 z.2.1 z.2.2 σ) (fun i (y : Nat × Int32) => (nI y.1, y.2, nI (K1 + i))) (fun i y => okC m cv i ∧ y.2 = (if i = 0 then -1 else nI (cv (i - 1))) ∧ y.1 < 256 ∧ ∀ p, p < 8 → (bit y.1 p ↔ inC cv i p)) K2 ?_ ?_ (0, (-1 : Int32)) ⟨fun i hi => absurd hi (Nat.not_lt_zero i), rfl, by decide, fun p hp => ⟨fun z => ?_, fun ⟨i, hi, _⟩ => absurd hi (Nat.not_lt_zero i)⟩⟩
    · rintro i ⟨M, c⟩ hi ⟨y1, y2, y3, y4⟩
      have y2 : c = (if i = 0 then -1 else nI (cv (i - 1))) := y2
      have y3 : M < 256 := y3
      have y4 : ∀ p, p < 8 → (bit M p ↔ inC cv i p) := y4
      have cb := JB.2 i hi
      have cb' : i ≠ 0 → cv (i - 1) ≤ 9999 := fun _ => JB.2 (i - 1) (by omega)
      show Ret (B_X7_inside_12 3 (nI a) (nI b) (nI M) c (nI (K1 + i)) σ) _
      unfold B_X7_inside_12
      have hcmp : c < nI (cv i) ↔ (i = 0 ∨ cv (i - 1) < cv i) := by
        rw [y2]
        by_cases e : i = 0
        · rw [if_pos e]
          refine ⟨fun _ => Or.inl e, fun _ => ?_⟩
          rw [show (-1 : Int32) = -nI 1 from rfl, Int32.lt_iff_toInt_lt, sb_negT (by decide), nI_toInt (by omega)]
          omega
        · have := cb' e
          rw [if_neg e, nI_ltI (by omega) (by omega)]
          exact ⟨fun z => Or.inr z, fun z => z.resolve_left e⟩
      have none : ¬ (cv i < cn (m 0) ∧ (i = 0 ∨ cv (i - 1) < cv i)) → ¬ insd m cv K2 a b := fun z w => z (w.1 i hi)
      rw [j2, if_pos (nI_lt (by omega) (by omega)), rdo_nI (by omega) (by decide), some_b, j5 i hi]
      by_cases q1 : i = 0 ∨ cv (i - 1) < cv i
      · rw [if_pos (hcmp.mpr q1), c_isPlace hw hc (by omega), some_b]
        by_cases q2 : cv i < cn (m 0)
        · obtain ⟨s1, s2⟩ := bt_set M y3 (cv i) (by omega)
          rw [if_pos q2, if_neg (show ¬ (1 : Int32) = 0 by decide), nmo_b, s1, show nI (K1 + i) + (1 : Int32) = nI (K1 + (i + 1)) from nI_add (K1 + i) 1]
          refine Ret.some ⟨(stb M (cv i), nI (cv i)), rfl, fun j hj => ?_, by rw [if_neg (Nat.succ_ne_zero i)]; rfl, s2, fun p hp => ?_⟩
          · by_cases e : j = i
            · subst e; exact ⟨q2, q1⟩
            · exact y1 j (by omega)
          · rw [show (bit ((stb M (cv i), nI (cv i)) : Nat × Int32).1 p) = bit (stb M (cv i)) p from rfl, bit_stb y3 hp (by omega), y4 p hp]
            constructor
            · rintro (⟨j, h1, h2⟩ | h)
              · exact ⟨j, by omega, h2⟩
              · exact ⟨i, by omega, h.symm⟩
            · rintro ⟨j, h1, h2⟩
              by_cases e : j = i
              · subst e; exact Or.inr h2.symm
              · exact Or.inl ⟨j, by omega, h2⟩
        · rw [if_neg q2, if_pos rfl]
          exact ⟨_, rfl, Or.inr ⟨none (fun z => q2 z.1), rfl⟩⟩
      · rw [if_neg (fun z => q1 (hcmp.mp z))]
        exact ⟨_, rfl, Or.inr ⟨none (fun z => q1 z.2), rfl⟩⟩
    · rintro ⟨M, c⟩ ⟨y1, y2, y3, y4⟩
      show Ret (B_X7_inside_12 3 (nI a) (nI b) (nI M) c (nI (K1 + K2)) σ) _
      unfold B_X7_inside_12
      rw [j2, if_neg (nI_nlt (Nat.le_refl _) (by omega))]
      exact ⟨_, rfl, y1, M, rfl, y3, y4⟩
    · exfalso
      have : ∀ p, p < 8 → ¬ (0 / 2 ^ p % 2 = 1) := by decide +kernel
      exact this p hp z
  · rintro z ⟨ok, M, rfl, hM, hb4⟩
    have ga := bit_get (p := a) hM (by omega)
    have gb := bit_get (p := b) hM (by omega)
    by_cases q1 : inC cv K2 a
    · rw [if_pos (ga.2.mpr ((hb4 a (by omega)).mpr q1))]
      by_cases q2 : inC cv K2 b
      · rw [if_neg (fun z => gb.1.mp z ((hb4 b (by omega)).mpr q2))]
        exact Ret.some (Or.inr ⟨fun z => z.2.2 q2, rfl⟩)
      · rw [if_pos (gb.1.mpr (fun z => q2 ((hb4 b (by omega)).mp z)))]
        exact Ret.some (Or.inl ⟨⟨ok, q1, q2⟩, M, rfl, hM, fun p hp => hb4 p (by omega)⟩)
    · rw [if_neg (fun z => q1 ((hb4 a (by omega)).mp (ga.2.mp z)))]
      exact Ret.some (Or.inr ⟨fun z => q1 z.2.1, rfl⟩)
theorem c_across {σ : St} {m : Nat → Int32} {cv : Nat → Nat} {K2 M : Nat} (hw : WF m) (hc : HC (σ 3) m) (hM : M < 256) (hb : ∀ p, p < cn (m 0) → (bit M p ↔ inC cv K2 p)) : F_X7_across 3 (nI M) σ = some (nI (acN m cv K2 (cn (m 1)))) := by
  have b1 := hw.2.1
  have b1' := b1.2
  have b0 := hw.1.1.2
  unfold F_X7_across
  have key := iter_row (f := fun z => B_X7_across_4 3 (nI M) z.1 z.2 σ) (fun k => (nI (acN m cv K2 k), nI k)) (cn (m 1)) (nI (acN m cv K2 (cn (m 1)))) ?_ ?_ 0 (Nat.zero_le _)
  · rw [show ((0 : Int32), (0 : Int32)) = (nI (acN m cv K2 0), nI 0) from rfl, key, some_b]
  · intro k hk
    obtain ⟨⟨pa, pb, pne⟩, ⟨pea, peb, ow⟩, -⟩ := pipe hw hk
    obtain ⟨h1, h2, -, h4, -⟩ := hc.2.1 k hk
    have lt : nI k < m 1 := by rw [b1.1]; exact nI_lt hk (by omega)
    have ga := bit_get (p := eA m k) hM (by omega)
    have gb := bit_get (p := eB m k) hM (by omega)
    have es : acN m cv K2 (k + 1) = acN m cv K2 k + @ite _ (crs m cv K2 k) (Classical.propDecidable _) (cap m k) 0 := rfl
    have z1 : (if ((nI M >>> (nI (eA m k) &&& 31)) &&& (1 : Int32)) = (1 : Int32) then some ((1 : Int32)) else some ((0 : Int32))) = some (bI (inC cv K2 (eA m k))) := by
      unfold bI
      by_cases q : inC cv K2 (eA m k)
      · rw [if_pos (ga.2.mpr ((hb _ pa).mpr q)), if_pos q]
      · rw [if_neg (fun z => q ((hb _ pa).mp (ga.2.mp z))), if_neg q]
    have z2 : (if ((nI M >>> (nI (eB m k) &&& 31)) &&& (1 : Int32)) = (1 : Int32) then some ((1 : Int32)) else some ((0 : Int32))) = some (bI (inC cv K2 (eB m k))) := by
      unfold bI
      by_cases q : inC cv K2 (eB m k)
      · rw [if_pos (gb.2.mpr ((hb _ pb).mpr q)), if_pos q]
      · rw [if_neg (fun z => q ((hb _ pb).mp (gb.2.mp z))), if_neg q]
    show B_X7_across_4 3 (nI M) (nI (acN m cv K2 k)) (nI k) σ = _
    unfold B_X7_across_4
    rw [hc.1.2.1, if_pos lt, rdo_nI (by omega) (by decide), some_b, h1, pea, z1, some_b, rdo_nI (by omega) (by decide), some_b, h2, peb, z2, some_b, c_isOpenStreet hw hc hk, some_b, es]
    by_cases so : stOpen m k
    · rw [if_pos so, if_neg (show ¬ (1 : Int32) = 0 by decide)]
      have yes : crs m cv K2 k → (F_X7_capacity 3 (nI k) σ).bind (fun r1005 => (nmo (nI (acN m cv K2 k) + r1005)).bind (fun v1006 => (some (.inl (v1006, (nI k + (1 : Int32)))) : Option ((Int32 × Int32) ⊕ Int32)))) = some (.inl (nI (acN m cv K2 k + @ite _ (crs m cv K2 k) (Classical.propDecidable _) (cap m k) 0), nI (k + 1))) := fun c => by
        rw [c_capac hw hc hk, some_b, nmo_b, nI_add, nI_1, if_pos c]
      have no : ¬ crs m cv K2 k → (.inl (nI (acN m cv K2 k), nI k + (1 : Int32)) : (Int32 × Int32) ⊕ Int32) = .inl (nI (acN m cv K2 k + @ite _ (crs m cv K2 k) (Classical.propDecidable _) (cap m k) 0), nI (k + 1)) := fun c => by
        rw [nI_1, if_neg c]; rfl
      unfold bI
      by_cases q1 : inC cv K2 (eA m k)
      · rw [if_pos q1, if_neg (show ¬ (1 : Int32) = 0 by decide)]
        by_cases q2 : inC cv K2 (eB m k)
        · rw [if_pos q2, if_neg (show ¬ (1 : Int32) = 0 by decide), bindL_inl, if_neg (show ¬ (1 : Int32) = 0 by decide), if_neg (show ¬ (1 : Int32) = 0 by decide), bindL_inr, no (fun z => z.2.elim (fun y => y.2 q2) (fun y => y.2.1 q1))]
        · rw [if_neg q2, if_pos rfl, bindL_inr, bindL_inl]
          exact yes ⟨so, Or.inl ⟨q1, q2⟩⟩
      · rw [if_neg q1, if_pos rfl, bindL_inl]
        by_cases q2 : inC cv K2 (eB m k)
        · rw [if_pos q2, if_neg (show ¬ (1 : Int32) = 0 by decide), if_pos rfl, rdo_nI (by omega) (by decide), some_b, h4]
          by_cases q3 : m (10 + 5 * k + 3) = 0
          · rw [if_pos q3, bindL_inl]
            exact yes ⟨so, Or.inr ⟨q2, q1, q3⟩⟩
          · rw [if_neg q3, bindL_inr, no (fun z => z.2.elim (fun y => q1 y.1) (fun y => q3 y.2.2))]
        · rw [if_neg q2, if_pos rfl, bindL_inr, no (fun z => z.2.elim (fun y => q1 y.1) (fun y => q2 y.1))]
    · rw [if_neg so, if_pos rfl, nI_1, if_neg (fun z : crs m cv K2 k => so z.1)]; rfl
  · have nlt : ¬ nI (cn (m 1)) < m 1 := by
      conv => rhs; rhs; rw [b1.1]
      exact nI_nlt (Nat.le_refl _) (by omega)
    show B_X7_across_4 3 (nI M) _ (nI (cn (m 1))) σ = _
    unfold B_X7_across_4
    rw [hc.1.2.1, if_neg nlt]
