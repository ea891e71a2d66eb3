/-! S11: flows of the model: steps, rooms -/
set_option maxRecDepth 100000
def FlM (σ : St) (m : Nat → Int32) (f : Nat → Int) : Prop := ∀ k, k < cn (m 1) → σ 20 52 k = zI (f k)
theorem FlM.fr {σ τ : St} {m : Nat → Int32} {f : Nat → Int} (h : FlM σ m f) (e : τ 20 52 = σ 20 52) : FlM τ m f := fun k hk => by rw [e]; exact h k hk
theorem m_oth {σ : St} {m : Nat → Int32} {k p : Nat} (hw : WF m) (hm : σ 20 1 = m) (hk : k < cn (m 1)) (hp : p < 100) : F_X12_otherEnd (nI k) (nI p) σ = some (nI (ot m k p)) := by
  have b1 := hw.2.1.2
  have b0 := hw.1.1.2
  obtain ⟨⟨a, b, c⟩, ⟨ea, eb, -⟩, -⟩ := pipe hw hk
  rw [m_otherEnd (by omega), hm, ea, eb, ot]
  by_cases q : eA m k = p
  · rw [if_pos (by rw [q]), if_pos q]
  · rw [if_neg (by rw [nI_eq (by omega) (by omega)]; exact q), if_neg q]
theorem m_capac {σ : St} {m : Nat → Int32} {k : Nat} (hw : WF m) (hm : σ 20 1 = m) (hk : k < cn (m 1)) : F_X12_capacity (nI k) σ = some (nI (cap m k)) := by
  have b1 := hw.2.1.2
  unfold F_X12_capacity
  rw [m_street2 (by omega), some_b, hm, cap_dv hw hk, some_b]
theorem m_room {σ : St} {m : Nat → Int32} {f : Nat → Int} {k p : Nat} (hw : WF m) (hm : σ 20 1 = m) (F : FlM σ m f) (hk : k < cn (m 1)) (hp : p < 100) : F_X12_room (nI k) (nI p) σ = some (zI (rm m f k p)) := by
  have b1 := hw.2.1.2
  have b0 := hw.1.1.2
  obtain ⟨⟨a, b, c⟩, ⟨ea, eb, ow⟩, -, c1, c2⟩ := pipe hw hk
  unfold F_X12_room rm
  rw [m_isOpenNow (by omega), some_b, hm]
  by_cases so : stOpen m k
  · rw [if_pos so, if_neg (show ¬ (1 : Int32) = 0 by decide), m_street0 (by omega), some_b, hm, ea, if_pos so]
    by_cases q : eA m k = p
    · rw [if_pos (by rw [q]), m_capac hw hm hk, some_b, rdo_nI (by omega) (by decide), some_b, F k hk, ← zI_nat, zI_sub, if_pos q]
    · rw [if_neg (by rw [nI_eq (by omega) (by omega)]; exact q), m_street1 (by omega), some_b, hm, eb, if_neg q]
      by_cases r : eB m k = p
      · rw [if_pos (by rw [r]), m_street3 (by omega), some_b, hm, if_pos r]
        rcases ow with o | o
        · rw [if_neg (show ¬ m (10 + 5 * k + 3) = 1 by rw [o]; decide), m_capac hw hm hk, some_b, rdo_nI (by omega) (by decide), some_b, F k hk, ← zI_nat, zI_add, if_pos o]
        · rw [if_pos o, rdo_nI (by omega) (by decide), some_b, F k hk, if_neg (show ¬ m (10 + 5 * k + 3) = 0 by rw [o]; decide)]
      · rw [if_neg (by rw [nI_eq (by omega) (by omega)]; exact r), if_neg r]; rfl
  · rw [if_neg so, if_pos rfl, if_neg so]; rfl
def HdM (τ : St) (m : Nat → Int32) (f : Nat → Int) (b : Nat) : Prop := ∀ p, p < cn (m 0) → τ 20 53 p = dI (hd (Rs m f) b p)
/-- a layer: places at most c steps away, and those found one step farther -/
noncomputable def lvI (E : Nat → Nat → Prop) (b c : Nat) (S : Nat → Prop) (p : Nat) : Int32 := @ite _ (hf E b p ∧ hd E b p ≤ c) (Classical.propDecidable _) (nI (hd E b p)) (@ite _ (S p) (Classical.propDecidable _) (nI (c + 1)) (-1))
def LyM (σ τ : St) (m : Nat → Int32) (f : Nat → Int) (b c : Nat) (S : Nat → Prop) : Prop := Fr σ τ 20 53 ∧ (∀ p, p < cn (m 0) → τ 20 53 p = lvI (Rs m f) b c S p) ∧ ∀ p, S p → hf (Rs m f) b p ∧ hd (Rs m f) b p = c + 1
theorem lv_eq {E : Nat → Nat → Prop} {b c p : Nat} {S : Nat → Prop} (hc : c < 1000) (hS : S p → hf E b p ∧ hd E b p = c + 1) : lvI E b c S p = nI c ↔ (hf E b p ∧ hd E b p = c) := by
  unfold lvI
  by_cases q : hf E b p ∧ hd E b p ≤ c
  · rw [if_pos q, nI_eq (by omega) (by omega)]
    exact ⟨fun z => ⟨q.1, z⟩, fun z => z.2⟩
  · rw [if_neg q]
    by_cases s : S p
    · rw [if_pos s, nI_eq (by omega) (by omega)]
      exact ⟨fun z => by omega, fun z => absurd ⟨z.1, by omega⟩ q⟩
    · rw [if_neg s]
      refine ⟨fun z => ?_, fun z => absurd ⟨z.1, by omega⟩ q⟩
      have : nI c < 0 := by rw [← z]; decide
      exact absurd this (nI_pos (by omega))
theorem lv_neg {E : Nat → Nat → Prop} {b c p : Nat} {S : Nat → Prop} (hc : c < 1000) : lvI E b c S p < 0 ↔ ¬ (hf E b p ∧ hd E b p ≤ c) ∧ ¬ S p := by
  unfold lvI
  by_cases q : hf E b p ∧ hd E b p ≤ c
  · rw [if_pos q]
    exact ⟨fun z => absurd z (nI_pos (by omega)), fun z => absurd q z.1⟩
  · rw [if_neg q]
    by_cases s : S p
    · rw [if_pos s]
      exact ⟨fun z => absurd z (nI_pos (by omega)), fun z => absurd s z.2⟩
    · rw [if_neg s]
      exact ⟨fun _ => ⟨q, s⟩, fun _ => by decide⟩
/-- place z is found over street k if its other end is in the layer -/
theorem ly_half {σ τ : St} {m : Nat → Int32} {f : Nat → Int} {b c k z : Nat} {S : Nat → Prop} (hw : WF m) (hm : σ 20 1 = m) (F : FlM σ m f) (FI : FlI m f) (hc : c < 8) (hk : k < cn (m 1)) (hz : eA m k = z ∨ eB m k = z) (L : LyM σ τ m f b c S) : ∃ τ' S', LyM σ τ' m f b c S' ∧ (∀ p, S p → S' p) ∧ (0 < rm m f k z → hf (Rs m f) b (ot m k z) ∧ hd (Rs m f) b (ot m k z) = c → ¬ (hf (Rs m f) b z ∧ hd (Rs m f) b z ≤ c) → S' z) ∧ ∀ {β : Type} (K : St → Option β), (if lvI (Rs m f) b c S (ot m k z) = nI c then (if lvI (Rs m f) b c S z < 0 then (if (0 : Int32) < zI (rm m f k z) then K (up3 τ 20 53 z (nI (c + 1))) else K τ) else K τ) else K τ) = K τ' := by
  obtain ⟨⟨pa, pb, pne⟩, -⟩ := pipe hw hk
  have hzb : z < cn (m 0) := by omega
  have hob : ot m k z < cn (m 0) := by unfold ot; split <;> omega
  obtain ⟨r1, r2⟩ := rm_nn (p := z) hw FI hk
  obtain ⟨l1, l2, l3⟩ := L
  by_cases q1 : lvI (Rs m f) b c S (ot m k z) = nI c
  · have o1 := (lv_eq (by omega) (l3 _)).mp q1
    by_cases q2 : lvI (Rs m f) b c S z < 0
    · have n1 := (lv_neg (by omega)).mp q2
      by_cases q3 : 0 < rm m f k z
      · have q3' : (0 : Int32) < zI (rm m f k z) := (zI_pos (by unfold zB; omega)).mpr q3
        have hx := hf_E (E := Rs m f) (b := b) (p := z) (q := ot m k z) ⟨k, hk, q3, rfl⟩ o1.1
        have hz2 : hd (Rs m f) b z = c + 1 := by
          rcases Nat.lt_or_ge c (hd (Rs m f) b z) with w | w
          · have := hx.2; omega
          · exact absurd ⟨hx.1, w⟩ n1.1
        refine ⟨up3 τ 20 53 z (nI (c + 1)), fun p => S p ∨ p = z, ⟨l1.up _ _, fun p hp => ?_, fun p hp => ?_⟩, fun p hp => Or.inl hp, fun _ _ _ => Or.inr rfl, fun K => ?_⟩
        · by_cases e : p = z
          · subst e
            rw [up3_same]
            unfold lvI
            rw [if_neg n1.1, if_pos (Or.inr rfl)]
          · rw [up3_i e, l2 p hp]
            unfold lvI
            by_cases w : hf (Rs m f) b p ∧ hd (Rs m f) b p ≤ c
            · rw [if_pos w, if_pos w]
            · rw [if_neg w, if_neg w]
              by_cases s : S p
              · rw [if_pos s, if_pos (Or.inl s)]
              · rw [if_neg s, if_neg (fun x => x.elim s e)]
        · rcases hp with hp | hp
          · exact l3 p hp
          · rw [hp]; exact ⟨hx.1, hz2⟩
        · rw [if_pos q1, if_pos q2, if_pos q3']
      · have q3' : ¬ (0 : Int32) < zI (rm m f k z) := fun w => q3 ((zI_pos (by unfold zB; omega)).mp w)
        exact ⟨τ, S, ⟨l1, l2, l3⟩, fun _ h => h, fun w => absurd w q3, fun K => by rw [if_pos q1, if_pos q2, if_neg q3']⟩
    · refine ⟨τ, S, ⟨l1, l2, l3⟩, fun _ h => h, fun _ _ hn => ?_, fun K => by rw [if_pos q1, if_neg q2]⟩
      by_cases s : S z
      · exact s
      · exact absurd ((lv_neg (by omega)).mpr ⟨hn, s⟩) q2
  · exact ⟨τ, S, ⟨l1, l2, l3⟩, fun _ h => h, fun _ ho => absurd ((lv_eq (by omega) (l3 _)).mpr ho) q1, fun K => by rw [if_neg q1]⟩
theorem ot_ends {m : Nat → Int32} {k : Nat} (h : eA m k ≠ eB m k) : ot m k (eA m k) = eB m k ∧ ot m k (eB m k) = eA m k := ⟨by unfold ot; rw [if_pos rfl], by unfold ot; rw [if_neg h]⟩
theorem m_layer {σ : St} {m : Nat → Int32} {f : Nat → Int} {b c : Nat} (hw : WF m) (hm : σ 20 1 = m) (F : FlM σ m f) (FI : FlI m f) (hc : c < 8) {τ : St} (L : LyM σ τ m f b c (fun _ => False)) : Ret (iter (fun z => B_X12_findFar_40 (nI c) z.1 z.2) ((0 : Int32), τ)) (fun υ => LyM σ υ m f b (c + 1) (fun _ => False)) := by
  have b1 := hw.2.1
  have b1' := b1.2
  have b0 := hw.1.1.2
  have fx : ∀ υ S, LyM σ υ m f b c S → υ 20 1 = m ∧ FlM υ m f := fun υ S h => ⟨by rw [h.1 20 1 (by omega)]; exact hm, F.fr (h.1 20 52 (by omega))⟩
  refine iter_cnt (f := fun z => B_X12_findFar_40 (nI c) z.1 z.2) (fun k (υ : St) => (nI k, υ)) (fun k υ => ∃ S, LyM σ υ m f b c S ∧ ∀ j z, j < k → (eA m j = z ∨ eB m j = z) → 0 < rm m f j z → hf (Rs m f) b (ot m j z) ∧ hd (Rs m f) b (ot m j z) = c → ¬ (hf (Rs m f) b z ∧ hd (Rs m f) b z ≤ c) → S z) (cn (m 1)) ?_ ?_ τ ⟨_, L, fun j z hj => absurd hj (Nat.not_lt_zero j)⟩
  · rintro k υ hk ⟨S, h1, h2⟩
    obtain ⟨mυ, Fυ⟩ := fx υ S h1
    obtain ⟨⟨pa, pb, pne⟩, ⟨pea, peb, -⟩, -⟩ := pipe hw hk
    obtain ⟨oa, ob⟩ := ot_ends pne
    have lt : nI k < m 1 := by rw [b1.1]; exact nI_lt hk (by omega)
    obtain ⟨υ1, S1, a1, a2, a3, a4⟩ := ly_half (z := eB m k) hw hm F FI hc hk (Or.inr rfl) h1
    obtain ⟨υ2, S2, c1, c2, c3, c4⟩ := ly_half (z := eA m k) hw hm F FI hc hk (Or.inl rfl) a1
    obtain ⟨mυ1, Fυ1⟩ := fx υ1 S1 a1
    rw [ob] at a3 a4
    rw [oa] at c3 c4
    show Ret (B_X12_findFar_40 (nI c) (nI k) υ) _
    unfold B_X12_findFar_40
    rw [m_rd1, some_b, mυ, if_pos lt, m_street0 (by omega), some_b, m_street1 (by omega), some_b, mυ, pea, peb, rdo_nI (by omega) (by decide), some_b, rdo_nI (by omega) (by decide), some_b, m_room hw mυ Fυ hk (by omega), some_b, nI_1, wro_nI (by omega) (by decide), some_b, h1.2.1 _ pa, h1.2.1 _ pb]
    have e1 := a4 (fun s => (some s : Option St))
    rw [e1, some_b, rdo_nI (by omega) (by decide), some_b, rdo_nI (by omega) (by decide), some_b, m_room hw mυ1 Fυ1 hk (by omega), some_b, wro_nI (by omega) (by decide), some_b, a1.2.1 _ pa, a1.2.1 _ pb, nI_1]
    have e2 := c4 (fun s => (some (.inl (nI (k + 1), s)) : Option ((Int32 × St) ⊕ St)))
    rw [e2]
    refine Ret.some ⟨υ2, rfl, S2, c1, fun j z hj hz hr ho hn => ?_⟩
    by_cases e : j = k
    · subst e
      rcases hz with y | y
      · rw [← y] at hr ho hn ⊢
        rw [oa] at ho
        exact c3 hr ho hn
      · rw [← y] at hr ho hn ⊢
        rw [ob] at ho
        exact c2 _ (a3 hr ho hn)
    · exact c2 _ (a2 _ (h2 j z (by omega) hz hr ho hn))
  · rintro υ ⟨S, h1, h2⟩
    obtain ⟨mυ, Fυ⟩ := fx υ S h1
    have nlt : ¬ nI (cn (m 1)) < m 1 := by
      conv => rhs; rhs; rw [b1.1]
      exact nI_nlt (Nat.le_refl _) (by omega)
    show Ret (B_X12_findFar_40 (nI c) (nI (cn (m 1))) υ) _
    unfold B_X12_findFar_40
    rw [m_rd1, some_b, mυ, if_neg nlt]
    refine ⟨_, rfl, h1.1, fun p hp => ?_, fun p hp => hp.elim⟩
    rw [h1.2.1 p hp]
    unfold lvI
    rw [if_neg (show ¬ (fun _ : Nat => False) p from fun z => z)]
    by_cases w : hf (Rs m f) b p ∧ hd (Rs m f) b p ≤ c
    · rw [if_pos w, if_pos ⟨w.1, by omega⟩]
    · rw [if_neg w]
      by_cases s : S p
      · obtain ⟨s1, s2⟩ := h1.2.2 p s
        rw [if_pos s, if_pos ⟨s1, by omega⟩, s2]
      · rw [if_neg s]
        by_cases y : hf (Rs m f) b p ∧ hd (Rs m f) b p ≤ c + 1
        · exfalso
          have y2 : hd (Rs m f) b p = c + 1 := by
            rcases Nat.lt_or_ge c (hd (Rs m f) b p) with u | u
            · omega
            · exact absurd ⟨y.1, u⟩ w
          have hpb : p ≠ b := fun z => by rw [z, hd_b] at y2; omega
          obtain ⟨q, ⟨j, j1, j2, j3⟩, q2, q3⟩ := hd_pre y.1 hpb
          rw [j3] at q2 q3
          exact s (h2 j p j1 (rm_end j2) j2 ⟨q2, by omega⟩ w)
        · rw [if_neg y]
theorem m_findFar {σ : St} {m : Nat → Int32} {f : Nat → Int} {b : Nat} (hw : WF m) (hb : b < cn (m 0)) (hm : σ 20 1 = m) (F : FlM σ m f) (FI : FlI m f) : Ret (F_X12_findFar (nI b) σ) (fun τ => Fr σ τ 20 53 ∧ HdM τ m f b) := by
  have b0 := hw.1.1.2
  unfold F_X12_findFar
  refine Ret.bind (Q := fun τ => LyM σ τ m f b 0 (fun _ => False)) ?_ ?_
  · refine iter_cnt (f := fun z => B_X12_findFar_2 (nI b) z.1 z.2) (fun k (τ : St) => (nI k, τ)) (fun k τ => Fr σ τ 20 53 ∧ ∀ p, p < k → τ 20 53 p = (if p = b then 0 else -1)) 8 ?_ ?_ σ ⟨Fr.rf σ 20 53, fun p hp => absurd hp (Nat.not_lt_zero p)⟩
    · rintro k τ hk ⟨t1, t2⟩
      show Ret (B_X12_findFar_2 (nI b) (nI k) τ) _
      unfold B_X12_findFar_2
      rw [if_pos (show nI k < (8 : Int32) from nI_lt (b := 8) hk (by decide))]
      have ev : (if nI k = nI b then some ((0 : Int32)) else some ((-1 : Int32))) = some (if k = b then 0 else -1) := by
        by_cases e : k = b
        · rw [if_pos (by rw [e]), if_pos e]
        · rw [if_neg (by rw [nI_eq (by omega) (by omega)]; exact e), if_neg e]
      rw [ev, some_b, wro_nI (by omega) (by decide), some_b, nI_1]
      refine Ret.some ⟨_, rfl, t1.up _ _, fun p hp => ?_⟩
      by_cases e : p = k
      · rw [e, up3_same]
      · rw [up3_i e]; exact t2 p (by omega)
    · rintro τ ⟨t1, t2⟩
      show Ret (B_X12_findFar_2 (nI b) (nI 8) τ) _
      unfold B_X12_findFar_2
      rw [if_neg (by decide)]
      refine ⟨_, rfl, t1, fun p hp => ?_, fun p hp => hp.elim⟩
      rw [t2 p (by omega)]
      unfold lvI
      rw [if_neg (show ¬ (fun _ : Nat => False) p from fun z => z)]
      by_cases e : p = b
      · rw [if_pos e, e, if_pos ⟨⟨0, rfl⟩, by rw [hd_b]; exact Nat.le_refl _⟩, hd_b]; rfl
      · rw [if_neg e, if_neg]
        rintro ⟨z1, z2⟩
        have := (hd_some z1).1
        rw [show hd (Rs m f) b p = 0 by omega] at this
        exact e this
  rintro τ L
  refine Ret.bind (Q := fun υ => LyM σ υ m f b 8 (fun _ => False)) ?_ ?_
  · refine iter_cnt (f := fun z => B_X12_findFar_32 z.1 z.2) (fun c (υ : St) => (nI c, υ)) (fun c υ => LyM σ υ m f b c (fun _ => False)) 8 ?_ ?_ τ L
    · rintro c υ hc h
      show Ret (B_X12_findFar_32 (nI c) υ) _
      unfold B_X12_findFar_32
      rw [if_pos (show nI c < (8 : Int32) from nI_lt (b := 8) hc (by decide))]
      refine Ret.bind (m_layer hw hm F FI hc h) ?_
      rintro ρ hρ
      rw [nI_1]
      exact Ret.some ⟨ρ, rfl, hρ⟩
    · rintro υ h
      show Ret (B_X12_findFar_32 (nI 8) υ) _
      unfold B_X12_findFar_32
      rw [if_neg (by decide)]
      exact ⟨_, rfl, h⟩
  rintro υ h
  refine Ret.some ⟨h.1, fun p hp => ?_⟩
  rw [h.2.1 p hp]
  unfold lvI
  rw [if_neg (show ¬ (fun _ : Nat => False) p from fun z => z)]
  by_cases q : hf (Rs m f) b p
  · have := hd_7 (E := Rs m f) (fun p q hpq => Rs_lt hw hpq) hb hp q
    rw [if_pos ⟨q, by omega⟩, dI_fin (by omega)]
  · rw [if_neg (fun z => q z.1), hd_none q, dI_far]
