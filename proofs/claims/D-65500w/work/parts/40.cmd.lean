/-! S6: a call's end, the model; a new town, the model -/
set_option maxRecDepth 100000
theorem busy_in {m : Nat → Int32} {k : Nat} (hst : bd (m (110 + 8 * k + 5)) 4) : (¬ m (110 + 8 * k + 5) < 2 ∧ ¬ 3 < m (110 + 8 * k + 5)) ↔ busy m k := by
  constructor
  · intro ⟨z1, z2⟩
    have z1 : ¬ m (110 + 8 * k + 5) < nI 2 := z1
    have z2 : ¬ nI 3 < m (110 + 8 * k + 5) := z2
    rw [bd_gt hst (by decide) (by decide)] at z1
    rw [bd_lt hst (by decide) (by decide)] at z2
    by_cases e : cn (m (110 + 8 * k + 5)) = 2
    · exact Or.inl ((bd_eq (k := 2) hst (by decide) (by decide)).mpr e)
    · exact Or.inr ((bd_eq (k := 3) hst (by decide) (by decide)).mpr (by omega))
  · rintro (e | e) <;> rw [e] <;> decide
theorem lgV_set {m : Nat → Int32} {u i : Nat} {v : Int32} (hu : u < 6) (hi : 160 ≤ i) : lgV (setm m i v) u = lgV m u := by
  unfold lgV
  rw [setm_ne (by omega), setm_ne (by omega), setm_ne (by omega)]
theorem lgR_set {m : Nat → Int32} {u i : Nat} {v : Int32} (hu : u < 6) (hi : 160 ≤ i) : lgR (setm m i v) u = setm (lgR m u) i v := by
  unfold lgR
  rw [lgV_set hu hi, setm_comm (i := i) (j := 110 + 8 * u + 5) (by omega), setm_comm (i := i) (j := 110 + 8 * u + 6) (by omega)]
theorem m_endL {σ : St} {m : Nat → Int32} {q : Nat} (hw : WF m) (hq : q < cn (m 3)) : iter (fun z => B_X12_tell_319 (nI q) z.1 z.2) (nI 0, putr σ (setm m (160 + 6 * q + 3) 0)) = some (putr σ (enR m q)) := by
  have hU := hw.2.2.1
  have hU2 := hU.2
  have b3 := hw.2.2.2.1.2
  have key : Ret (iter (fun z => B_X12_tell_319 (nI q) z.1 z.2) (nI 0, putr σ (setm m (160 + 6 * q + 3) 0))) (fun τ => τ = putr σ (enR m q)) := by
    refine iter_cnt (f := fun z => B_X12_tell_319 (nI q) z.1 z.2) (fun k (τ : St) => (nI k, τ)) (fun k τ => (τ = putr σ (setm m (160 + 6 * q + 3) 0) ∧ ∀ u, u < k → ¬ srv m q u) ∨ (∃ u, u < k ∧ srv m q u ∧ τ = putr σ (setm (lgR m u) (160 + 6 * q + 3) 0))) (cn (m 2)) ?_ ?_ _ (Or.inl ⟨rfl, fun u hu => by omega⟩)
    · rintro k τ hk hI
      show Ret (B_X12_tell_319 (nI q) (nI k) τ) _
      unfold B_X12_tell_319
      obtain ⟨-, -, -, -, -, hst, -⟩ := hw.2.2.2.2.2.2.2.2.1 k hk
      have bi := busy_in hst
      rw [m_rd2, some_b, m_unit5 (by omega), some_b, in_eq, some_b, nI_1]
      rcases hI with ⟨rfl, hI⟩ | ⟨u, hu, hs, rfl⟩
      · rw [putr_row, setm_ne (by omega), setm_ne (by omega), if_pos ((bd_lt hU (by decide) (by omega)).mpr hk)]
        by_cases hb : busy m k
        · rw [if_pos (bi.mpr hb), if_neg (by decide), m_unit6 (by omega), some_b, putr_row, setm_ne (by omega)]
          by_cases he : m (110 + 8 * k + 6) = nI q
          · rw [if_pos he, m_letGo (by omega), some_b, lgR_set (by omega) (by omega)]
            exact Ret.some ⟨_, rfl, Or.inr ⟨k, by omega, ⟨hk, hb, he⟩, rfl⟩⟩
          · rw [if_neg he]
            refine Ret.some ⟨_, rfl, Or.inl ⟨rfl, fun u hu hs => ?_⟩⟩
            by_cases e : u = k
            · subst e; exact he hs.2.2
            · exact hI u (by omega) hs
        · rw [if_neg (fun y => hb (bi.mp y)), if_pos rfl]
          refine Ret.some ⟨_, rfl, Or.inl ⟨rfl, fun u hu hs => ?_⟩⟩
          by_cases e : u = k
          · subst e; exact hb hs.2.1
          · exact hI u (by omega) hs
      · have hu6 := hs.1
        rw [putr_row, setm_ne (by omega), lgR_ne (by omega) (by omega), setm_ne (by omega), lgR_ne (by omega) (by omega), if_pos ((bd_lt hU (by decide) (by omega)).mpr hk)]
        by_cases hb : busy m k
        · have he : ¬ m (110 + 8 * k + 6) = nI q := fun he => by
            have := hw.2.2.2.2.2.2.2.2.2.1 k u hk hs.1 hb hs.2.1 (by rw [he, hs.2.2])
            omega
          rw [if_pos (bi.mpr hb), if_neg (by decide), m_unit6 (by omega), some_b, putr_row, setm_ne (by omega), lgR_ne (by omega) (by omega), if_neg he]
          exact Ret.some ⟨_, rfl, Or.inr ⟨u, by omega, hs, rfl⟩⟩
        · rw [if_neg (fun y => hb (bi.mp y)), if_pos rfl]
          exact Ret.some ⟨_, rfl, Or.inr ⟨u, by omega, hs, rfl⟩⟩
    · rintro τ hI
      show Ret (B_X12_tell_319 (nI q) (nI (cn (m 2))) τ) _
      unfold B_X12_tell_319
      have e2 : τ 20 1 2 = m 2 := by
        rcases hI with ⟨rfl, -⟩ | ⟨u, hu, -, rfl⟩
        · rw [putr_row, setm_ne (by omega)]
        · rw [putr_row, setm_ne (by omega), lgR_ne (by omega) (by omega)]
      rw [m_rd2, some_b, e2, if_neg (fun z => Nat.lt_irrefl _ ((bd_lt hU (by decide) (by omega)).mp z))]
      refine Ret.some ?_
      rcases hI with ⟨rfl, hn⟩ | ⟨u, hu, hs, rfl⟩
      · rcases en_cases hw q with ⟨v, h1, h2, -, -⟩ | ⟨-, -, e⟩
        · exact absurd h2 (hn v h1)
        · show _ = putr σ (enR m q)
          rw [e]
      · rcases en_cases hw q with ⟨v, h1, h2, -, e⟩ | ⟨hn, -, -⟩
        · have : u = v := hw.2.2.2.2.2.2.2.2.2.1 u v hs.1 h1 hs.2.1 h2.2.1 (by rw [hs.2.2, h2.2.2])
          subst this
          show _ = putr σ (enR m q)
          rw [e]
        · exact absurd hs (hn u)
  obtain ⟨z, e, hz⟩ := key
  rw [e, hz]
theorem m_begin {σ : St} {n : Nat} (hz : ∀ i, 1532 ≤ i → σ 20 1 i = 0) : F_X12_begin (nI n) σ = some (up3 (up3 (putr σ (bgR n)) 20 0 2 0) 20 0 5 0) := by
  unfold F_X12_begin
  have key := iter_row (f := fun z => B_X12_begin_2 (nI n) z.1 z.2) (fun k => (nI k, putr σ (fun i => if i < k then 0 else σ 20 1 i))) 1532 (putr σ (fun i => if i < 1532 then 0 else σ 20 1 i)) ?_ ?_ 0 (Nat.zero_le _)
  · have e : putr σ (fun i => if i < 0 then 0 else σ 20 1 i) = σ := by
      rw [show (fun i => if i < 0 then (0 : Int32) else σ 20 1 i) = σ 20 1 from by funext i; rw [if_neg (by omega)], putr_self]
    rw [e] at key
    rw [show ((0 : Int32), σ) = (nI 0, σ) from rfl, key, some_b, show (wro (putr σ (fun i => if i < 1532 then 0 else σ 20 1 i)) 20 1 1532 (0 : Int32) (nI n)) = some (putr σ (setm (fun i => if i < 1532 then 0 else σ 20 1 i) 0 (nI n))) from m_wr (k := 0) (by decide), some_b, nst_b, zro_0, some_b, nst_b]
    have e2 : setm (fun i => if i < 1532 then 0 else σ 20 1 i) 0 (nI n) = bgR n := by
      funext i
      unfold setm bgR
      by_cases h0 : i = 0
      · rw [if_pos h0, if_pos h0]
      · rw [if_neg h0, if_neg h0]
        show (if i < 1532 then 0 else σ 20 1 i) = 0
        by_cases h1 : i < 1532
        · rw [if_pos h1]
        · rw [if_neg h1, hz i (by omega)]
    rw [e2]
  · intro k hk
    show B_X12_begin_2 (nI n) (nI k) _ = _
    unfold B_X12_begin_2
    rw [if_pos (show nI k < (1532 : Int32) from nI_lt (b := 1532) hk (by decide)), m_wr hk, some_b, nI_1]
    congr 4
    funext i
    unfold setm
    by_cases e : i = k
    · rw [if_pos e, if_pos (by omega)]
    · rw [if_neg e]
      show (if i < k then 0 else σ 20 1 i) = _
      by_cases e2 : i < k
      · rw [if_pos e2, if_pos (by omega)]
      · rw [if_neg e2, if_neg (by omega)]
  · show B_X12_begin_2 (nI n) (nI 1532) _ = _
    unfold B_X12_begin_2
    rw [if_neg (by decide)]
