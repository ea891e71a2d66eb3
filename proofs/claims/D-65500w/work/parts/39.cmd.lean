/-! S6: a call's end -/
set_option maxRecDepth 100000
/-- the row behind a call's end; u: who serves it -/
noncomputable def enR (m : Nat → Int32) (q : Nat) : Nat → Int32 := setm (if srvI m q < 0 then m else lgR m (cn (srvI m q))) (160 + 6 * q + 3) 0
theorem lgR_ne {m : Nat → Int32} {u i : Nat} (h5 : i ≠ 110 + 8 * u + 5) (h6 : i ≠ 110 + 8 * u + 6) : lgR m u i = m i := by
  unfold lgR
  rw [setm_ne h6, setm_ne h5]
theorem lgR_nb {m : Nat → Int32} {u : Nat} : ¬ busy (lgR m u) u := by
  unfold busy lgR
  rw [setm_ne (by omega), setm_eq]
  exact lgV_nb m u
theorem en_cases {m : Nat → Int32} (hw : WF m) (q : Nat) : (∃ u, u < cn (m 2) ∧ srv m q u ∧ srvI m q = nI u ∧ enR m q = setm (lgR m u) (160 + 6 * q + 3) 0) ∨ ((∀ u, ¬ srv m q u) ∧ srvI m q = -1 ∧ enR m q = setm m (160 + 6 * q + 3) 0) := by
  have b2 := hw.2.2.1.2
  rcases srvI_cases hw q with ⟨u, h1, h2, h3⟩ | ⟨h1, h2⟩
  · refine Or.inl ⟨u, h2.1, h2, h3, ?_⟩
    unfold enR
    rw [h3, if_neg (nI_pos (by omega)), cn_nI (by omega)]
  · refine Or.inr ⟨h1, h2, ?_⟩
    unfold enR
    rw [h2, if_pos (by decide)]
/-- closing a call that nobody serves -/
theorem Rok.cl {m : Nat → Int32} (h : Rok m) {q : Nat} (hq : q < cn (m 3)) (hn : ∀ u, ¬ srv m q u) : Rok (setm m (160 + 6 * q + 3) 0) := by
  have b2 := h.1.2.2.1.2
  have b3 := h.1.2.2.2.1.2
  refine ⟨h.1.ca3 hq (Or.inl rfl) (Or.inr (fun a ha hb he => ?_)), h.2.1.same h.1 (setm_ne (by omega)) (setm_ne (by omega)) (setm_ne (by omega)) (setm_ne (by omega)) (setm_ne (by omega)) (fun u hu => setm_ne (by omega)) (fun q w hq h1 h2 => setm_ne (by omega)) (fun u hu => ?_) ?_, h.2.2.1.same (fun i hi => setm_ne (by omega)) (setm_ne (by omega)) (setm_ne (by omega)) (setm_ne (by omega)) (setm_ne (by omega)), by rw [setm_ne (by omega)]; exact h.2.2.2⟩
  · obtain ⟨-, -, -, -, -, -, -, -, hx⟩ := h.1.2.2.2.2.2.2.2.2.1 a ha
    exact hn a ⟨ha, hb, by rw [(hx hb).1.1, he]⟩
  · simp (disch := omega) only [setm_ne]
    exact h.2.1.2.2.2.2.2.2.1 u hu
  · have := sumN_upd (f := fun q => cn (m (160 + 6 * q + 3))) (v := 0) hq
    have e : (fun x => cn (setm m (160 + 6 * q + 3) 0 (160 + 6 * x + 3))) = updN (fun q => cn (m (160 + 6 * q + 3))) q 0 := by
      funext x
      unfold updN
      by_cases ex : x = q
      · rw [if_pos ex, ex, setm_eq]; rfl
      · rw [if_neg ex, setm_ne (by omega)]
    rw [e]
    have := h.2.1.2.2.2.2.2.2.2
    omega
theorem srv_lg {m : Nat → Int32} (hw : WF m) {u q : Nat} (hs : srv m q u) : ∀ v, ¬ srv (lgR m u) q v := by
  have b2 := hw.2.2.1.2
  rintro v ⟨h1, h2, h3⟩
  have hu := hs.1
  rw [lgR_ne (by omega) (by omega)] at h1
  by_cases e : v = u
  · subst e; exact lgR_nb h2
  · unfold busy at h2
    rw [lgR_ne (by omega) (by omega)] at h2
    rw [lgR_ne (by omega) (by omega)] at h3
    exact e (hw.2.2.2.2.2.2.2.2.2.1 v u h1 hs.1 h2 hs.2.1 (by rw [h3, hs.2.2]))
theorem Rok.en {m : Nat → Int32} (h : Rok m) {q : Nat} (hq : q < cn (m 3)) : Rok (enR m q) := by
  have b2 := h.1.2.2.1.2
  rcases en_cases h.1 q with ⟨u, h1, h2, -, e⟩ | ⟨h1, -, e⟩
  · rw [e]
    exact (h.lg h1).cl (by rw [lgR_ne (by omega) (by omega)]; exact hq) (srv_lg h.1 h2)
  · rw [e]
    exact h.cl hq h1
theorem HH.ca3 {σ : St} {h q : Nat} {m : Nat → Int32} {v : Int32} (hw : WF m) (H : HH (σ h) m) (hq : q < cn (m 3)) : HH (up3 σ h 27 q (1 - v) h) (setm m (160 + 6 * q + 3) v) := by
  have b3 := hw.2.2.2.1.2
  exact H.upd hw (SameW.set (by omega)) (fun i hi => setm_ne (by omega)) (setm_ne (by omega)) (setm_ne (by omega)) (H.1.ca3 hw hq) (by omega) (by omega)
theorem up3_comm {σ : St} {h j i j' i' : Nat} {v v' : Int32} (hj : j ≠ j') : up3 (up3 σ h j i v) h j' i' v' = up3 (up3 σ h j' i' v') h j i v := by
  funext a b c
  unfold up3
  grind
theorem c_end {σ : St} {h q : Nat} {m : Nat → Int32} (hw : WF m) (H : HH (σ h) m) (hq : q < cn (m 3)) : Ret (F_X3_end h (nI q) σ) (fun τ => (∀ a, a ≠ h → τ a = σ a) ∧ HH (τ h) (enR m q)) := by
  have b2 := hw.2.2.1.2
  have b3 := hw.2.2.2.1.2
  unfold F_X3_end
  rw [c_serves hw H.1 (by omega), some_b, wrz_nI (by omega) (by decide) (Or.inr rfl), some_b]
  rcases en_cases hw q with ⟨u, h1, h2, e1, e⟩ | ⟨h1, e1, e⟩
  · rw [e, e1, if_neg (nI_pos (by omega))]
    obtain ⟨τ, eτ, t1, t2⟩ := c_letGo hw H h1
    have w1 := (hw.lg h1).2
    have k : F_X3_letGo h (nI u) (up3 σ h 27 q 1) = some (up3 τ h 27 q 1) := by
      unfold F_X3_letGo at eτ ⊢
      rw [rdo_nI (by omega) (by decide), some_b, rdo_nI (by omega) (by decide), some_b, rdo_nI (by omega) (by decide), some_b] at eτ ⊢
      rw [up3_j (by decide), up3_j (by decide), up3_j (by decide)]
      generalize hz : (if σ h 18 u = 0 then if σ h 17 u = σ h 15 u then some (0 : Int32) else some 1 else some 1) = z at eτ ⊢
      cases z with
      | none => simp at eτ
      | some v =>
        rw [some_b, wro_nI (by omega) (by decide), some_b] at eτ ⊢
        injection eτ with eτ
        rw [← eτ, up3_comm (by decide)]
    rw [k, some_b]
    refine Ret.some ⟨fun a ha => by rw [up3_g ha, t1 a ha], ?_⟩
    exact HH.ca3 (v := 0) w1 t2 (by rw [lgR_ne (by omega) (by omega)]; exact hq)
  · rw [e, e1, if_pos (by decide)]
    exact Ret.some ⟨fun a ha => up3_g ha, HH.ca3 (v := 0) hw H hq⟩
