/-! S6: a call's rank; a new town -/
set_option maxRecDepth 100000
theorem Rok.rk {m : Nat → Int32} (h : Rok m) {q r : Nat} (hq : q < cn (m 3)) (hr1 : 1 ≤ r) (hr2 : r ≤ 9) : Rok (setm m (160 + 6 * q + 2) (nI r)) := by
  have b2 := h.1.2.2.1.2
  have b3 := h.1.2.2.2.1.2
  refine ⟨h.1.ca2 hq (by rw [cn_nI (by omega)]; exact ⟨bd_nI hr2 (by decide), hr1⟩), h.2.1.same h.1 (setm_ne (by omega)) (setm_ne (by omega)) (setm_ne (by omega)) (setm_ne (by omega)) (setm_ne (by omega)) (fun u hu => setm_ne (by omega)) (fun q w hq h1 h2 => setm_ne (by omega)) (fun u hu => ?_) ?_, h.2.2.1.same (fun i hi => setm_ne (by omega)) (setm_ne (by omega)) (setm_ne (by omega)) (setm_ne (by omega)) (setm_ne (by omega)), by rw [setm_ne (by omega)]; exact h.2.2.2⟩
  · simp (disch := omega) only [setm_ne]
    exact h.2.1.2.2.2.2.2.2.1 u hu
  · rw [sumN_congr (g := fun q => cn (m (160 + 6 * q + 3))) (fun q hq => by rw [setm_ne (by omega)])]
    exact h.2.1.2.2.2.2.2.2.2
theorem HH.rk {σ : St} {h q : Nat} {m : Nat → Int32} {v : Int32} (hw : WF m) (H : HH (σ h) m) (hq : q < cn (m 3)) : HH (up3 σ h 24 q v h) (setm m (160 + 6 * q + 2) v) := by
  have b3 := hw.2.2.2.1.2
  exact H.upd hw (SameW.set (by omega)) (fun i hi => setm_ne (by omega)) (setm_ne (by omega)) (setm_ne (by omega)) (H.1.ca2 hw hq) (by omega) (by omega)
/-- a new town -/
def bgR (n : Nat) : Nat → Int32 := fun i => if i = 0 then nI n else 0
theorem bgR_0 (n : Nat) : bgR n 0 = nI n := rfl
theorem bgR_s {n i : Nat} (h : i ≠ 0) : bgR n i = 0 := by unfold bgR; rw [if_neg h]
theorem Rok.bg {n : Nat} (h1 : 2 ≤ n) (h2 : n ≤ 8) : Rok (bgR n) := by
  have z : cn 0 = 0 := rfl
  refine ⟨⟨⟨bd_nI h2 (by decide), by rw [bgR_0, cn_nI (by omega)]; exact h1⟩, bd_nI (k := 0) (by decide) (by decide), bd_nI (k := 0) (by decide) (by decide), bd_nI (k := 0) (by decide) (by decide), bd_nI (k := 0) (by decide) (by decide), bd_nI (k := 0) (by decide) (by decide), bd_nI (k := 0) (by decide) (by decide), fun k hk => ?_, fun u hu => ?_, fun u v hu => ?_, fun q hq => ?_⟩, ⟨fun u hu => ?_, bd_nI (k := 0) (Nat.zero_le _) (by rw [bgR_s (by decide), z]; decide), bd_nI (k := 0) (Nat.zero_le _) (by rw [bgR_s (by decide), z]; decide), fun q hq => ?_, Nat.zero_le _, rfl, fun u hu => ?_, Nat.zero_le _⟩, ⟨fun p hp => ?_, fun k hk => ?_, fun k hk => ?_, fun k _ _ => ⟨bgR_s (by omega), bgR_s (by omega)⟩, fun u _ _ => ⟨bgR_s (by omega), bgR_s (by omega)⟩, fun i hi => bgR_s (by omega)⟩, by rw [bgR_s (by decide), z]; decide⟩
  · rw [bgR_s (by decide), z] at hk; omega
  · rw [bgR_s (by decide), z] at hu; omega
  · rw [bgR_s (by decide), z] at hu; omega
  · rw [bgR_s (by decide), z] at hq; omega
  · rw [bgR_s (by decide), z] at hu; omega
  · rw [bgR_s (by decide), z] at hq; omega
  · rw [bgR_s (by decide), z] at hu; omega
  · rw [bgR_s (by omega)]
    exact ⟨bd_nI (k := 0) (by decide) (by decide), fun i hi => by rw [z] at hi; omega⟩
  · rw [bgR_s (by decide), z] at hk; omega
  · rw [bgR_s (by decide), z] at hk; omega
theorem c_begin {σ : St} {h n : Nat} (hb : HB (σ h)) : Ret (F_X3_begin h (nI n) σ) (fun τ => (∀ a, a ≠ h → τ a = σ a) ∧ HH (τ h) (bgR n)) := by
  have z : cn 0 = 0 := rfl
  unfold F_X3_begin
  rw [nst_b, nst_b, nst_b, nst_b, nst_b, nst_b, nst_b, nst_b, nst_b]
  generalize es : up3 (up3 (up3 (up3 (up3 (up3 (up3 (up3 (up3 σ h 0 28 (nI n)) h 0 29 0) h 0 30 0) h 0 31 0) h 0 32 0) h 0 33 0) h 0 34 0) h 0 35 0) h 0 36 0 = s9
  have key : Ret (iter (fun z => B_X3_begin_47 h z.1 z.2) (nI 0, s9)) (fun τ => (∀ a, a ≠ h → τ a = s9 a) ∧ (∀ b, b ≠ 13 → τ h b = s9 h b) ∧ ∀ p, p < 8 → τ h 13 p = 0) := by
    refine iter_cnt (f := fun z => B_X3_begin_47 h z.1 z.2) (fun k (τ : St) => (nI k, τ)) (fun k τ => (∀ a, a ≠ h → τ a = s9 a) ∧ (∀ b, b ≠ 13 → τ h b = s9 h b) ∧ ∀ p, p < k → τ h 13 p = 0) 8 ?_ ?_ s9 ⟨fun _ _ => rfl, fun _ _ => rfl, fun p hp => by omega⟩
    · rintro k τ hk ⟨h1, h2, h3⟩
      show Ret (B_X3_begin_47 h (nI k) τ) _
      unfold B_X3_begin_47
      rw [if_pos (show nI k < (8 : Int32) from nI_lt (b := 8) hk (by decide)), wro_nI hk (by decide), some_b, nI_1]
      refine Ret.some ⟨_, rfl, fun a ha => (up3_g ha).trans (h1 a ha), fun b hb => (up3_j hb).trans (h2 b hb), fun p hp => ?_⟩
      by_cases e : p = k
      · subst e; rw [up3_same]
      · rw [up3_i e, h3 p (by omega)]
    · rintro τ hτ
      show Ret (B_X3_begin_47 h (nI 8) τ) _
      unfold B_X3_begin_47
      rw [if_neg (by decide)]
      exact Ret.some hτ
  rw [show ((0 : Int32), s9) = (nI 0, s9) from rfl]
  refine Ret.bind key (fun τ hτ => ?_)
  obtain ⟨h1, h2, h3⟩ := hτ
  rw [zro_0, some_b, nst_b]
  have e0 : τ h 0 = s9 h 0 := h2 0 (by decide)
  refine Ret.some ⟨fun a ha => ?_, ⟨⟨?_, ?_, ?_, ?_, ?_, ?_, ?_, ?_, ?_⟩, fun j hj => ?_, fun u hu => ?_, fun q hq => ?_⟩, ⟨?_, ?_⟩, ⟨fun p hp => ⟨?_, fun i hi => ?_⟩, fun k hk => ?_, fun k hk => ?_⟩, ?_⟩
  · rw [up3_g ha, h1 a ha, ← es]; simp only [up3_g ha]
  · rw [up3_i (by decide), e0, ← es]; simp (disch := decide) only [up3_i, up3_same]; rfl
  · rw [up3_i (by decide), e0, ← es]; simp (disch := decide) only [up3_i, up3_same]; rfl
  · rw [up3_i (by decide), e0, ← es]; simp (disch := decide) only [up3_i, up3_same]; rfl
  · rw [up3_i (by decide), e0, ← es]; simp (disch := decide) only [up3_i, up3_same]; rfl
  · rw [up3_i (by decide), e0, ← es]; simp (disch := decide) only [up3_i, up3_same]; rfl
  · rw [up3_i (by decide), e0, ← es]; simp (disch := decide) only [up3_i, up3_same]; rfl
  · rw [up3_i (by decide), e0, ← es]; simp (disch := decide) only [up3_i, up3_same]; rfl
  · rw [up3_i (by decide), e0, ← es]; simp (disch := decide) only [up3_i, up3_same]; rfl
  · rw [up3_i (by decide), e0, ← es]; simp (disch := decide) only [up3_same]; rfl
  · rw [bgR_s (by decide), z] at hj; omega
  · rw [bgR_s (by decide), z] at hu; omega
  · rw [bgR_s (by decide), z] at hq; omega
  · rw [up3_same]; exact Or.inl rfl
  · intro y; rw [up3_same] at y; exact absurd y (by decide)
  · rw [up3_j (by decide), h3 p hp, bgR_s (by omega)]
  · rw [bgR_s (by omega), z] at hi; omega
  · rw [bgR_s (by decide), z] at hk; omega
  · rw [bgR_s (by decide), z] at hk; omega
  · unfold HB
    rw [up3_j (by decide), up3_j (by decide), h2 10 (by decide), h2 11 (by decide), ← es]
    simp (disch := decide) only [up3_j]
    exact hb
