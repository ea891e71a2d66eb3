/-! S6: one number of the row is set: what stays (printed by mkupd.py) -/
set_option maxRecDepth 100000
def setm (m : Nat → Int32) (i : Nat) (v : Int32) : Nat → Int32 := fun j => if j = i then v else m j
theorem setm_eq {m : Nat → Int32} {i : Nat} {v : Int32} : setm m i v i = v := by unfold setm; rw [if_pos rfl]
theorem setm_ne {m : Nat → Int32} {i j : Nat} {v : Int32} (h : j ≠ i) : setm m i v j = m j := by unfold setm; rw [if_neg h]
theorem up3_row {σ : St} {g j i : Nat} {v : Int32} : up3 σ g j i v g j = setm (σ g j) i v := by
  funext x
  unfold up3 setm
  by_cases e : x = i <;> simp [e]
/-- cells of a house, one set -/
def setc (c : Nat → Nat → Int32) (j i : Nat) (v : Int32) : Nat → Nat → Int32 := fun a b => if a = j ∧ b = i then v else c a b
theorem setc_eq {c : Nat → Nat → Int32} {j i : Nat} {v : Int32} : setc c j i v j i = v := by unfold setc; rw [if_pos ⟨rfl, rfl⟩]
theorem setc_j {c : Nat → Nat → Int32} {j i a b : Nat} {v : Int32} (h : a ≠ j) : setc c j i v a b = c a b := by unfold setc; rw [if_neg (fun z => h z.1)]
theorem setc_i {c : Nat → Nat → Int32} {j i a b : Nat} {v : Int32} (h : b ≠ i) : setc c j i v a b = c a b := by unfold setc; rw [if_neg (fun z => h z.2)]
theorem up3_cells {σ : St} {g j i : Nat} {v : Int32} : up3 σ g j i v g = setc (σ g) j i v := by
  funext a b
  unfold up3 setc
  by_cases e : a = j ∧ b = i <;> simp [e]
theorem HC.sc4 {c : Nat → Nat → Int32} {m : Nat → Int32} {v : Int32} (hc : HC c m) : HC (setc c 0 32 v) (setm m 4 v) := by
  obtain ⟨hz, hs, hu, hq⟩ := hc
  obtain ⟨z0, z1, z2, z3, z4, z5, z6, z7, z8⟩ := hz
  unfold HC busy
  have e1 : setm m 4 v 1 = m 1 := setm_ne (by decide)
  have e2 : setm m 4 v 2 = m 2 := setm_ne (by decide)
  have e3 : setm m 4 v 3 = m 3 := setm_ne (by decide)
  refine ⟨⟨?_, ?_, ?_, ?_, ?_, ?_, ?_, ?_, ?_⟩, fun k hk => ?_, fun u h => ?_, fun q h => ?_⟩ <;> (try rw [e1] at *) <;> (try rw [e2] at *) <;> (try rw [e3] at *) <;> simp (disch := omega) only [setm_ne, setm_eq, setc_j, setc_i, setc_eq] <;> first | assumption | exact hs _ hk | exact hu _ h | exact hq _ h
theorem HC.sc5 {c : Nat → Nat → Int32} {m : Nat → Int32} {v : Int32} (hc : HC c m) : HC (setc c 0 33 v) (setm m 5 v) := by
  obtain ⟨hz, hs, hu, hq⟩ := hc
  obtain ⟨z0, z1, z2, z3, z4, z5, z6, z7, z8⟩ := hz
  unfold HC busy
  have e1 : setm m 5 v 1 = m 1 := setm_ne (by decide)
  have e2 : setm m 5 v 2 = m 2 := setm_ne (by decide)
  have e3 : setm m 5 v 3 = m 3 := setm_ne (by decide)
  refine ⟨⟨?_, ?_, ?_, ?_, ?_, ?_, ?_, ?_, ?_⟩, fun k hk => ?_, fun u h => ?_, fun q h => ?_⟩ <;> (try rw [e1] at *) <;> (try rw [e2] at *) <;> (try rw [e3] at *) <;> simp (disch := omega) only [setm_ne, setm_eq, setc_j, setc_i, setc_eq] <;> first | assumption | exact hs _ hk | exact hu _ h | exact hq _ h
theorem HC.sc6 {c : Nat → Nat → Int32} {m : Nat → Int32} {v : Int32} (hc : HC c m) : HC (setc c 0 34 v) (setm m 6 v) := by
  obtain ⟨hz, hs, hu, hq⟩ := hc
  obtain ⟨z0, z1, z2, z3, z4, z5, z6, z7, z8⟩ := hz
  unfold HC busy
  have e1 : setm m 6 v 1 = m 1 := setm_ne (by decide)
  have e2 : setm m 6 v 2 = m 2 := setm_ne (by decide)
  have e3 : setm m 6 v 3 = m 3 := setm_ne (by decide)
  refine ⟨⟨?_, ?_, ?_, ?_, ?_, ?_, ?_, ?_, ?_⟩, fun k hk => ?_, fun u h => ?_, fun q h => ?_⟩ <;> (try rw [e1] at *) <;> (try rw [e2] at *) <;> (try rw [e3] at *) <;> simp (disch := omega) only [setm_ne, setm_eq, setc_j, setc_i, setc_eq] <;> first | assumption | exact hs _ hk | exact hu _ h | exact hq _ h
theorem HC.sc7 {c : Nat → Nat → Int32} {m : Nat → Int32} {v : Int32} (hc : HC c m) : HC (setc c 0 35 v) (setm m 7 v) := by
  obtain ⟨hz, hs, hu, hq⟩ := hc
  obtain ⟨z0, z1, z2, z3, z4, z5, z6, z7, z8⟩ := hz
  unfold HC busy
  have e1 : setm m 7 v 1 = m 1 := setm_ne (by decide)
  have e2 : setm m 7 v 2 = m 2 := setm_ne (by decide)
  have e3 : setm m 7 v 3 = m 3 := setm_ne (by decide)
  refine ⟨⟨?_, ?_, ?_, ?_, ?_, ?_, ?_, ?_, ?_⟩, fun k hk => ?_, fun u h => ?_, fun q h => ?_⟩ <;> (try rw [e1] at *) <;> (try rw [e2] at *) <;> (try rw [e3] at *) <;> simp (disch := omega) only [setm_ne, setm_eq, setc_j, setc_i, setc_eq] <;> first | assumption | exact hs _ hk | exact hu _ h | exact hq _ h
theorem HC.sc8 {c : Nat → Nat → Int32} {m : Nat → Int32} {v : Int32} (hc : HC c m) : HC (setc c 0 36 v) (setm m 8 v) := by
  obtain ⟨hz, hs, hu, hq⟩ := hc
  obtain ⟨z0, z1, z2, z3, z4, z5, z6, z7, z8⟩ := hz
  unfold HC busy
  have e1 : setm m 8 v 1 = m 1 := setm_ne (by decide)
  have e2 : setm m 8 v 2 = m 2 := setm_ne (by decide)
  have e3 : setm m 8 v 3 = m 3 := setm_ne (by decide)
  refine ⟨⟨?_, ?_, ?_, ?_, ?_, ?_, ?_, ?_, ?_⟩, fun k hk => ?_, fun u h => ?_, fun q h => ?_⟩ <;> (try rw [e1] at *) <;> (try rw [e2] at *) <;> (try rw [e3] at *) <;> simp (disch := omega) only [setm_ne, setm_eq, setc_j, setc_i, setc_eq] <;> first | assumption | exact hs _ hk | exact hu _ h | exact hq _ h
theorem HC.un0 {c : Nat → Nat → Int32} {m : Nat → Int32} {u : Nat} {v : Int32} (hw : WF m) (hc : HC c m) (hu0 : u < cn (m 2)) : HC (setc c 15 u v) (setm m (110 + 8 * u) v) := by
  obtain ⟨hz, hs, hu, hq⟩ := hc
  have b1 := hw.2.1.2
  have b2 := hw.2.2.1.2
  have b3 := hw.2.2.2.1.2
  unfold HC busy
  have e1 : setm m (110 + 8 * u) v 1 = m 1 := setm_ne (by omega)
  have e2 : setm m (110 + 8 * u) v 2 = m 2 := setm_ne (by omega)
  have e3 : setm m (110 + 8 * u) v 3 = m 3 := setm_ne (by omega)
  refine ⟨?_, fun k hk => ?_, fun a h => ?_, fun q h => ?_⟩
  · simp (disch := omega) only [setm_ne, setc_j]; exact hz
  · rw [e1] at hk; simp (disch := omega) only [setm_ne, setc_j]; exact hs k hk
  · rw [e2] at h
    by_cases e : a = u
    · subst e
      obtain ⟨c0, c1, c2, c3, c4, c5, c6, c7, ct⟩ := hu a h
      simp (disch := omega) only [setm_ne, setm_eq, setc_j, setc_eq]
      exact ⟨trivial, c1, c2, c3, c4, c5, c6, c7, ct⟩
    · simp (disch := omega) only [setm_ne, setc_j, setc_i]; exact hu a h
  · rw [e3] at h; simp (disch := omega) only [setm_ne, setc_j]; exact hq q h
theorem HC.un1 {c : Nat → Nat → Int32} {m : Nat → Int32} {u : Nat} {v : Int32} (hw : WF m) (hc : HC c m) (hu0 : u < cn (m 2)) : HC (setc c 16 u v) (setm m (110 + 8 * u + 1) v) := by
  obtain ⟨hz, hs, hu, hq⟩ := hc
  have b1 := hw.2.1.2
  have b2 := hw.2.2.1.2
  have b3 := hw.2.2.2.1.2
  unfold HC busy
  have e1 : setm m (110 + 8 * u + 1) v 1 = m 1 := setm_ne (by omega)
  have e2 : setm m (110 + 8 * u + 1) v 2 = m 2 := setm_ne (by omega)
  have e3 : setm m (110 + 8 * u + 1) v 3 = m 3 := setm_ne (by omega)
  refine ⟨?_, fun k hk => ?_, fun a h => ?_, fun q h => ?_⟩
  · simp (disch := omega) only [setm_ne, setc_j]; exact hz
  · rw [e1] at hk; simp (disch := omega) only [setm_ne, setc_j]; exact hs k hk
  · rw [e2] at h
    by_cases e : a = u
    · subst e
      obtain ⟨c0, c1, c2, c3, c4, c5, c6, c7, ct⟩ := hu a h
      simp (disch := omega) only [setm_ne, setm_eq, setc_j, setc_eq]
      exact ⟨c0, trivial, c2, c3, c4, c5, c6, c7, ct⟩
    · simp (disch := omega) only [setm_ne, setc_j, setc_i]; exact hu a h
  · rw [e3] at h; simp (disch := omega) only [setm_ne, setc_j]; exact hq q h
theorem HC.un2 {c : Nat → Nat → Int32} {m : Nat → Int32} {u : Nat} {v : Int32} (hw : WF m) (hc : HC c m) (hu0 : u < cn (m 2)) : HC (setc c 17 u v) (setm m (110 + 8 * u + 2) v) := by
  obtain ⟨hz, hs, hu, hq⟩ := hc
  have b1 := hw.2.1.2
  have b2 := hw.2.2.1.2
  have b3 := hw.2.2.2.1.2
  unfold HC busy
  have e1 : setm m (110 + 8 * u + 2) v 1 = m 1 := setm_ne (by omega)
  have e2 : setm m (110 + 8 * u + 2) v 2 = m 2 := setm_ne (by omega)
  have e3 : setm m (110 + 8 * u + 2) v 3 = m 3 := setm_ne (by omega)
  refine ⟨?_, fun k hk => ?_, fun a h => ?_, fun q h => ?_⟩
  · simp (disch := omega) only [setm_ne, setc_j]; exact hz
  · rw [e1] at hk; simp (disch := omega) only [setm_ne, setc_j]; exact hs k hk
  · rw [e2] at h
    by_cases e : a = u
    · subst e
      obtain ⟨c0, c1, c2, c3, c4, c5, c6, c7, ct⟩ := hu a h
      simp (disch := omega) only [setm_ne, setm_eq, setc_j, setc_eq]
      exact ⟨c0, c1, trivial, c3, c4, c5, c6, c7, ct⟩
    · simp (disch := omega) only [setm_ne, setc_j, setc_i]; exact hu a h
  · rw [e3] at h; simp (disch := omega) only [setm_ne, setc_j]; exact hq q h
theorem HC.un3 {c : Nat → Nat → Int32} {m : Nat → Int32} {u : Nat} {v : Int32} (hw : WF m) (hc : HC c m) (hu0 : u < cn (m 2)) : HC (setc c 18 u v) (setm m (110 + 8 * u + 3) v) := by
  obtain ⟨hz, hs, hu, hq⟩ := hc
  have b1 := hw.2.1.2
  have b2 := hw.2.2.1.2
  have b3 := hw.2.2.2.1.2
  unfold HC busy
  have e1 : setm m (110 + 8 * u + 3) v 1 = m 1 := setm_ne (by omega)
  have e2 : setm m (110 + 8 * u + 3) v 2 = m 2 := setm_ne (by omega)
  have e3 : setm m (110 + 8 * u + 3) v 3 = m 3 := setm_ne (by omega)
  refine ⟨?_, fun k hk => ?_, fun a h => ?_, fun q h => ?_⟩
  · simp (disch := omega) only [setm_ne, setc_j]; exact hz
  · rw [e1] at hk; simp (disch := omega) only [setm_ne, setc_j]; exact hs k hk
  · rw [e2] at h
    by_cases e : a = u
    · subst e
      obtain ⟨c0, c1, c2, c3, c4, c5, c6, c7, ct⟩ := hu a h
      simp (disch := omega) only [setm_ne, setm_eq, setc_j, setc_eq]
      exact ⟨c0, c1, c2, trivial, c4, c5, c6, c7, ct⟩
    · simp (disch := omega) only [setm_ne, setc_j, setc_i]; exact hu a h
  · rw [e3] at h; simp (disch := omega) only [setm_ne, setc_j]; exact hq q h
theorem HC.un4 {c : Nat → Nat → Int32} {m : Nat → Int32} {u : Nat} {v : Int32} (hw : WF m) (hc : HC c m) (hu0 : u < cn (m 2)) : HC (setc c 19 u v) (setm m (110 + 8 * u + 4) v) := by
  obtain ⟨hz, hs, hu, hq⟩ := hc
  have b1 := hw.2.1.2
  have b2 := hw.2.2.1.2
  have b3 := hw.2.2.2.1.2
  unfold HC busy
  have e1 : setm m (110 + 8 * u + 4) v 1 = m 1 := setm_ne (by omega)
  have e2 : setm m (110 + 8 * u + 4) v 2 = m 2 := setm_ne (by omega)
  have e3 : setm m (110 + 8 * u + 4) v 3 = m 3 := setm_ne (by omega)
  refine ⟨?_, fun k hk => ?_, fun a h => ?_, fun q h => ?_⟩
  · simp (disch := omega) only [setm_ne, setc_j]; exact hz
  · rw [e1] at hk; simp (disch := omega) only [setm_ne, setc_j]; exact hs k hk
  · rw [e2] at h
    by_cases e : a = u
    · subst e
      obtain ⟨c0, c1, c2, c3, c4, c5, c6, c7, ct⟩ := hu a h
      simp (disch := omega) only [setm_ne, setm_eq, setc_j, setc_eq]
      exact ⟨c0, c1, c2, c3, trivial, c5, c6, c7, ct⟩
    · simp (disch := omega) only [setm_ne, setc_j, setc_i]; exact hu a h
  · rw [e3] at h; simp (disch := omega) only [setm_ne, setc_j]; exact hq q h
theorem HC.un5 {c : Nat → Nat → Int32} {m : Nat → Int32} {u : Nat} {v : Int32} (hw : WF m) (hc : HC c m) (hu0 : u < cn (m 2)) (hb : v = 2 ∨ v = 3 → c 21 u = m (110 + 8 * u + 6)) : HC (setc c 20 u v) (setm m (110 + 8 * u + 5) v) := by
  obtain ⟨hz, hs, hu, hq⟩ := hc
  have b1 := hw.2.1.2
  have b2 := hw.2.2.1.2
  have b3 := hw.2.2.2.1.2
  unfold HC busy
  have e1 : setm m (110 + 8 * u + 5) v 1 = m 1 := setm_ne (by omega)
  have e2 : setm m (110 + 8 * u + 5) v 2 = m 2 := setm_ne (by omega)
  have e3 : setm m (110 + 8 * u + 5) v 3 = m 3 := setm_ne (by omega)
  refine ⟨?_, fun k hk => ?_, fun a h => ?_, fun q h => ?_⟩
  · simp (disch := omega) only [setm_ne, setc_j]; exact hz
  · rw [e1] at hk; simp (disch := omega) only [setm_ne, setc_j]; exact hs k hk
  · rw [e2] at h
    by_cases e : a = u
    · subst e
      obtain ⟨c0, c1, c2, c3, c4, c5, c6, c7, ct⟩ := hu a h
      simp (disch := omega) only [setm_ne, setm_eq, setc_j, setc_eq]
      exact ⟨c0, c1, c2, c3, c4, trivial, c6, c7, hb⟩
    · simp (disch := omega) only [setm_ne, setc_j, setc_i]; exact hu a h
  · rw [e3] at h; simp (disch := omega) only [setm_ne, setc_j]; exact hq q h
theorem HC.un6 {c : Nat → Nat → Int32} {m : Nat → Int32} {u : Nat} {v : Int32} (hw : WF m) (hc : HC c m) (hu0 : u < cn (m 2)) : HC (setc c 8 u v) (setm m (380 + 2 * u) v) := by
  obtain ⟨hz, hs, hu, hq⟩ := hc
  have b1 := hw.2.1.2
  have b2 := hw.2.2.1.2
  have b3 := hw.2.2.2.1.2
  unfold HC busy
  have e1 : setm m (380 + 2 * u) v 1 = m 1 := setm_ne (by omega)
  have e2 : setm m (380 + 2 * u) v 2 = m 2 := setm_ne (by omega)
  have e3 : setm m (380 + 2 * u) v 3 = m 3 := setm_ne (by omega)
  refine ⟨?_, fun k hk => ?_, fun a h => ?_, fun q h => ?_⟩
  · simp (disch := omega) only [setm_ne, setc_j]; exact hz
  · rw [e1] at hk; simp (disch := omega) only [setm_ne, setc_j]; exact hs k hk
  · rw [e2] at h
    by_cases e : a = u
    · subst e
      obtain ⟨c0, c1, c2, c3, c4, c5, c6, c7, ct⟩ := hu a h
      simp (disch := omega) only [setm_ne, setm_eq, setc_j, setc_eq]
      exact ⟨c0, c1, c2, c3, c4, c5, trivial, c7, ct⟩
    · simp (disch := omega) only [setm_ne, setc_j, setc_i]; exact hu a h
  · rw [e3] at h; simp (disch := omega) only [setm_ne, setc_j]; exact hq q h
theorem HC.un7 {c : Nat → Nat → Int32} {m : Nat → Int32} {u : Nat} {v : Int32} (hw : WF m) (hc : HC c m) (hu0 : u < cn (m 2)) : HC (setc c 9 u v) (setm m (380 + 2 * u + 1) v) := by
  obtain ⟨hz, hs, hu, hq⟩ := hc
  have b1 := hw.2.1.2
  have b2 := hw.2.2.1.2
  have b3 := hw.2.2.2.1.2
  unfold HC busy
  have e1 : setm m (380 + 2 * u + 1) v 1 = m 1 := setm_ne (by omega)
  have e2 : setm m (380 + 2 * u + 1) v 2 = m 2 := setm_ne (by omega)
  have e3 : setm m (380 + 2 * u + 1) v 3 = m 3 := setm_ne (by omega)
  refine ⟨?_, fun k hk => ?_, fun a h => ?_, fun q h => ?_⟩
  · simp (disch := omega) only [setm_ne, setc_j]; exact hz
  · rw [e1] at hk; simp (disch := omega) only [setm_ne, setc_j]; exact hs k hk
  · rw [e2] at h
    by_cases e : a = u
    · subst e
      obtain ⟨c0, c1, c2, c3, c4, c5, c6, c7, ct⟩ := hu a h
      simp (disch := omega) only [setm_ne, setm_eq, setc_j, setc_eq]
      exact ⟨c0, c1, c2, c3, c4, c5, c6, trivial, ct⟩
    · simp (disch := omega) only [setm_ne, setc_j, setc_i]; exact hu a h
  · rw [e3] at h; simp (disch := omega) only [setm_ne, setc_j]; exact hq q h
theorem HC.unTm {c : Nat → Nat → Int32} {m : Nat → Int32} {u : Nat} {v : Int32} (hw : WF m) (hc : HC c m) (hu0 : u < cn (m 2)) (hb : busy m u → c 21 u = v) : HC c (setm m (110 + 8 * u + 6) v) := by
  obtain ⟨hz, hs, hu, hq⟩ := hc
  have b1 := hw.2.1.2
  have b2 := hw.2.2.1.2
  have b3 := hw.2.2.2.1.2
  unfold HC busy
  have e1 : setm m (110 + 8 * u + 6) v 1 = m 1 := setm_ne (by omega)
  have e2 : setm m (110 + 8 * u + 6) v 2 = m 2 := setm_ne (by omega)
  have e3 : setm m (110 + 8 * u + 6) v 3 = m 3 := setm_ne (by omega)
  refine ⟨?_, fun k hk => ?_, fun a h => ?_, fun q h => ?_⟩
  · simp (disch := omega) only [setm_ne]; exact hz
  · rw [e1] at hk; simp (disch := omega) only [setm_ne]; exact hs k hk
  · rw [e2] at h
    by_cases e : a = u
    · subst e
      obtain ⟨c0, c1, c2, c3, c4, c5, c6, c7, ct⟩ := hu a h
      simp (disch := omega) only [setm_ne, setm_eq]
      exact ⟨c0, c1, c2, c3, c4, c5, c6, c7, hb⟩
    · simp (disch := omega) only [setm_ne]; exact hu a h
  · rw [e3] at h; simp (disch := omega) only [setm_ne]; exact hq q h
theorem HC.unTc {c : Nat → Nat → Int32} {m : Nat → Int32} {u : Nat} {v : Int32} (hc : HC c m) (hb : ¬ busy m u) : HC (setc c 21 u v) m := by
  obtain ⟨hz, hs, hu, hq⟩ := hc
  unfold HC
  refine ⟨?_, fun k hk => ?_, fun a h => ?_, fun q h => ?_⟩
  · simp (disch := omega) only [setc_j]; exact hz
  · simp (disch := omega) only [setc_j]; exact hs k hk
  · by_cases e : a = u
    · subst e
      obtain ⟨c0, c1, c2, c3, c4, c5, c6, c7, ct⟩ := hu a h
      simp (disch := omega) only [setc_j]
      exact ⟨c0, c1, c2, c3, c4, c5, c6, c7, fun z => absurd z hb⟩
    · simp (disch := omega) only [setc_j, setc_i]; exact hu a h
  · simp (disch := omega) only [setc_j]; exact hq q h
theorem HC.ca0 {c : Nat → Nat → Int32} {m : Nat → Int32} {q : Nat} {v : Int32} (hw : WF m) (hc : HC c m) (hq0 : q < cn (m 3)) : HC (setc c 22 q v) (setm m (160 + 6 * q) v) := by
  obtain ⟨hz, hs, hu, hq⟩ := hc
  have b1 := hw.2.1.2
  have b2 := hw.2.2.1.2
  have b3 := hw.2.2.2.1.2
  unfold HC busy
  have e1 : setm m (160 + 6 * q) v 1 = m 1 := setm_ne (by omega)
  have e2 : setm m (160 + 6 * q) v 2 = m 2 := setm_ne (by omega)
  have e3 : setm m (160 + 6 * q) v 3 = m 3 := setm_ne (by omega)
  refine ⟨?_, fun k hk => ?_, fun a h => ?_, fun a h => ?_⟩
  · simp (disch := omega) only [setm_ne, setc_j]; exact hz
  · rw [e1] at hk; simp (disch := omega) only [setm_ne, setc_j]; exact hs k hk
  · rw [e2] at h; simp (disch := omega) only [setm_ne, setc_j]; exact hu a h
  · rw [e3] at h
    by_cases e : a = q
    · subst e
      obtain ⟨c0, c1, c2, c3, c4, c5⟩ := hq a h
      simp (disch := omega) only [setm_ne, setm_eq, setc_j, setc_eq]
      exact ⟨trivial, c1, c2, c3, c4, c5⟩
    · simp (disch := omega) only [setm_ne, setc_j, setc_i]; exact hq a h
theorem HC.ca1 {c : Nat → Nat → Int32} {m : Nat → Int32} {q : Nat} {v : Int32} (hw : WF m) (hc : HC c m) (hq0 : q < cn (m 3)) : HC (setc c 23 q v) (setm m (160 + 6 * q + 1) v) := by
  obtain ⟨hz, hs, hu, hq⟩ := hc
  have b1 := hw.2.1.2
  have b2 := hw.2.2.1.2
  have b3 := hw.2.2.2.1.2
  unfold HC busy
  have e1 : setm m (160 + 6 * q + 1) v 1 = m 1 := setm_ne (by omega)
  have e2 : setm m (160 + 6 * q + 1) v 2 = m 2 := setm_ne (by omega)
  have e3 : setm m (160 + 6 * q + 1) v 3 = m 3 := setm_ne (by omega)
  refine ⟨?_, fun k hk => ?_, fun a h => ?_, fun a h => ?_⟩
  · simp (disch := omega) only [setm_ne, setc_j]; exact hz
  · rw [e1] at hk; simp (disch := omega) only [setm_ne, setc_j]; exact hs k hk
  · rw [e2] at h; simp (disch := omega) only [setm_ne, setc_j]; exact hu a h
  · rw [e3] at h
    by_cases e : a = q
    · subst e
      obtain ⟨c0, c1, c2, c3, c4, c5⟩ := hq a h
      simp (disch := omega) only [setm_ne, setm_eq, setc_j, setc_eq]
      exact ⟨c0, trivial, c2, c3, c4, c5⟩
    · simp (disch := omega) only [setm_ne, setc_j, setc_i]; exact hq a h
theorem HC.ca2 {c : Nat → Nat → Int32} {m : Nat → Int32} {q : Nat} {v : Int32} (hw : WF m) (hc : HC c m) (hq0 : q < cn (m 3)) : HC (setc c 24 q v) (setm m (160 + 6 * q + 2) v) := by
  obtain ⟨hz, hs, hu, hq⟩ := hc
  have b1 := hw.2.1.2
  have b2 := hw.2.2.1.2
  have b3 := hw.2.2.2.1.2
  unfold HC busy
  have e1 : setm m (160 + 6 * q + 2) v 1 = m 1 := setm_ne (by omega)
  have e2 : setm m (160 + 6 * q + 2) v 2 = m 2 := setm_ne (by omega)
  have e3 : setm m (160 + 6 * q + 2) v 3 = m 3 := setm_ne (by omega)
  refine ⟨?_, fun k hk => ?_, fun a h => ?_, fun a h => ?_⟩
  · simp (disch := omega) only [setm_ne, setc_j]; exact hz
  · rw [e1] at hk; simp (disch := omega) only [setm_ne, setc_j]; exact hs k hk
  · rw [e2] at h; simp (disch := omega) only [setm_ne, setc_j]; exact hu a h
  · rw [e3] at h
    by_cases e : a = q
    · subst e
      obtain ⟨c0, c1, c2, c3, c4, c5⟩ := hq a h
      simp (disch := omega) only [setm_ne, setm_eq, setc_j, setc_eq]
      exact ⟨c0, c1, trivial, c3, c4, c5⟩
    · simp (disch := omega) only [setm_ne, setc_j, setc_i]; exact hq a h
theorem HC.ca3 {c : Nat → Nat → Int32} {m : Nat → Int32} {q : Nat} {v : Int32} (hw : WF m) (hc : HC c m) (hq0 : q < cn (m 3)) : HC (setc c 27 q (1 - v)) (setm m (160 + 6 * q + 3) v) := by
  obtain ⟨hz, hs, hu, hq⟩ := hc
  have b1 := hw.2.1.2
  have b2 := hw.2.2.1.2
  have b3 := hw.2.2.2.1.2
  unfold HC busy
  have e1 : setm m (160 + 6 * q + 3) v 1 = m 1 := setm_ne (by omega)
  have e2 : setm m (160 + 6 * q + 3) v 2 = m 2 := setm_ne (by omega)
  have e3 : setm m (160 + 6 * q + 3) v 3 = m 3 := setm_ne (by omega)
  refine ⟨?_, fun k hk => ?_, fun a h => ?_, fun a h => ?_⟩
  · simp (disch := omega) only [setm_ne, setc_j]; exact hz
  · rw [e1] at hk; simp (disch := omega) only [setm_ne, setc_j]; exact hs k hk
  · rw [e2] at h; simp (disch := omega) only [setm_ne, setc_j]; exact hu a h
  · rw [e3] at h
    by_cases e : a = q
    · subst e
      obtain ⟨c0, c1, c2, c3, c4, c5⟩ := hq a h
      simp (disch := omega) only [setm_ne, setm_eq, setc_j, setc_eq]
      exact ⟨c0, c1, c2, trivial, c4, c5⟩
    · simp (disch := omega) only [setm_ne, setc_j, setc_i]; exact hq a h
theorem HC.ca4 {c : Nat → Nat → Int32} {m : Nat → Int32} {q : Nat} {v : Int32} (hw : WF m) (hc : HC c m) (hq0 : q < cn (m 3)) : HC (setc c 25 q v) (setm m (160 + 6 * q + 4) v) := by
  obtain ⟨hz, hs, hu, hq⟩ := hc
  have b1 := hw.2.1.2
  have b2 := hw.2.2.1.2
  have b3 := hw.2.2.2.1.2
  unfold HC busy
  have e1 : setm m (160 + 6 * q + 4) v 1 = m 1 := setm_ne (by omega)
  have e2 : setm m (160 + 6 * q + 4) v 2 = m 2 := setm_ne (by omega)
  have e3 : setm m (160 + 6 * q + 4) v 3 = m 3 := setm_ne (by omega)
  refine ⟨?_, fun k hk => ?_, fun a h => ?_, fun a h => ?_⟩
  · simp (disch := omega) only [setm_ne, setc_j]; exact hz
  · rw [e1] at hk; simp (disch := omega) only [setm_ne, setc_j]; exact hs k hk
  · rw [e2] at h; simp (disch := omega) only [setm_ne, setc_j]; exact hu a h
  · rw [e3] at h
    by_cases e : a = q
    · subst e
      obtain ⟨c0, c1, c2, c3, c4, c5⟩ := hq a h
      simp (disch := omega) only [setm_ne, setm_eq, setc_j, setc_eq]
      exact ⟨c0, c1, c2, c3, trivial, c5⟩
    · simp (disch := omega) only [setm_ne, setc_j, setc_i]; exact hq a h
theorem HC.ca5 {c : Nat → Nat → Int32} {m : Nat → Int32} {q : Nat} {v : Int32} (hw : WF m) (hc : HC c m) (hq0 : q < cn (m 3)) : HC (setc c 26 q v) (setm m (160 + 6 * q + 5) v) := by
  obtain ⟨hz, hs, hu, hq⟩ := hc
  have b1 := hw.2.1.2
  have b2 := hw.2.2.1.2
  have b3 := hw.2.2.2.1.2
  unfold HC busy
  have e1 : setm m (160 + 6 * q + 5) v 1 = m 1 := setm_ne (by omega)
  have e2 : setm m (160 + 6 * q + 5) v 2 = m 2 := setm_ne (by omega)
  have e3 : setm m (160 + 6 * q + 5) v 3 = m 3 := setm_ne (by omega)
  refine ⟨?_, fun k hk => ?_, fun a h => ?_, fun a h => ?_⟩
  · simp (disch := omega) only [setm_ne, setc_j]; exact hz
  · rw [e1] at hk; simp (disch := omega) only [setm_ne, setc_j]; exact hs k hk
  · rw [e2] at h; simp (disch := omega) only [setm_ne, setc_j]; exact hu a h
  · rw [e3] at h
    by_cases e : a = q
    · subst e
      obtain ⟨c0, c1, c2, c3, c4, c5⟩ := hq a h
      simp (disch := omega) only [setm_ne, setm_eq, setc_j, setc_eq]
      exact ⟨c0, c1, c2, c3, c4, trivial⟩
    · simp (disch := omega) only [setm_ne, setc_j, setc_i]; exact hq a h
theorem HC.st4 {c : Nat → Nat → Int32} {m : Nat → Int32} {k : Nat} {v : Int32} (hw : WF m) (hc : HC c m) (hk0 : k < cn (m 1)) : HC (setc c 5 k (1 - v)) (setm m (10 + 5 * k + 4) v) := by
  obtain ⟨hz, hs, hu, hq⟩ := hc
  have b1 := hw.2.1.2
  have b2 := hw.2.2.1.2
  have b3 := hw.2.2.2.1.2
  unfold HC busy
  have e1 : setm m (10 + 5 * k + 4) v 1 = m 1 := setm_ne (by omega)
  have e2 : setm m (10 + 5 * k + 4) v 2 = m 2 := setm_ne (by omega)
  have e3 : setm m (10 + 5 * k + 4) v 3 = m 3 := setm_ne (by omega)
  refine ⟨?_, fun a h => ?_, fun a h => ?_, fun a h => ?_⟩
  · simp (disch := omega) only [setm_ne, setc_j]; exact hz
  · rw [e1] at h
    by_cases e : a = k
    · subst e
      obtain ⟨c0, c1, c2, c3, c4, c5, c6⟩ := hs a h
      simp (disch := omega) only [setm_ne, setm_eq, setc_j, setc_eq]
      exact ⟨c0, c1, c2, c3, trivial, c5, c6⟩
    · simp (disch := omega) only [setm_ne, setc_j, setc_i]; exact hs a h
  · rw [e2] at h; simp (disch := omega) only [setm_ne, setc_j]; exact hu a h
  · rw [e3] at h; simp (disch := omega) only [setm_ne, setc_j]; exact hq a h
theorem HC.st5 {c : Nat → Nat → Int32} {m : Nat → Int32} {k : Nat} {v : Int32} (hw : WF m) (hc : HC c m) (hk0 : k < cn (m 1)) : HC (setc c 6 k v) (setm m (340 + 2 * k) v) := by
  obtain ⟨hz, hs, hu, hq⟩ := hc
  have b1 := hw.2.1.2
  have b2 := hw.2.2.1.2
  have b3 := hw.2.2.2.1.2
  unfold HC busy
  have e1 : setm m (340 + 2 * k) v 1 = m 1 := setm_ne (by omega)
  have e2 : setm m (340 + 2 * k) v 2 = m 2 := setm_ne (by omega)
  have e3 : setm m (340 + 2 * k) v 3 = m 3 := setm_ne (by omega)
  refine ⟨?_, fun a h => ?_, fun a h => ?_, fun a h => ?_⟩
  · simp (disch := omega) only [setm_ne, setc_j]; exact hz
  · rw [e1] at h
    by_cases e : a = k
    · subst e
      obtain ⟨c0, c1, c2, c3, c4, c5, c6⟩ := hs a h
      simp (disch := omega) only [setm_ne, setm_eq, setc_j, setc_eq]
      exact ⟨c0, c1, c2, c3, c4, trivial, c6⟩
    · simp (disch := omega) only [setm_ne, setc_j, setc_i]; exact hs a h
  · rw [e2] at h; simp (disch := omega) only [setm_ne, setc_j]; exact hu a h
  · rw [e3] at h; simp (disch := omega) only [setm_ne, setc_j]; exact hq a h
theorem HC.st6 {c : Nat → Nat → Int32} {m : Nat → Int32} {k : Nat} {v : Int32} (hw : WF m) (hc : HC c m) (hk0 : k < cn (m 1)) : HC (setc c 7 k v) (setm m (340 + 2 * k + 1) v) := by
  obtain ⟨hz, hs, hu, hq⟩ := hc
  have b1 := hw.2.1.2
  have b2 := hw.2.2.1.2
  have b3 := hw.2.2.2.1.2
  unfold HC busy
  have e1 : setm m (340 + 2 * k + 1) v 1 = m 1 := setm_ne (by omega)
  have e2 : setm m (340 + 2 * k + 1) v 2 = m 2 := setm_ne (by omega)
  have e3 : setm m (340 + 2 * k + 1) v 3 = m 3 := setm_ne (by omega)
  refine ⟨?_, fun a h => ?_, fun a h => ?_, fun a h => ?_⟩
  · simp (disch := omega) only [setm_ne, setc_j]; exact hz
  · rw [e1] at h
    by_cases e : a = k
    · subst e
      obtain ⟨c0, c1, c2, c3, c4, c5, c6⟩ := hs a h
      simp (disch := omega) only [setm_ne, setm_eq, setc_j, setc_eq]
      exact ⟨c0, c1, c2, c3, c4, c5, trivial⟩
    · simp (disch := omega) only [setm_ne, setc_j, setc_i]; exact hs a h
  · rw [e2] at h; simp (disch := omega) only [setm_ne, setc_j]; exact hu a h
  · rw [e3] at h; simp (disch := omega) only [setm_ne, setc_j]; exact hq a h
theorem WF.sc4 {m : Nat → Int32} {v : Int32} (hw : WF m) (hv : bd v 1003600) : WF (setm m 4 v) := by
  obtain ⟨h0, h1, h2, h3, h4, h7, h8, hs, hu, huv, hq⟩ := hw
  have b1 := h1.2
  have b2 := h2.2
  have b3 := h3.2
  unfold WF busy
  have e0 : setm m (4) v 0 = m 0 := setm_ne (by omega)
  have e1 : setm m (4) v 1 = m 1 := setm_ne (by omega)
  have e2 : setm m (4) v 2 = m 2 := setm_ne (by omega)
  have e3 : setm m (4) v 3 = m 3 := setm_ne (by omega)
  simp (disch := omega) only [setm_ne, setm_eq, e0, e1, e2, e3]
  refine ⟨h0, h1, h2, h3, hv, h7, h8, fun k hk => ?_, fun a ha => ?_, fun a b ha hb => ?_, fun q h => ?_⟩
  · exact hs k hk
  · exact hu a ha
  · exact huv a b ha hb
  · exact hq q h
theorem WF.sc5 {m : Nat → Int32} {v : Int32} (hw : WF m) : WF (setm m 5 v) := by
  obtain ⟨h0, h1, h2, h3, h4, h7, h8, hs, hu, huv, hq⟩ := hw
  have b1 := h1.2
  have b2 := h2.2
  have b3 := h3.2
  unfold WF busy
  have e0 : setm m (5) v 0 = m 0 := setm_ne (by omega)
  have e1 : setm m (5) v 1 = m 1 := setm_ne (by omega)
  have e2 : setm m (5) v 2 = m 2 := setm_ne (by omega)
  have e3 : setm m (5) v 3 = m 3 := setm_ne (by omega)
  simp (disch := omega) only [setm_ne, setm_eq, e0, e1, e2, e3]
  refine ⟨h0, h1, h2, h3, h4, h7, h8, fun k hk => ?_, fun a ha => ?_, fun a b ha hb => ?_, fun q h => ?_⟩
  · exact hs k hk
  · exact hu a ha
  · exact huv a b ha hb
  · exact hq q h
theorem WF.sc6 {m : Nat → Int32} {v : Int32} (hw : WF m) : WF (setm m 6 v) := by
  obtain ⟨h0, h1, h2, h3, h4, h7, h8, hs, hu, huv, hq⟩ := hw
  have b1 := h1.2
  have b2 := h2.2
  have b3 := h3.2
  unfold WF busy
  have e0 : setm m (6) v 0 = m 0 := setm_ne (by omega)
  have e1 : setm m (6) v 1 = m 1 := setm_ne (by omega)
  have e2 : setm m (6) v 2 = m 2 := setm_ne (by omega)
  have e3 : setm m (6) v 3 = m 3 := setm_ne (by omega)
  simp (disch := omega) only [setm_ne, setm_eq, e0, e1, e2, e3]
  refine ⟨h0, h1, h2, h3, h4, h7, h8, fun k hk => ?_, fun a ha => ?_, fun a b ha hb => ?_, fun q h => ?_⟩
  · exact hs k hk
  · exact hu a ha
  · exact huv a b ha hb
  · exact hq q h
theorem WF.sc7 {m : Nat → Int32} {v : Int32} (hw : WF m) (hv : bd v 8) : WF (setm m 7 v) := by
  obtain ⟨h0, h1, h2, h3, h4, h7, h8, hs, hu, huv, hq⟩ := hw
  have b1 := h1.2
  have b2 := h2.2
  have b3 := h3.2
  unfold WF busy
  have e0 : setm m (7) v 0 = m 0 := setm_ne (by omega)
  have e1 : setm m (7) v 1 = m 1 := setm_ne (by omega)
  have e2 : setm m (7) v 2 = m 2 := setm_ne (by omega)
  have e3 : setm m (7) v 3 = m 3 := setm_ne (by omega)
  simp (disch := omega) only [setm_ne, setm_eq, e0, e1, e2, e3]
  refine ⟨h0, h1, h2, h3, h4, hv, h8, fun k hk => ?_, fun a ha => ?_, fun a b ha hb => ?_, fun q h => ?_⟩
  · exact hs k hk
  · exact hu a ha
  · exact huv a b ha hb
  · exact hq q h
theorem WF.sc8 {m : Nat → Int32} {v : Int32} (hw : WF m) (hv : bd v 4) : WF (setm m 8 v) := by
  obtain ⟨h0, h1, h2, h3, h4, h7, h8, hs, hu, huv, hq⟩ := hw
  have b1 := h1.2
  have b2 := h2.2
  have b3 := h3.2
  unfold WF busy
  have e0 : setm m (8) v 0 = m 0 := setm_ne (by omega)
  have e1 : setm m (8) v 1 = m 1 := setm_ne (by omega)
  have e2 : setm m (8) v 2 = m 2 := setm_ne (by omega)
  have e3 : setm m (8) v 3 = m 3 := setm_ne (by omega)
  simp (disch := omega) only [setm_ne, setm_eq, e0, e1, e2, e3]
  refine ⟨h0, h1, h2, h3, h4, h7, hv, fun k hk => ?_, fun a ha => ?_, fun a b ha hb => ?_, fun q h => ?_⟩
  · exact hs k hk
  · exact hu a ha
  · exact huv a b ha hb
  · exact hq q h
theorem WF.un0 {m : Nat → Int32} {u : Nat} {v : Int32} (hw : WF m) (hu0 : u < cn (m 2)) (hv : bd v 7 ∧ cn v < cn (m 0)) : WF (setm m (110 + 8 * u) v) := by
  obtain ⟨h0, h1, h2, h3, h4, h7, h8, hs, hu, huv, hq⟩ := hw
  have b1 := h1.2
  have b2 := h2.2
  have b3 := h3.2
  unfold WF busy
  have e0 : setm m (110 + 8 * u) v 0 = m 0 := setm_ne (by omega)
  have e1 : setm m (110 + 8 * u) v 1 = m 1 := setm_ne (by omega)
  have e2 : setm m (110 + 8 * u) v 2 = m 2 := setm_ne (by omega)
  have e3 : setm m (110 + 8 * u) v 3 = m 3 := setm_ne (by omega)
  refine ⟨?_, ?_, ?_, ?_, ?_, ?_, ?_, fun k hk => ?_, fun a ha => ?_, fun a b ha hb' => ?_, fun q h => ?_⟩
  · simp (disch := omega) only [setm_ne, e0, e1, e2, e3]; exact h0
  · simp (disch := omega) only [setm_ne, e0, e1, e2, e3]; exact h1
  · simp (disch := omega) only [setm_ne, e0, e1, e2, e3]; exact h2
  · simp (disch := omega) only [setm_ne, e0, e1, e2, e3]; exact h3
  · simp (disch := omega) only [setm_ne, e0, e1, e2, e3]; exact h4
  · simp (disch := omega) only [setm_ne, e0, e1, e2, e3]; exact h7
  · simp (disch := omega) only [setm_ne, e0, e1, e2, e3]; exact h8
  · rw [e1] at hk; simp (disch := omega) only [setm_ne, e0, e1, e2, e3]; exact hs k hk
  · rw [e2] at ha
    by_cases e : a = u
    · subst e
      obtain ⟨c0, c1, c2, c3, c4, c5, c6, c7, ct⟩ := hu a ha
      simp (disch := omega) only [setm_ne, setm_eq, e0, e1, e2, e3]
      exact ⟨hv, c1, c2, c3, c4, c5, c6, c7, ct⟩
    · simp (disch := omega) only [setm_ne, e0, e1, e2, e3]; exact hu a ha
  · rw [e2] at ha hb'; simp (disch := omega) only [setm_ne, e0, e1, e2, e3]; exact huv a b ha hb'
  · rw [e3] at h; simp (disch := omega) only [setm_ne, e0, e1, e2, e3]; exact hq q h
theorem WF.un1 {m : Nat → Int32} {u : Nat} {v : Int32} (hw : WF m) (hu0 : u < cn (m 2)) (hv : bd v 7) : WF (setm m (110 + 8 * u + 1) v) := by
  obtain ⟨h0, h1, h2, h3, h4, h7, h8, hs, hu, huv, hq⟩ := hw
  have b1 := h1.2
  have b2 := h2.2
  have b3 := h3.2
  unfold WF busy
  have e0 : setm m (110 + 8 * u + 1) v 0 = m 0 := setm_ne (by omega)
  have e1 : setm m (110 + 8 * u + 1) v 1 = m 1 := setm_ne (by omega)
  have e2 : setm m (110 + 8 * u + 1) v 2 = m 2 := setm_ne (by omega)
  have e3 : setm m (110 + 8 * u + 1) v 3 = m 3 := setm_ne (by omega)
  refine ⟨?_, ?_, ?_, ?_, ?_, ?_, ?_, fun k hk => ?_, fun a ha => ?_, fun a b ha hb' => ?_, fun q h => ?_⟩
  · simp (disch := omega) only [setm_ne, e0, e1, e2, e3]; exact h0
  · simp (disch := omega) only [setm_ne, e0, e1, e2, e3]; exact h1
  · simp (disch := omega) only [setm_ne, e0, e1, e2, e3]; exact h2
  · simp (disch := omega) only [setm_ne, e0, e1, e2, e3]; exact h3
  · simp (disch := omega) only [setm_ne, e0, e1, e2, e3]; exact h4
  · simp (disch := omega) only [setm_ne, e0, e1, e2, e3]; exact h7
  · simp (disch := omega) only [setm_ne, e0, e1, e2, e3]; exact h8
  · rw [e1] at hk; simp (disch := omega) only [setm_ne, e0, e1, e2, e3]; exact hs k hk
  · rw [e2] at ha
    by_cases e : a = u
    · subst e
      obtain ⟨c0, c1, c2, c3, c4, c5, c6, c7, ct⟩ := hu a ha
      simp (disch := omega) only [setm_ne, setm_eq, e0, e1, e2, e3]
      exact ⟨c0, hv, c2, c3, c4, c5, c6, c7, ct⟩
    · simp (disch := omega) only [setm_ne, e0, e1, e2, e3]; exact hu a ha
  · rw [e2] at ha hb'; simp (disch := omega) only [setm_ne, e0, e1, e2, e3]; exact huv a b ha hb'
  · rw [e3] at h; simp (disch := omega) only [setm_ne, e0, e1, e2, e3]; exact hq q h
theorem WF.un2 {m : Nat → Int32} {u : Nat} {v : Int32} (hw : WF m) (hu0 : u < cn (m 2)) (hv : bd v 7 ∧ cn v < cn (m 0)) : WF (setm m (110 + 8 * u + 2) v) := by
  obtain ⟨h0, h1, h2, h3, h4, h7, h8, hs, hu, huv, hq⟩ := hw
  have b1 := h1.2
  have b2 := h2.2
  have b3 := h3.2
  unfold WF busy
  have e0 : setm m (110 + 8 * u + 2) v 0 = m 0 := setm_ne (by omega)
  have e1 : setm m (110 + 8 * u + 2) v 1 = m 1 := setm_ne (by omega)
  have e2 : setm m (110 + 8 * u + 2) v 2 = m 2 := setm_ne (by omega)
  have e3 : setm m (110 + 8 * u + 2) v 3 = m 3 := setm_ne (by omega)
  refine ⟨?_, ?_, ?_, ?_, ?_, ?_, ?_, fun k hk => ?_, fun a ha => ?_, fun a b ha hb' => ?_, fun q h => ?_⟩
  · simp (disch := omega) only [setm_ne, e0, e1, e2, e3]; exact h0
  · simp (disch := omega) only [setm_ne, e0, e1, e2, e3]; exact h1
  · simp (disch := omega) only [setm_ne, e0, e1, e2, e3]; exact h2
  · simp (disch := omega) only [setm_ne, e0, e1, e2, e3]; exact h3
  · simp (disch := omega) only [setm_ne, e0, e1, e2, e3]; exact h4
  · simp (disch := omega) only [setm_ne, e0, e1, e2, e3]; exact h7
  · simp (disch := omega) only [setm_ne, e0, e1, e2, e3]; exact h8
  · rw [e1] at hk; simp (disch := omega) only [setm_ne, e0, e1, e2, e3]; exact hs k hk
  · rw [e2] at ha
    by_cases e : a = u
    · subst e
      obtain ⟨c0, c1, c2, c3, c4, c5, c6, c7, ct⟩ := hu a ha
      simp (disch := omega) only [setm_ne, setm_eq, e0, e1, e2, e3]
      exact ⟨c0, c1, hv, c3, c4, c5, c6, c7, ct⟩
    · simp (disch := omega) only [setm_ne, e0, e1, e2, e3]; exact hu a ha
  · rw [e2] at ha hb'; simp (disch := omega) only [setm_ne, e0, e1, e2, e3]; exact huv a b ha hb'
  · rw [e3] at h; simp (disch := omega) only [setm_ne, e0, e1, e2, e3]; exact hq q h
theorem WF.un3 {m : Nat → Int32} {u : Nat} {v : Int32} (hw : WF m) (hu0 : u < cn (m 2)) (hv : bd v 999) : WF (setm m (110 + 8 * u + 3) v) := by
  obtain ⟨h0, h1, h2, h3, h4, h7, h8, hs, hu, huv, hq⟩ := hw
  have b1 := h1.2
  have b2 := h2.2
  have b3 := h3.2
  unfold WF busy
  have e0 : setm m (110 + 8 * u + 3) v 0 = m 0 := setm_ne (by omega)
  have e1 : setm m (110 + 8 * u + 3) v 1 = m 1 := setm_ne (by omega)
  have e2 : setm m (110 + 8 * u + 3) v 2 = m 2 := setm_ne (by omega)
  have e3 : setm m (110 + 8 * u + 3) v 3 = m 3 := setm_ne (by omega)
  refine ⟨?_, ?_, ?_, ?_, ?_, ?_, ?_, fun k hk => ?_, fun a ha => ?_, fun a b ha hb' => ?_, fun q h => ?_⟩
  · simp (disch := omega) only [setm_ne, e0, e1, e2, e3]; exact h0
  · simp (disch := omega) only [setm_ne, e0, e1, e2, e3]; exact h1
  · simp (disch := omega) only [setm_ne, e0, e1, e2, e3]; exact h2
  · simp (disch := omega) only [setm_ne, e0, e1, e2, e3]; exact h3
  · simp (disch := omega) only [setm_ne, e0, e1, e2, e3]; exact h4
  · simp (disch := omega) only [setm_ne, e0, e1, e2, e3]; exact h7
  · simp (disch := omega) only [setm_ne, e0, e1, e2, e3]; exact h8
  · rw [e1] at hk; simp (disch := omega) only [setm_ne, e0, e1, e2, e3]; exact hs k hk
  · rw [e2] at ha
    by_cases e : a = u
    · subst e
      obtain ⟨c0, c1, c2, c3, c4, c5, c6, c7, ct⟩ := hu a ha
      simp (disch := omega) only [setm_ne, setm_eq, e0, e1, e2, e3]
      exact ⟨c0, c1, c2, hv, c4, c5, c6, c7, ct⟩
    · simp (disch := omega) only [setm_ne, e0, e1, e2, e3]; exact hu a ha
  · rw [e2] at ha hb'; simp (disch := omega) only [setm_ne, e0, e1, e2, e3]; exact huv a b ha hb'
  · rw [e3] at h; simp (disch := omega) only [setm_ne, e0, e1, e2, e3]; exact hq q h
theorem WF.un4 {m : Nat → Int32} {u : Nat} {v : Int32} (hw : WF m) (hu0 : u < cn (m 2)) (hv : bd v 1003600) : WF (setm m (110 + 8 * u + 4) v) := by
  obtain ⟨h0, h1, h2, h3, h4, h7, h8, hs, hu, huv, hq⟩ := hw
  have b1 := h1.2
  have b2 := h2.2
  have b3 := h3.2
  unfold WF busy
  have e0 : setm m (110 + 8 * u + 4) v 0 = m 0 := setm_ne (by omega)
  have e1 : setm m (110 + 8 * u + 4) v 1 = m 1 := setm_ne (by omega)
  have e2 : setm m (110 + 8 * u + 4) v 2 = m 2 := setm_ne (by omega)
  have e3 : setm m (110 + 8 * u + 4) v 3 = m 3 := setm_ne (by omega)
  refine ⟨?_, ?_, ?_, ?_, ?_, ?_, ?_, fun k hk => ?_, fun a ha => ?_, fun a b ha hb' => ?_, fun q h => ?_⟩
  · simp (disch := omega) only [setm_ne, e0, e1, e2, e3]; exact h0
  · simp (disch := omega) only [setm_ne, e0, e1, e2, e3]; exact h1
  · simp (disch := omega) only [setm_ne, e0, e1, e2, e3]; exact h2
  · simp (disch := omega) only [setm_ne, e0, e1, e2, e3]; exact h3
  · simp (disch := omega) only [setm_ne, e0, e1, e2, e3]; exact h4
  · simp (disch := omega) only [setm_ne, e0, e1, e2, e3]; exact h7
  · simp (disch := omega) only [setm_ne, e0, e1, e2, e3]; exact h8
  · rw [e1] at hk; simp (disch := omega) only [setm_ne, e0, e1, e2, e3]; exact hs k hk
  · rw [e2] at ha
    by_cases e : a = u
    · subst e
      obtain ⟨c0, c1, c2, c3, c4, c5, c6, c7, ct⟩ := hu a ha
      simp (disch := omega) only [setm_ne, setm_eq, e0, e1, e2, e3]
      exact ⟨c0, c1, c2, c3, hv, c5, c6, c7, ct⟩
    · simp (disch := omega) only [setm_ne, e0, e1, e2, e3]; exact hu a ha
  · rw [e2] at ha hb'; simp (disch := omega) only [setm_ne, e0, e1, e2, e3]; exact huv a b ha hb'
  · rw [e3] at h; simp (disch := omega) only [setm_ne, e0, e1, e2, e3]; exact hq q h
theorem WF.un5 {m : Nat → Int32} {u : Nat} {v : Int32} (hw : WF m) (hu0 : u < cn (m 2)) (hv : bd v 4) (hb : v = 2 ∨ v = 3 → (bd (m (110 + 8 * u + 6)) 29 ∧ cn (m (110 + 8 * u + 6)) < cn (m 3) ∧ m (160 + 6 * cn (m (110 + 8 * u + 6)) + 3) = 1) ∧ ∀ a, a < cn (m 2) → busy m a → m (110 + 8 * a + 6) = m (110 + 8 * u + 6) → a = u) : WF (setm m (110 + 8 * u + 5) v) := by
  obtain ⟨h0, h1, h2, h3, h4, h7, h8, hs, hu, huv, hq⟩ := hw
  have b1 := h1.2
  have b2 := h2.2
  have b3 := h3.2
  unfold WF busy
  have e0 : setm m (110 + 8 * u + 5) v 0 = m 0 := setm_ne (by omega)
  have e1 : setm m (110 + 8 * u + 5) v 1 = m 1 := setm_ne (by omega)
  have e2 : setm m (110 + 8 * u + 5) v 2 = m 2 := setm_ne (by omega)
  have e3 : setm m (110 + 8 * u + 5) v 3 = m 3 := setm_ne (by omega)
  refine ⟨?_, ?_, ?_, ?_, ?_, ?_, ?_, fun k hk => ?_, fun a ha => ?_, fun a b ha hb' => ?_, fun q h => ?_⟩
  · simp (disch := omega) only [setm_ne, e0, e1, e2, e3]; exact h0
  · simp (disch := omega) only [setm_ne, e0, e1, e2, e3]; exact h1
  · simp (disch := omega) only [setm_ne, e0, e1, e2, e3]; exact h2
  · simp (disch := omega) only [setm_ne, e0, e1, e2, e3]; exact h3
  · simp (disch := omega) only [setm_ne, e0, e1, e2, e3]; exact h4
  · simp (disch := omega) only [setm_ne, e0, e1, e2, e3]; exact h7
  · simp (disch := omega) only [setm_ne, e0, e1, e2, e3]; exact h8
  · rw [e1] at hk; simp (disch := omega) only [setm_ne, e0, e1, e2, e3]; exact hs k hk
  · rw [e2] at ha
    by_cases e : a = u
    · subst e
      obtain ⟨c0, c1, c2, c3, c4, c5, c6, c7, ct⟩ := hu a ha
      simp (disch := omega) only [setm_ne, setm_eq, e0, e1, e2, e3]
      exact ⟨c0, c1, c2, c3, c4, hv, c6, c7, fun z => (hb z).1⟩
    · simp (disch := omega) only [setm_ne, e0, e1, e2, e3]; exact hu a ha
  · rw [e2] at ha hb'
    by_cases ea : a = u
    · by_cases eb : b = u
      · intro _ _ _; rw [ea, eb]
      · subst ea
        simp (disch := omega) only [setm_ne, setm_eq]
        intro x1 x2 x3
        exact ((hb x1).2 b hb' x2 x3.symm).symm
    · by_cases eb : b = u
      · subst eb
        simp (disch := omega) only [setm_ne, setm_eq]
        intro x1 x2 x3
        exact (hb x2).2 a ha x1 x3
      · simp (disch := omega) only [setm_ne]; exact huv a b ha hb'
  · rw [e3] at h; simp (disch := omega) only [setm_ne, e0, e1, e2, e3]; exact hq q h
theorem WF.un6 {m : Nat → Int32} {u : Nat} {v : Int32} (hw : WF m) (hu0 : u < cn (m 2)) (hv : bd v 99999999) : WF (setm m (380 + 2 * u) v) := by
  obtain ⟨h0, h1, h2, h3, h4, h7, h8, hs, hu, huv, hq⟩ := hw
  have b1 := h1.2
  have b2 := h2.2
  have b3 := h3.2
  unfold WF busy
  have e0 : setm m (380 + 2 * u) v 0 = m 0 := setm_ne (by omega)
  have e1 : setm m (380 + 2 * u) v 1 = m 1 := setm_ne (by omega)
  have e2 : setm m (380 + 2 * u) v 2 = m 2 := setm_ne (by omega)
  have e3 : setm m (380 + 2 * u) v 3 = m 3 := setm_ne (by omega)
  refine ⟨?_, ?_, ?_, ?_, ?_, ?_, ?_, fun k hk => ?_, fun a ha => ?_, fun a b ha hb' => ?_, fun q h => ?_⟩
  · simp (disch := omega) only [setm_ne, e0, e1, e2, e3]; exact h0
  · simp (disch := omega) only [setm_ne, e0, e1, e2, e3]; exact h1
  · simp (disch := omega) only [setm_ne, e0, e1, e2, e3]; exact h2
  · simp (disch := omega) only [setm_ne, e0, e1, e2, e3]; exact h3
  · simp (disch := omega) only [setm_ne, e0, e1, e2, e3]; exact h4
  · simp (disch := omega) only [setm_ne, e0, e1, e2, e3]; exact h7
  · simp (disch := omega) only [setm_ne, e0, e1, e2, e3]; exact h8
  · rw [e1] at hk; simp (disch := omega) only [setm_ne, e0, e1, e2, e3]; exact hs k hk
  · rw [e2] at ha
    by_cases e : a = u
    · subst e
      obtain ⟨c0, c1, c2, c3, c4, c5, c6, c7, ct⟩ := hu a ha
      simp (disch := omega) only [setm_ne, setm_eq, e0, e1, e2, e3]
      exact ⟨c0, c1, c2, c3, c4, c5, hv, c7, ct⟩
    · simp (disch := omega) only [setm_ne, e0, e1, e2, e3]; exact hu a ha
  · rw [e2] at ha hb'; simp (disch := omega) only [setm_ne, e0, e1, e2, e3]; exact huv a b ha hb'
  · rw [e3] at h; simp (disch := omega) only [setm_ne, e0, e1, e2, e3]; exact hq q h
theorem WF.un7 {m : Nat → Int32} {u : Nat} {v : Int32} (hw : WF m) (hu0 : u < cn (m 2)) (hv : bd v 99999999) : WF (setm m (380 + 2 * u + 1) v) := by
  obtain ⟨h0, h1, h2, h3, h4, h7, h8, hs, hu, huv, hq⟩ := hw
  have b1 := h1.2
  have b2 := h2.2
  have b3 := h3.2
  unfold WF busy
  have e0 : setm m (380 + 2 * u + 1) v 0 = m 0 := setm_ne (by omega)
  have e1 : setm m (380 + 2 * u + 1) v 1 = m 1 := setm_ne (by omega)
  have e2 : setm m (380 + 2 * u + 1) v 2 = m 2 := setm_ne (by omega)
  have e3 : setm m (380 + 2 * u + 1) v 3 = m 3 := setm_ne (by omega)
  refine ⟨?_, ?_, ?_, ?_, ?_, ?_, ?_, fun k hk => ?_, fun a ha => ?_, fun a b ha hb' => ?_, fun q h => ?_⟩
  · simp (disch := omega) only [setm_ne, e0, e1, e2, e3]; exact h0
  · simp (disch := omega) only [setm_ne, e0, e1, e2, e3]; exact h1
  · simp (disch := omega) only [setm_ne, e0, e1, e2, e3]; exact h2
  · simp (disch := omega) only [setm_ne, e0, e1, e2, e3]; exact h3
  · simp (disch := omega) only [setm_ne, e0, e1, e2, e3]; exact h4
  · simp (disch := omega) only [setm_ne, e0, e1, e2, e3]; exact h7
  · simp (disch := omega) only [setm_ne, e0, e1, e2, e3]; exact h8
  · rw [e1] at hk; simp (disch := omega) only [setm_ne, e0, e1, e2, e3]; exact hs k hk
  · rw [e2] at ha
    by_cases e : a = u
    · subst e
      obtain ⟨c0, c1, c2, c3, c4, c5, c6, c7, ct⟩ := hu a ha
      simp (disch := omega) only [setm_ne, setm_eq, e0, e1, e2, e3]
      exact ⟨c0, c1, c2, c3, c4, c5, c6, hv, fun z => ⟨(ct z).1, (ct z).2.1, by have := (ct z).2.1; rw [setm_ne (by omega)]; exact (ct z).2.2⟩⟩
    · obtain ⟨c0, c1, c2, c3, c4, c5, c6, c7, ct⟩ := hu a ha; simp (disch := omega) only [setm_ne, e0, e1, e2, e3]; exact ⟨c0, c1, c2, c3, c4, c5, c6, c7, fun z => ⟨(ct z).1, (ct z).2.1, by have := (ct z).2.1; rw [setm_ne (by omega)]; exact (ct z).2.2⟩⟩
  · rw [e2] at ha hb'; simp (disch := omega) only [setm_ne, e0, e1, e2, e3]; exact huv a b ha hb'
  · rw [e3] at h; simp (disch := omega) only [setm_ne, e0, e1, e2, e3]; exact hq q h
theorem WF.unT {m : Nat → Int32} {u : Nat} {v : Int32} (hw : WF m) (hu0 : u < cn (m 2)) (hb : ¬ busy m u) : WF (setm m (110 + 8 * u + 6) v) := by
  obtain ⟨h0, h1, h2, h3, h4, h7, h8, hs, hu, huv, hq⟩ := hw
  have b1 := h1.2
  have b2 := h2.2
  have b3 := h3.2
  unfold WF busy
  have e0 : setm m (110 + 8 * u + 6) v 0 = m 0 := setm_ne (by omega)
  have e1 : setm m (110 + 8 * u + 6) v 1 = m 1 := setm_ne (by omega)
  have e2 : setm m (110 + 8 * u + 6) v 2 = m 2 := setm_ne (by omega)
  have e3 : setm m (110 + 8 * u + 6) v 3 = m 3 := setm_ne (by omega)
  refine ⟨?_, ?_, ?_, ?_, ?_, ?_, ?_, fun k hk => ?_, fun a ha => ?_, fun a b ha hb' => ?_, fun q h => ?_⟩
  · simp (disch := omega) only [setm_ne, e0, e1, e2, e3]; exact h0
  · simp (disch := omega) only [setm_ne, e0, e1, e2, e3]; exact h1
  · simp (disch := omega) only [setm_ne, e0, e1, e2, e3]; exact h2
  · simp (disch := omega) only [setm_ne, e0, e1, e2, e3]; exact h3
  · simp (disch := omega) only [setm_ne, e0, e1, e2, e3]; exact h4
  · simp (disch := omega) only [setm_ne, e0, e1, e2, e3]; exact h7
  · simp (disch := omega) only [setm_ne, e0, e1, e2, e3]; exact h8
  · rw [e1] at hk; simp (disch := omega) only [setm_ne, e0, e1, e2, e3]; exact hs k hk
  · rw [e2] at ha
    by_cases e : a = u
    · subst e
      obtain ⟨c0, c1, c2, c3, c4, c5, c6, c7, ct⟩ := hu a ha
      simp (disch := omega) only [setm_ne, setm_eq, e0, e1, e2, e3]
      exact ⟨c0, c1, c2, c3, c4, c5, c6, c7, fun z => absurd z hb⟩
    · simp (disch := omega) only [setm_ne, e0, e1, e2, e3]; exact hu a ha
  · rw [e2] at ha hb'
    by_cases ea : a = u
    · subst ea
      simp (disch := omega) only [setm_ne]
      intro x1; exact absurd x1 hb
    · by_cases eb : b = u
      · subst eb
        simp (disch := omega) only [setm_ne]
        intro _ x2; exact absurd x2 hb
      · simp (disch := omega) only [setm_ne]; exact huv a b ha hb'
  · rw [e3] at h; simp (disch := omega) only [setm_ne, e0, e1, e2, e3]; exact hq q h
theorem WF.ca0 {m : Nat → Int32} {q : Nat} {v : Int32} (hw : WF m) (hq0 : q < cn (m 3)) (hv : bd v 7 ∧ cn v < cn (m 0)) : WF (setm m (160 + 6 * q) v) := by
  obtain ⟨h0, h1, h2, h3, h4, h7, h8, hs, hu, huv, hq⟩ := hw
  have b1 := h1.2
  have b2 := h2.2
  have b3 := h3.2
  unfold WF busy
  have e0 : setm m (160 + 6 * q) v 0 = m 0 := setm_ne (by omega)
  have e1 : setm m (160 + 6 * q) v 1 = m 1 := setm_ne (by omega)
  have e2 : setm m (160 + 6 * q) v 2 = m 2 := setm_ne (by omega)
  have e3 : setm m (160 + 6 * q) v 3 = m 3 := setm_ne (by omega)
  refine ⟨?_, ?_, ?_, ?_, ?_, ?_, ?_, fun k hk => ?_, fun a ha => ?_, fun a b ha hb' => ?_, fun a h => ?_⟩
  · simp (disch := omega) only [setm_ne, e0, e1, e2, e3]; exact h0
  · simp (disch := omega) only [setm_ne, e0, e1, e2, e3]; exact h1
  · simp (disch := omega) only [setm_ne, e0, e1, e2, e3]; exact h2
  · simp (disch := omega) only [setm_ne, e0, e1, e2, e3]; exact h3
  · simp (disch := omega) only [setm_ne, e0, e1, e2, e3]; exact h4
  · simp (disch := omega) only [setm_ne, e0, e1, e2, e3]; exact h7
  · simp (disch := omega) only [setm_ne, e0, e1, e2, e3]; exact h8
  · rw [e1] at hk; simp (disch := omega) only [setm_ne, e0, e1, e2, e3]; exact hs k hk
  · rw [e2] at ha
    simp (disch := omega) only [setm_ne, e0, e1, e2, e3]; exact hu a ha
  · rw [e2] at ha hb'; simp (disch := omega) only [setm_ne, e0, e1, e2, e3]; exact huv a b ha hb'
  · rw [e3] at h
    by_cases e : a = q
    · subst e
      obtain ⟨c0, c1, c2, c3⟩ := hq a h
      simp (disch := omega) only [setm_ne, setm_eq, e0, e1, e2, e3]
      exact ⟨hv, c1, c2, c3⟩
    · simp (disch := omega) only [setm_ne, e0, e1, e2, e3]; exact hq a h
theorem WF.ca1 {m : Nat → Int32} {q : Nat} {v : Int32} (hw : WF m) (hq0 : q < cn (m 3)) (hv : bd v 2) : WF (setm m (160 + 6 * q + 1) v) := by
  obtain ⟨h0, h1, h2, h3, h4, h7, h8, hs, hu, huv, hq⟩ := hw
  have b1 := h1.2
  have b2 := h2.2
  have b3 := h3.2
  unfold WF busy
  have e0 : setm m (160 + 6 * q + 1) v 0 = m 0 := setm_ne (by omega)
  have e1 : setm m (160 + 6 * q + 1) v 1 = m 1 := setm_ne (by omega)
  have e2 : setm m (160 + 6 * q + 1) v 2 = m 2 := setm_ne (by omega)
  have e3 : setm m (160 + 6 * q + 1) v 3 = m 3 := setm_ne (by omega)
  refine ⟨?_, ?_, ?_, ?_, ?_, ?_, ?_, fun k hk => ?_, fun a ha => ?_, fun a b ha hb' => ?_, fun a h => ?_⟩
  · simp (disch := omega) only [setm_ne, e0, e1, e2, e3]; exact h0
  · simp (disch := omega) only [setm_ne, e0, e1, e2, e3]; exact h1
  · simp (disch := omega) only [setm_ne, e0, e1, e2, e3]; exact h2
  · simp (disch := omega) only [setm_ne, e0, e1, e2, e3]; exact h3
  · simp (disch := omega) only [setm_ne, e0, e1, e2, e3]; exact h4
  · simp (disch := omega) only [setm_ne, e0, e1, e2, e3]; exact h7
  · simp (disch := omega) only [setm_ne, e0, e1, e2, e3]; exact h8
  · rw [e1] at hk; simp (disch := omega) only [setm_ne, e0, e1, e2, e3]; exact hs k hk
  · rw [e2] at ha
    simp (disch := omega) only [setm_ne, e0, e1, e2, e3]; exact hu a ha
  · rw [e2] at ha hb'; simp (disch := omega) only [setm_ne, e0, e1, e2, e3]; exact huv a b ha hb'
  · rw [e3] at h
    by_cases e : a = q
    · subst e
      obtain ⟨c0, c1, c2, c3⟩ := hq a h
      simp (disch := omega) only [setm_ne, setm_eq, e0, e1, e2, e3]
      exact ⟨c0, hv, c2, c3⟩
    · simp (disch := omega) only [setm_ne, e0, e1, e2, e3]; exact hq a h
theorem WF.ca2 {m : Nat → Int32} {q : Nat} {v : Int32} (hw : WF m) (hq0 : q < cn (m 3)) (hv : bd v 9 ∧ 1 ≤ cn v) : WF (setm m (160 + 6 * q + 2) v) := by
  obtain ⟨h0, h1, h2, h3, h4, h7, h8, hs, hu, huv, hq⟩ := hw
  have b1 := h1.2
  have b2 := h2.2
  have b3 := h3.2
  unfold WF busy
  have e0 : setm m (160 + 6 * q + 2) v 0 = m 0 := setm_ne (by omega)
  have e1 : setm m (160 + 6 * q + 2) v 1 = m 1 := setm_ne (by omega)
  have e2 : setm m (160 + 6 * q + 2) v 2 = m 2 := setm_ne (by omega)
  have e3 : setm m (160 + 6 * q + 2) v 3 = m 3 := setm_ne (by omega)
  refine ⟨?_, ?_, ?_, ?_, ?_, ?_, ?_, fun k hk => ?_, fun a ha => ?_, fun a b ha hb' => ?_, fun a h => ?_⟩
  · simp (disch := omega) only [setm_ne, e0, e1, e2, e3]; exact h0
  · simp (disch := omega) only [setm_ne, e0, e1, e2, e3]; exact h1
  · simp (disch := omega) only [setm_ne, e0, e1, e2, e3]; exact h2
  · simp (disch := omega) only [setm_ne, e0, e1, e2, e3]; exact h3
  · simp (disch := omega) only [setm_ne, e0, e1, e2, e3]; exact h4
  · simp (disch := omega) only [setm_ne, e0, e1, e2, e3]; exact h7
  · simp (disch := omega) only [setm_ne, e0, e1, e2, e3]; exact h8
  · rw [e1] at hk; simp (disch := omega) only [setm_ne, e0, e1, e2, e3]; exact hs k hk
  · rw [e2] at ha
    simp (disch := omega) only [setm_ne, e0, e1, e2, e3]; exact hu a ha
  · rw [e2] at ha hb'; simp (disch := omega) only [setm_ne, e0, e1, e2, e3]; exact huv a b ha hb'
  · rw [e3] at h
    by_cases e : a = q
    · subst e
      obtain ⟨c0, c1, c2, c3⟩ := hq a h
      simp (disch := omega) only [setm_ne, setm_eq, e0, e1, e2, e3]
      exact ⟨c0, c1, hv, c3⟩
    · simp (disch := omega) only [setm_ne, e0, e1, e2, e3]; exact hq a h
theorem WF.ca3 {m : Nat → Int32} {q : Nat} {v : Int32} (hw : WF m) (hq0 : q < cn (m 3)) (hv : v = 0 ∨ v = 1) (hb : v = 1 ∨ ∀ a, a < cn (m 2) → busy m a → cn (m (110 + 8 * a + 6)) ≠ q) : WF (setm m (160 + 6 * q + 3) v) := by
  obtain ⟨h0, h1, h2, h3, h4, h7, h8, hs, hu, huv, hq⟩ := hw
  have b1 := h1.2
  have b2 := h2.2
  have b3 := h3.2
  unfold WF busy
  have e0 : setm m (160 + 6 * q + 3) v 0 = m 0 := setm_ne (by omega)
  have e1 : setm m (160 + 6 * q + 3) v 1 = m 1 := setm_ne (by omega)
  have e2 : setm m (160 + 6 * q + 3) v 2 = m 2 := setm_ne (by omega)
  have e3 : setm m (160 + 6 * q + 3) v 3 = m 3 := setm_ne (by omega)
  refine ⟨?_, ?_, ?_, ?_, ?_, ?_, ?_, fun k hk => ?_, fun a ha => ?_, fun a b ha hb' => ?_, fun a h => ?_⟩
  · simp (disch := omega) only [setm_ne, e0, e1, e2, e3]; exact h0
  · simp (disch := omega) only [setm_ne, e0, e1, e2, e3]; exact h1
  · simp (disch := omega) only [setm_ne, e0, e1, e2, e3]; exact h2
  · simp (disch := omega) only [setm_ne, e0, e1, e2, e3]; exact h3
  · simp (disch := omega) only [setm_ne, e0, e1, e2, e3]; exact h4
  · simp (disch := omega) only [setm_ne, e0, e1, e2, e3]; exact h7
  · simp (disch := omega) only [setm_ne, e0, e1, e2, e3]; exact h8
  · rw [e1] at hk; simp (disch := omega) only [setm_ne, e0, e1, e2, e3]; exact hs k hk
  · rw [e2] at ha
    obtain ⟨c0, c1, c2, c3, c4, c5, c6, c7, ct⟩ := hu a ha
    simp (disch := omega) only [setm_ne, e0, e1, e2, e3]
    refine ⟨c0, c1, c2, c3, c4, c5, c6, c7, fun z => ?_⟩
    obtain ⟨t1, t2, t3⟩ := ct z
    refine ⟨t1, t2, ?_⟩
    by_cases e : cn (m (110 + 8 * a + 6)) = q
    · rw [e, setm_eq]
      rcases hb with hb | hb
      · exact hb
      · exact absurd e (hb a ha z)
    · rw [setm_ne (by omega)]; exact t3
  · rw [e2] at ha hb'; simp (disch := omega) only [setm_ne, e0, e1, e2, e3]; exact huv a b ha hb'
  · rw [e3] at h
    by_cases e : a = q
    · subst e
      obtain ⟨c0, c1, c2, c3⟩ := hq a h
      simp (disch := omega) only [setm_ne, setm_eq, e0, e1, e2, e3]
      exact ⟨c0, c1, c2, hv⟩
    · simp (disch := omega) only [setm_ne, e0, e1, e2, e3]; exact hq a h
theorem WF.ca4 {m : Nat → Int32} {q : Nat} {v : Int32} (hw : WF m) (hq0 : q < cn (m 3)) : WF (setm m (160 + 6 * q + 4) v) := by
  obtain ⟨h0, h1, h2, h3, h4, h7, h8, hs, hu, huv, hq⟩ := hw
  have b1 := h1.2
  have b2 := h2.2
  have b3 := h3.2
  unfold WF busy
  have e0 : setm m (160 + 6 * q + 4) v 0 = m 0 := setm_ne (by omega)
  have e1 : setm m (160 + 6 * q + 4) v 1 = m 1 := setm_ne (by omega)
  have e2 : setm m (160 + 6 * q + 4) v 2 = m 2 := setm_ne (by omega)
  have e3 : setm m (160 + 6 * q + 4) v 3 = m 3 := setm_ne (by omega)
  refine ⟨?_, ?_, ?_, ?_, ?_, ?_, ?_, fun k hk => ?_, fun a ha => ?_, fun a b ha hb' => ?_, fun a h => ?_⟩
  · simp (disch := omega) only [setm_ne, e0, e1, e2, e3]; exact h0
  · simp (disch := omega) only [setm_ne, e0, e1, e2, e3]; exact h1
  · simp (disch := omega) only [setm_ne, e0, e1, e2, e3]; exact h2
  · simp (disch := omega) only [setm_ne, e0, e1, e2, e3]; exact h3
  · simp (disch := omega) only [setm_ne, e0, e1, e2, e3]; exact h4
  · simp (disch := omega) only [setm_ne, e0, e1, e2, e3]; exact h7
  · simp (disch := omega) only [setm_ne, e0, e1, e2, e3]; exact h8
  · rw [e1] at hk; simp (disch := omega) only [setm_ne, e0, e1, e2, e3]; exact hs k hk
  · rw [e2] at ha
    simp (disch := omega) only [setm_ne, e0, e1, e2, e3]; exact hu a ha
  · rw [e2] at ha hb'; simp (disch := omega) only [setm_ne, e0, e1, e2, e3]; exact huv a b ha hb'
  · rw [e3] at h
    by_cases e : a = q
    · subst e
      obtain ⟨c0, c1, c2, c3⟩ := hq a h
      simp (disch := omega) only [setm_ne, setm_eq, e0, e1, e2, e3]
      exact ⟨c0, c1, c2, c3⟩
    · simp (disch := omega) only [setm_ne, e0, e1, e2, e3]; exact hq a h
theorem WF.ca5 {m : Nat → Int32} {q : Nat} {v : Int32} (hw : WF m) (hq0 : q < cn (m 3)) : WF (setm m (160 + 6 * q + 5) v) := by
  obtain ⟨h0, h1, h2, h3, h4, h7, h8, hs, hu, huv, hq⟩ := hw
  have b1 := h1.2
  have b2 := h2.2
  have b3 := h3.2
  unfold WF busy
  have e0 : setm m (160 + 6 * q + 5) v 0 = m 0 := setm_ne (by omega)
  have e1 : setm m (160 + 6 * q + 5) v 1 = m 1 := setm_ne (by omega)
  have e2 : setm m (160 + 6 * q + 5) v 2 = m 2 := setm_ne (by omega)
  have e3 : setm m (160 + 6 * q + 5) v 3 = m 3 := setm_ne (by omega)
  refine ⟨?_, ?_, ?_, ?_, ?_, ?_, ?_, fun k hk => ?_, fun a ha => ?_, fun a b ha hb' => ?_, fun a h => ?_⟩
  · simp (disch := omega) only [setm_ne, e0, e1, e2, e3]; exact h0
  · simp (disch := omega) only [setm_ne, e0, e1, e2, e3]; exact h1
  · simp (disch := omega) only [setm_ne, e0, e1, e2, e3]; exact h2
  · simp (disch := omega) only [setm_ne, e0, e1, e2, e3]; exact h3
  · simp (disch := omega) only [setm_ne, e0, e1, e2, e3]; exact h4
  · simp (disch := omega) only [setm_ne, e0, e1, e2, e3]; exact h7
  · simp (disch := omega) only [setm_ne, e0, e1, e2, e3]; exact h8
  · rw [e1] at hk; simp (disch := omega) only [setm_ne, e0, e1, e2, e3]; exact hs k hk
  · rw [e2] at ha
    simp (disch := omega) only [setm_ne, e0, e1, e2, e3]; exact hu a ha
  · rw [e2] at ha hb'; simp (disch := omega) only [setm_ne, e0, e1, e2, e3]; exact huv a b ha hb'
  · rw [e3] at h
    by_cases e : a = q
    · subst e
      obtain ⟨c0, c1, c2, c3⟩ := hq a h
      simp (disch := omega) only [setm_ne, setm_eq, e0, e1, e2, e3]
      exact ⟨c0, c1, c2, c3⟩
    · simp (disch := omega) only [setm_ne, e0, e1, e2, e3]; exact hq a h
theorem WF.st4 {m : Nat → Int32} {k : Nat} {v : Int32} (hw : WF m) (hk0 : k < cn (m 1)) (hv : v = 0 ∨ v = 1) : WF (setm m (10 + 5 * k + 4) v) := by
  obtain ⟨h0, h1, h2, h3, h4, h7, h8, hs, hu, huv, hq⟩ := hw
  have b1 := h1.2
  have b2 := h2.2
  have b3 := h3.2
  unfold WF busy
  have e0 : setm m (10 + 5 * k + 4) v 0 = m 0 := setm_ne (by omega)
  have e1 : setm m (10 + 5 * k + 4) v 1 = m 1 := setm_ne (by omega)
  have e2 : setm m (10 + 5 * k + 4) v 2 = m 2 := setm_ne (by omega)
  have e3 : setm m (10 + 5 * k + 4) v 3 = m 3 := setm_ne (by omega)
  refine ⟨?_, ?_, ?_, ?_, ?_, ?_, ?_, fun a hk => ?_, fun a ha => ?_, fun a b ha hb' => ?_, fun a h => ?_⟩
  · simp (disch := omega) only [setm_ne, e0, e1, e2, e3]; exact h0
  · simp (disch := omega) only [setm_ne, e0, e1, e2, e3]; exact h1
  · simp (disch := omega) only [setm_ne, e0, e1, e2, e3]; exact h2
  · simp (disch := omega) only [setm_ne, e0, e1, e2, e3]; exact h3
  · simp (disch := omega) only [setm_ne, e0, e1, e2, e3]; exact h4
  · simp (disch := omega) only [setm_ne, e0, e1, e2, e3]; exact h7
  · simp (disch := omega) only [setm_ne, e0, e1, e2, e3]; exact h8
  · rw [e1] at hk
    by_cases e : a = k
    · subst e
      obtain ⟨c0, c1, c2, c3, c4, c5, c6, c7⟩ := hs a hk
      simp (disch := omega) only [setm_ne, setm_eq, e0, e1, e2, e3]
      exact ⟨c0, c1, c2, c3, c4, hv, c6, c7⟩
    · simp (disch := omega) only [setm_ne, e0, e1, e2, e3]; exact hs a hk
  · rw [e2] at ha; simp (disch := omega) only [setm_ne, e0, e1, e2, e3]; exact hu a ha
  · rw [e2] at ha hb'; simp (disch := omega) only [setm_ne, e0, e1, e2, e3]; exact huv a b ha hb'
  · rw [e3] at h; simp (disch := omega) only [setm_ne, e0, e1, e2, e3]; exact hq a h
theorem WF.st5 {m : Nat → Int32} {k : Nat} {v : Int32} (hw : WF m) (hk0 : k < cn (m 1)) (hv : bd v 23) : WF (setm m (340 + 2 * k) v) := by
  obtain ⟨h0, h1, h2, h3, h4, h7, h8, hs, hu, huv, hq⟩ := hw
  have b1 := h1.2
  have b2 := h2.2
  have b3 := h3.2
  unfold WF busy
  have e0 : setm m (340 + 2 * k) v 0 = m 0 := setm_ne (by omega)
  have e1 : setm m (340 + 2 * k) v 1 = m 1 := setm_ne (by omega)
  have e2 : setm m (340 + 2 * k) v 2 = m 2 := setm_ne (by omega)
  have e3 : setm m (340 + 2 * k) v 3 = m 3 := setm_ne (by omega)
  refine ⟨?_, ?_, ?_, ?_, ?_, ?_, ?_, fun a hk => ?_, fun a ha => ?_, fun a b ha hb' => ?_, fun a h => ?_⟩
  · simp (disch := omega) only [setm_ne, e0, e1, e2, e3]; exact h0
  · simp (disch := omega) only [setm_ne, e0, e1, e2, e3]; exact h1
  · simp (disch := omega) only [setm_ne, e0, e1, e2, e3]; exact h2
  · simp (disch := omega) only [setm_ne, e0, e1, e2, e3]; exact h3
  · simp (disch := omega) only [setm_ne, e0, e1, e2, e3]; exact h4
  · simp (disch := omega) only [setm_ne, e0, e1, e2, e3]; exact h7
  · simp (disch := omega) only [setm_ne, e0, e1, e2, e3]; exact h8
  · rw [e1] at hk
    by_cases e : a = k
    · subst e
      obtain ⟨c0, c1, c2, c3, c4, c5, c6, c7⟩ := hs a hk
      simp (disch := omega) only [setm_ne, setm_eq, e0, e1, e2, e3]
      exact ⟨c0, c1, c2, c3, c4, c5, hv, c7⟩
    · simp (disch := omega) only [setm_ne, e0, e1, e2, e3]; exact hs a hk
  · rw [e2] at ha; simp (disch := omega) only [setm_ne, e0, e1, e2, e3]; exact hu a ha
  · rw [e2] at ha hb'; simp (disch := omega) only [setm_ne, e0, e1, e2, e3]; exact huv a b ha hb'
  · rw [e3] at h; simp (disch := omega) only [setm_ne, e0, e1, e2, e3]; exact hq a h
theorem WF.st6 {m : Nat → Int32} {k : Nat} {v : Int32} (hw : WF m) (hk0 : k < cn (m 1)) (hv : bd v 23) : WF (setm m (340 + 2 * k + 1) v) := by
  obtain ⟨h0, h1, h2, h3, h4, h7, h8, hs, hu, huv, hq⟩ := hw
  have b1 := h1.2
  have b2 := h2.2
  have b3 := h3.2
  unfold WF busy
  have e0 : setm m (340 + 2 * k + 1) v 0 = m 0 := setm_ne (by omega)
  have e1 : setm m (340 + 2 * k + 1) v 1 = m 1 := setm_ne (by omega)
  have e2 : setm m (340 + 2 * k + 1) v 2 = m 2 := setm_ne (by omega)
  have e3 : setm m (340 + 2 * k + 1) v 3 = m 3 := setm_ne (by omega)
  refine ⟨?_, ?_, ?_, ?_, ?_, ?_, ?_, fun a hk => ?_, fun a ha => ?_, fun a b ha hb' => ?_, fun a h => ?_⟩
  · simp (disch := omega) only [setm_ne, e0, e1, e2, e3]; exact h0
  · simp (disch := omega) only [setm_ne, e0, e1, e2, e3]; exact h1
  · simp (disch := omega) only [setm_ne, e0, e1, e2, e3]; exact h2
  · simp (disch := omega) only [setm_ne, e0, e1, e2, e3]; exact h3
  · simp (disch := omega) only [setm_ne, e0, e1, e2, e3]; exact h4
  · simp (disch := omega) only [setm_ne, e0, e1, e2, e3]; exact h7
  · simp (disch := omega) only [setm_ne, e0, e1, e2, e3]; exact h8
  · rw [e1] at hk
    by_cases e : a = k
    · subst e
      obtain ⟨c0, c1, c2, c3, c4, c5, c6, c7⟩ := hs a hk
      simp (disch := omega) only [setm_ne, setm_eq, e0, e1, e2, e3]
      exact ⟨c0, c1, c2, c3, c4, c5, c6, hv⟩
    · simp (disch := omega) only [setm_ne, e0, e1, e2, e3]; exact hs a hk
  · rw [e2] at ha; obtain ⟨c0, c1, c2, c3, c4, c5, c6, c7, ct⟩ := hu a ha; simp (disch := omega) only [setm_ne, e0, e1, e2, e3]; exact ⟨c0, c1, c2, c3, c4, c5, c6, c7, fun z => ⟨(ct z).1, (ct z).2.1, by have := (ct z).2.1; rw [setm_ne (by omega)]; exact (ct z).2.2⟩⟩
  · rw [e2] at ha hb'; simp (disch := omega) only [setm_ne, e0, e1, e2, e3]; exact huv a b ha hb'
  · rw [e3] at h; simp (disch := omega) only [setm_ne, e0, e1, e2, e3]; exact hq a h
