/-! the world's shape: classes, fields, groups, cells -/
set_option maxRecDepth 100000
abbrev vwCl : List vw_C := [(RX0, TX0, 22), (RX1, TX1, 2), (RX2, TX2, 17), (RX3, TX3, 38), (RX4, TX4, 4), (RX5, TX5, 2), (RX6, TX6, 6), (RX7, TX7, 4), (RX8, TX8, 10), (RX9, TX9, 8), (RX10, TX10, 2), (RX11, TX11, 4), (RX12, TX12, 63)]
def fkL : List (List (Nat × Nat)) := [[(2, 3200), (2, 200), (2, 4006), (5, 1), (5, 2), (5, 3), (5, 4), (5, 5), (5, 6), (5, 7), (5, 8), (5, 9), (4, 6), (5, 10), (5, 11), (5, 12), (5, 13), (0, 0), (0, 0), (0, 0), (0, 0), (1, 10)],
  [(2, 4000), (0, 0)],
  [(1, 3), (1, 3200), (1, 3200), (1, 3200), (1, 3200), (1, 3201), (6, 0), (0, 0), (0, 0), (0, 0), (0, 0), (0, 0), (0, 0), (0, 0), (0, 0), (0, 0), (0, 0)],
  [(1, 20), (1, 20), (1, 20), (3, 20), (3, 20), (1, 20), (1, 20), (1, 6), (1, 6), (2, 1600), (2, 96), (1, 8), (1, 8), (1, 12), (1, 6), (1, 6), (1, 6), (1, 6), (1, 6), (1, 6), (1, 6), (1, 30), (1, 30), (1, 30), (1, 30), (1, 30), (3, 30), (1, 64), (0, 0), (0, 0), (0, 0), (0, 0), (0, 0), (0, 0), (0, 0), (0, 0), (0, 0), (0, 0)],
  [(0, 0), (0, 0), (0, 0), (0, 0)],
  [(1, 13), (1, 13)],
  [(1, 6), (1, 6), (1, 6), (3, 36), (0, 0), (0, 0)],
  [(1, 20), (1, 8), (1, 8), (0, 0)],
  [(1, 6), (1, 6), (1, 36), (1, 448), (1, 6), (1, 6), (0, 0), (0, 0), (0, 0), (0, 0)],
  [(1, 6), (1, 30), (3, 6), (0, 0), (0, 0), (0, 0), (7, 0), (7, 0)],
  [(0, 0), (0, 0)],
  [(2, 2048), (0, 0), (0, 0), (0, 0)],
  [(1, 1532), (1, 9192), (0, 0), (1, 1532), (1, 1532), (0, 0), (1, 2048), (0, 0), (0, 0), (0, 0), (1, 3200), (0, 0), (1, 6600), (0, 0), (1, 3200), (0, 0), (1, 240), (1, 45), (1, 329), (0, 0), (0, 0), (0, 0), (1, 3), (1, 127), (0, 0), (0, 0), (1, 3300), (1, 3300), (0, 0), (1, 1700), (0, 0), (1, 1700), (0, 0), (1, 64), (0, 0), (1, 6), (0, 0), (1, 6), (1, 6), (1, 6), (0, 0), (0, 0), (0, 0), (0, 0), (0, 0), (1, 6), (1, 6), (0, 0), (1, 14), (1, 6), (0, 0), (1, 20), (1, 8), (1, 9), (3, 6), (1, 48), (0, 0), (1, 6), (1, 6), (0, 0), (1, 1700), (1, 6), (0, 0)]]
def nfL : List Nat := [22, 2, 17, 38, 4, 2, 6, 4, 10, 8, 2, 4, 63]
def cgL : List Nat := [0, 1, 2, 3, 3, 3, 4, 5, 6, 7, 8, 9, 10, 11, 3, 3, 3, 3, 3, 3, 12]
def ixL : List (Nat × Nat) := [(0, 0), (0, 1), (0, 2), (0, 3), (0, 13), (0, 22), (1, 0), (1, 1), (2, 0), (2, 1), (2, 2), (2, 3), (2, 4), (2, 5), (2, 6), (3, 0), (3, 1), (3, 2), (3, 3), (3, 4), (3, 5), (3, 6), (3, 7), (3, 8), (3, 9), (3, 10), (3, 11), (3, 12), (3, 13), (3, 14), (3, 15), (3, 16), (3, 17), (3, 18), (3, 19), (3, 20), (3, 21), (3, 22), (3, 23), (3, 24), (3, 25), (3, 26), (3, 27), (3, 28), (4, 0), (4, 1), (4, 2), (4, 3), (4, 4), (4, 5), (4, 6), (4, 7), (4, 8), (4, 9), (4, 10), (4, 11), (4, 12), (4, 13), (4, 14), (4, 15), (4, 16), (4, 17), (4, 18), (4, 19), (4, 20), (4, 21), (4, 22), (4, 23), (4, 24), (4, 25), (4, 26), (4, 27), (4, 28), (5, 0), (5, 1), (5, 2), (5, 3), (5, 4), (5, 5), (5, 6), (5, 7), (5, 8), (5, 9), (5, 10), (5, 11), (5, 12), (5, 13), (5, 14), (5, 15), (5, 16), (5, 17), (5, 18), (5, 19), (5, 20), (5, 21), (5, 22), (5, 23), (5, 24), (5, 25), (5, 26), (5, 27), (5, 28), (6, 0), (7, 0), (7, 1), (7, 2), (8, 0), (8, 1), (8, 2), (8, 3), (8, 4), (9, 0), (9, 1), (9, 2), (9, 3), (10, 0), (10, 1), (10, 2), (10, 3), (10, 4), (10, 5), (10, 6), (11, 0), (11, 1), (11, 2), (11, 3), (12, 0), (13, 0), (13, 1), (14, 0), (14, 1), (14, 2), (14, 3), (14, 4), (14, 5), (14, 6), (14, 7), (14, 8), (14, 9), (14, 10), (14, 11), (14, 12), (14, 13), (14, 14), (14, 15), (14, 16), (14, 17), (14, 18), (14, 19), (14, 20), (14, 21), (14, 22), (14, 23), (14, 24), (14, 25), (14, 26), (14, 27), (14, 28), (15, 0), (15, 1), (15, 2), (15, 3), (15, 4), (15, 5), (15, 6), (15, 7), (15, 8), (15, 9), (15, 10), (15, 11), (15, 12), (15, 13), (15, 14), (15, 15), (15, 16), (15, 17), (15, 18), (15, 19), (15, 20), (15, 21), (15, 22), (15, 23), (15, 24), (15, 25), (15, 26), (15, 27), (15, 28), (16, 0), (16, 1), (16, 2), (16, 3), (16, 4), (16, 5), (16, 6), (16, 7), (16, 8), (16, 9), (16, 10), (16, 11), (16, 12), (16, 13), (16, 14), (16, 15), (16, 16), (16, 17), (16, 18), (16, 19), (16, 20), (16, 21), (16, 22), (16, 23), (16, 24), (16, 25), (16, 26), (16, 27), (16, 28), (17, 0), (17, 1), (17, 2), (17, 3), (17, 4), (17, 5), (17, 6), (17, 7), (17, 8), (17, 9), (17, 10), (17, 11), (17, 12), (17, 13), (17, 14), (17, 15), (17, 16), (17, 17), (17, 18), (17, 19), (17, 20), (17, 21), (17, 22), (17, 23), (17, 24), (17, 25), (17, 26), (17, 27), (17, 28), (18, 0), (18, 1), (18, 2), (18, 3), (18, 4), (18, 5), (18, 6), (18, 7), (18, 8), (18, 9), (18, 10), (18, 11), (18, 12), (18, 13), (18, 14), (18, 15), (18, 16), (18, 17), (18, 18), (18, 19), (18, 20), (18, 21), (18, 22), (18, 23), (18, 24), (18, 25), (18, 26), (18, 27), (18, 28), (19, 0), (19, 1), (19, 2), (19, 3), (19, 4), (19, 5), (19, 6), (19, 7), (19, 8), (19, 9), (19, 10), (19, 11), (19, 12), (19, 13), (19, 14), (19, 15), (19, 16), (19, 17), (19, 18), (19, 19), (19, 20), (19, 21), (19, 22), (19, 23), (19, 24), (19, 25), (19, 26), (19, 27), (19, 28), (20, 0), (20, 1), (20, 2), (20, 4), (20, 5), (20, 7), (20, 11), (20, 13), (20, 15), (20, 17), (20, 18), (20, 19), (20, 23), (20, 24), (20, 27), (20, 28), (20, 30), (20, 32), (20, 34), (20, 36), (20, 38), (20, 39), (20, 40), (20, 46), (20, 47), (20, 49), (20, 50), (20, 52), (20, 53), (20, 54), (20, 55), (20, 56), (20, 58), (20, 59), (20, 61), (20, 62)]
def fk (c k : Nat) : Nat × Nat := (fkL.getD c []).getD k (9, 0)
def nf (c : Nat) : Nat := nfL.getD c 0
def cg (g : Nat) : Nat := cgL.getD g 99
/-- group, member (0: the object's own numbers; k + 1: the array of field k), index -/
abbrev St : Type := Nat → Nat → Nat → Int32
def up3 (σ : St) (g j i : Nat) (v : Int32) : St := fun a b c => if a = g ∧ b = j ∧ c = i then v else σ a b c
theorem up3_same (σ : St) (g j i : Nat) (v : Int32) : up3 σ g j i v g j i = v := by simp [up3]
theorem up3_arr (σ : St) (g j i : Nat) (v : Int32) : up3 σ g j i v g j = upd (σ g j) i v := by
  funext c
  simp [up3, upd]
theorem up3_ne (σ : St) {g j i : Nat} (v : Int32) {a b : Nat} (h : ¬ (a = g ∧ b = j)) : up3 σ g j i v a b = σ a b := by
  funext c
  simp only [up3]
  rw [if_neg (fun q => h ⟨q.1, q.2.1⟩)]
/-- what is the same all through a run: classes' layouts, cells' addresses, array classes, the heap's first size, the String constants and their bytes, which groups are there -/
abbrev Ev : Type := va_G × (Nat → Nat → Nat) × (Nat → ClassId) × Nat × (Nat → Nat) × (Nat → Nat) × (Nat → Bool)
abbrev eD (V : Ev) : va_G := V.1
abbrev ead (V : Ev) : Nat → Nat → Nat := V.2.1
abbrev eca (V : Ev) : Nat → ClassId := V.2.2.1
abbrev esz (V : Ev) : Nat := V.2.2.2.1
abbrev eK (V : Ev) : Nat → Nat := V.2.2.2.2.1
abbrev eB (V : Ev) : Nat → Nat := V.2.2.2.2.2.1
abbrev eP (V : Ev) : Nat → Bool := V.2.2.2.2.2.2
/-- a group's class, if it is there -/
def cgv (V : Ev) (g : Nat) : Nat := if eP V g = true then cg g else 99
theorem cgv_cg {V : Ev} {g c : Nat} (h : cgv V g = c) (hc : c ≤ 12) : cg g = c ∧ eP V g = true := by
  unfold cgv at h
  by_cases hp : eP V g = true
  · rw [if_pos hp] at h
    exact ⟨h, hp⟩
  · rw [if_neg hp] at h
    omega
/-- all groups are there -/
def FullV (V : Ev) : Prop := ∀ g, eP V g = true
theorem FullV.c {V : Ev} (h : FullV V) (g : Nat) : cgv V g = cg g := by
  unfold cgv
  rw [if_pos (h g)]
def ixv (V : Ev) : List (Nat × Nat) := ixL.filter (fun q => eP V q.1)
def eA (V : Ev) : Nat → Prop := fun q => esz V ≤ q
abbrev etys (V : Ev) : List (ClassId × FieldType) := [(eca V 0, .int), (eca V 1, .byte), (eca V 2, .boolean), (eca V 3, .object "RescueHouse$House")]
def fval (V : Ev) (σ : St) (g k : Nat) : Value :=
  if (fk (cg g) k).1 = 0 then .int (σ g 0 k)
  else if (fk (cg g) k).1 = 5 then .ref (ead V (fk (cg g) k).2 0)
  else if (fk (cg g) k).1 = 6 then (if σ g 0 k = 0 then .null else .ref (ead V 0 (σ g 0 k).toNatClampNeg))
  else if (fk (cg g) k).1 = 7 then (if σ g 0 k = 0 then .null else .ref (ead V (σ g 0 k).toNatClampNeg 0))
  else .ref (ead V g (k + 1))
def flds (V : Ev) (σ : St) (g : Nat) : List Value := (List.range (nf (cg g))).map (fval V σ g)
def cellE (V : Ev) (σ : St) (g j : Nat) : va_E :=
  if j = 0 then .inr (cg g, flds V σ g)
  else if (fk (cg g) (j - 1)).1 = 1 then .inl (eca V 0, (fk (cg g) (j - 1)).2, .inl (σ g j))
  else if (fk (cg g) (j - 1)).1 = 2 then .inl (eca V 1, (fk (cg g) (j - 1)).2, .inl (σ g j))
  else if (fk (cg g) (j - 1)).1 = 3 then .inl (eca V 2, (fk (cg g) (j - 1)).2, .inl (σ g j))
  else .inl (eca V 3, (fk (cg g) (j - 1)).2, .inr (.inr (.inr (.inr (fun i => some (ead V (14 + i) 0))))))
def wl (V : Ev) (σ : St) : va_W := (ixv V).map (fun q => (ead V q.1 q.2, cellE V σ q.1 q.2))
theorem wl_at {V : Ev} {σ : St} {q g j : Nat} (h : (ixv V)[q]? = some (g, j)) : (wl V σ)[q]? = some (ead V g j, cellE V σ g j) := by
  simp [wl, h]
theorem ixL_nodup : ixL.Nodup := by decide +kernel
theorem ixv_inj {V : Ev} {i j : Nat} {a : Nat × Nat} (h1 : (ixv V)[i]? = some a) (h2 : (ixv V)[j]? = some a) : i = j := by
  have hn : (ixv V).Nodup := ixL_nodup.sublist List.filter_sublist
  have b1 := (List.getElem?_eq_some_iff.mp h1)
  have b2 := (List.getElem?_eq_some_iff.mp h2)
  obtain ⟨l1, e1⟩ := b1
  obtain ⟨l2, e2⟩ := b2
  exact (List.getElem_inj hn).mp (e1.trans e2.symm)
theorem cg_lt {g c : Nat} (h : cg g = c) (hc : c ≤ 12) : g < 21 := by
  rcases Nat.lt_or_ge g 21 with q | q
  · exact q
  · have : cg g = 99 := by
      have hl : cgL.length = 21 := rfl
      unfold cg
      rw [List.getD_eq_getElem?_getD, List.getElem?_eq_none (by omega)]
      rfl
    omega
theorem ix_obj {V : Ev} {g c : Nat} (h : cgv V g = c) (hc : c ≤ 12) : ∃ q : Nat, (ixv V)[q]? = some (g, 0) := by
  obtain ⟨h, hp⟩ := cgv_cg h hc
  have key : ∀ g, g < 21 → (g, 0) ∈ ixL := by decide +kernel
  exact List.getElem?_of_mem (List.mem_filter.mpr ⟨key g (cg_lt h hc), hp⟩)
theorem ix_arr {V : Ev} {g c k : Nat} (h : cgv V g = c) (hc : c ≤ 12) (hk : 1 ≤ (fk c k).1 ∧ (fk c k).1 ≤ 4) : ∃ q : Nat, (ixv V)[q]? = some (g, k + 1) := by
  obtain ⟨h, hp⟩ := cgv_cg h hc
  have key : ∀ g, g < 21 → ∀ k, k < 63 → (1 ≤ (fk (cg g) k).1 ∧ (fk (cg g) k).1 ≤ 4) → (g, k + 1) ∈ ixL := by
    have h0 : ((List.range 21).all fun g => (List.range 63).all fun k => !(decide (1 ≤ (fk (cg g) k).1) && decide ((fk (cg g) k).1 ≤ 4)) || decide ((g, k + 1) ∈ ixL)) = true := by decide +kernel
    intro g hg k hk hkk
    have h1 := List.all_eq_true.mp (List.all_eq_true.mp h0 g (List.mem_range.mpr hg)) k (List.mem_range.mpr hk)
    simpa [hkk.1, hkk.2] using h1
  have k63 : k < 63 := by
    rcases Nat.lt_or_ge k 63 with q | q
    · exact q
    · have hl : ∀ c, c < 13 → (fkL.getD c []).length ≤ 63 := by decide +kernel
      have : fk c k = (9, 0) := by
        unfold fk
        rw [List.getD_eq_getElem?_getD, List.getElem?_eq_none (Nat.le_trans (hl c (by omega)) q)]
        rfl
      rw [this] at hk
      omega
  exact List.getElem?_of_mem (List.mem_filter.mpr ⟨key g (cg_lt h hc) k k63 (by rw [h]; exact hk), hp⟩)
/-- a list of cells, one of them set -/
theorem wl_set {V : Ev} {σ σ' : St} {q g j : Nat} {e : va_E} (h : (ixv V)[q]? = some (g, j)) (he : cellE V σ' g j = e) (ho : ∀ a b, ¬ (a = g ∧ b = j) → cellE V σ' a b = cellE V σ a b) : (wl V σ).set q (ead V g j, e) = wl V σ' := by
  apply List.ext_getElem?
  intro i
  rw [List.getElem?_set]
  by_cases hi : q = i
  · subst hi
    have hl : q < (wl V σ).length := by
      simp only [wl, List.length_map]
      exact (List.getElem?_eq_some_iff.mp h).1
    rw [if_pos rfl, if_pos hl, wl_at h, he]
  · rw [if_neg hi]
    simp only [wl, List.getElem?_map]
    cases hx : (ixv V)[i]? with
    | none => rfl
    | some a =>
      obtain ⟨a, b⟩ := a
      show some (ead V a b, cellE V σ a b) = some (ead V a b, cellE V σ' a b)
      rw [ho a b (fun z => hi (ixv_inj h (by rw [hx, z.1, z.2])))]
/-- the cells' addresses are apart, and all new -/
def Apart (V : Ev) : Prop := (∀ (i j : Nat) (a b : Nat × Nat), (ixv V)[i]? = some a → (ixv V)[j]? = some b → ead V a.1 a.2 = ead V b.1 b.2 → i = j) ∧ ∀ (k : Nat) (a : Nat × Nat), (ixv V)[k]? = some a → eA V (ead V a.1 a.2)
theorem Apart.D {V : Ev} (h : Apart V) (σ : St) : va_D (eA V) (wl V σ) := by
  have key : ∀ (k : Nat) (q : Nat × va_E), (wl V σ)[k]? = some q → ∃ a, (ixv V)[k]? = some a ∧ q.1 = ead V a.1 a.2 := by
    intro k q hk
    simp only [wl, List.getElem?_map] at hk
    cases hx : (ixv V)[k]? with
    | none => rw [hx] at hk; cases hk
    | some a =>
      rw [hx] at hk
      refine ⟨a, rfl, ?_⟩
      have := Option.some.inj hk
      rw [← this]
  refine ⟨fun i j p q hp hq e => ?_, fun k q hk => ?_⟩
  · obtain ⟨a, h1, h2⟩ := key i p hp
    obtain ⟨b, h3, h4⟩ := key j q hq
    exact h.1 i j a b h1 h3 (by rw [← h2, ← h4]; exact e)
  · obtain ⟨a, h1, h2⟩ := key k q hk
    rw [h2]
    exact h.2 k a h1
/-- what is known of a class -/
def ClF (c : Nat) (C : String) (T : u_T) (N : Nat) (ty : Nat → FieldType) : Prop :=
  vwCl[c]? = some (C, T, N) ∧ (∀ w ∈ u_ws C T N, w ∈ lw_all) ∧ (∀ k, k < N → parseFieldDescriptor (T k).2.2.1 = some (ty k)) ∧ ∀ a, a < N → ∀ b, b < N → a ≠ b → (T a).2.1 ≠ (T b).2.1
theorem clX0 : ClF 0 RX0 TX0 22 tyX0 := ⟨rfl, in_X0, tyX0_ok, nmX0⟩
theorem clX1 : ClF 1 RX1 TX1 2 tyX1 := ⟨rfl, in_X1, tyX1_ok, nmX1⟩
theorem clX2 : ClF 2 RX2 TX2 17 tyX2 := ⟨rfl, in_X2, tyX2_ok, nmX2⟩
theorem clX3 : ClF 3 RX3 TX3 38 tyX3 := ⟨rfl, in_X3, tyX3_ok, nmX3⟩
theorem clX4 : ClF 4 RX4 TX4 4 tyX4 := ⟨rfl, in_X4, tyX4_ok, nmX4⟩
theorem clX5 : ClF 5 RX5 TX5 2 tyX5 := ⟨rfl, in_X5, tyX5_ok, nmX5⟩
theorem clX6 : ClF 6 RX6 TX6 6 tyX6 := ⟨rfl, in_X6, tyX6_ok, nmX6⟩
theorem clX7 : ClF 7 RX7 TX7 4 tyX7 := ⟨rfl, in_X7, tyX7_ok, nmX7⟩
theorem clX8 : ClF 8 RX8 TX8 10 tyX8 := ⟨rfl, in_X8, tyX8_ok, nmX8⟩
theorem clX9 : ClF 9 RX9 TX9 8 tyX9 := ⟨rfl, in_X9, tyX9_ok, nmX9⟩
theorem clX10 : ClF 10 RX10 TX10 2 tyX10 := ⟨rfl, in_X10, tyX10_ok, nmX10⟩
theorem clX11 : ClF 11 RX11 TX11 4 tyX11 := ⟨rfl, in_X11, tyX11_ok, nmX11⟩
theorem clX12 : ClF 12 RX12 TX12 63 tyX12 := ⟨rfl, in_X12, tyX12_ok, nmX12⟩
/-- words that don't ride in the lists: links of nest mates -/
def isNest : Cond → Bool
  | .fieldLinkNest .. => true
  | .methodLinkNest .. => true
  | _ => false
def NestOk (U : State) : Prop := ∀ w ∈ lw_tbl, isNest w = true → va_Nw w U
theorem NestOk.warm {s U : State} (hW : s.WarmedH U.vm) (h : NestOk s) : NestOk U := by
  intro w hw hn
  have h1 := h w hw hn
  cases w <;> first | exact va_Nw.warmF hW h1 | exact va_Nw.warmM hW h1 | (cases hn; done)
theorem NestOk.same {u U : State} (hv : u.vm = U.vm) (h : NestOk u) : NestOk U := by
  intro w hw hn
  refine va_Nw.same ?_ hv (h w hw hn)
  cases w <;> first | rfl | (cases hn; done)
