/-! S11: colourings -/
set_option maxRecDepth 100000
def lexle (n : Nat) (c d : Nat → Nat) : Prop := (∀ i, i < n → c i = d i) ∨ ∃ i, i < n ∧ (∀ j, j < i → c j = d j) ∧ c i < d i
theorem lexle.rf (n : Nat) (c : Nat → Nat) : lexle n c c := Or.inl (fun _ _ => rfl)
theorem lexle.tr {n : Nat} {a b c : Nat → Nat} (h : lexle n a b) (k : lexle n b c) : lexle n a c := by
  rcases h with h | ⟨i, hi, h1, h2⟩
  · rcases k with k | ⟨j, hj, k1, k2⟩
    · exact Or.inl (fun i hi => (h i hi).trans (k i hi))
    · exact Or.inr ⟨j, hj, fun x hx => (h x (by omega)).trans (k1 x hx), by rw [h j hj]; exact k2⟩
  · rcases k with k | ⟨j, hj, k1, k2⟩
    · exact Or.inr ⟨i, hi, fun x hx => (h1 x hx).trans (k x (by omega)), by rw [← k i hi]; exact h2⟩
    · rcases Nat.lt_trichotomy i j with q | q | q
      · exact Or.inr ⟨i, hi, fun x hx => (h1 x hx).trans (k1 x (by omega)), by rw [← k1 i q]; exact h2⟩
      · subst q
        exact Or.inr ⟨i, hi, fun x hx => (h1 x hx).trans (k1 x hx), by omega⟩
      · exact Or.inr ⟨j, hj, fun x hx => (h1 x (by omega)).trans (k1 x hx), by rw [h1 j q]; exact k2⟩
theorem lexle.an {n : Nat} {a b : Nat → Nat} (h : lexle n a b) (k : lexle n b a) : ∀ i, i < n → a i = b i := by
  rcases h with h | ⟨i, hi, h1, h2⟩
  · exact h
  · rcases k with k | ⟨j, hj, k1, k2⟩
    · exact fun x hx => (k x hx).symm
    · exfalso
      rcases Nat.lt_trichotomy i j with q | q | q
      · have := k1 i q; omega
      · subst q; omega
      · have := h1 j q; omega
theorem lexle.eq {n : Nat} {a b c : Nat → Nat} (h : ∀ i, i < n → a i = b i) (k : lexle n b c) : lexle n a c := lexle.tr (Or.inl h) k
/-- proper colourings with k colours -/
def PrC (g : Nat → Nat → Prop) (n k : Nat) (c : Nat → Nat) : Prop := (∀ i, i < n → c i < k) ∧ ∀ i j, i < j → j < n → c i = c j → ¬ g i j
def LfP (g : Nat → Nat → Prop) (n k : Nat) (c : Nat → Nat) : Prop := PrC g n k c ∧ (∀ k', k' < k → ∀ d, ¬ PrC g n k' d) ∧ ∀ d, PrC g n k d → lexle n c d
theorem LfP.un {g : Nat → Nat → Prop} {n k k' : Nat} {c c' : Nat → Nat} (h : LfP g n k c) (h' : LfP g n k' c') : k = k' ∧ ∀ i, i < n → c i = c' i := by
  have e : k = k' := by
    rcases Nat.lt_trichotomy k k' with q | q | q
    · exact absurd h.1 (h'.2.1 k q c)
    · exact q
    · exact absurd h'.1 (h.2.1 k' q c')
  subst e
  exact ⟨rfl, lexle.an (h.2.2 c' h'.1) (h'.2.2 c h.1)⟩
def usd (c : Nat → Nat) : Nat → Nat
  | 0 => 0
  | v + 1 => max (usd c v) (c v + 1)
theorem usd_lt (c : Nat → Nat) : ∀ v i, i < v → c i < usd c v := by
  intro v
  induction v with
  | zero => intro i h; omega
  | succ v ih =>
    intro i h
    rw [usd]
    by_cases e : i = v
    · subst e; omega
    · have := ih i (by omega); omega
theorem usd_le (c : Nat → Nat) {k : Nat} : ∀ v, (∀ i, i < v → c i < k) → usd c v ≤ k := by
  intro v
  induction v with
  | zero => intro _; exact Nat.zero_le _
  | succ v ih =>
    intro h
    have h1 := ih (fun i hi => h i (by omega))
    have h2 := h v (by omega)
    rw [usd]; omega
theorem usd_eq {c d : Nat → Nat} : ∀ v, (∀ i, i < v → c i = d i) → usd c v = usd d v := by
  intro v
  induction v with
  | zero => intro _; rfl
  | succ v ih => intro h; rw [usd, usd, ih (fun i hi => h i (by omega)), h v (by omega)]
theorem usd_mono (c : Nat → Nat) : ∀ {n v : Nat}, v ≤ n → usd c v ≤ usd c n := by
  intro n
  induction n with
  | zero => intro v h; have : v = 0 := by omega
            subst this; exact Nat.le_refl _
  | succ n ih =>
    intro v h
    by_cases e : v = n + 1
    · subst e; exact Nat.le_refl _
    · have := ih (v := v) (by omega)
      rw [usd]; omega
def RG (n : Nat) (c : Nat → Nat) : Prop := ∀ v, v < n → c v ≤ usd c v
def swp (a b x : Nat) : Nat := if x = a then b else if x = b then a else x
theorem swp_inj {a b x y : Nat} (h : swp a b x = swp a b y) : x = y := by
  unfold swp at h
  repeat' split at h
  all_goals omega
theorem canon {g : Nat → Nat → Prop} {n k : Nat} {c : Nat → Nat} (h : PrC g n k c) : ∀ v, v ≤ n → ∃ d, PrC g n k d ∧ RG v d ∧ lexle n d c := by
  intro v
  induction v with
  | zero => intro _; exact ⟨c, h, fun _ hv => absurd hv (Nat.not_lt_zero _), lexle.rf n c⟩
  | succ v ih =>
    intro hv
    obtain ⟨d, d1, d2, d3⟩ := ih (by omega)
    by_cases q : d v ≤ usd d v
    · refine ⟨d, d1, fun i hi => ?_, d3⟩
      by_cases e : i = v
      · subst e; exact q
      · exact d2 i (by omega)
    · have hlt : ∀ i, i < v → d i < usd d v := fun i hi => usd_lt d v i hi
      have hdk := d1.1 v (by omega)
      refine ⟨fun i => if i < v then d i else swp (usd d v) (d v) (d i), ⟨?_, ?_⟩, ?_, lexle.tr (Or.inr ⟨v, by omega, ?_, ?_⟩) d3⟩
      · intro i hi
        have := d1.1 i hi
        show (if i < v then d i else swp (usd d v) (d v) (d i)) < k
        unfold swp
        repeat' split
        all_goals omega
      · intro i j hij hj he
        have he : (if i < v then d i else swp (usd d v) (d v) (d i)) = (if j < v then d j else swp (usd d v) (d v) (d j)) := he
        have heq : d i = d j := by
          by_cases qi : i < v
          · by_cases qj : j < v
            · rw [if_pos qi, if_pos qj] at he; exact he
            · have := hlt i qi
              rw [if_pos qi, if_neg qj] at he
              unfold swp at he
              repeat' split at he
              all_goals omega
          · rw [if_neg qi, if_neg (by omega)] at he
            exact swp_inj he
        exact d1.2 i j hij hj heq
      · intro i hi
        show (if i < v then d i else swp (usd d v) (d v) (d i)) ≤ _
        rw [usd_eq (d := d) i (fun x hx => by show (if x < v then _ else _) = _; rw [if_pos (by omega)])]
        by_cases e : i = v
        · subst e
          rw [if_neg (by omega)]
          unfold swp
          rw [if_neg (by omega), if_pos rfl]
          exact Nat.le_refl _
        · rw [if_pos (by omega)]
          exact d2 i (by omega)
      · intro j hj
        show (if j < v then _ else _) = _
        rw [if_pos hj]
      · show (if v < v then _ else _) < _
        rw [if_neg (by omega)]
        unfold swp
        rw [if_neg (by omega), if_pos rfl]
        omega
/-- the best of the restricted colourings is the first of the least -/
theorem best_lf {g : Nat → Nat → Prop} {n : Nat} {c : Nat → Nat} (h1 : PrC g n (usd c n) c) (h2 : ∀ d, RG n d → PrC g n (usd d n) d → usd c n ≤ usd d n) (h3 : ∀ d, RG n d → PrC g n (usd d n) d → usd d n = usd c n → lexle n c d) : LfP g n (usd c n) c := by
  have pr : ∀ {k d}, PrC g n k d → PrC g n (usd d n) d := fun {k d} h => ⟨fun i hi => usd_lt d n i hi, h.2⟩
  refine ⟨h1, ?_, ?_⟩
  · intro k' hk d hd
    obtain ⟨d', p1, p2, -⟩ := canon hd n (Nat.le_refl _)
    have := h2 d' p2 (pr p1)
    have := usd_le d' n p1.1
    omega
  · intro d hd
    obtain ⟨d', p1, p2, p3⟩ := canon hd n (Nat.le_refl _)
    have a1 := h2 d' p2 (pr p1)
    have a2 := usd_le d' n p1.1
    exact (h3 d' p2 (pr p1) (by omega)).tr p3
theorem pr_id (g : Nat → Nat → Prop) (n : Nat) : PrC g n n (fun i => i) := ⟨fun _ h => h, fun i j h _ e => by have : i = j := e; omega⟩
theorem usd_id : ∀ n, usd (fun i => i) n = n := by
  intro n
  induction n with
  | zero => rfl
  | succ n ih => rw [usd, ih]; omega
