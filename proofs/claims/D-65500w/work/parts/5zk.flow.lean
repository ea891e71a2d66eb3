/-! S11: flows: whole numbers, steps to a place, rooms -/
set_option maxRecDepth 100000
def zI (a : Int) : Int32 := Int32.ofInt a
theorem zI_nat (n : Nat) : zI (n : Int) = nI n := Int32.ofInt_eq_ofNat
theorem zI_0 : zI 0 = 0 := rfl
theorem zI_add (a b : Int) : zI a + zI b = zI (a + b) := (Int32.ofInt_add a b).symm
theorem zI_sub (a b : Int) : zI a - zI b = zI (a - b) := (Int32.ofInt_sub a b).symm
theorem zI_neg (a : Int) : -zI a = zI (-a) := (Int32.ofInt_neg a).symm
theorem zI_toInt {a : Int} (h1 : -2147483648 ≤ a) (h2 : a < 2147483648) : (zI a).toInt = a := Int32.toInt_ofInt_of_le (by omega) (by omega)
def zB (a : Int) : Prop := -1000000000 ≤ a ∧ a ≤ 1000000000
theorem zI_lt {a b : Int} (ha : zB a) (hb : zB b) : zI a < zI b ↔ a < b := by
  unfold zB at ha hb
  rw [Int32.lt_iff_toInt_lt, zI_toInt (by omega) (by omega), zI_toInt (by omega) (by omega)]
theorem zI_eq {a b : Int} (ha : zB a) (hb : zB b) : zI a = zI b ↔ a = b := by
  unfold zB at ha hb
  constructor
  · intro h
    rw [← zI_toInt (a := a) (by omega) (by omega), ← zI_toInt (a := b) (by omega) (by omega), h]
  · intro h; rw [h]
theorem zI_ok {a : Int} (ha : zB a) : okN (zI a) := by
  unfold zB at ha
  by_cases q : 0 ≤ a
  · obtain ⟨n, rfl⟩ := Int.eq_ofNat_of_zero_le q
    rw [zI_nat]
    exact okN_nI (by omega)
  · obtain ⟨n, hn⟩ := Int.eq_ofNat_of_zero_le (a := -a) (by omega)
    refine ⟨n, by omega, Or.inr ?_⟩
    rw [← zI_nat, zI_neg, ← hn, Int.neg_neg]
/-- steps to b along E -/
def Pn (E : Nat → Nat → Prop) (b : Nat) : Nat → Nat → Prop
  | 0, p => p = b
  | n + 1, p => ∃ q, E p q ∧ Pn E b n q
noncomputable def hd (E : Nat → Nat → Prop) (b p : Nat) : Nat := @dite _ (∃ n, Pn E b n p ∧ ∀ j, j < n → ¬ Pn E b j p) (Classical.propDecidable _) (fun h => h.choose) (fun _ => 1000000)
def hf (E : Nat → Nat → Prop) (b p : Nat) : Prop := ∃ n, Pn E b n p
theorem hd_some {E : Nat → Nat → Prop} {b p : Nat} (h : hf E b p) : Pn E b (hd E b p) p ∧ ∀ j, Pn E b j p → hd E b p ≤ j := by
  obtain ⟨n, hn⟩ := h
  have hx := least_ex (P := fun k => Pn E b k p) (n + 1) ⟨n, by omega, hn⟩
  unfold hd
  rw [dif_pos hx]
  refine ⟨hx.choose_spec.1, fun j hj => ?_⟩
  rcases Nat.lt_or_ge j hx.choose with q | q
  · exact absurd hj (hx.choose_spec.2 j q)
  · exact q
theorem hd_none {E : Nat → Nat → Prop} {b p : Nat} (h : ¬ hf E b p) : hd E b p = 1000000 := by
  unfold hd
  rw [dif_neg (fun ⟨n, hn, _⟩ => h ⟨n, hn⟩)]
theorem hd_b (E : Nat → Nat → Prop) (b : Nat) : hd E b b = 0 := by
  have := (hd_some (E := E) (b := b) (p := b) ⟨0, rfl⟩).2 0 rfl
  omega
theorem hf_E {E : Nat → Nat → Prop} {b p q : Nat} (h : E p q) (k : hf E b q) : hf E b p ∧ hd E b p ≤ hd E b q + 1 := by
  have hx : Pn E b (hd E b q + 1) p := ⟨q, h, (hd_some k).1⟩
  exact ⟨⟨_, hx⟩, (hd_some ⟨_, hx⟩).2 _ hx⟩
theorem hd_pre {E : Nat → Nat → Prop} {b p : Nat} (h : hf E b p) (hp : p ≠ b) : ∃ q, E p q ∧ hf E b q ∧ hd E b q + 1 = hd E b p := by
  obtain ⟨h1, h2⟩ := hd_some h
  cases e : hd E b p with
  | zero => rw [e] at h1; exact absurd h1 hp
  | succ n =>
    rw [e] at h1
    obtain ⟨q, q1, q2⟩ := h1
    refine ⟨q, q1, ⟨n, q2⟩, ?_⟩
    have a1 := (hd_some ⟨n, q2⟩).2 n q2
    have a2 := (hf_E (b := b) q1 ⟨n, q2⟩).2
    omega
/-- a finite distance is short: P places -/
theorem hd_7 {E : Nat → Nat → Prop} {b P : Nat} (hE : ∀ p q, E p q → p < P ∧ q < P) (hb : b < P) {p : Nat} (hp : p < P) (h : hf E b p) : hd E b p < P := by
  -- every level below p's is held by a place
  have lev : ∀ n q, hf E b q → q < P → hd E b q = n → ∀ d, d ≤ n → ∃ r, r < P ∧ hf E b r ∧ hd E b r = d := by
    intro n
    induction n with
    | zero => intro q h1 h2 h3 d hd0; exact ⟨q, h2, h1, by omega⟩
    | succ n ih =>
      intro q h1 h2 h3 d hdn
      by_cases e : d = n + 1
      · exact ⟨q, h2, h1, by omega⟩
      · have hq : q ≠ b := fun z => by rw [z, hd_b] at h3; omega
        obtain ⟨r, r1, r2, r3⟩ := hd_pre h1 hq
        exact ih r r2 (hE q r r1).2 (by omega) d (by omega)
  have cnt : ∀ n, n ≤ hd E b p + 1 → n ≤ sumN (fun q => @ite _ (hf E b q ∧ hd E b q < n) (Classical.propDecidable _) 1 0) P := by
    intro n
    induction n with
    | zero => intro _; exact Nat.zero_le _
    | succ n ih =>
      intro hn
      obtain ⟨r, r1, r2, r3⟩ := lev (hd E b p) p h hp rfl n (by omega)
      have h1 := ih (by omega)
      have h2 := sumN_lt (f := fun q => @ite _ (hf E b q ∧ hd E b q < n) (Classical.propDecidable _) 1 0) (g := fun q => @ite _ (hf E b q ∧ hd E b q < n + 1) (Classical.propDecidable _) 1 0) (n := P) (k := r) (fun i _ => by
        by_cases z : hf E b i ∧ hd E b i < n
        · rw [if_pos z, if_pos ⟨z.1, by omega⟩]; exact Nat.le_refl _
        · rw [if_neg z]; exact Nat.zero_le _) r1 (by
        rw [if_neg (fun z => by omega), if_pos ⟨r2, by omega⟩]; exact Nat.zero_lt_one)
      omega
  have h1 := cnt (hd E b p + 1) (Nat.le_refl _)
  have h2 := sumN_le (f := fun q => @ite _ (hf E b q ∧ hd E b q < hd E b p + 1) (Classical.propDecidable _) 1 0) (B := 1) (n := P) (fun k _ => by
    by_cases z : hf E b k ∧ hd E b k < hd E b p + 1
    · rw [if_pos z]; exact Nat.le_refl _
    · rw [if_neg z]; exact Nat.zero_le _)
  omega
/-- streets as pipes -/
abbrev eA (m : Nat → Int32) (k : Nat) : Nat := cn (m (10 + 5 * k))
abbrev eB (m : Nat → Int32) (k : Nat) : Nat := cn (m (10 + 5 * k + 1))
def cap (m : Nat → Int32) (k : Nat) : Nat := 3600 / sec m k
def ot (m : Nat → Int32) (k p : Nat) : Nat := if eA m k = p then eB m k else eA m k
def rm (m : Nat → Int32) (f : Nat → Int) (k p : Nat) : Int := if stOpen m k then (if eA m k = p then (cap m k : Int) - f k else if eB m k = p then (if m (10 + 5 * k + 3) = 0 then (cap m k : Int) + f k else f k) else 0) else 0
def Rs (m : Nat → Int32) (f : Nat → Int) (p q : Nat) : Prop := ∃ k, k < cn (m 1) ∧ 0 < rm m f k p ∧ q = ot m k p
def FlI (m : Nat → Int32) (f : Nat → Int) : Prop := ∀ k, k < cn (m 1) → -(cap m k : Int) ≤ f k ∧ f k ≤ cap m k ∧ (¬ m (10 + 5 * k + 3) = 0 → 0 ≤ f k) ∧ (¬ stOpen m k → f k = 0)
def PipE (m : Nat → Int32) (k : Nat) : Prop := (eA m k < cn (m 0) ∧ eB m k < cn (m 0) ∧ eA m k ≠ eB m k) ∧ (m (10 + 5 * k) = nI (eA m k) ∧ m (10 + 5 * k + 1) = nI (eB m k) ∧ (m (10 + 5 * k + 3) = 0 ∨ m (10 + 5 * k + 3) = 1)) ∧ (1 ≤ sec m k ∧ sec m k ≤ 999 ∧ m (10 + 5 * k + 2) = nI (sec m k)) ∧ 3 ≤ cap m k ∧ cap m k ≤ 3600
theorem pipe {m : Nat → Int32} (hw : WF m) {k : Nat} (hk : k < cn (m 1)) : PipE m k := by
  obtain ⟨a1, a2, a3, a4, a5, -, -, -⟩ := hw.2.2.2.2.2.2.2.1 k hk
  have s1 : 1 ≤ sec m k := a4.2
  have s2 : sec m k ≤ 999 := a4.1.2
  refine ⟨⟨a1.2, a2.2, fun e => a3 ?_⟩, ⟨a1.1.1, a2.1.1, a5⟩, ⟨s1, s2, a4.1.1⟩, ?_, ?_⟩
  · rw [a1.1.1, a2.1.1]
    exact congrArg nI e
  · unfold cap
    rw [Nat.le_div_iff_mul_le (by omega)]
    omega
  · unfold cap
    exact Nat.div_le_self _ _
theorem rm_nn {m : Nat → Int32} {f : Nat → Int} (hw : WF m) (F : FlI m f) {k p : Nat} (hk : k < cn (m 1)) : 0 ≤ rm m f k p ∧ rm m f k p ≤ 7200 := by
  obtain ⟨h1, h2, h3, h4⟩ := F k hk
  obtain ⟨-, -, -, c1, c2⟩ := pipe hw hk
  unfold rm
  split
  · split
    · omega
    · split
      · split
        · omega
        · rename_i q
          have := h3 q
          omega
      · omega
  · omega
theorem rm_end {m : Nat → Int32} {f : Nat → Int} {k p : Nat} (h : 0 < rm m f k p) : eA m k = p ∨ eB m k = p := by
  unfold rm at h
  split at h
  · split at h
    · rename_i q; exact Or.inl q
    · split at h
      · rename_i q; exact Or.inr q
      · omega
  · omega
theorem Rs_lt {m : Nat → Int32} {f : Nat → Int} (hw : WF m) {p q : Nat} (h : Rs m f p q) : p < cn (m 0) ∧ q < cn (m 0) := by
  obtain ⟨k, k1, k2, k3⟩ := h
  obtain ⟨⟨a, b, c⟩, -⟩ := pipe hw k1
  rcases rm_end k2 with e | e
  · rw [k3, ot, if_pos e]; omega
  · rw [k3, ot, if_neg (by omega)]; omega
