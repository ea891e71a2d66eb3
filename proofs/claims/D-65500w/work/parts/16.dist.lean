/-! S4: ways: walks in the town, shortest ones -/
set_option maxRecDepth 100000
/-- street k leads from p to q now -/
def arcK (m : Nat → Int32) (k p q : Nat) : Prop := stOpen m k ∧ ((cn (m (10 + 5 * k)) = p ∧ cn (m (10 + 5 * k + 1)) = q) ∨ (m (10 + 5 * k + 3) = 0 ∧ cn (m (10 + 5 * k)) = q ∧ cn (m (10 + 5 * k + 1)) = p))
def sec (m : Nat → Int32) (k : Nat) : Nat := cn (m (10 + 5 * k + 2))
def Arc (m : Nat → Int32) (p q w : Nat) : Prop := ∃ k, k < cn (m 1) ∧ arcK m k p q ∧ w = sec m k
def Wn (m : Nat → Int32) : Nat → Nat → Nat → Nat → Prop
  | 0, p, q, d => p = q ∧ d = 0
  | n + 1, p, q, d => ∃ r w d', Arc m p r w ∧ Wn m n r q d' ∧ d = w + d'
def Walk (m : Nat → Int32) (p q d : Nat) : Prop := ∃ n, Wn m n p q d
theorem Walk.nil (m : Nat → Int32) (p : Nat) : Walk m p p 0 := ⟨0, rfl, rfl⟩
theorem Walk.cons {m : Nat → Int32} {p r q w d : Nat} (h : Arc m p r w) (k : Walk m r q d) : Walk m p q (w + d) := by
  obtain ⟨n, hn⟩ := k
  exact ⟨n + 1, r, w, d, h, hn, rfl⟩
theorem Wn.app {m : Nat → Int32} {r q e : Nat} (k : Walk m r q e) : ∀ {n p d : Nat}, Wn m n p r d → Walk m p q (d + e) := by
  intro n
  induction n with
  | zero =>
    intro p d h
    obtain ⟨rfl, rfl⟩ := h
    rw [Nat.zero_add]
    exact k
  | succ n ih =>
    intro p d h
    obtain ⟨x, w, d', ha, hw, rfl⟩ := h
    rw [Nat.add_assoc]
    exact Walk.cons ha (ih hw)
theorem Walk.app {m : Nat → Int32} {p r q d e : Nat} (h : Walk m p r d) (k : Walk m r q e) : Walk m p q (d + e) := by
  obtain ⟨n, hn⟩ := h
  exact hn.app k
theorem Walk.one {m : Nat → Int32} {p q w : Nat} (h : Arc m p q w) : Walk m p q w := by
  have := Walk.cons h (Walk.nil m q)
  exact this
theorem Walk.snoc {m : Nat → Int32} {p r q d w : Nat} (h : Walk m p r d) (k : Arc m r q w) : Walk m p q (d + w) := h.app (Walk.one k)
theorem arcK_lt {m : Nat → Int32} {k p q : Nat} (hw : WF m) (hk : k < cn (m 1)) (h : arcK m k p q) : p < cn (m 0) ∧ q < cn (m 0) ∧ p ≠ q := by
  obtain ⟨-, ha⟩ := h
  obtain ⟨⟨h1, h2⟩, ⟨h3, h4⟩, h5, -⟩ := hw.2.2.2.2.2.2.2.1 k hk
  have hne : cn (m (10 + 5 * k)) ≠ cn (m (10 + 5 * k + 1)) := fun e => h5 (by rw [h1.1, h3.1, e])
  rcases ha with ⟨rfl, rfl⟩ | ⟨-, rfl, rfl⟩
  · exact ⟨h2, h4, hne⟩
  · exact ⟨h4, h2, hne.symm⟩
theorem sec_lt {m : Nat → Int32} {k : Nat} (hw : WF m) (hk : k < cn (m 1)) : 1 ≤ sec m k ∧ sec m k ≤ 999 ∧ m (10 + 5 * k + 2) = nI (sec m k) := by
  obtain ⟨-, -, -, ⟨h6, h7⟩, -⟩ := hw.2.2.2.2.2.2.2.1 k hk
  exact ⟨h7, h6.2, h6.1⟩
theorem Arc.lt {m : Nat → Int32} {p q w : Nat} (hw : WF m) (h : Arc m p q w) : p < cn (m 0) ∧ q < cn (m 0) ∧ p ≠ q ∧ 1 ≤ w ∧ w ≤ 999 := by
  obtain ⟨k, hk, ha, rfl⟩ := h
  obtain ⟨a, b, c⟩ := arcK_lt hw hk ha
  obtain ⟨d, e, -⟩ := sec_lt hw hk
  exact ⟨a, b, c, d, e⟩
/-- the distance; 1000000 without a way -/
noncomputable def DD (m : Nat → Int32) (p q : Nat) : Nat := @dite _ (∃ d, Walk m p q d ∧ ∀ e, e < d → ¬ Walk m p q e) (Classical.propDecidable _) (fun h => Classical.choose h) (fun _ => 1000000)
theorem DD_of {m : Nat → Int32} {p q d : Nat} (h : Walk m p q d) (hl : ∀ e, Walk m p q e → d ≤ e) : DD m p q = d := by
  have hx : ∃ d, Walk m p q d ∧ ∀ e, e < d → ¬ Walk m p q e := ⟨d, h, fun e he hw => by have := hl e hw; omega⟩
  unfold DD
  rw [dif_pos hx]
  obtain ⟨h1, h2⟩ := Classical.choose_spec hx
  rcases Nat.lt_trichotomy (Classical.choose hx) d with h3 | h3 | h3
  · have := hl _ h1
    omega
  · exact h3
  · exact absurd h (h2 d h3)
theorem DD_none {m : Nat → Int32} {p q : Nat} (h : ∀ d, ¬ Walk m p q d) : DD m p q = 1000000 := by
  unfold DD
  rw [dif_neg (fun ⟨d, hd, _⟩ => h d hd)]
/-- what makes a table of distances -/
def DistOk (m : Nat → Int32) (P : Nat) (f : Nat → Nat → Nat) : Prop :=
  (∀ p, p < P → f p p = 0) ∧ (∀ p r q w, p < P → Arc m r q w → f p r < 1000000 → f p q ≤ f p r + w ∧ f p q < 1000000) ∧ (∀ p q, p < P → q < P → f p q < 1000000 → Walk m p q (f p q)) ∧ ∀ p q, p < P → q < P → f p q ≤ 1000000
theorem DistOk.le {m : Nat → Int32} {P : Nat} {f : Nat → Nat → Nat} (h : DistOk m P f) {p : Nat} (hp : p < P) : ∀ n r q d e, Wn m n r q d → f p r ≤ e → f p r < 1000000 → f p q ≤ e + d ∧ f p q < 1000000 := by
  intro n
  induction n with
  | zero =>
    intro r q d e hw h1 h2
    obtain ⟨rfl, rfl⟩ := hw
    exact ⟨h1, h2⟩
  | succ n ih =>
    intro r q d e hw h1 h2
    obtain ⟨x, w, d', ha, hn, rfl⟩ := hw
    obtain ⟨h3, h4⟩ := h.2.1 p r x w hp ha h2
    have := ih x q d' (e + w) hn (by omega) h4
    exact ⟨by omega, this.2⟩
theorem DistOk.eq {m : Nat → Int32} {P : Nat} {f : Nat → Nat → Nat} (h : DistOk m P f) {p q : Nat} (hp : p < P) (hq : q < P) : f p q = DD m p q := by
  have hle : ∀ d, Walk m p q d → f p q ≤ d ∧ f p q < 1000000 := by
    rintro d ⟨n, hn⟩
    have hz := h.1 p hp
    have := h.le hp n p q d 0 hn (by omega) (by rw [hz]; decide)
    exact ⟨by omega, this.2⟩
  by_cases hf : f p q < 1000000
  · exact (DD_of (h.2.2.1 p q hp hq hf) (fun e he => (hle e he).1)).symm
  · have := h.2.2.2 p q hp hq
    rw [DD_none (fun d hd => hf (hle d hd).2)]
    omega
/-- the table of all places, k of them as places between -/
def FW (m : Nat → Int32) (k : Nat) (D : Nat → Nat → Nat) : Prop :=
  (∀ p, D p p = 0) ∧ (∀ p q w, Arc m p q w → D p q ≤ w) ∧ (∀ p q r, r < k → D p q ≤ D p r + D r q) ∧ (∀ p q, D p q < 1000000 → D p q ≤ 999 * 2 ^ k ∧ Walk m p q (D p q)) ∧ ∀ p q, D p q ≤ 1000000
theorem FW.step {m : Nat → Int32} {k : Nat} {D : Nat → Nat → Nat} (h : FW m k D) : FW m (k + 1) (fun p q => min (D p q) (D p k + D k q)) := by
  obtain ⟨h1, h2, h3, h4, h5⟩ := h
  have hp : 2 ^ (k + 1) = 2 * 2 ^ k := by rw [Nat.pow_succ]; omega
  refine ⟨fun p => ?_, fun p q w ha => ?_, fun p q r hr => ?_, fun p q hf => ?_, fun p q => ?_⟩
  · show min (D p p) _ = 0
    rw [h1]; omega
  · show min (D p q) _ ≤ w
    have := h2 p q w ha
    omega
  · show min (D p q) (D p k + D k q) ≤ min (D p r) (D p k + D k r) + min (D r q) (D r k + D k q)
    by_cases e : r = k
    · subst e
      have := h1 r
      omega
    · have a1 := h3 p q r (by omega)
      have a2 := h3 k q r (by omega)
      have a3 := h3 p k r (by omega)
      omega
  · have hf : min (D p q) (D p k + D k q) < 1000000 := hf
    show min (D p q) (D p k + D k q) ≤ 999 * 2 ^ (k + 1) ∧ Walk m p q (min (D p q) (D p k + D k q))
    by_cases e : D p q ≤ D p k + D k q
    · rw [Nat.min_eq_left e] at hf ⊢
      obtain ⟨a1, a2⟩ := h4 p q hf
      exact ⟨by omega, a2⟩
    · rw [Nat.min_eq_right (by omega)] at hf ⊢
      obtain ⟨a1, a2⟩ := h4 p k (by omega)
      obtain ⟨b1, b2⟩ := h4 k q (by omega)
      exact ⟨by omega, a2.app b2⟩
  · show min (D p q) _ ≤ 1000000
    have := h5 p q
    omega
theorem FW.ok {m : Nat → Int32} {k : Nat} {D : Nat → Nat → Nat} (hw : WF m) (h : FW m k D) (hk : cn (m 0) = k) : DistOk m k D := by
  obtain ⟨h1, h2, h3, h4, h5⟩ := h
  have h8 := hw.1.1.2
  have hpw : 2 ^ k ≤ 256 := by
    have : ∀ k, k ≤ 8 → 2 ^ k ≤ 256 := by
      intro k hk
      have key : ∀ k, k < 9 → 2 ^ k ≤ 256 := by decide
      exact key k (by omega)
    exact this k (by omega)
  refine ⟨fun p _ => h1 p, fun p r q w hp ha hf => ?_, fun p q _ _ hf => (h4 p q hf).2, fun p q _ _ => h5 p q⟩
  obtain ⟨a1, a2, -, -, a5⟩ := ha.lt hw
  have b1 := h2 r q w ha
  have b2 := h3 p q r (by omega)
  have b3 := (h4 p r hf).1
  have b4 : 999 * 2 ^ k ≤ 999 * 256 := Nat.mul_le_mul_left _ hpw
  exact ⟨by omega, by show D p q < 1000000; omega⟩
/-- the first table: streets alone -/
noncomputable def Lk (m : Nat → Int32) (p q : Nat) : Nat → Nat
  | 0 => if p = q then 0 else 1000000
  | k + 1 => min (Lk m p q k) (@ite _ (arcK m k p q) (Classical.propDecidable _) (sec m k) 1000000)
noncomputable def D0 (m : Nat → Int32) (p q : Nat) : Nat := if p = q then 0 else Lk m p q (cn (m 1))
theorem Lk_far (m : Nat → Int32) (p q : Nat) : ∀ k, Lk m p q k ≤ 1000000 := by
  intro k
  induction k with
  | zero => unfold Lk; by_cases h : p = q <;> simp [h]
  | succ k ih => unfold Lk; omega
theorem Lk_arc (m : Nat → Int32) (p q : Nat) : ∀ n k, k < n → arcK m k p q → Lk m p q n ≤ sec m k := by
  intro n
  induction n with
  | zero => intro k hk; omega
  | succ n ih =>
    intro k hk ha
    unfold Lk
    by_cases e : k = n
    · subst e
      rw [if_pos ha]
      omega
    · have := ih k (by omega) ha
      omega
theorem Lk_walk {m : Nat → Int32} (hw : WF m) {p q : Nat} (hpq : p ≠ q) : ∀ n, n ≤ cn (m 1) → Lk m p q n < 1000000 → Lk m p q n ≤ 999 ∧ Walk m p q (Lk m p q n) := by
  intro n
  induction n with
  | zero =>
    intro _ hf
    unfold Lk at hf
    rw [if_neg hpq] at hf
    omega
  | succ n ih =>
    intro hn hf
    unfold Lk at hf ⊢
    by_cases ha : arcK m n p q
    · rw [if_pos ha] at hf ⊢
      obtain ⟨s1, s2, -⟩ := sec_lt hw (show n < cn (m 1) by omega)
      by_cases e : Lk m p q n ≤ sec m n
      · rw [Nat.min_eq_left e]
        exact ih (by omega) (by show _ < 1000000; omega)
      · rw [Nat.min_eq_right (by omega)]
        exact ⟨s2, Walk.one ⟨n, by omega, ha, rfl⟩⟩
    · rw [if_neg ha] at hf ⊢
      have := Lk_far m p q n
      rw [Nat.min_eq_left this] at hf ⊢
      exact ih (by omega) hf
theorem FW.zero {m : Nat → Int32} (hw : WF m) : FW m 0 (D0 m) := by
  refine ⟨fun p => ?_, fun p q w ha => ?_, fun p q r hr => by omega, fun p q hf => ?_, fun p q => ?_⟩
  · unfold D0; rw [if_pos rfl]
  · obtain ⟨-, -, hne, -, -⟩ := ha.lt hw
    obtain ⟨k, hk, hak, rfl⟩ := ha
    unfold D0
    rw [if_neg hne]
    exact Lk_arc m p q _ k hk hak
  · by_cases e : p = q
    · subst e
      unfold D0
      rw [if_pos rfl]
      exact ⟨by omega, Walk.nil m p⟩
    · unfold D0 at hf ⊢
      rw [if_neg e] at hf ⊢
      have := Lk_walk hw e _ (Nat.le_refl _) hf
      exact ⟨by omega, this.2⟩
  · unfold D0
    by_cases e : p = q
    · rw [if_pos e]; omega
    · rw [if_neg e]; exact Lk_far m p q _
