/-! S0: numbers, reads and writes at places nI k, loops -/
set_option maxRecDepth 100000
theorem i32_lit (n : Nat) : (@OfNat.ofNat Int32 n _) = nI (@OfNat.ofNat Nat n _) := rfl
theorem nI_mulc (a b : Nat) : nI a * nI b = nI (a * b) := pk_mul a b
theorem inb_nI {k n : Nat} (h : k < n) (hn : n < 2147483648) : inb (nI k) n = true := decide_eq_true (vp_in_nI h (by omega))
theorem rdo_nI {σ : St} {g j n k : Nat} (h : k < n) (hn : n < 2147483648) : rdo σ g j n (nI k) = some (σ g j k) := by
  unfold rdo
  rw [if_pos (inb_nI h hn), nI_clamp (by omega)]
theorem wro_nI {σ : St} {g j n k : Nat} {v : Int32} (h : k < n) (hn : n < 2147483648) : wro σ g j n (nI k) v = some (up3 σ g j k v) := by
  unfold wro
  rw [if_pos (inb_nI h hn), nI_clamp (by omega)]
theorem wrb_nI {σ : St} {g j n k : Nat} {v : Int32} (h : k < n) (hn : n < 2147483648) : wrb σ g j n (nI k) v = some (up3 σ g j k v.toInt8.toInt32) := by
  unfold wrb
  rw [if_pos (inb_nI h hn), nI_clamp (by omega)]
theorem nar_z0 : vp_nar .boolean 0 = 0 := by decide
theorem nar_z1 : vp_nar .boolean 1 = 1 := by decide
theorem wrz_nI {σ : St} {g j n k : Nat} {v : Int32} (h : k < n) (hn : n < 2147483648) (hv : v = 0 ∨ v = 1) : wrz σ g j n (nI k) v = some (up3 σ g j k v) := by
  unfold wrz
  rw [if_pos (inb_nI h hn), nI_clamp (by omega)]
  rcases hv with rfl | rfl
  · rw [nar_z0]
  · rw [nar_z1]
theorem dvo_ok {a b : Int32} (h : ¬ b = 0) : dvo a b = some (a / b) := by
  unfold dvo
  rw [if_neg h]
theorem nI_sub {a b : Nat} (h : b ≤ a) : nI a - nI b = nI (a - b) := pk_sub h
theorem zro_0 : zro 0 = some 0 := by decide
theorem zro_1 : zro 1 = some 1 := by decide
theorem ite_bind {α β : Type} {c : Prop} [Decidable c] (a b : α) (K : α → Option β) : Option.bind (if c then some a else some b) K = K (if c then a else b) := by
  by_cases h : c <;> simp [h]
theorem nst_b {β : Type} (σ : St) (K : St → Option β) : (nst σ).bind K = K σ := rfl
theorem nmo_b {β : Type} (a : Int32) (K : Int32 → Option β) : (nmo a).bind K = K a := rfl
theorem nml_b {β : Type} (a : Int64) (K : Int64 → Option β) : (nml a).bind K = K a := rfl
theorem some_b {α β : Type} (a : α) (K : α → Option β) : Option.bind (some a) K = K a := rfl
/-- states where one place was set -/
theorem up3_g {σ : St} {g j i a : Nat} {v : Int32} (h : a ≠ g) : up3 σ g j i v a = σ a := by
  funext b c
  simp [up3, h]
theorem up3_j {σ : St} {g j i a b : Nat} {v : Int32} (h : b ≠ j) : up3 σ g j i v a b = σ a b := by
  funext c
  simp [up3, h]
theorem up3_i {σ : St} {g j i a b c : Nat} {v : Int32} (h : c ≠ i) : up3 σ g j i v a b c = σ a b c := by
  simp [up3, h]
/-- a program's answer, and what it satisfies -/
def Ret {α : Type} (o : Option α) (Q : α → Prop) : Prop := ∃ b, o = some b ∧ Q b
theorem Ret.some {α : Type} {b : α} {Q : α → Prop} (h : Q b) : Ret (Option.some b) Q := ⟨b, rfl, h⟩
theorem Ret.bind {α β : Type} {o : Option α} {K : α → Option β} {Q : α → Prop} {R : β → Prop} (h : Ret o Q) (k : ∀ b, Q b → Ret (K b) R) : Ret (o.bind K) R := by
  obtain ⟨b, rfl, hb⟩ := h
  exact k b hb
theorem Ret.bindL {α γ : Type} {o : Option (α ⊕ γ)} {K : α → Option γ} {Q : α → Prop} {R : γ → Prop} (h : Ret o (SumP Q R)) (k : ∀ b, Q b → Ret (K b) R) : Ret (bindL o K) R := by
  obtain ⟨b, rfl, hb⟩ := h
  cases b with
  | inl a => exact k a hb
  | inr g => exact ⟨g, rfl, hb⟩
theorem Ret.mono {α : Type} {o : Option α} {Q R : α → Prop} (h : Ret o Q) (k : ∀ b, Q b → R b) : Ret o R := by
  obtain ⟨b, e, hb⟩ := h
  exact ⟨b, e, k b hb⟩
theorem Ret.of {α : Type} {o : Option α} {b : α} {Q : α → Prop} (e : o = Option.some b) (h : Q b) : Ret o Q := ⟨b, e, h⟩
theorem Ret.ite {α : Type} {c : Prop} [Decidable c] {o1 o2 : Option α} {Q : α → Prop} (h1 : c → Ret o1 Q) (h2 : ¬ c → Ret o2 Q) : Ret (if c then o1 else o2) Q := by
  by_cases h : c
  · rw [if_pos h]; exact h1 h
  · rw [if_neg h]; exact h2 h
/-- a loop that counts: n turns at most -/
theorem iter_inv {α β : Type} {f : α → Option (α ⊕ β)} (I : Nat → α → Prop) (Q : β → Prop) (n : Nat) (hs : ∀ k a, k < n → I k a → Ret (f a) (SumP (I (k + 1)) Q)) (he : ∀ a, I n a → ∃ b, f a = some (.inr b) ∧ Q b) : ∀ k a, k ≤ n → I k a → Ret (iter f a) Q := by
  have key : ∀ d k a, k + d = n → I k a → Ret (iter f a) Q := by
    intro d
    induction d with
    | zero =>
      intro k a hk hI
      have hk : k = n := by omega
      subst hk
      obtain ⟨b, e, hb⟩ := he a hI
      exact ⟨b, iter_inr e, hb⟩
    | succ d ih =>
      intro k a hk hI
      obtain ⟨z, e, hz⟩ := hs k a (by omega) hI
      cases z with
      | inl a' => rw [iter_inl e]; exact ih (k + 1) a' (by omega) hz
      | inr b => exact ⟨b, iter_inr e, hz⟩
  intro k a hk hI
  exact key (n - k) k a (by omega) hI
/-- a loop by a measure -/
theorem iter_wf {α β : Type} {f : α → Option (α ⊕ β)} (I : α → Prop) (μ : α → Nat) (Q : β → Prop) (hs : ∀ a, I a → Ret (f a) (SumP (fun a' => I a' ∧ μ a' < μ a) Q)) : ∀ a, I a → Ret (iter f a) Q := by
  have key : ∀ n a, μ a < n → I a → Ret (iter f a) Q := by
    intro n
    induction n with
    | zero => intro a h; omega
    | succ n ih =>
      intro a hn hI
      obtain ⟨z, e, hz⟩ := hs a hI
      cases z with
      | inl a' => rw [iter_inl e]; exact ih a' (by have := hz.2; omega) hz.1
      | inr b => exact ⟨b, iter_inr e, hz⟩
  intro a hI
  exact key (μ a + 1) a (by omega) hI
/-- a loop along a known row of states -/
theorem iter_row {α β : Type} {f : α → Option (α ⊕ β)} (st : Nat → α) (n : Nat) (b : β) (hs : ∀ k, k < n → f (st k) = some (.inl (st (k + 1)))) (he : f (st n) = some (.inr b)) : ∀ k, k ≤ n → iter f (st k) = some b := by
  have key : ∀ d k, k + d = n → iter f (st k) = some b := by
    intro d
    induction d with
    | zero =>
      intro k hk
      have hk : k = n := by omega
      subst hk
      exact iter_inr he
    | succ d ih =>
      intro k hk
      rw [iter_inl (hs k (by omega))]
      exact ih (k + 1) (by omega)
  intro k hk
  exact key (n - k) k (by omega)
