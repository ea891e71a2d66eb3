/-! S4: the model's table of distances -/
set_option maxRecDepth 100000
def dI (v : Nat) : Int32 := if v = 1000000 then -1 else nI v
theorem dI_far : dI 1000000 = -1 := by unfold dI; rw [if_pos rfl]
theorem dI_fin {v : Nat} (h : v < 1000000) : dI v = nI v := by unfold dI; rw [if_neg (by omega)]
theorem dI_neg {v : Nat} (h : v ≤ 1000000) : dI v < 0 ↔ ¬ v < 1000000 := by
  by_cases e : v < 1000000
  · rw [dI_fin e]
    constructor
    · intro z; exact absurd z (nI_pos (by omega))
    · intro z; exact absurd e z
  · have : v = 1000000 := by omega
    subst this
    rw [dI_far]
    constructor
    · intro _; exact e
    · intro _; decide
theorem m_goesFrom {σ : St} {k : Nat} {y : Int32} (hk : k < 20) : F_X12_goesFrom (nI k) y σ = some (if stOpen (σ 20 1) k ∧ (σ 20 1 (10 + 5 * k) = y ∨ (σ 20 1 (10 + 5 * k + 3) = 0 ∧ σ 20 1 (10 + 5 * k + 1) = y)) then 1 else 0) := by
  unfold F_X12_goesFrom
  rw [m_isOpenNow hk, some_b]
  simp (disch := omega) only [m_rd0, m_rd1, m_rd2, m_rd3, m_rd4, m_rd5, m_rd6, m_rd7, m_rd8, m_unit0, m_unit1, m_unit2, m_unit3, m_unit4, m_unit5, m_unit6, m_street0, m_street1, m_street2, m_street3, m_street4, m_call0, m_call1, m_call2, m_call3, m_call4, m_call5, some_b]
  generalize σ 20 1 = m
  by_cases ho : stOpen m k
  · rw [if_pos ho, if_neg (by decide)]
    by_cases h1 : m (10 + 5 * k) = y
    · rw [if_pos h1, if_pos ⟨ho, Or.inl h1⟩]
    · rw [if_neg h1]
      by_cases h2 : m (10 + 5 * k + 3) = 0
      · rw [if_pos h2]
        by_cases h3 : m (10 + 5 * k + 1) = y
        · rw [if_pos h3, if_pos ⟨ho, Or.inr ⟨h2, h3⟩⟩]
        · rw [if_neg h3, if_neg (fun z => z.2.elim h1 (fun w => h3 w.2))]
      · rw [if_neg h2, if_neg (fun z => z.2.elim h1 (fun w => h2 w.1))]
  · rw [if_neg ho, if_pos rfl, if_neg (fun z => ho z.1)]
/-- sums and counts over places -/
def sumN (f : Nat → Nat) : Nat → Nat
  | 0 => 0
  | n + 1 => sumN f n + f n
def updN (f : Nat → Nat) (i v : Nat) : Nat → Nat := fun j => if j = i then v else f j
theorem sumN_out {f : Nat → Nat} {i v : Nat} : ∀ {n : Nat}, n ≤ i → sumN (updN f i v) n = sumN f n := by
  intro n
  induction n with
  | zero => intro _; rfl
  | succ n ih =>
    intro h
    rw [sumN, sumN, ih (by omega)]
    unfold updN
    rw [if_neg (by omega)]
theorem sumN_upd {f : Nat → Nat} {i v : Nat} : ∀ {n : Nat}, i < n → sumN (updN f i v) n + f i = sumN f n + v := by
  intro n
  induction n with
  | zero => intro h; omega
  | succ n ih =>
    intro h
    rw [sumN, sumN]
    by_cases e : i = n
    · subst e
      rw [sumN_out (Nat.le_refl _)]
      unfold updN
      rw [if_pos rfl]
      omega
    · have := ih (by omega)
      have e2 : updN f i v n = f n := by unfold updN; rw [if_neg (by omega)]
      rw [e2]
      omega
theorem sumN_le {f : Nat → Nat} {B : Nat} : ∀ {n : Nat}, (∀ k, k < n → f k ≤ B) → sumN f n ≤ n * B := by
  intro n
  induction n with
  | zero => intro _; exact Nat.zero_le _
  | succ n ih =>
    intro h
    rw [sumN, Nat.succ_mul]
    have := ih (fun k hk => h k (by omega))
    have := h n (by omega)
    omega
/-- how many places of a row are reached -/
def cntR (f : Nat → Nat) (p : Nat) : Nat := sumN (fun q => if f (8 * p + q) < 1000000 then 1 else 0) 8
theorem cntR_le (f : Nat → Nat) (p : Nat) : cntR f p ≤ 8 := by
  have := sumN_le (f := fun q => if f (8 * p + q) < 1000000 then 1 else 0) (B := 1) (n := 8) (fun k _ => by by_cases h : f (8 * p + k) < 1000000 <;> simp [h])
  unfold cntR
  omega
theorem sumN_congr {f g : Nat → Nat} : ∀ {n : Nat}, (∀ k, k < n → f k = g k) → sumN f n = sumN g n := by
  intro n
  induction n with
  | zero => intro _; rfl
  | succ n ih => intro h; rw [sumN, sumN, ih (fun k hk => h k (by omega)), h n (by omega)]
theorem cntR_other {f : Nat → Nat} {a p q v : Nat} (hq : q < 8) (ha : a ≠ p) : cntR (updN f (8 * p + q) v) a = cntR f a := by
  unfold cntR
  apply sumN_congr
  intro k hk
  have e : updN f (8 * p + q) v (8 * a + k) = f (8 * a + k) := by unfold updN; rw [if_neg (by omega)]
  simp only [e]
theorem cntR_same {f : Nat → Nat} {p q v : Nat} (hq : q < 8) (hv : v < 1000000) : cntR (updN f (8 * p + q) v) p + (if f (8 * p + q) < 1000000 then 1 else 0) = cntR f p + 1 := by
  unfold cntR
  have e : sumN (fun k => if updN f (8 * p + q) v (8 * p + k) < 1000000 then 1 else 0) 8 = sumN (updN (fun k => if f (8 * p + k) < 1000000 then 1 else 0) q 1) 8 := by
    apply sumN_congr
    intro k hk
    by_cases z : k = q
    · subst z
      have e1 : updN f (8 * p + k) v (8 * p + k) = v := by unfold updN; rw [if_pos rfl]
      have e2 : updN (fun k => if f (8 * p + k) < 1000000 then 1 else 0) k 1 k = 1 := by unfold updN; rw [if_pos rfl]
      simp only [e1, e2, if_pos hv]
    · have e1 : updN f (8 * p + q) v (8 * p + k) = f (8 * p + k) := by unfold updN; rw [if_neg (by omega)]
      have e2 : updN (fun k => if f (8 * p + k) < 1000000 then 1 else 0) q 1 k = if f (8 * p + k) < 1000000 then 1 else 0 := by unfold updN; rw [if_neg z]
      simp only [e1, e2]
  rw [e]
  exact sumN_upd (f := fun k => if f (8 * p + k) < 1000000 then 1 else 0) hq
/-- the table while it is made -/
def MI (m : Nat → Int32) (σ : St) (f : Nat → Nat) : Prop :=
  (∀ i, i < 64 → σ 20 34 i = dI (f i)) ∧ (∀ p, p < cn (m 0) → f (9 * p) = 0) ∧ (∀ p q, p < 8 → q < 8 → f (8 * p + q) < 1000000 → Walk m p q (f (8 * p + q)) ∧ f (8 * p + q) + 999 ≤ 999 * cntR f p) ∧ ∀ i, f i ≤ 1000000
theorem MI.small {m : Nat → Int32} {σ : St} {f : Nat → Nat} (h : MI m σ f) {p q : Nat} (hp : p < 8) (hq : q < 8) (hf : f (8 * p + q) < 1000000) : f (8 * p + q) ≤ 6993 := by
  have := (h.2.2.1 p q hp hq hf).2
  have := cntR_le f p
  omega
/-- one place is set: a shorter way by a street -/
theorem MI.set {m : Nat → Int32} {σ : St} {f : Nat → Nat} (hw : WF m) (h : MI m σ f) {p a b w : Nat} (hp : p < 8) (ha : Arc m a b w) (hf : f (8 * p + a) < 1000000) (hl : f (8 * p + a) + w < f (8 * p + b)) : MI m (up3 σ 20 34 (8 * p + b) (nI (f (8 * p + a) + w))) (updN f (8 * p + b) (f (8 * p + a) + w)) ∧ sumN (updN f (8 * p + b) (f (8 * p + a) + w)) 64 < sumN f 64 := by
  obtain ⟨h1, h2, h3, h4⟩ := h
  obtain ⟨b1, b2, b3, b4, b5⟩ := ha.lt hw
  have hP2 := hw.1.1.2
  obtain ⟨hwk, hcnt⟩ := h3 p a hp (by omega) hf
  have hle := cntR_le f p
  have hv : f (8 * p + a) + w < 1000000 := by show _ < 1000000; omega
  have hs := cntR_same (f := f) (p := p) (q := b) (by omega) hv
  refine ⟨⟨fun i hi => ?_, fun x hx => ?_, fun x y hx hy hfx => ?_, fun i => ?_⟩, ?_⟩
  · unfold updN
    by_cases e : i = 8 * p + b
    · subst e
      rw [up3_same, if_pos rfl, dI_fin hv]
    · rw [up3_i e, if_neg e]
      exact h1 i hi
  · unfold updN
    by_cases e : 9 * x = 8 * p + b
    · exfalso
      have hz := h2 x hx
      rw [e] at hz
      omega
    · rw [if_neg e]; exact h2 x hx
  · by_cases e : x = p
    · subst e
      by_cases e2 : y = b
      · subst e2
        have e3 : updN f (8 * x + y) (f (8 * x + a) + w) (8 * x + y) = f (8 * x + a) + w := by unfold updN; rw [if_pos rfl]
        rw [e3]
        refine ⟨hwk.snoc ha, ?_⟩
        by_cases z : f (8 * x + y) < 1000000
        · rw [if_pos z] at hs
          have := (h3 x y hp (by omega) z).2
          omega
        · rw [if_neg z] at hs
          omega
      · have e3 : updN f (8 * x + b) (f (8 * x + a) + w) (8 * x + y) = f (8 * x + y) := by unfold updN; rw [if_neg (by omega)]
        rw [e3] at hfx ⊢
        obtain ⟨c1, c2⟩ := h3 x y hx hy hfx
        refine ⟨c1, ?_⟩
        by_cases z : f (8 * x + b) < 1000000
        · rw [if_pos z] at hs; omega
        · rw [if_neg z] at hs; omega
    · have e3 : updN f (8 * p + b) (f (8 * p + a) + w) (8 * x + y) = f (8 * x + y) := by unfold updN; rw [if_neg (by omega)]
      rw [e3] at hfx ⊢
      rw [cntR_other (by omega) e]
      exact h3 x y hx hy hfx
  · unfold updN
    by_cases e : i = 8 * p + b
    · rw [if_pos e]; omega
    · rw [if_neg e]; exact h4 i
  · have := sumN_upd (f := f) (i := 8 * p + b) (v := f (8 * p + a) + w) (n := 64) (by omega)
    omega
theorem m_shortens {σ : St} {m : Nat → Int32} {f : Nat → Nat} {a b w : Nat} (hw : WF m) (hm : σ 20 1 = m) (hf : MI m σ f) (ha : Arc m a b w) : Ret (F_X12_shortens (nI a) (nI b) (nI w) σ) (fun r => Fr σ r.2 20 34 ∧ ∃ g, MI m r.2 g ∧ ((r.1 = 0 ∧ g = f ∧ ∀ p, p < cn (m 0) → f (8 * p + a) < 1000000 → f (8 * p + b) ≤ f (8 * p + a) + w) ∨ (r.1 = 1 ∧ sumN g 64 < sumN f 64))) := by
  have hP := hw.1.1
  have hP2 := hP.2
  obtain ⟨b1, b2, b3, b4, b5⟩ := ha.lt hw
  unfold F_X12_shortens
  have key : Ret (iter (fun z => B_X12_shortens_6 (nI a) (nI b) (nI w) z.1 z.2.1 z.2.2) (0, nI 0, σ)) (fun r => Fr σ r.2 20 34 ∧ ∃ g, MI m r.2 g ∧ ((r.1 = 0 ∧ g = f ∧ ∀ p, p < cn (m 0) → f (8 * p + a) < 1000000 → f (8 * p + b) ≤ f (8 * p + a) + w) ∨ (r.1 = 1 ∧ sumN g 64 < sumN f 64))) := by
    refine iter_inv (f := fun z => B_X12_shortens_6 (nI a) (nI b) (nI w) z.1 z.2.1 z.2.2) (fun k s => s.2.1 = nI k ∧ Fr σ s.2.2 20 34 ∧ ∃ g, MI m s.2.2 g ∧ ((s.1 = 0 ∧ g = f ∧ ∀ p, p < k → f (8 * p + a) < 1000000 → f (8 * p + b) ≤ f (8 * p + a) + w) ∨ (s.1 = 1 ∧ sumN g 64 < sumN f 64))) _ (cn (m 0)) ?_ ?_ 0 _ (Nat.zero_le _) ⟨rfl, Fr.rf _ _ _, f, hf, Or.inl ⟨rfl, rfl, fun p hp => by omega⟩⟩
    · rintro k ⟨c4, c5, τ⟩ hk ⟨e, hF, g, hg, hI⟩
      dsimp only at *
      have e : c5 = nI k := e
      subst e
      have hg : MI m τ g := hg
      have hmτ : τ 20 1 = m := by rw [hF 20 1 (by decide), hm]
      have ra : τ 20 34 (8 * k + a) = dI (g (8 * k + a)) := hg.1 _ (by omega)
      have rb : τ 20 34 (8 * k + b) = dI (g (8 * k + b)) := hg.1 _ (by omega)
      have la := hg.2.2.2 (8 * k + a)
      have lb := hg.2.2.2 (8 * k + b)
      show Ret (B_X12_shortens_6 (nI a) (nI b) (nI w) c4 (nI k) τ) _
      unfold B_X12_shortens_6
      rw [m_rd0, some_b, hmτ, if_pos ((bd_lt hP (by decide) (by omega)).mpr hk), show (8 : Int32) = nI 8 from rfl, nI_mul', nI_add, nI_add]
      simp (disch := omega) only [rdo_nI, wro_nI, some_b, ra, rb, nI_1]
      by_cases z1 : g (8 * k + a) < 1000000
      · have s1 := hg.small (by omega) (by omega) z1
        rw [if_neg (fun z => (dI_neg la).mp z z1)]
        by_cases z2 : g (8 * k + a) + w < g (8 * k + b)
        · have hset := hg.set hw (show k < 8 by omega) ha z1 z2
          have hlt : sumN (updN g (8 * k + b) (g (8 * k + a) + w)) 64 < sumN f 64 := by
            have h2 := hset.2
            rcases hI with ⟨-, rfl, -⟩ | ⟨-, h3⟩
            · exact h2
            · omega
          have hres : Ret (some (Sum.inl ((1 : Int32), nI (k + 1), up3 τ 20 34 (8 * k + b) (dI (g (8 * k + a)) + nI w))) : Option ((Int32 × Int32 × St) ⊕ (Int32 × St))) (SumP (fun s => s.2.1 = nI (k + 1) ∧ Fr σ s.2.2 20 34 ∧ ∃ g, MI m s.2.2 g ∧ ((s.1 = 0 ∧ g = f ∧ ∀ p, p < k + 1 → f (8 * p + a) < 1000000 → f (8 * p + b) ≤ f (8 * p + a) + w) ∨ (s.1 = 1 ∧ sumN g 64 < sumN f 64))) (fun r => Fr σ r.2 20 34 ∧ ∃ g, MI m r.2 g ∧ ((r.1 = 0 ∧ g = f ∧ ∀ p, p < cn (m 0) → f (8 * p + a) < 1000000 → f (8 * p + b) ≤ f (8 * p + a) + w) ∨ (r.1 = 1 ∧ sumN g 64 < sumN f 64)))) := by
            rw [dI_fin z1, nI_add]
            exact Ret.some ⟨rfl, hF.up _ _, _, hset.1, Or.inr ⟨rfl, hlt⟩⟩
          by_cases z3 : g (8 * k + b) < 1000000
          · rw [if_neg (fun z => (dI_neg lb).mp z z3), if_pos, bindL_inl]
            · exact hres
            · rw [dI_fin z1, dI_fin z3, nI_add, nI_ltI (by omega) (by omega)]
              exact z2
          · rw [if_pos ((dI_neg lb).mpr z3), bindL_inl]
            exact hres
        · have z3 : g (8 * k + b) < 1000000 := by show _ < 1000000; omega
          rw [if_neg (fun z => (dI_neg lb).mp z z3), if_neg, bindL_inr]
          · refine Ret.some ⟨rfl, hF, g, hg, ?_⟩
            rcases hI with ⟨h1, h2, h3⟩ | h1
            · refine Or.inl ⟨h1, h2, fun p hp hfp => ?_⟩
              by_cases ep : p = k
              · subst ep; rw [← h2]; omega
              · exact h3 p (by omega) hfp
            · exact Or.inr h1
          · rw [dI_fin z1, dI_fin z3, nI_add, nI_ltI (by omega) (by omega)]
            exact z2
      · rw [if_pos ((dI_neg la).mpr z1)]
        refine Ret.some ⟨rfl, hF, g, hg, ?_⟩
        rcases hI with ⟨h1, h2, h3⟩ | h1
        · refine Or.inl ⟨h1, h2, fun p hp hfp => ?_⟩
          by_cases ep : p = k
          · subst ep; rw [← h2] at hfp; exact absurd hfp z1
          · exact h3 p (by omega) hfp
        · exact Or.inr h1
    · rintro ⟨c4, c5, τ⟩ ⟨e, hF, g, hg, hI⟩
      dsimp only at *
      have e : c5 = nI (cn (m 0)) := e
      subst e
      have hmτ : τ 20 1 = m := by rw [hF 20 1 (by decide), hm]
      refine ⟨(c4, τ), ?_, hF, g, hg, hI⟩
      show B_X12_shortens_6 (nI a) (nI b) (nI w) c4 (nI (cn (m 0))) τ = _
      unfold B_X12_shortens_6
      rw [m_rd0, some_b, hmτ, if_neg]
      rw [bd_lt hP (by decide) (by omega)]
      omega
  rw [show ((0 : Int32), (0 : Int32), σ) = (0, nI 0, σ) from rfl]
  refine Ret.bind key (fun r hr => ?_)
  obtain ⟨hF, g, hg, hI⟩ := hr
  rcases hI with h | h
  · rw [h.1, zro_0, some_b]
    exact Ret.some ⟨hF, g, hg, Or.inl ⟨rfl, h.2⟩⟩
  · rw [h.1, zro_1, some_b]
    exact Ret.some ⟨hF, g, hg, Or.inr ⟨rfl, h.2⟩⟩
/-- all streets up to k are used up: no way by them is shorter -/
def Used (m : Nat → Int32) (f : Nat → Nat) (k : Nat) : Prop := ∀ j a b, j < k → arcK m j a b → ∀ p, p < cn (m 0) → f (8 * p + a) < 1000000 → f (8 * p + b) ≤ f (8 * p + a) + sec m j
theorem m_half {τ : St} {m : Nat → Int32} {g : Nat → Nat} {a b w : Nat} {c : Int32} {C : Prop} [Decidable C] (hw : WF m) (hm : τ 20 1 = m) (hg : MI m τ g) (hc : c = 0 ∨ c = 1) (ha : C → Arc m a b w) :
    Ret (bindL ((if (if C then (1 : Int32) else 0) = 0 then some (.inl τ) else (F_X12_shortens (nI a) (nI b) (nI w) τ).bind (fun q => (if q.1 = 0 then some (.inl q.2) else some (.inr ((1 : Int32), q.2))))) : Option ((St) ⊕ (Int32 × St))) (fun z => (if c = 0 then some (((0 : Int32), z)) else some (((1 : Int32), z)))))
      (fun z => Fr τ z.2 20 34 ∧ ∃ g', MI m z.2 g' ∧ ((z.1 = 0 ∧ c = 0 ∧ g' = g ∧ (C → ∀ p, p < cn (m 0) → g (8 * p + a) < 1000000 → g (8 * p + b) ≤ g (8 * p + a) + w)) ∨ (z.1 = 1 ∧ ((c = 1 ∧ sumN g' 64 ≤ sumN g 64) ∨ sumN g' 64 < sumN g 64)))) := by
  have stay : ∀ τ' : St, Fr τ τ' 20 34 → MI m τ' g → (C → ∀ p, p < cn (m 0) → g (8 * p + a) < 1000000 → g (8 * p + b) ≤ g (8 * p + a) + w) → Ret (if c = 0 then some (((0 : Int32), τ')) else some (((1 : Int32), τ'))) (fun z => Fr τ z.2 20 34 ∧ ∃ g', MI m z.2 g' ∧ ((z.1 = 0 ∧ c = 0 ∧ g' = g ∧ (C → ∀ p, p < cn (m 0) → g (8 * p + a) < 1000000 → g (8 * p + b) ≤ g (8 * p + a) + w)) ∨ (z.1 = 1 ∧ ((c = 1 ∧ sumN g' 64 ≤ sumN g 64) ∨ sumN g' 64 < sumN g 64)))) := by
    intro τ' hF hg' hu
    rcases hc with e | e
    · rw [if_pos e]
      exact Ret.some ⟨hF, g, hg', Or.inl ⟨rfl, e, rfl, hu⟩⟩
    · rw [if_neg (by rw [e]; decide)]
      exact Ret.some ⟨hF, g, hg', Or.inr ⟨rfl, Or.inl ⟨e, Nat.le_refl _⟩⟩⟩
  by_cases hC : C
  · rw [if_pos hC, if_neg (by decide)]
    obtain ⟨q, e, hF, g', hg', hI⟩ := m_shortens hw hm hg (ha hC)
    rw [e, some_b]
    rcases hI with ⟨h1, h2, h3⟩ | ⟨h1, h2⟩
    · rw [if_pos h1, bindL_inl]
      exact stay q.2 hF (h2 ▸ hg') (fun _ => h3)
    · rw [if_neg (by rw [h1]; decide), bindL_inr]
      exact Ret.some ⟨hF, g', hg', Or.inr ⟨rfl, Or.inr h2⟩⟩
  · rw [if_neg hC, if_pos rfl, bindL_inl]
    exact stay τ (Fr.rf _ _ _) hg (fun z => absurd z hC)
theorem Fr.tr {σ τ υ : St} {h j : Nat} (a : Fr σ τ h j) (b : Fr τ υ h j) : Fr σ υ h j := fun x y hxy => (b x y hxy).trans (a x y hxy)
theorem m_pass {σ : St} {m : Nat → Int32} {f : Nat → Nat} (hw : WF m) (hm : σ 20 1 = m) (hf : MI m σ f) : Ret (iter (fun z => B_X12_findDistances_59 z.1 z.2.1 z.2.2) (0, nI 0, σ)) (fun r => Fr σ r.2 20 34 ∧ ∃ g, MI m r.2 g ∧ ((r.1 = 0 ∧ g = f ∧ Used m f (cn (m 1))) ∨ (r.1 = 1 ∧ sumN g 64 < sumN f 64))) := by
  have hS := hw.2.1
  have hS2 := hS.2
  refine iter_inv (f := fun z => B_X12_findDistances_59 z.1 z.2.1 z.2.2) (fun k s => s.2.1 = nI k ∧ Fr σ s.2.2 20 34 ∧ ∃ g, MI m s.2.2 g ∧ ((s.1 = 0 ∧ g = f ∧ Used m f k) ∨ (s.1 = 1 ∧ sumN g 64 < sumN f 64))) _ (cn (m 1)) ?_ ?_ 0 _ (Nat.zero_le _) ⟨rfl, Fr.rf _ _ _, f, hf, Or.inl ⟨rfl, rfl, fun j a b hj => by omega⟩⟩
  · rintro k ⟨c1, c2, τ⟩ hk ⟨e, hF, g, hg, hI⟩
    dsimp only at *
    have e : c2 = nI k := e
    subst e
    have hg : MI m τ g := hg
    have hmτ : τ 20 1 = m := by rw [hF 20 1 (by decide), hm]
    obtain ⟨⟨f1, -⟩, ⟨t1, -⟩, hne, -, hln, -⟩ := hw.2.2.2.2.2.2.2.1 k hk
    obtain ⟨s1, s2, s3⟩ := sec_lt hw hk
    have ef : m (10 + 5 * k) = nI (cn (m (10 + 5 * k))) := f1.1
    have et : m (10 + 5 * k + 1) = nI (cn (m (10 + 5 * k + 1))) := t1.1
    have hc1 : c1 = 0 ∨ c1 = 1 := by rcases hI with h | h; exact Or.inl h.1; exact Or.inr h.1
    show Ret (B_X12_findDistances_59 c1 (nI k) τ) _
    unfold B_X12_findDistances_59
    rw [m_rd1, some_b, hmτ, if_pos ((bd_lt hS (by decide) (by omega)).mpr hk)]
    rw [m_street0 (by omega), some_b, m_goesFrom (by omega), some_b, m_street1 (by omega), some_b, some_b, m_street2 (by omega), some_b, hmτ]
    have hA1 : stOpen m k → Arc m (cn (m (10 + 5 * k))) (cn (m (10 + 5 * k + 1))) (sec m k) := fun z => ⟨k, hk, ⟨z, Or.inl ⟨rfl, rfl⟩⟩, rfl⟩
    simp only [true_or, and_true]
    have H1 := m_half (τ := τ) (g := g) (a := cn (m (10 + 5 * k))) (b := cn (m (10 + 5 * k + 1))) (w := sec m k) (c := c1) hw hmτ hg hc1 hA1
    rw [← ef, ← et, ← s3] at H1
    refine Ret.bind H1 (fun z hz => ?_)
    obtain ⟨hF2, g2, hg2, hI2⟩ := hz
    have hm2 : z.2 20 1 = m := by rw [hF2 20 1 (by decide), hmτ]
    have hcz : z.1 = 0 ∨ z.1 = 1 := by rcases hI2 with h | h; exact Or.inl h.1; exact Or.inr h.1
    rw [m_street1 (by omega), some_b, m_goesFrom (by omega), some_b, m_street0 (by omega), some_b, some_b, m_street2 (by omega), some_b, hm2]
    have hA2 : (stOpen m k ∧ m (10 + 5 * k + 3) = 0) → Arc m (cn (m (10 + 5 * k + 1))) (cn (m (10 + 5 * k))) (sec m k) := fun z => ⟨k, hk, ⟨z.1, Or.inr ⟨z.2, rfl, rfl⟩⟩, rfl⟩
    simp only [hne, false_or, and_true]
    have H2 := m_half (τ := z.2) (g := g2) (a := cn (m (10 + 5 * k + 1))) (b := cn (m (10 + 5 * k))) (w := sec m k) (c := z.1) hw hm2 hg2 hcz hA2
    rw [← ef, ← et, ← s3] at H2
    refine Ret.bind H2 (fun y hy => ?_)
    obtain ⟨hF3, g3, hg3, hI3⟩ := hy
    rw [nI_1]
    refine Ret.some ⟨rfl, (hF.tr hF2).tr hF3, g3, hg3, ?_⟩
    rcases hI3 with ⟨q1, q2, q3, q4⟩ | ⟨q1, q2⟩
    · rcases hI2 with ⟨p1, p2, p3, p4⟩ | ⟨p1, -⟩
      · rcases hI with ⟨o1, o2, o3⟩ | ⟨o1, -⟩
        · refine Or.inl ⟨q1, by rw [q3, p3, o2], fun j a b hj hab => ?_⟩
          by_cases ej : j = k
          · subst ej
            rw [p3] at q4
            rw [o2] at p4 q4
            rcases hab.2 with ⟨rfl, rfl⟩ | ⟨hl, rfl, rfl⟩
            · exact p4 hab.1
            · exact q4 ⟨hab.1, hl⟩
          · exact o3 j a b (by omega) hab
        · have o1 : c1 = 1 := o1
          rw [p2] at o1
          exact absurd o1 (by decide)
      · rw [q2] at p1
        exact absurd p1 (by decide)
    · refine Or.inr ⟨q1, ?_⟩
      have l2 : sumN g2 64 ≤ sumN g 64 := by
        rcases hI2 with ⟨-, -, p3, -⟩ | ⟨-, p2⟩
        · rw [p3]; exact Nat.le_refl _
        · rcases p2 with p2 | p2
          · exact p2.2
          · exact Nat.le_of_lt p2
      have l1 : sumN g 64 ≤ sumN f 64 := by
        rcases hI with ⟨-, o2, -⟩ | ⟨-, o2⟩
        · rw [o2]; exact Nat.le_refl _
        · exact Nat.le_of_lt o2
      rcases q2 with ⟨q2, q3⟩ | q2
      · rcases hI2 with ⟨p1, -⟩ | ⟨-, p2⟩
        · rw [p1] at q2
          exact absurd q2 (by decide)
        · rcases p2 with ⟨p2, p3⟩ | p2
          · rcases hI with ⟨o1, -⟩ | ⟨-, o2⟩
            · have o1 : c1 = 0 := o1
              rw [o1] at p2
              exact absurd p2 (by decide)
            · show sumN g3 64 < sumN f 64
              omega
          · show sumN g3 64 < sumN f 64
            omega
      · show sumN g3 64 < sumN f 64
        omega
  · rintro ⟨c1, c2, τ⟩ ⟨e, hF, g, hg, hI⟩
    dsimp only at *
    have e : c2 = nI (cn (m 1)) := e
    subst e
    have hmτ : τ 20 1 = m := by rw [hF 20 1 (by decide), hm]
    refine ⟨(c1, τ), ?_, hF, g, hg, hI⟩
    show B_X12_findDistances_59 c1 (nI (cn (m 1))) τ = _
    unfold B_X12_findDistances_59
    rw [m_rd1, some_b, hmτ, if_neg]
    rw [bd_lt hS (by decide) (by omega)]
    omega
/-- the whole table: every distance, -1 without a way -/
theorem m_findDistances0 {σ : St} (hw : WF (σ 20 1)) : Ret (F_X12_findDistances σ) (fun σ' => Fr σ σ' 20 34 ∧ ∀ p q, p < cn (σ 20 1 0) → q < cn (σ 20 1 0) → σ' 20 34 (8 * p + q) = dI (DD (σ 20 1) p q) ∧ DD (σ 20 1) p q ≤ 1000000 ∧ (DD (σ 20 1) p q < 1000000 → DD (σ 20 1) p q ≤ 6993)) := by
  have hP := hw.1.1
  have hP2 := hP.2
  generalize hm : σ 20 1 = m at hw hP hP2
  unfold F_X12_findDistances
  rw [show ((0 : Int32), σ) = (nI 0, σ) from rfl]
  have k1 : Ret (iter (fun z => B_X12_findDistances_2 z.1 z.2) (nI 0, σ)) (fun τ => Fr σ τ 20 34 ∧ ∀ i, i < 64 → τ 20 34 i = -1) := by
    refine iter_inv (f := fun z => B_X12_findDistances_2 z.1 z.2) (fun k s => s.1 = nI k ∧ Fr σ s.2 20 34 ∧ ∀ i, i < k → s.2 20 34 i = -1) _ 64 ?_ ?_ 0 _ (Nat.zero_le _) ⟨rfl, Fr.rf _ _ _, fun i hi => by omega⟩
    · rintro k ⟨c, τ⟩ hk ⟨e, hF, hI⟩
      dsimp only at *
      have e : c = nI k := e
      subst e
      show Ret (B_X12_findDistances_2 (nI k) τ) _
      unfold B_X12_findDistances_2
      rw [if_pos (show nI k < (64 : Int32) from nI_lt (b := 64) hk (by decide)), wro_nI hk (by decide), some_b, nI_1]
      refine Ret.some ⟨rfl, hF.up _ _, fun i hi => ?_⟩
      show up3 τ 20 34 k (-1) 20 34 i = -1
      by_cases z : i = k
      · subst z; exact up3_same _ _ _ _ _
      · rw [up3_i z]; exact hI i (by omega)
    · rintro ⟨c, τ⟩ ⟨e, hF, hI⟩
      dsimp only at *
      have e : c = nI 64 := e
      subst e
      refine ⟨τ, ?_, hF, hI⟩
      show B_X12_findDistances_2 (nI 64) τ = _
      unfold B_X12_findDistances_2
      rw [if_neg (by decide)]
  refine Ret.bind k1 (fun τ1 h1 => ?_)
  rw [show ((0 : Int32), τ1) = (nI 0, τ1) from rfl]
  have k2 : Ret (iter (fun z => B_X12_findDistances_23 z.1 z.2) (nI 0, τ1)) (fun τ => Fr σ τ 20 34 ∧ ∀ i, i < 64 → τ 20 34 i = if i % 9 = 0 ∧ i / 9 < cn (m 0) then 0 else -1) := by
    refine iter_inv (f := fun z => B_X12_findDistances_23 z.1 z.2) (fun k s => s.1 = nI k ∧ Fr σ s.2 20 34 ∧ ∀ i, i < 64 → s.2 20 34 i = if i % 9 = 0 ∧ i / 9 < k then 0 else -1) _ (cn (m 0)) ?_ ?_ 0 _ (Nat.zero_le _) ⟨rfl, h1.1, fun i hi => ?_⟩
    · rintro k ⟨c, τ⟩ hk ⟨e, hF, hI⟩
      dsimp only at *
      have e : c = nI k := e
      subst e
      have hmτ : τ 20 1 = m := by rw [hF 20 1 (by decide), hm]
      show Ret (B_X12_findDistances_23 (nI k) τ) _
      unfold B_X12_findDistances_23
      rw [m_rd0, some_b, hmτ, if_pos ((bd_lt hP (by decide) (by omega)).mpr hk), show (9 : Int32) = nI 9 from rfl, nI_mul', wro_nI (by omega) (by decide), some_b, nI_1]
      refine Ret.some ⟨rfl, hF.up _ _, fun i hi => ?_⟩
      show up3 τ 20 34 (9 * k) 0 20 34 i = _
      by_cases z : i = 9 * k
      · subst z
        rw [up3_same, if_pos (by omega)]
      · rw [up3_i z]
        have := hI i hi
        rw [this]
        by_cases z2 : i % 9 = 0 ∧ i / 9 < k
        · rw [if_pos z2, if_pos (by omega)]
        · rw [if_neg z2, if_neg (by omega)]
    · rintro ⟨c, τ⟩ ⟨e, hF, hI⟩
      dsimp only at *
      have e : c = nI (cn (m 0)) := e
      subst e
      have hmτ : τ 20 1 = m := by rw [hF 20 1 (by decide), hm]
      refine ⟨τ, ?_, hF, hI⟩
      show B_X12_findDistances_23 (nI (cn (m 0))) τ = _
      unfold B_X12_findDistances_23
      rw [m_rd0, some_b, hmτ, if_neg]
      rw [bd_lt hP (by decide) (by omega)]
      omega
    · rw [if_neg (by omega)]
      exact h1.2 i hi
  refine Ret.bind k2 (fun τ2 h2 => ?_)
  have hz : ∀ i, (if i % 9 = 0 ∧ i / 9 < cn (m 0) then (0 : Nat) else 1000000) = 0 ∨ ¬ (if i % 9 = 0 ∧ i / 9 < cn (m 0) then (0 : Nat) else 1000000) < 1000000 := by
    intro i
    by_cases z : i % 9 = 0 ∧ i / 9 < cn (m 0)
    · exact Or.inl (by rw [if_pos z])
    · exact Or.inr (by rw [if_neg z]; omega)
  have hMI : MI m τ2 (fun i => if i % 9 = 0 ∧ i / 9 < cn (m 0) then 0 else 1000000) := by
    refine ⟨fun i hi => ?_, fun p hp => ?_, fun p q hp hq hf => ?_, fun i => ?_⟩
    · rw [h2.2 i hi]
      by_cases z : i % 9 = 0 ∧ i / 9 < cn (m 0)
      · rw [if_pos z]; show (0 : Int32) = dI (if _ then 0 else 1000000); rw [if_pos z]; decide
      · rw [if_neg z]; show (-1 : Int32) = dI (if _ then 0 else 1000000); rw [if_neg z]; decide
    · show (if _ then 0 else 1000000) = 0
      rw [if_pos (by omega)]
    · have hf : (if (8 * p + q) % 9 = 0 ∧ (8 * p + q) / 9 < cn (m 0) then 0 else 1000000) < 1000000 := hf
      have z : (8 * p + q) % 9 = 0 ∧ (8 * p + q) / 9 < cn (m 0) := by
        by_cases z : (8 * p + q) % 9 = 0 ∧ (8 * p + q) / 9 < cn (m 0)
        · exact z
        · rw [if_neg z] at hf; omega
      have epq : p = q := by omega
      subst epq
      show Walk m p p (if _ then 0 else 1000000) ∧ (if _ then 0 else 1000000) + 999 ≤ _
      rw [if_pos z]
      refine ⟨Walk.nil m p, ?_⟩
      have hle : 1 ≤ cntR (fun i => if i % 9 = 0 ∧ i / 9 < cn (m 0) then 0 else 1000000) p := by
        have := sumN_upd (f := fun q => if (if (8 * p + q) % 9 = 0 ∧ (8 * p + q) / 9 < cn (m 0) then 0 else 1000000) < 1000000 then 1 else 0) (i := p) (v := 0) (n := 8) hp
        have e1 : (if (if (8 * p + p) % 9 = 0 ∧ (8 * p + p) / 9 < cn (m 0) then 0 else 1000000) < 1000000 then 1 else 0) = 1 := by rw [if_pos z, if_pos (by decide)]
        simp only [e1] at this
        exact Nat.le_of_add_left_le (Nat.le_of_eq this)
      omega
    · show (if _ then 0 else 1000000) ≤ 1000000
      by_cases z : i % 9 = 0 ∧ i / 9 < cn (m 0)
      · rw [if_pos z]; omega
      · rw [if_neg z]; exact Nat.le_refl _
  have k3 : Ret (iter (fun z => B_X12_findDistances_51 z.1 z.2) (1, τ2)) (fun τ => Fr σ τ 20 34 ∧ ∃ g, MI m τ g ∧ Used m g (cn (m 1))) := by
    refine iter_wf (f := fun z => B_X12_findDistances_51 z.1 z.2) (fun s => Fr σ s.2 20 34 ∧ ∃ g, MI m s.2 g ∧ (s.1 = 1 ∨ (s.1 = 0 ∧ Used m g (cn (m 1))))) (fun s => 2 * sumN (fun i => cn (s.2 20 34 i) + (if s.2 20 34 i < 0 then 1000000 else 0)) 64 + cn s.1) _ ?_ _ ⟨h2.1, _, hMI, Or.inl rfl⟩
    rintro ⟨c, τ⟩ ⟨hF, g, hg, hI⟩
    have hF : Fr σ τ 20 34 := hF
    have hg : MI m τ g := hg
    have hmτ : τ 20 1 = m := by rw [hF 20 1 (by decide), hm]
    have hsum : ∀ (υ : St) (f : Nat → Nat), MI m υ f → sumN (fun i => cn (υ 20 34 i) + (if υ 20 34 i < 0 then 1000000 else 0)) 64 = sumN f 64 := by
      intro υ f hf
      apply sumN_congr
      intro i hi
      have h4 := hf.2.2.2 i
      rw [hf.1 i hi]
      by_cases z : f i < 1000000
      · rw [if_neg (fun y => (dI_neg h4).mp y z), dI_fin z, cn_nI (by omega)]
        rfl
      · rw [if_pos ((dI_neg h4).mpr z)]
        have : f i = 1000000 := by omega
        rw [this, dI_far]
        rfl
    show Ret (B_X12_findDistances_51 c τ) _
    unfold B_X12_findDistances_51
    rcases hI with e | ⟨e, hU⟩
    · have e : c = 1 := e
      subst e
      rw [if_neg (by decide)]
      rw [show ((0 : Int32), (0 : Int32), τ) = (0, nI 0, τ) from rfl]
      refine Ret.bind (m_pass hw hmτ hg) (fun r hr => ?_)
      obtain ⟨hF2, g2, hg2, hI2⟩ := hr
      refine Ret.some ⟨⟨hF.tr hF2, g2, hg2, ?_⟩, ?_⟩
      · rcases hI2 with ⟨q1, q2, q3⟩ | ⟨q1, -⟩
        · exact Or.inr ⟨q1, by rw [q2]; exact q3⟩
        · exact Or.inl q1
      · show 2 * sumN (fun i => cn (r.2 20 34 i) + (if r.2 20 34 i < 0 then 1000000 else 0)) 64 + cn r.1 < 2 * sumN (fun i => cn (τ 20 34 i) + (if τ 20 34 i < 0 then 1000000 else 0)) 64 + cn 1
        rw [hsum r.2 g2 hg2, hsum τ g hg]
        rcases hI2 with ⟨q1, q2, -⟩ | ⟨q1, q2⟩
        · rw [q1, q2]
          have h0 : cn 0 = 0 := rfl
          have h1 : cn 1 = 1 := rfl
          omega
        · rw [q1]
          omega
    · have e : c = 0 := e
      subst e
      rw [if_pos rfl]
      exact Ret.some ⟨hF, g, hg, hU⟩
  refine Ret.bind k3 (fun τ3 h3 => ?_)
  obtain ⟨hF, g, hg, hU⟩ := h3
  have hok : DistOk m (cn (m 0)) (fun p q => g (8 * p + q)) := by
    refine ⟨fun p hp => ?_, fun p r q w hp ha hf => ?_, fun p q hp hq hf => (hg.2.2.1 p q (by omega) (by omega) hf).1, fun p q _ _ => hg.2.2.2 _⟩
    · have := hg.2.1 p hp
      rw [show 9 * p = 8 * p + p by omega] at this
      exact this
    · obtain ⟨a1, a2, -, -, a5⟩ := ha.lt hw
      obtain ⟨k, hk, hak, rfl⟩ := ha
      have u := hU k r q hk hak p hp hf
      have := hg.small (show p < 8 by omega) (show r < 8 by omega) hf
      exact ⟨u, by show g (8 * p + q) < 1000000; omega⟩
  refine Ret.some ⟨hF, fun p q hp hq => ?_⟩
  rw [hg.1 _ (by omega), ← hok.eq hp hq]
  exact ⟨rfl, hg.2.2.2 _, fun z => hg.small (show p < 8 by omega) (show q < 8 by omega) z⟩
/-- the model's table of distances -/
def TabM (σ : St) : Prop := ∀ p q, p < cn (σ 20 1 0) → q < cn (σ 20 1 0) → σ 20 34 (8 * p + q) = dI (DD (σ 20 1) p q)
theorem m_findDistances {σ : St} (hw : WF (σ 20 1)) : Ret (F_X12_findDistances σ) (fun σ' => Fr σ σ' 20 34 ∧ TabM σ') := by
  refine (m_findDistances0 hw).mono (fun τ h => ⟨h.1, fun p q hp hq => ?_⟩)
  rw [h.1 20 1 (by decide)] at hp hq ⊢
  exact (h.2 p q hp hq).1
theorem DD_bd {m : Nat → Int32} (hw : WF m) {p q : Nat} (hp : p < cn (m 0)) (hq : q < cn (m 0)) : DD m p q ≤ 1000000 ∧ (DD m p q < 1000000 → DD m p q ≤ 6993) := by
  obtain ⟨τ, -, -, h⟩ := m_findDistances0 (σ := fun _ _ => m) hw
  exact (h p q hp hq).2
