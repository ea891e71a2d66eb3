/-! S11: flows: one more way, all ways -/
set_option maxRecDepth 100000
def nsP (m : Nat → Int32) (f : Nat → Int) (b p k : Nat) : Prop := k < cn (m 1) ∧ 0 < rm m f k p ∧ hd (Rs m f) b (ot m k p) + 1 = hd (Rs m f) b p
noncomputable def nS (m : Nat → Int32) (f : Nat → Int) (b p : Nat) : Nat := @dite _ (∃ k, nsP m f b p k ∧ ∀ j, j < k → ¬ nsP m f b p j) (Classical.propDecidable _) (fun h => h.choose) (fun _ => 0)
theorem nS_ok {m : Nat → Int32} {f : Nat → Int} {b p : Nat} (h : hf (Rs m f) b p) (hp : p ≠ b) : nsP m f b p (nS m f b p) ∧ ∀ j, j < nS m f b p → ¬ nsP m f b p j := by
  obtain ⟨q, ⟨k, k1, k2, k3⟩, q2, q3⟩ := hd_pre h hp
  have hx := least_ex (P := nsP m f b p) (k + 1) ⟨k, by omega, k1, k2, by rw [← k3]; exact q3⟩
  unfold nS
  rw [dif_pos hx]
  exact hx.choose_spec
noncomputable def pth (m : Nat → Int32) (f : Nat → Int) (a b : Nat) : Nat → Nat
  | 0 => a
  | i + 1 => ot m (nS m f b (pth m f a b i)) (pth m f a b i)
noncomputable abbrev kk (m : Nat → Int32) (f : Nat → Int) (a b i : Nat) : Nat := nS m f b (pth m f a b i)
theorem pth_ok {m : Nat → Int32} {f : Nat → Int} (hw : WF m) {a b : Nat} (ha : a < cn (m 0)) (h : hf (Rs m f) b a) : ∀ i, i ≤ hd (Rs m f) b a → pth m f a b i < cn (m 0) ∧ hf (Rs m f) b (pth m f a b i) ∧ hd (Rs m f) b (pth m f a b i) + i = hd (Rs m f) b a := by
  intro i
  induction i with
  | zero => intro _; exact ⟨ha, h, rfl⟩
  | succ i ih =>
    intro hi
    obtain ⟨h1, h2, h3⟩ := ih (by omega)
    have hb : pth m f a b i ≠ b := fun z => by rw [z, hd_b] at h3; omega
    obtain ⟨⟨n1, n2, n3⟩, -⟩ := nS_ok h2 hb
    have hR : Rs m f (pth m f a b i) (pth m f a b (i + 1)) := ⟨_, n1, n2, rfl⟩
    refine ⟨(Rs_lt hw hR).2, ?_, ?_⟩
    · -- a next place is reached too
      by_cases z : hf (Rs m f) b (pth m f a b (i + 1))
      · exact z
      · exfalso
        have n3' : hd (Rs m f) b (pth m f a b (i + 1)) + 1 = hd (Rs m f) b (pth m f a b i) := n3
        rw [hd_none z] at n3'
        have : hd (Rs m f) b (pth m f a b i) < cn (m 0) := by
          by_cases bz : b < cn (m 0)
          · exact hd_7 (E := Rs m f) (fun p q hpq => Rs_lt hw hpq) bz h1 h2
          · exfalso
            obtain ⟨y1, -⟩ := hd_some h2
            have key : ∀ n p, p < cn (m 0) → ¬ Pn (Rs m f) b n p := by
              intro n
              induction n with
              | zero => intro p hp hz; have hz : p = b := hz
                        omega
              | succ n ih => rintro p hp ⟨q, q1, q2⟩; exact ih q (Rs_lt hw q1).2 q2
            exact key _ _ h1 y1
        have := hw.1.1.2
        omega
    · have n3' : hd (Rs m f) b (pth m f a b (i + 1)) + 1 = hd (Rs m f) b (pth m f a b i) := n3
      omega
theorem pth_ns {m : Nat → Int32} {f : Nat → Int} (hw : WF m) {a b : Nat} (ha : a < cn (m 0)) (h : hf (Rs m f) b a) {i : Nat} (hi : i < hd (Rs m f) b a) : pth m f a b i ≠ b ∧ nsP m f b (pth m f a b i) (kk m f a b i) ∧ ∀ j, j < kk m f a b i → ¬ nsP m f b (pth m f a b i) j := by
  obtain ⟨h1, h2, h3⟩ := pth_ok hw ha h i (by omega)
  have hb : pth m f a b i ≠ b := fun z => by rw [z, hd_b] at h3; omega
  exact ⟨hb, nS_ok h2 hb⟩
theorem pth_end {m : Nat → Int32} {f : Nat → Int} (hw : WF m) {a b : Nat} (ha : a < cn (m 0)) (h : hf (Rs m f) b a) : pth m f a b (hd (Rs m f) b a) = b := by
  obtain ⟨h1, h2, h3⟩ := pth_ok hw ha h _ (Nat.le_refl _)
  have h4 : hd (Rs m f) b (pth m f a b (hd (Rs m f) b a)) = 0 := by omega
  have := (hd_some h2).1
  rw [h4] at this
  exact this
noncomputable def btI (m : Nat → Int32) (f : Nat → Int) (a b : Nat) (B0 : Int) : Nat → Int
  | 0 => B0
  | i + 1 => min (btI m f a b B0 i) (rm m f (kk m f a b i) (pth m f a b i))
noncomputable abbrev bt (m : Nat → Int32) (f : Nat → Int) (a b : Nat) : Int := btI m f a b 7200 (hd (Rs m f) b a)
theorem btI_bd {m : Nat → Int32} {f : Nat → Int} (hw : WF m) (F : FlI m f) {a b : Nat} (ha : a < cn (m 0)) (h : hf (Rs m f) b a) {B0 : Int} (hB : 7200 ≤ B0) (hB2 : B0 ≤ 1000000) : ∀ i, i ≤ hd (Rs m f) b a → 0 < btI m f a b B0 i ∧ btI m f a b B0 i ≤ B0 ∧ (1 ≤ i → btI m f a b B0 i = btI m f a b 7200 i) ∧ ∀ j, j < i → btI m f a b B0 i ≤ rm m f (kk m f a b j) (pth m f a b j) := by
  intro i
  induction i with
  | zero => intro _; exact ⟨by show 0 < B0; omega, Int.le_refl _, fun z => by omega, fun j hj => by omega⟩
  | succ i ih =>
    intro hi
    obtain ⟨h1, h2, h3, h4⟩ := ih (by omega)
    obtain ⟨-, ⟨n1, n2, -⟩, -⟩ := pth_ns hw ha h (i := i) (by omega)
    have n4 := (rm_nn hw F (k := kk m f a b i) (p := pth m f a b i) n1).2
    have e1 : btI m f a b B0 (i + 1) = min (btI m f a b B0 i) (rm m f (kk m f a b i) (pth m f a b i)) := rfl
    have e2 : btI m f a b 7200 (i + 1) = min (btI m f a b 7200 i) (rm m f (kk m f a b i) (pth m f a b i)) := rfl
    refine ⟨by omega, by omega, fun _ => ?_, fun j hj => ?_⟩
    · rw [e1, e2]
      by_cases z : i = 0
      · subst z
        show min B0 _ = min 7200 _
        omega
      · rw [h3 (by omega)]
    · by_cases z : j = i
      · subst z; omega
      · have := h4 j (by omega); omega
def updZ (f : Nat → Int) (k : Nat) (x : Int) : Nat → Int := fun j => if j = k then x else f j
/-- the flow after i pushes along the way -/
noncomputable def psh (m : Nat → Int32) (f : Nat → Int) (a b : Nat) : Nat → Nat → Int
  | 0 => f
  | i + 1 => updZ (psh m f a b i) (kk m f a b i) (psh m f a b i (kk m f a b i) + (if eA m (kk m f a b i) = pth m f a b i then bt m f a b else -bt m f a b))
noncomputable def aug (m : Nat → Int32) (f : Nat → Int) (a b : Nat) : Nat → Int := psh m f a b (hd (Rs m f) b a)
theorem kk_inj {m : Nat → Int32} {f : Nat → Int} (hw : WF m) {a b : Nat} (ha : a < cn (m 0)) (h : hf (Rs m f) b a) {i j : Nat} (hij : i < j) (hj : j < hd (Rs m f) b a) : kk m f a b i ≠ kk m f a b j := by
  intro e
  obtain ⟨-, -, di⟩ := pth_ok hw ha h i (by omega)
  obtain ⟨-, -, di'⟩ := pth_ok hw ha h (i + 1) (by omega)
  obtain ⟨-, -, dj⟩ := pth_ok hw ha h j (by omega)
  obtain ⟨-, -, dj'⟩ := pth_ok hw ha h (j + 1) (by omega)
  obtain ⟨-, ⟨n1, n2, -⟩, -⟩ := pth_ns hw ha h (i := i) (by omega)
  obtain ⟨-, ⟨p1, p2, -⟩, -⟩ := pth_ns hw ha h (i := j) hj
  have ei : pth m f a b (i + 1) = ot m (kk m f a b i) (pth m f a b i) := rfl
  have ej : pth m f a b (j + 1) = ot m (kk m f a b j) (pth m f a b j) := rfl
  rw [← e] at ej p2
  -- both ends of the street are the pair (p, next)
  have se : ∀ p q : Nat, (eA m (kk m f a b i) = p ∨ eB m (kk m f a b i) = p) → q = ot m (kk m f a b i) p → (p = eA m (kk m f a b i) ∧ q = eB m (kk m f a b i)) ∨ (p = eB m (kk m f a b i) ∧ q = eA m (kk m f a b i)) := by
    intro p q hp hq
    rcases hp with z | z
    · left; rw [hq, ot, if_pos z]; exact ⟨z.symm, rfl⟩
    · by_cases y : eA m (kk m f a b i) = p
      · left; rw [hq, ot, if_pos y]; exact ⟨y.symm, rfl⟩
      · right; rw [hq, ot, if_neg y]; exact ⟨z.symm, rfl⟩
  rcases se _ _ (rm_end n2) ei with ⟨x1, x2⟩ | ⟨x1, x2⟩ <;> rcases se _ _ (rm_end p2) ej with ⟨y1, y2⟩ | ⟨y1, y2⟩
  · rw [x1] at di; rw [y1] at dj; omega
  · rw [x1] at di; rw [y2] at dj'; omega
  · rw [x1] at di; rw [y2] at dj'; omega
  · rw [x1] at di; rw [y1] at dj; omega
theorem psh_at {m : Nat → Int32} {f : Nat → Int} (hw : WF m) {a b : Nat} (ha : a < cn (m 0)) (h : hf (Rs m f) b a) : ∀ i, i ≤ hd (Rs m f) b a → (∀ k, (∀ j, j < i → k ≠ kk m f a b j) → psh m f a b i k = f k) ∧ ∀ j, j < i → psh m f a b i (kk m f a b j) = f (kk m f a b j) + (if eA m (kk m f a b j) = pth m f a b j then bt m f a b else -bt m f a b) := by
  intro i
  induction i with
  | zero => intro _; exact ⟨fun _ _ => rfl, fun j hj => absurd hj (Nat.not_lt_zero j)⟩
  | succ i ih =>
    intro hi
    obtain ⟨h1, h2⟩ := ih (by omega)
    refine ⟨fun k hk => ?_, fun j hj => ?_⟩
    · show (if k = kk m f a b i then _ else _) = _
      rw [if_neg (hk i (by omega))]
      exact h1 k (fun j hj => hk j (by omega))
    · show (if kk m f a b j = kk m f a b i then _ else _) = _
      by_cases e : j = i
      · subst e
        rw [if_pos rfl, h1 _ (fun x hx => (kk_inj hw ha h hx (by omega)).symm)]
      · rw [if_neg (kk_inj hw ha h (by omega) (by omega))]
        exact h2 j (by omega)
theorem aug_ok {m : Nat → Int32} {f : Nat → Int} (hw : WF m) (F : FlI m f) {a b : Nat} (ha : a < cn (m 0)) (h : hf (Rs m f) b a) : FlI m (aug m f a b) := by
  intro k hk
  obtain ⟨h1, h2⟩ := psh_at hw ha h (hd (Rs m f) b a) (Nat.le_refl _)
  obtain ⟨b1, b2, -, b4⟩ := btI_bd hw F ha h (B0 := 7200) (by omega) (by omega) (hd (Rs m f) b a) (Nat.le_refl _)
  obtain ⟨f1, f2, f3, f4⟩ := F k hk
  by_cases q : ∃ j, j < hd (Rs m f) b a ∧ k = kk m f a b j
  · obtain ⟨j, j1, j2⟩ := q
    have e := h2 j j1
    have b5 := b4 j j1
    obtain ⟨-, ⟨-, n2, -⟩, -⟩ := pth_ns hw ha h (i := j) j1
    obtain ⟨⟨-, -, ne⟩, ⟨-, -, ow⟩, -⟩ := pipe hw hk
    rw [← j2] at e b5 n2
    show -(cap m k : Int) ≤ psh m f a b _ k ∧ psh m f a b _ k ≤ cap m k ∧ (_ → 0 ≤ psh m f a b _ k) ∧ (_ → psh m f a b _ k = 0)
    rw [e]
    have b6 : bt m f a b ≤ rm m f k (pth m f a b j) := b5
    have b7 : 0 < bt m f a b := b1
    unfold rm at b6 n2
    by_cases so : stOpen m k
    · rw [if_pos so] at b6 n2
      by_cases eA' : eA m k = pth m f a b j
      · rw [if_pos eA'] at b6 n2
        rw [if_pos eA']
        refine ⟨by omega, by omega, fun z => ?_, fun z => absurd so z⟩
        have := f3 z
        omega
      · rw [if_neg eA'] at b6 n2
        rw [if_neg eA']
        by_cases eB' : eB m k = pth m f a b j
        · rw [if_pos eB'] at b6 n2
          by_cases o0 : m (10 + 5 * k + 3) = 0
          · rw [if_pos o0] at b6 n2
            exact ⟨by omega, by omega, fun z => absurd o0 z, fun z => absurd so z⟩
          · rw [if_neg o0] at b6 n2
            exact ⟨by omega, by omega, fun _ => by omega, fun z => absurd so z⟩
        · rw [if_neg eB'] at b6 n2
          omega
    · rw [if_neg so] at n2
      omega
  · have e := h1 k (fun j hj hz => q ⟨j, hj, hz⟩)
    show -(cap m k : Int) ≤ psh m f a b _ k ∧ psh m f a b _ k ≤ cap m k ∧ (_ → 0 ≤ psh m f a b _ k) ∧ (_ → psh m f a b _ k = 0)
    rw [e]
    exact ⟨f1, f2, f3, f4⟩
/-- what flows out of a place -/
def sumZ (g : Nat → Int) : Nat → Int
  | 0 => 0
  | n + 1 => sumZ g n + g n
def cf (m : Nat → Int32) (k v : Nat) : Int := if eA m k = v then 1 else if eB m k = v then -1 else 0
def ou (m : Nat → Int32) (f : Nat → Int) (v : Nat) : Int := sumZ (fun k => cf m k v * f k) (cn (m 1))
theorem sumZ_eq {g g' : Nat → Int} : ∀ n, (∀ k, k < n → g k = g' k) → sumZ g n = sumZ g' n := by
  intro n
  induction n with
  | zero => intro _; rfl
  | succ n ih => intro h; rw [sumZ, sumZ, ih (fun k hk => h k (by omega)), h n (by omega)]
theorem sumZ_upd {g g' : Nat → Int} {k : Nat} {d : Int} : ∀ n, k < n → (∀ j, j < n → j ≠ k → g' j = g j) → g' k = g k + d → sumZ g' n = sumZ g n + d := by
  intro n
  induction n with
  | zero => intro h; omega
  | succ n ih =>
    intro h hne he
    rw [sumZ, sumZ]
    by_cases e : k = n
    · subst e
      rw [sumZ_eq k (fun j hj => hne j (by omega) (by omega)), he]
      omega
    · rw [ih (by omega) (fun j hj hjk => hne j (by omega) hjk) he, hne n (by omega) (fun z => e z.symm)]
      omega
theorem sumZ_le {g : Nat → Int} {B : Int} : ∀ n, (∀ k, k < n → g k ≤ B) → sumZ g n ≤ B * n := by
  intro n
  induction n with
  | zero => intro _; show (0 : Int) ≤ B * ((0 : Nat) : Int); omega
  | succ n ih =>
    intro h
    have h1 := ih (fun k hk => h k (by omega))
    have h2 := h n (by omega)
    rw [sumZ]
    have : B * ((n + 1 : Nat) : Int) = B * (n : Int) + B := by rw [Int.natCast_add, Int.mul_add]; simp
    omega
theorem sumZ_ge {g : Nat → Int} {B : Int} : ∀ n, (∀ k, k < n → -B ≤ g k) → -(B * n) ≤ sumZ g n := by
  intro n
  induction n with
  | zero => intro _; show -(B * ((0 : Nat) : Int)) ≤ (0 : Int); omega
  | succ n ih =>
    intro h
    have h1 := ih (fun k hk => h k (by omega))
    have h2 := h n (by omega)
    rw [sumZ]
    have : B * ((n + 1 : Nat) : Int) = B * (n : Int) + B := by rw [Int.natCast_add, Int.mul_add]; simp
    omega
theorem ou_upd {m : Nat → Int32} {f : Nat → Int} {k v : Nat} {x : Int} (hk : k < cn (m 1)) : ou m (updZ f k (f k + x)) v = ou m f v + cf m k v * x := by
  unfold ou
  refine sumZ_upd (k := k) _ hk ?_ ?_
  · intro j _ hj
    show cf m j v * (if j = k then _ else _) = _
    rw [if_neg hj]
  · show cf m k v * (if k = k then _ else _) = _
    rw [if_pos rfl, Int.mul_add]
theorem psh_ou {m : Nat → Int32} {f : Nat → Int} (hw : WF m) {a b : Nat} (ha : a < cn (m 0)) (h : hf (Rs m f) b a) (v : Nat) : ∀ i, i ≤ hd (Rs m f) b a → ou m (psh m f a b i) v = ou m f v + ((if v = a then 1 else 0) - (if v = pth m f a b i then 1 else 0)) * bt m f a b := by
  intro i
  induction i with
  | zero =>
    intro _
    show ou m f v = ou m f v + ((if v = a then 1 else 0) - (if v = a then 1 else 0)) * bt m f a b
    rw [Int.sub_self, Int.zero_mul, Int.add_zero]
  | succ i ih =>
    intro hi
    have h1 := ih (by omega)
    obtain ⟨-, ⟨n1, n2, -⟩, -⟩ := pth_ns hw ha h (i := i) (by omega)
    obtain ⟨⟨-, -, ne⟩, -⟩ := pipe hw n1
    have ei : pth m f a b (i + 1) = ot m (kk m f a b i) (pth m f a b i) := rfl
    show ou m (updZ (psh m f a b i) (kk m f a b i) (psh m f a b i (kk m f a b i) + _)) v = _
    rw [ou_upd n1, h1]
    unfold cf
    generalize (if v = a then (1 : Int) else 0) = X1
    rw [Int.sub_mul, Int.sub_mul]
    rcases rm_end n2 with z | z
    · rw [if_pos z, ei, ot, if_pos z, z]
      generalize bt m f a b = t
      generalize X1 * t = Y
      by_cases q1 : v = pth m f a b i
      · have q2 : ¬ v = eB m (kk m f a b i) := by omega
        rw [if_pos q1.symm, if_pos q1, if_neg q2]
        omega
      · have q1' : ¬ pth m f a b i = v := fun y => q1 y.symm
        rw [if_neg q1', if_neg q1]
        by_cases q2 : v = eB m (kk m f a b i)
        · rw [if_pos q2.symm, if_pos q2]
          omega
        · have q2' : ¬ eB m (kk m f a b i) = v := fun y => q2 y.symm
          rw [if_neg q2', if_neg q2]
          omega
    · have zA : ¬ eA m (kk m f a b i) = pth m f a b i := by omega
      rw [if_neg zA, ei, ot, if_neg zA, z]
      generalize bt m f a b = t
      generalize X1 * t = Y
      by_cases q1 : v = pth m f a b i
      · have q2 : ¬ v = eA m (kk m f a b i) := by omega
        have q2' : ¬ eA m (kk m f a b i) = v := fun y => q2 y.symm
        rw [if_neg q2', if_pos q1.symm, if_pos q1, if_neg q2]
        omega
      · have q1' : ¬ pth m f a b i = v := fun y => q1 y.symm
        rw [if_neg q1', if_neg q1]
        by_cases q2 : v = eA m (kk m f a b i)
        · rw [if_pos q2.symm, if_pos q2]
          omega
        · have q2' : ¬ eA m (kk m f a b i) = v := fun y => q2 y.symm
          rw [if_neg q2', if_neg q2]
          omega
theorem aug_ou {m : Nat → Int32} {f : Nat → Int} (hw : WF m) {a b : Nat} (ha : a < cn (m 0)) (hab : a ≠ b) (h : hf (Rs m f) b a) : ou m (aug m f a b) a = ou m f a + bt m f a b := by
  have := psh_ou hw ha h a (hd (Rs m f) b a) (Nat.le_refl _)
  unfold aug
  rw [this, pth_end hw ha h, if_pos rfl, if_neg hab]
  omega
theorem ou_bd {m : Nat → Int32} {f : Nat → Int} (hw : WF m) (F : FlI m f) (v : Nat) : -72000 ≤ ou m f v ∧ ou m f v ≤ 72000 := by
  have b1 := hw.2.1.2
  have key : ∀ k, k < cn (m 1) → cf m k v * f k ≤ 3600 ∧ -3600 ≤ cf m k v * f k := by
    intro k hk
    obtain ⟨f1, f2, -, -⟩ := F k hk
    obtain ⟨-, -, -, c1, c2⟩ := pipe hw hk
    unfold cf
    split
    · omega
    · split
      · omega
      · omega
  have h1 := sumZ_le (g := fun k => cf m k v * f k) (B := 3600) (cn (m 1)) (fun k hk => (key k hk).1)
  have h2 := sumZ_ge (g := fun k => cf m k v * f k) (B := 3600) (cn (m 1)) (fun k hk => (key k hk).2)
  unfold ou
  omega
noncomputable def augN (m : Nat → Int32) (a b : Nat) : Nat → (Nat → Int) → Nat → Int
  | 0, f => f
  | n + 1, f => @ite _ (hf (Rs m f) b a) (Classical.propDecidable _) (augN m a b n (aug m f a b)) f
noncomputable def ffl (m : Nat → Int32) (a b : Nat) : Nat → Int := augN m a b 72001 (fun _ => 0)
theorem fl0 (m : Nat → Int32) : FlI m (fun _ => 0) := fun k _ => ⟨by show -(cap m k : Int) ≤ 0; omega, by show (0 : Int) ≤ cap m k; omega, fun _ => Int.le_refl _, fun _ => rfl⟩
theorem ou0 (m : Nat → Int32) (v : Nat) : ou m (fun _ => 0) v = 0 := by
  unfold ou
  generalize cn (m 1) = n
  induction n with
  | zero => rfl
  | succ n ih => rw [sumZ, ih]; show (0 : Int) + cf m n v * 0 = 0; omega
theorem augN_ok {m : Nat → Int32} (hw : WF m) {a b : Nat} (ha : a < cn (m 0)) : ∀ n f, FlI m f → FlI m (augN m a b n f) := by
  intro n
  induction n with
  | zero => intro f F; exact F
  | succ n ih =>
    intro f F
    unfold augN
    split
    · rename_i h; exact ih _ (aug_ok hw F ha h)
    · exact F
