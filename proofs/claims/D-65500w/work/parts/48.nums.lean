/-! S2: the numbers behind a word -/
set_option maxRecDepth 100000
/-- a cursor: inl a stands at a, inr w was wrong at w -/
def stN (h : Nat → Int32) (d : Nat) : Nat ⊕ Nat → Nat ⊕ Nat := Sum.elim (fun a => if h a = 32 then (if isD (h (a + 1)) then .inl (nmA h d (a + 1)) else .inr (a + 1)) else .inr a) Sum.inr
def cuN (h : Nat → Int32) (dg : Nat → Nat) (a0 : Nat) : Nat → Nat ⊕ Nat
  | 0 => .inl a0
  | k + 1 => stN h (dg k) (cuN h dg a0 k)
def vlN (h : Nat → Int32) (dg : Nat → Nat) (a0 k : Nat) : Nat := Sum.elim (fun a => nmV h (dg k) (a + 1)) (fun _ => 0) (cuN h dg a0 k)
def CuC (σ : St) (n : Nat) : Nat ⊕ Nat → Prop := Sum.elim (fun a => OkC σ a ∧ a ≤ n) (fun w => σ 2 0 9 = nI w ∧ w ≤ n ∧ ∃ b, b ≤ n + 1 ∧ σ 2 0 8 = nI b)
def CuM (σ : St) (n : Nat) : Nat ⊕ Nat → Prop := Sum.elim (fun a => OkM σ a ∧ a ≤ n) (fun w => σ 20 0 19 = nI w ∧ w ≤ n)
def KpC (σ τ : St) : Prop := (∀ a, a ≠ 2 → τ a = σ a) ∧ τ 2 0 6 = σ 2 0 6 ∧ τ 2 0 7 = σ 2 0 7 ∧ τ 2 0 10 = σ 2 0 10
def KpM (σ τ : St) : Prop := (∀ a, a ≠ 20 → τ a = σ a) ∧ (∀ b, b ≠ 0 → b ≠ 23 → b ≠ 24 → b ≠ 27 → b ≠ 28 → b ≠ 30 → b ≠ 32 → τ 20 b = σ 20 b) ∧ ∀ i, i ≠ 19 → i ≠ 21 → i ≠ 24 → i ≠ 25 → i ≠ 28 → i ≠ 30 → i ≠ 32 → τ 20 0 i = σ 20 0 i
theorem KpC.rf (σ : St) : KpC σ σ := ⟨fun _ _ => rfl, rfl, rfl, rfl⟩
theorem KpM.rf (σ : St) : KpM σ σ := ⟨fun _ _ => rfl, fun _ _ _ _ _ _ _ _ => rfl, fun _ _ _ _ _ _ _ _ => rfl⟩
theorem KpC.tr {σ τ υ : St} (a : KpC σ τ) (b : KpC τ υ) : KpC σ υ := ⟨fun x hx => (b.1 x hx).trans (a.1 x hx), b.2.1.trans a.2.1, b.2.2.1.trans a.2.2.1, b.2.2.2.trans a.2.2.2⟩
theorem KpM.tr {σ τ υ : St} (a : KpM σ τ) (b : KpM τ υ) : KpM σ υ := ⟨fun x hx => (b.1 x hx).trans (a.1 x hx), fun x h1 h2 h3 h4 h5 h6 h7 => (b.2.1 x h1 h2 h3 h4 h5 h6 h7).trans (a.2.1 x h1 h2 h3 h4 h5 h6 h7), fun x h1 h2 h3 h4 h5 h6 h7 => (b.2.2 x h1 h2 h3 h4 h5 h6 h7).trans (a.2.2 x h1 h2 h3 h4 h5 h6 h7)⟩
theorem KpC.u0 {σ τ : St} {i : Nat} {v : Int32} (k : KpC σ τ) (h6 : i ≠ 6) (h7 : i ≠ 7) (h10 : i ≠ 10) : KpC σ (up3 τ 2 0 i v) := ⟨fun x hx => (up3_g hx).trans (k.1 x hx), (up3_i (fun e => h6 e.symm)).trans k.2.1, (up3_i (fun e => h7 e.symm)).trans k.2.2.1, (up3_i (fun e => h10 e.symm)).trans k.2.2.2⟩
theorem KpC.uj {σ τ : St} {b i : Nat} {v : Int32} (k : KpC σ τ) (hb : b ≠ 0) : KpC σ (up3 τ 2 b i v) := ⟨fun x hx => (up3_g hx).trans (k.1 x hx), by rw [up3_j (fun e => hb e.symm)]; exact k.2.1, by rw [up3_j (fun e => hb e.symm)]; exact k.2.2.1, by rw [up3_j (fun e => hb e.symm)]; exact k.2.2.2⟩
theorem KpM.u0 {σ τ : St} {i : Nat} {v : Int32} (k : KpM σ τ) (hi : i = 19 ∨ i = 21 ∨ i = 24 ∨ i = 25 ∨ i = 28 ∨ i = 30 ∨ i = 32) : KpM σ (up3 τ 20 0 i v) := ⟨fun x hx => (up3_g hx).trans (k.1 x hx), fun x h1 h2 h3 h4 h5 h6 h7 => (up3_j h1).trans (k.2.1 x h1 h2 h3 h4 h5 h6 h7), fun x h1 h2 h3 h4 h5 h6 h7 => (up3_i (by omega)).trans (k.2.2 x h1 h2 h3 h4 h5 h6 h7)⟩
theorem KpM.uj {σ τ : St} {b i : Nat} {v : Int32} (k : KpM σ τ) (hb : b = 23 ∨ b = 24 ∨ b = 27 ∨ b = 28 ∨ b = 30 ∨ b = 32) : KpM σ (up3 τ 20 b i v) := ⟨fun x hx => (up3_g hx).trans (k.1 x hx), fun x h1 h2 h3 h4 h5 h6 h7 => (up3_j (by omega)).trans (k.2.1 x h1 h2 h3 h4 h5 h6 h7), fun x h1 h2 h3 h4 h5 h6 h7 => by rw [up3_j (by omega)]; exact k.2.2 x h1 h2 h3 h4 h5 h6 h7⟩
theorem KpC.src {σ τ : St} {j n : Nat} {h : Nat → Int32} (k : KpC σ τ) (S : SrcC σ j n h) : SrcC τ j n h := S.fr (k.1 0 (by decide)) k.2.1 k.2.2.1
theorem KpM.src {σ τ : St} {n : Nat} {h : Nat → Int32} (k : KpM σ τ) (S : SrcM σ n h) : SrcM τ n h := S.fr (k.2.1 13 (by decide) (by decide) (by decide) (by decide) (by decide) (by decide) (by decide)) (k.2.2 13 (by decide) (by decide) (by decide) (by decide) (by decide) (by decide) (by decide))
theorem KpM.stat {σ τ : St} (k : KpM σ τ) (S : StatM σ) : StatM τ := S.fr (k.2.1 19 (by decide) (by decide) (by decide) (by decide) (by decide) (by decide) (by decide)) (k.2.1 17 (by decide) (by decide) (by decide) (by decide) (by decide) (by decide) (by decide)) (k.2.1 18 (by decide) (by decide) (by decide) (by decide) (by decide) (by decide) (by decide))
theorem OkC.at {σ : St} {a b : Nat} (O : OkC σ a) : OkC (up3 σ 2 0 8 (nI b)) b := ⟨up3_same _ _ _ _ _, by rw [up3_i (by decide)]; exact O.2⟩
theorem OkM.at {σ : St} {a b : Nat} (O : OkM σ a) : OkM (up3 σ 20 0 21 (nI b)) b := ⟨up3_same _ _ _ _ _, by rw [up3_i (by decide)]; exact O.2⟩
theorem OkC.bad {σ : St} {a n w : Nat} (O : OkC σ a) (hw : w ≤ n) (ha : a ≤ n + 1) : CuC (up3 σ 2 0 9 (nI w)) n (.inr w) := ⟨up3_same _ _ _ _ _, hw, a, ha, by rw [up3_i (by decide)]; exact O.1⟩
theorem OkM.bad {σ : St} {a n w : Nat} (O : OkM σ a) (hw : w ≤ n) : CuM (up3 σ 20 0 19 (nI w)) n (.inr w) := ⟨up3_same _ _ _ _ _, hw⟩
theorem OkC.uj {σ : St} {a b i : Nat} {v : Int32} (O : OkC σ a) (hb : b ≠ 0) : OkC (up3 σ 2 b i v) a := by
  unfold OkC
  rw [up3_j (fun e => hb e.symm)]
  exact O
theorem OkM.uj {σ : St} {a b i : Nat} {v : Int32} (O : OkM σ a) (hb : b ≠ 0) : OkM (up3 σ 20 b i v) a := by
  unfold OkM
  rw [up3_j (fun e => hb e.symm)]
  exact O
theorem OkC.u0 {σ : St} {a i : Nat} {v : Int32} (O : OkC σ a) (h8 : i ≠ 8) (h9 : i ≠ 9) : OkC (up3 σ 2 0 i v) a := ⟨(up3_i (fun e => h8 e.symm)).trans O.1, (up3_i (fun e => h9 e.symm)).trans O.2⟩
theorem OkM.u0 {σ : St} {a i : Nat} {v : Int32} (O : OkM σ a) (h8 : i ≠ 21) (h9 : i ≠ 19) : OkM (up3 σ 20 0 i v) a := ⟨(up3_i (fun e => h8 e.symm)).trans O.1, (up3_i (fun e => h9 e.symm)).trans O.2⟩
theorem CuC.uj {σ : St} {n b i : Nat} {v : Int32} {c : Nat ⊕ Nat} (O : CuC σ n c) (hb : b ≠ 0) : CuC (up3 σ 2 b i v) n c := by
  cases c with
  | inl a => exact ⟨O.1.uj hb, O.2⟩
  | inr w =>
    obtain ⟨h1, h2, b', h3, h4⟩ := O
    refine ⟨?_, h2, b', h3, ?_⟩
    · rw [up3_j (fun e => hb e.symm)]; exact h1
    · rw [up3_j (fun e => hb e.symm)]; exact h4
theorem CuC.u0 {σ : St} {n i : Nat} {v : Int32} {c : Nat ⊕ Nat} (O : CuC σ n c) (h8 : i ≠ 8) (h9 : i ≠ 9) : CuC (up3 σ 2 0 i v) n c := by
  cases c with
  | inl a => exact ⟨O.1.u0 h8 h9, O.2⟩
  | inr w =>
    obtain ⟨h1, h2, b', h3, h4⟩ := O
    exact ⟨(up3_i (fun e => h9 e.symm)).trans h1, h2, b', h3, (up3_i (fun e => h8 e.symm)).trans h4⟩
theorem CuM.uj {σ : St} {n b i : Nat} {v : Int32} {c : Nat ⊕ Nat} (O : CuM σ n c) (hb : b ≠ 0) : CuM (up3 σ 20 b i v) n c := by
  cases c with
  | inl a => exact ⟨O.1.uj hb, O.2⟩
  | inr w =>
    obtain ⟨h1, h2⟩ := O
    refine ⟨?_, h2⟩
    rw [up3_j (fun e => hb e.symm)]; exact h1
theorem CuM.u0 {σ : St} {n i : Nat} {v : Int32} {c : Nat ⊕ Nat} (O : CuM σ n c) (h8 : i ≠ 21) (h9 : i ≠ 19) : CuM (up3 σ 20 0 i v) n c := by
  cases c with
  | inl a => exact ⟨O.1.u0 h8 h9, O.2⟩
  | inr w => exact ⟨(up3_i (fun e => h9 e.symm)).trans O.1, O.2⟩
theorem CuC.neg {σ : St} {n : Nat} {w : Nat} (O : CuC σ n (.inr w)) (hn : n ≤ 10000) : ¬ σ 2 0 9 < 0 := by
  have h2 : w ≤ n := O.2.1
  rw [show σ 2 0 9 = nI w from O.1]
  exact nI_pos (by omega)
theorem CuM.neg {σ : St} {n : Nat} {w : Nat} (O : CuM σ n (.inr w)) (hn : n ≤ 10000) : ¬ σ 20 0 19 < 0 := by
  have h2 : w ≤ n := O.2
  rw [show σ 20 0 19 = nI w from O.1]
  exact nI_pos (by omega)
/-- a blank and a number -/
theorem c_blNum {σ : St} {j n d : Nat} {h : Nat → Int32} {c : Nat ⊕ Nat} (S : SrcC σ j n h) (O : CuC σ n c) (h1 : 1 ≤ d) (hd : d ≤ 8) : ∃ τ, (F_X2_blank σ).bind (F_X2_number (nI d)) = some (nI (Sum.elim (fun a => if h a = 32 ∧ isD (h (a + 1)) then nmV h d (a + 1) else 0) (fun _ => 0) c), τ) ∧ KpC σ τ ∧ (∀ b, b ≠ 0 → τ 2 b = σ 2 b) ∧ (∀ i, i ≠ 8 → i ≠ 9 → τ 2 0 i = σ 2 0 i) ∧ CuC τ n (stN h d c) := by
  have hj := lenB_le (j := j)
  have hn := S.2.2.2.1
  have hB := S.2.2.2.2.1
  cases c with
  | inr w =>
    have hw := CuC.neg O (by omega)
    exact ⟨σ, by rw [c_skB hw, some_b, c_skN hw]; rfl, KpC.rf σ, fun _ _ => rfl, fun _ _ _ => rfl, O⟩
  | inl a =>
    obtain ⟨O1, O2⟩ : OkC σ a ∧ a ≤ n := O
    unfold stN
    rw [c_blank S O1 O2, some_b]
    show ∃ τ, _ = some (nI (if h a = 32 ∧ isD (h (a + 1)) then nmV h d (a + 1) else 0), τ) ∧ _ ∧ _ ∧ _ ∧ CuC τ n (if h a = 32 then (if isD (h (a + 1)) then .inl (nmA h d (a + 1)) else .inr (a + 1)) else .inr a)
    by_cases q : h a = 32
    · have ha : a < n := hB.lt (by rw [q]; decide)
      rw [if_pos q, if_pos q, c_number (S.u0 (by decide) (by decide)) O1.at (by omega) h1 hd]
      by_cases q2 : isD (h (a + 1))
      · have hm := nm_bd hB h1 q2
        rw [if_pos q2, if_pos q2, if_pos ⟨q, q2⟩, up3_up]
        exact ⟨_, rfl, (KpC.rf σ).u0 (by decide) (by decide) (by decide), fun b hb => up3_j hb, fun i h8 _ => up3_i h8, O1.at, hm.2.2⟩
      · rw [if_neg q2, if_neg q2, if_neg (fun z => q2 z.2)]
        exact ⟨_, rfl, ((KpC.rf σ).u0 (by decide) (by decide) (by decide)).u0 (by decide) (by decide) (by decide), fun b hb => (up3_j hb).trans (up3_j hb), fun i h8 h9 => (up3_i h9).trans (up3_i h8), O1.at.bad (by omega) (by omega)⟩
    · rw [if_neg q, if_neg q, if_neg (fun z => q z.1)]
      have hw := CuC.neg (O1.bad (n := n) O2 (by omega)) (by omega)
      rw [c_skN hw]
      exact ⟨_, rfl, (KpC.rf σ).u0 (by decide) (by decide) (by decide), fun b hb => up3_j hb, fun i _ h9 => up3_i h9, O1.bad O2 (by omega)⟩
theorem m_blNum {σ : St} {n d : Nat} {h : Nat → Int32} {c : Nat ⊕ Nat} (S : SrcM σ n h) (O : CuM σ n c) (h1 : 1 ≤ d) (hd : d ≤ 8) : ∃ τ, (F_X12_expect 32 σ).bind (F_X12_readNumber (nI d)) = some (nI (Sum.elim (fun a => if h a = 32 ∧ isD (h (a + 1)) then nmV h d (a + 1) else 0) (fun _ => 0) c), τ) ∧ KpM σ τ ∧ (∀ b, b ≠ 0 → τ 20 b = σ 20 b) ∧ (∀ i, i ≠ 21 → i ≠ 19 → τ 20 0 i = σ 20 0 i) ∧ CuM τ n (stN h d c) := by
  have hn := S.2.1
  have hB := S.2.2.1
  cases c with
  | inr w =>
    have hw := CuM.neg O (by omega)
    exact ⟨σ, by rw [m_skT hw, some_b, m_skN hw]; rfl, KpM.rf σ, fun _ _ => rfl, fun _ _ _ => rfl, O⟩
  | inl a =>
    obtain ⟨O1, O2⟩ : OkM σ a ∧ a ≤ n := O
    unfold stN
    rw [m_expect S O1 O2, some_b]
    show ∃ τ, _ = some (nI (if h a = 32 ∧ isD (h (a + 1)) then nmV h d (a + 1) else 0), τ) ∧ _ ∧ _ ∧ _ ∧ CuM τ n (if h a = 32 then (if isD (h (a + 1)) then .inl (nmA h d (a + 1)) else .inr (a + 1)) else .inr a)
    by_cases q : h a = 32
    · have ha : a < n := hB.lt (by rw [q]; decide)
      rw [if_pos q, if_pos q, m_number (S.u0 (by decide)) O1.at (by omega) h1 hd]
      by_cases q2 : isD (h (a + 1))
      · have hm := nm_bd hB h1 q2
        rw [if_pos q2, if_pos q2, if_pos ⟨q, q2⟩, up3_up]
        exact ⟨_, rfl, (KpM.rf σ).u0 (by decide), fun b hb => up3_j hb, fun i h8 _ => up3_i h8, O1.at, hm.2.2⟩
      · rw [if_neg q2, if_neg q2, if_neg (fun z => q2 z.2)]
        exact ⟨_, rfl, ((KpM.rf σ).u0 (by decide)).u0 (by decide), fun b hb => (up3_j hb).trans (up3_j hb), fun i h8 h9 => (up3_i h9).trans (up3_i h8), O1.at.bad (by omega)⟩
    · rw [if_neg q, if_neg q, if_neg (fun z => q z.1)]
      have hw := CuM.neg (O1.bad (n := n) O2) (by omega)
      rw [m_skN hw]
      exact ⟨_, rfl, (KpM.rf σ).u0 (by decide), fun b hb => up3_j hb, fun i _ h9 => up3_i h9, O1.bad O2⟩
theorem cuN_inl {h : Nat → Int32} {dg : Nat → Nat} {a0 k a : Nat} (e : cuN h dg a0 (k + 1) = .inl a) : ∃ b, cuN h dg a0 k = .inl b ∧ (h b = 32 ∧ isD (h (b + 1))) ∧ vlN h dg a0 k = nmV h (dg k) (b + 1) := by
  unfold vlN
  rw [cuN] at e
  cases q : cuN h dg a0 k with
  | inr w => rw [q] at e; cases e
  | inl b =>
    rw [q] at e
    refine ⟨b, rfl, ?_, rfl⟩
    unfold stN at e
    have e : (if h b = 32 then (if isD (h (b + 1)) then Sum.inl (nmA h (dg k) (b + 1)) else Sum.inr (b + 1)) else Sum.inr b) = (Sum.inl a : Nat ⊕ Nat) := e
    by_cases q1 : h b = 32
    · rw [if_pos q1] at e
      by_cases q2 : isD (h (b + 1))
      · exact ⟨q1, q2⟩
      · rw [if_neg q2] at e; cases e
    · rw [if_neg q1] at e; cases e
theorem c_nums {σ : St} {j n p tk a0 : Nat} {h : Nat → Int32} {dg : Nat → Nat} (S : SrcC σ j n h) (O : OkC σ a0) (ha : a0 ≤ n) (hp : p ≤ 3) (htk : tk < 100) (hdg : ∀ k, dg k = if tk = 5 ∧ 0 < k then 8 else 4) : Ret (iter (fun z => B_X2_read_268 (nI p) (nI tk) z.1 z.2) ((0 : Int32), σ)) (fun τ => KpC σ τ ∧ (∀ b, b ≠ 0 → b ≠ 1 → τ 2 b = σ 2 b) ∧ (∀ i, i ≠ 8 → i ≠ 9 → τ 2 0 i = σ 2 0 i) ∧ CuC τ n (cuN h dg a0 p) ∧ ∀ a, cuN h dg a0 p = .inl a → ∀ i, i < p → τ 2 1 i = nI (vlN h dg a0 i)) := by
  refine iter_inv (fun k z => ∃ τ, z = (nI k, τ) ∧ KpC σ τ ∧ (∀ b, b ≠ 0 → b ≠ 1 → τ 2 b = σ 2 b) ∧ (∀ i, i ≠ 8 → i ≠ 9 → τ 2 0 i = σ 2 0 i) ∧ CuC τ n (cuN h dg a0 k) ∧ ∀ a, cuN h dg a0 k = .inl a → ∀ i, i < k → τ 2 1 i = nI (vlN h dg a0 i)) _ p ?_ ?_ 0 _ (Nat.zero_le _) ⟨σ, rfl, KpC.rf σ, fun _ _ _ => rfl, fun _ _ _ => rfl, ⟨O, ha⟩, fun _ _ i hi => absurd hi (Nat.not_lt_zero i)⟩
  · rintro k z hk ⟨τ, rfl, k1, k2, k3, k4, k5⟩
    show Ret (B_X2_read_268 (nI p) (nI tk) (nI k) τ) _
    unfold B_X2_read_268
    have hd : (if nI tk = (5 : Int32) then (if 0 < nI k then some (8 : Int32) else some 4) else some 4) = some (nI (dg k)) := by
      rw [hdg k]
      by_cases q : tk = 5
      · rw [q, if_pos (show nI 5 = (5 : Int32) from rfl)]
        by_cases q2 : 0 < k
        · rw [if_pos (show (0 : Int32) < nI k from nI_lt (a := 0) q2 (by omega)), if_pos ⟨rfl, q2⟩]
          rfl
        · rw [if_neg (show ¬ (0 : Int32) < nI k from nI_nlt (a := 0) (by omega) (by decide)), if_neg (fun z => q2 z.2)]
          rfl
      · rw [if_neg (by rw [show (5 : Int32) = nI 5 from rfl, nI_eq (by omega) (by decide)]; exact q), if_neg (fun z => q z.1)]
        rfl
    have hdb : 1 ≤ dg k ∧ dg k ≤ 8 := by
      rw [hdg k]
      by_cases q : tk = 5 ∧ 0 < k
      · rw [if_pos q]; decide
      · rw [if_neg q]; decide
    obtain ⟨υ, e1, e2, e3, e4, e5⟩ := c_blNum (d := dg k) (k1.src S) k4 hdb.1 hdb.2
    rw [if_pos (nI_lt hk (by omega)), hd]
    have e6 : ((F_X2_blank τ).bind (fun s2017 => (some (nI (dg k))).bind (fun z302 => (F_X2_number z302 s2017).bind (fun q2018 => (wro q2018.2 2 1 3 (nI k) q2018.1).bind (fun s2021 => some (Sum.inl (nI k + 1, s2021))))))) = ((F_X2_blank τ).bind (F_X2_number (nI (dg k)))).bind (fun q2018 => (wro q2018.2 2 1 3 (nI k) q2018.1).bind (fun s2021 => (some (Sum.inl (nI k + 1, s2021)) : Option ((Int32 × St) ⊕ St)))) := by
      cases F_X2_blank τ <;> rfl
    rw [e6, e1, some_b]
    dsimp only
    rw [wro_nI (by omega) (by decide), some_b, nI_1]
    refine Ret.some ⟨_, rfl, (k1.tr e2).uj (by decide), ?_, ?_, e5.uj (by decide), ?_⟩
    · intro b hb0 hb1
      rw [up3_j hb1, e3 b hb0, k2 b hb0 hb1]
    · intro i h8 h9
      rw [up3_j (by decide), e4 i h8 h9, k3 i h8 h9]
    · intro a ea i hi
      obtain ⟨b, b1, b2, b3⟩ := cuN_inl ea
      by_cases e : i = k
      · subst e
        rw [up3_same, b1, b3]
        show nI (if h b = 32 ∧ isD (h (b + 1)) then _ else 0) = _
        rw [if_pos b2]
      · rw [up3_i e, e3 1 (by decide)]
        exact k5 b b1 i (by omega)
  · rintro z ⟨τ, rfl, k1, k2, k3, k4, k5⟩
    refine ⟨τ, ?_, k1, k2, k3, k4, k5⟩
    show B_X2_read_268 (nI p) (nI tk) (nI p) τ = _
    unfold B_X2_read_268
    rw [if_neg (nI_nlt (Nat.le_refl _) (by omega))]
/-- one number of the model -/
theorem m_numStep {σ τ : St} {n a0 k : Nat} {h : Nat → Int32} {dg : Nat → Nat} (S : SrcM σ n h) (k1 : KpM σ τ) (hdb : 1 ≤ dg k ∧ dg k ≤ 8) (hk : k < 3) (k2 : ∀ b, b ≠ 0 → b ≠ 23 → τ 20 b = σ 20 b) (k3 : ∀ i, i ≠ 21 → i ≠ 19 → τ 20 0 i = σ 20 0 i) (k4 : CuM τ n (cuN h dg a0 k)) (k5 : ∀ a, cuN h dg a0 k = .inl a → ∀ i, i < k → τ 20 23 i = nI (vlN h dg a0 i)) : ∃ υ, (F_X12_expect 32 τ).bind (fun s => (F_X12_readNumber (nI (dg k)) s).bind (fun q => (wro q.2 20 23 3 (nI k) q.1).bind (fun t => (some (Sum.inl (nI k + 1, t)) : Option ((Int32 × St) ⊕ St))))) = some (.inl (nI (k + 1), υ)) ∧ KpM σ υ ∧ (∀ b, b ≠ 0 → b ≠ 23 → υ 20 b = σ 20 b) ∧ (∀ i, i ≠ 21 → i ≠ 19 → υ 20 0 i = σ 20 0 i) ∧ CuM υ n (cuN h dg a0 (k + 1)) ∧ ∀ a, cuN h dg a0 (k + 1) = .inl a → ∀ i, i < k + 1 → υ 20 23 i = nI (vlN h dg a0 i) := by
  obtain ⟨υ, e1, e2, e3, e4, e5⟩ := m_blNum (d := dg k) (k1.src S) k4 hdb.1 hdb.2
  have e6 : ((F_X12_expect 32 τ).bind (fun s2017 => (F_X12_readNumber (nI (dg k)) s2017).bind (fun q2018 => (wro q2018.2 20 23 3 (nI k) q2018.1).bind (fun s2021 => (some (Sum.inl (nI k + 1, s2021)) : Option ((Int32 × St) ⊕ St)))))) = ((F_X12_expect 32 τ).bind (F_X12_readNumber (nI (dg k)))).bind (fun q2018 => (wro q2018.2 20 23 3 (nI k) q2018.1).bind (fun s2021 => (some (Sum.inl (nI k + 1, s2021)) : Option ((Int32 × St) ⊕ St)))) := by
    cases F_X12_expect 32 τ <;> rfl
  rw [e6, e1, some_b]
  dsimp only
  rw [wro_nI (by omega) (by decide), some_b, nI_1]
  refine ⟨_, rfl, (k1.tr e2).uj (by decide), ?_, ?_, e5.uj (by decide), ?_⟩
  · intro b hb0 hb1
    rw [up3_j hb1, e3 b hb0, k2 b hb0 hb1]
  · intro i h8 h9
    rw [up3_j (by decide), e4 i h8 h9, k3 i h8 h9]
  · intro a ea i hi
    obtain ⟨b, b1, b2, b3⟩ := cuN_inl ea
    by_cases e : i = k
    · subst e
      rw [up3_same, b1, b3]
      show nI (if h b = 32 ∧ isD (h (b + 1)) then _ else 0) = _
      rw [if_pos b2]
    · rw [up3_i e, e3 23 (by decide)]
      exact k5 b b1 i (by omega)
def plM (w : Nat) : Nat := cn (numA.getD w 0)
theorem plM_tab : ∀ w, w < 45 → numA.getD w 0 = nI (plM w) ∧ plM w ≤ 3 := by decide +kernel
theorem m_nums {σ : St} {n w a0 : Nat} {h : Nat → Int32} {dg : Nat → Nat} (S : SrcM σ n h) (hS : StatM σ) (O : OkM σ a0) (ha : a0 ≤ n) (hw : w < 45) (hkd : σ 20 0 20 = nI w) (hdg : ∀ k, k < plM w → dg k = 4) : Ret (iter (fun z => B_X12_read_28 z.1 z.2) ((0 : Int32), σ)) (fun τ => KpM σ τ ∧ (∀ b, b ≠ 0 → b ≠ 23 → τ 20 b = σ 20 b) ∧ (∀ i, i ≠ 21 → i ≠ 19 → τ 20 0 i = σ 20 0 i) ∧ CuM τ n (cuN h dg a0 (plM w)) ∧ ∀ a, cuN h dg a0 (plM w) = .inl a → ∀ i, i < plM w → τ 20 23 i = nI (vlN h dg a0 i)) := by
  obtain ⟨p1, p2⟩ := plM_tab w hw
  have hr : ∀ τ, KpM σ τ → (∀ i, i ≠ 21 → i ≠ 19 → τ 20 0 i = σ 20 0 i) → rdo τ 20 18 45 (τ 20 0 20) = some (nI (plM w)) := by
    intro τ k1 k3
    rw [k3 20 (by decide) (by decide), hkd, rdo_nI hw (by decide), (k1.stat hS).2.2 w hw, p1]
  refine iter_inv (fun k z => ∃ τ, z = (nI k, τ) ∧ KpM σ τ ∧ (∀ b, b ≠ 0 → b ≠ 23 → τ 20 b = σ 20 b) ∧ (∀ i, i ≠ 21 → i ≠ 19 → τ 20 0 i = σ 20 0 i) ∧ CuM τ n (cuN h dg a0 k) ∧ ∀ a, cuN h dg a0 k = .inl a → ∀ i, i < k → τ 20 23 i = nI (vlN h dg a0 i)) _ (plM w) ?_ ?_ 0 _ (Nat.zero_le _) ⟨σ, rfl, KpM.rf σ, fun _ _ _ => rfl, fun _ _ _ => rfl, ⟨O, ha⟩, fun _ _ i hi => absurd hi (Nat.not_lt_zero i)⟩
  · rintro k z hk ⟨τ, rfl, k1, k2, k3, k4, k5⟩
    obtain ⟨υ, e1, e2⟩ := m_numStep S k1 (dg := dg) (k := k) (by rw [hdg k hk]; decide) (by omega) k2 k3 k4 k5
    show Ret (B_X12_read_28 (nI k) τ) _
    unfold B_X12_read_28
    rw [hr τ k1 k3, some_b, if_pos (nI_lt hk (by omega))]
    rw [hdg k hk] at e1
    exact ⟨_, e1, υ, rfl, e2⟩
  · rintro z ⟨τ, rfl, k1, k2, k3, k4, k5⟩
    refine ⟨τ, ?_, k1, k2, k3, k4, k5⟩
    show B_X12_read_28 (nI (plM w)) τ = _
    unfold B_X12_read_28
    rw [hr τ k1 k3, some_b, if_neg (nI_nlt (Nat.le_refl _) (by omega))]
/-- the two times behind away's number -/
theorem m_times {σ τ : St} {n a0 : Nat} {h : Nat → Int32} {dg : Nat → Nat} (S : SrcM σ n h) (hdg : ∀ k, 0 < k → dg k = 8) (k1 : KpM σ τ) (k2 : ∀ b, b ≠ 0 → b ≠ 23 → τ 20 b = σ 20 b) (k3 : ∀ i, i ≠ 21 → i ≠ 19 → τ 20 0 i = σ 20 0 i) (k4 : CuM τ n (cuN h dg a0 1)) (k5 : ∀ a, cuN h dg a0 1 = .inl a → ∀ i, i < 1 → τ 20 23 i = nI (vlN h dg a0 i)) : Ret (iter (fun z => B_X12_readRest_11 z.1 z.2) ((1 : Int32), τ)) (fun τ => KpM σ τ ∧ (∀ b, b ≠ 0 → b ≠ 23 → τ 20 b = σ 20 b) ∧ (∀ i, i ≠ 21 → i ≠ 19 → τ 20 0 i = σ 20 0 i) ∧ CuM τ n (cuN h dg a0 3) ∧ ∀ a, cuN h dg a0 3 = .inl a → ∀ i, i < 3 → τ 20 23 i = nI (vlN h dg a0 i)) := by
  refine iter_inv (fun k z => ∃ τ, 1 ≤ k ∧ z = (nI k, τ) ∧ KpM σ τ ∧ (∀ b, b ≠ 0 → b ≠ 23 → τ 20 b = σ 20 b) ∧ (∀ i, i ≠ 21 → i ≠ 19 → τ 20 0 i = σ 20 0 i) ∧ CuM τ n (cuN h dg a0 k) ∧ ∀ a, cuN h dg a0 k = .inl a → ∀ i, i < k → τ 20 23 i = nI (vlN h dg a0 i)) _ 3 ?_ ?_ 1 _ (by decide) ⟨τ, Nat.le_refl _, rfl, k1, k2, k3, k4, k5⟩
  · rintro k z hk ⟨τ, h1, rfl, k1, k2, k3, k4, k5⟩
    obtain ⟨υ, e1, e2⟩ := m_numStep S k1 (dg := dg) (k := k) (by rw [hdg k h1]; decide) (by omega) k2 k3 k4 k5
    show Ret (B_X12_readRest_11 (nI k) τ) _
    unfold B_X12_readRest_11
    rw [if_pos (show nI k < (3 : Int32) from nI_lt (b := 3) hk (by decide))]
    rw [hdg k h1] at e1
    exact ⟨_, e1, υ, by omega, rfl, e2⟩
  · rintro z ⟨τ, h1, rfl, k1, k2, k3, k4, k5⟩
    refine ⟨τ, ?_, k1, k2, k3, k4, k5⟩
    show B_X12_readRest_11 (nI 3) τ = _
    unfold B_X12_readRest_11
    rw [if_neg (show ¬ nI 3 < (3 : Int32) by decide)]
