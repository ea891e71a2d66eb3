/-! S8: refusals of the component, whole -/
set_option maxRecDepth 100000
noncomputable def rfX (m : Nat → Int32) (s : Nat) (d : Int32) (w : Nat) (A : Nat → Nat) (y : Nat → Int32) (K dp a n : Nat) : Nat := if w = 13 ∧ rfS m s d w A y K dp = 0 ∧ 200 < n - a then 7 else rfS m s d w A y K dp
theorem rfX_ne {m : Nat → Int32} {s : Nat} {d : Int32} {w : Nat} {A : Nat → Nat} {y : Nat → Int32} {K dp a n : Nat} (h : w ≠ 13) : rfX m s d w A y K dp a n = rfS m s d w A y K dp := by
  unfold rfX
  rw [if_neg (fun z => h z.1)]
def RfC (σ : St) (m : Nat → Int32) (w : Nat) (A : Nat → Nat) (y : Nat → Int32) (K : Nat) (r rs : Nat) (z : Int32 × St) : Prop := z.1 = sid r ∧ HH (z.2 3) m ∧ (∀ x, x ≠ 3 → x ≠ 6 → z.2 x = σ x) ∧ (w = 14 → rs = 32 → z.2 6 0 0 = nI (wkQ m (A 1) y K)) ∧ (w = 14 → rs = 0 → AkC z.2 m (A 1) y K)
theorem RfC.st {σ : St} {m : Nat → Int32} {w : Nat} {A : Nat → Nat} {y : Nat → Int32} {K r rs : Nat} {v : Int32} (H : HH (σ 3) m) (hv : v = sid r) (hw : w ≠ 14) : RfC σ m w A y K r rs (v, σ) := ⟨hv, H, fun _ _ _ => rfl, fun e => absurd e hw, fun e => absurd e hw⟩
theorem c_refusal {σ : St} {m : Nat → Int32} {s w j a K dp n : Nat} {d : Int32} {A : Nat → Nat} {y : Nat → Int32} {r : Nat → Int32} (R : Rok m) (H : HH (σ 3) m) (h18 : σ 0 0 18 = nI s) (hs6 : s ≤ 6) (h20 : σ 0 0 20 = d) (hd : d = 0 ∨ d = 1) (hw22 : w ≤ 22) (hA : ∀ i, i < plC w → r i = nI (A i) ∧ A i ≤ 99999999) (BT : BtC σ w j a K dp n y) : Ret (F_X0_refusal (nI w) (r 0) (r 1) (r 2) σ) (RfC σ m w A y K (rfX m s d w A y K dp a n) (rfS m s d w A y K dp)) := by
  have hw := R.1
  have b0 := hw.1.1.2
  have b1 := hw.2.1
  have b1' := b1.2
  have b2 := hw.2.2.1
  have b2' := b2.2
  have b4 := hw.2.2.2.2.1
  have b4' := b4.2
  have b7 := hw.2.2.2.2.2.1
  have b7' := b7.2
  have z29 : σ 3 0 29 = nI (cn (m 1)) := H.1.1.2.1.trans b1.1
  have z30 : σ 3 0 30 = nI (cn (m 2)) := H.1.1.2.2.1.trans b2.1
  have z32 : σ 3 0 32 = nI (cn (m 4)) := H.1.1.2.2.2.2.1.trans b4.1
  have z35 : σ 3 0 35 = nI (cn (m 7)) := H.1.1.2.2.2.2.2.2.2.1.trans b7.1
  have st2 : ∀ (w' : Nat) (l : Int32), (w' = 1 ∨ w' = 2) → plC w' = 3 := by rintro w' _ (e | e) <;> subst e <;> decide +kernel
  by_cases h13 : w = 13
  · subst h13
    obtain ⟨t1, t2, t3, t4, t5, t6⟩ := BT.2 rfl
    have e0 : F_X0_refusal (nI 13) (r 0) (r 1) (r 2) σ = (F_X0_refusedMore 13 (r 0) (r 1) (r 2) σ).bind (fun q23 => some (q23.1, q23.2)) := rfl
    rw [e0]
    have eM : F_X0_refusedMore 13 (r 0) (r 1) (r 2) σ = (if (6 : Int32) < (σ 2 0 15) then some ((19 : Int32), σ) else (if (σ 3 0 35) = (8 : Int32) then some ((7 : Int32), σ) else (if (200 : Int32) < ((σ 2 0 14) - (σ 2 0 13)) then some ((7 : Int32), σ) else some ((3 : Int32), σ)))) := rfl
    rw [eM, t1, z35, t3, t4, nI_sub t5]
    have eS : rfS m s d 13 A y K dp = if 6 < dp then 29 else if cn (m 7) = 8 then 7 else 0 := rfl
    by_cases q1 : 6 < dp
    · rw [if_pos (show (6 : Int32) < nI dp from nI_lt (a := 6) q1 (by omega)), some_b]
      refine Ret.some (RfC.st H ?_ (by decide))
      unfold rfX
      rw [eS, if_pos q1, if_neg (fun z => absurd z.2.1 (by decide))]
      rfl
    · rw [if_neg (show ¬ (6 : Int32) < nI dp from nI_nlt (a := 6) (by omega) (by decide))]
      by_cases q2 : cn (m 7) = 8
      · rw [if_pos (by rw [q2]; rfl), some_b]
        refine Ret.some (RfC.st H ?_ (by decide))
        unfold rfX
        rw [eS, if_neg q1, if_pos q2, if_neg (fun z => absurd z.2.1 (by decide))]
        rfl
      · rw [if_neg (by rw [show (8 : Int32) = nI 8 from rfl, nI_eq (by omega) (by decide)]; exact q2)]
        by_cases q3 : 200 < n - a
        · rw [if_pos (show (200 : Int32) < nI (n - a) from nI_lt (a := 200) q3 (by omega)), some_b]
          refine Ret.some (RfC.st H ?_ (by decide))
          unfold rfX
          rw [eS, if_neg q1, if_neg q2, if_pos ⟨rfl, rfl, q3⟩]
          rfl
        · rw [if_neg (show ¬ (200 : Int32) < nI (n - a) from nI_nlt (a := 200) (by omega) (by decide)), some_b]
          refine Ret.some (RfC.st H ?_ (by decide))
          unfold rfX
          rw [eS, if_neg q1, if_neg q2, if_neg (fun z => q3 z.2.2)]
          rfl
  rw [rfX_ne h13]
  have hcs : w = 0 ∨ (w = 1 ∨ w = 2) ∨ (w = 3 ∨ w = 4) ∨ w = 5 ∨ (w = 6 ∨ w = 7) ∨ w = 8 ∨ w = 9 ∨ w = 10 ∨ w = 11 ∨ w = 12 ∨ w = 14 ∨ w = 15 ∨ w = 16 ∨ w = 17 ∨ w = 18 ∨ w = 19 ∨ w = 20 ∨ w = 21 ∨ w = 22 := by omega
  rcases hcs with e | e | e | e | e | e | e | e | e | e | e | e | e | e | e | e | e | e | e
  · subst e
    obtain ⟨a0, a0'⟩ := hA 0 (by decide +kernel)
    have eS : rfS m s d 0 A y K dp = if 2 ≤ A 0 ∧ A 0 ≤ 8 then 0 else 4 := rfl
    show Ret ((F_X0_in (r 0) 2 8 σ).bind (fun r1 => (if r1 = 0 then some ((4 : Int32), σ) else some ((3 : Int32), σ)))) _
    rw [a0, show (2 : Int32) = nI 2 from rfl, show (8 : Int32) = nI 8 from rfl, inC_nI (by omega) (by decide) (by decide), some_b, eS]
    by_cases q : 2 ≤ A 0 ∧ A 0 ≤ 8
    · rw [if_pos q, if_neg (by decide), if_pos q]; exact Ret.some (RfC.st H rfl (by decide))
    · rw [if_neg q, if_pos rfl, if_neg q]; exact Ret.some (RfC.st H rfl (by decide))
  · have p3 := st2 w 0 e
    obtain ⟨a0, a0'⟩ := hA 0 (by omega)
    obtain ⟨a1, a1'⟩ := hA 1 (by omega)
    obtain ⟨a2, a2'⟩ := hA 2 (by omega)
    have eS : rfS m s d w A y K dp = if A 0 < cn (m 0) ∧ A 1 < cn (m 0) ∧ ¬ A 0 = A 1 then (if 1 ≤ A 2 ∧ A 2 ≤ 999 then (if cn (m 1) = 20 then 7 else 0) else 6) else 5 := by rcases e with e | e <;> subst e <;> rfl
    have eF : F_X0_refusal (nI w) (r 0) (r 1) (r 2) σ = (F_X3_isPlace 3 (r 0) σ).bind (fun r2 => (if r2 = 0 then some ((5 : Int32), σ) else (F_X3_isPlace 3 (r 1) σ).bind (fun r3 => (if r3 = 0 then some ((5 : Int32), σ) else (if r 0 = r 1 then some ((5 : Int32), σ) else (F_X0_in (r 2) (1 : Int32) (999 : Int32) σ).bind (fun r4 => (if r4 = 0 then some ((6 : Int32), σ) else (if (σ 3 0 29) = (20 : Int32) then some ((7 : Int32), σ) else some ((3 : Int32), σ))))))))) := by rcases e with e | e <;> subst e <;> rfl
    have wn : w ≠ 14 := by omega
    rw [eF, a0, a1, a2, c_isPlace hw H.1 (by omega), some_b, c_isPlace hw H.1 (by omega), some_b, show F_X0_in (nI (A 2)) 1 999 σ = _ from inC_nI (lo := 1) (hi := 999) (by omega) (by decide) (by decide), some_b, z29]
    have n10 : ¬ (1 : Int32) = 0 := by decide
    by_cases q1 : A 0 < cn (m 0)
    · rw [if_pos q1, if_neg n10]
      by_cases q2 : A 1 < cn (m 0)
      · rw [if_pos q2, if_neg n10]
        by_cases q3 : A 0 = A 1
        · rw [if_pos (show nI (A 0) = nI (A 1) by rw [q3]), eS, if_neg (fun z => z.2.2 q3)]; exact Ret.some (RfC.st H rfl wn)
        · have q : A 0 < cn (m 0) ∧ A 1 < cn (m 0) ∧ ¬ A 0 = A 1 := ⟨q1, q2, q3⟩
          rw [if_neg (show ¬ nI (A 0) = nI (A 1) by rw [nI_eq (by omega) (by omega)]; exact q3)]
          by_cases q4 : 1 ≤ A 2 ∧ A 2 ≤ 999
          · rw [if_pos q4, if_neg n10]
            by_cases q5 : cn (m 1) = 20
            · rw [if_pos (show nI (cn (m 1)) = 20 by rw [q5]; rfl), eS, if_pos q, if_pos q4, if_pos q5]; exact Ret.some (RfC.st H rfl wn)
            · rw [if_neg (show ¬ nI (cn (m 1)) = 20 by rw [show (20 : Int32) = nI 20 from rfl, nI_eq (by omega) (by decide)]; exact q5), eS, if_pos q, if_pos q4, if_neg q5]; exact Ret.some (RfC.st H rfl wn)
          · rw [if_neg q4, if_pos rfl, eS, if_pos q, if_neg q4]; exact Ret.some (RfC.st H rfl wn)
      · rw [if_neg q2, if_pos rfl, eS, if_neg (fun z => q2 z.2.1)]; exact Ret.some (RfC.st H rfl wn)
    · rw [if_neg q1, if_pos rfl, eS, if_neg (fun z => q1 z.1)]; exact Ret.some (RfC.st H rfl wn)
  · have p1 : plC w = 1 := by rcases e with e | e <;> subst e <;> decide +kernel
    obtain ⟨a0, a0'⟩ := hA 0 (by omega)
    have eS : rfS m s d w A y K dp = if A 0 < cn (m 1) then (if m (10 + 5 * A 0 + 4) = (if w = 4 then 1 else 0) then 9 else 0) else 8 := by rcases e with e | e <;> subst e <;> rfl
    have eF : F_X0_refusal (nI w) (r 0) (r 1) (r 2) σ = (if r 0 < (σ 3 0 29) then (rdo σ 3 5 20 (r 0)).bind (fun r5 => Option.bind ((if nI w = (3 : Int32) then some ((1 : Int32)) else some ((0 : Int32))) : Option (Int32)) (fun z230 => (if r5 = z230 then some ((9 : Int32), σ) else some ((3 : Int32), σ)))) else some ((8 : Int32), σ)) := by rcases e with e | e <;> subst e <;> rfl
    have wn : w ≠ 14 := by omega
    rw [eF, a0, z29, eS]
    by_cases q1 : A 0 < cn (m 1)
    · have hc := (H.1.2.1 (A 0) q1).2.2.2.2.1
      have ho := (hw.2.2.2.2.2.2.2.1 (A 0) q1).2.2.2.2.2.1
      rw [if_pos (nI_lt q1 (by omega)), rdo_nI (by omega) (by decide), some_b, hc, if_pos q1]
      rcases e with e | e <;> subst e <;> rcases ho with ho | ho <;> rw [ho] <;> exact Ret.some (RfC.st H rfl wn)
    · rw [if_neg (nI_nlt (by omega) (by omega)), if_neg q1]; exact Ret.some (RfC.st H rfl wn)
  · subst e
    obtain ⟨a0, a0'⟩ := hA 0 (by decide +kernel)
    obtain ⟨a1, a1'⟩ := hA 1 (by decide +kernel)
    have eS : rfS m s d 5 A y K dp = if A 0 < cn (m 0) then (if 1 ≤ A 1 ∧ A 1 ≤ 7 then (if cn (m 2) = 6 then 7 else 0) else 10) else 5 := rfl
    show Ret ((F_X3_isPlace 3 (r 0) σ).bind (fun r6 => (if r6 = 0 then some ((5 : Int32), σ) else (F_X0_in (r 1) (1 : Int32) (7 : Int32) σ).bind (fun r7 => (if r7 = 0 then some ((10 : Int32), σ) else (if (σ 3 0 30) = (6 : Int32) then some ((7 : Int32), σ) else some ((3 : Int32), σ))))))) _
    rw [a0, a1, c_isPlace hw H.1 (by omega), some_b, show (1 : Int32) = nI 1 from rfl, show (7 : Int32) = nI 7 from rfl, inC_nI (by omega) (by decide) (by decide), some_b, z30, eS]
    by_cases q1 : A 0 < cn (m 0)
    · rw [if_pos q1, if_neg (by decide), if_pos q1]
      by_cases q4 : 1 ≤ A 1 ∧ A 1 ≤ 7
      · rw [if_pos q4, if_neg (by decide), if_pos q4]
        by_cases q5 : cn (m 2) = 6
        · rw [if_pos (by rw [q5]; rfl), if_pos q5]; exact Ret.some (RfC.st H rfl (by decide))
        · rw [if_neg (by rw [show (6 : Int32) = nI 6 from rfl, nI_eq (by omega) (by decide)]; exact q5), if_neg q5]; exact Ret.some (RfC.st H rfl (by decide))
      · rw [if_neg q4, if_pos rfl, if_neg q4]; exact Ret.some (RfC.st H rfl (by decide))
    · rw [if_neg q1, if_pos rfl, if_neg q1]; exact Ret.some (RfC.st H rfl (by decide))
  · have p1 : plC w = 1 := by rcases e with e | e <;> subst e <;> decide +kernel
    obtain ⟨a0, a0'⟩ := hA 0 (by omega)
    have eS : rfS m s d w A y K dp = if A 0 < cn (m 2) then (if m (110 + 8 * A 0 + 5) = 0 ∨ m (110 + 8 * A 0 + 5) = 4 then (if m (110 + 8 * A 0 + 5) = (if w = 6 then 4 else 0) then 9 else 0) else 12) else 11 := by rcases e with e | e <;> subst e <;> rfl
    have eF : F_X0_refusal (nI w) (r 0) (r 1) (r 2) σ = (F_X3_isUnit 3 (r 0) σ).bind (fun r8 => (if r8 = 0 then some ((11 : Int32), σ) else (rdo σ 3 20 6 (r 0)).bind (fun r9 => bindL ((if r9 = 0 then some (.inl ()) else (rdo σ 3 20 6 (r 0)).bind (fun r10 => (if r10 = (4 : Int32) then some (.inl ()) else some (.inr ((12 : Int32), σ))))) : Option ((Unit) ⊕ (Int32 × St))) (fun z338 => (rdo σ 3 20 6 (r 0)).bind (fun r11 => Option.bind ((if r11 = (4 : Int32) then some ((1 : Int32)) else some ((0 : Int32))) : Option (Int32)) (fun z356 => Option.bind ((if nI w = (6 : Int32) then some ((1 : Int32)) else some ((0 : Int32))) : Option (Int32)) (fun z367 => (if z356 = z367 then some ((9 : Int32), σ) else some ((3 : Int32), σ))))))))) := by rcases e with e | e <;> subst e <;> rfl
    have wn : w ≠ 14 := by omega
    rw [eF, a0, c_isUnit hw H.1 (by omega), some_b, eS]
    by_cases q1 : A 0 < cn (m 2)
    · have hc := (H.1.2.2.1 (A 0) q1).2.2.2.2.2.1
      rw [if_pos q1, if_neg (by decide), rdo_nI (by omega) (by decide), some_b, hc, if_pos q1]
      by_cases q2 : m (110 + 8 * A 0 + 5) = 0
      · rw [q2, if_pos rfl, bindL_inl, some_b, if_pos (Or.inl rfl)]
        rcases e with e | e <;> subst e <;> exact Ret.some (RfC.st H rfl wn)
      · by_cases q3 : m (110 + 8 * A 0 + 5) = 4
        · rw [q3, if_neg (show ¬ (4 : Int32) = 0 by decide), some_b, if_pos rfl, bindL_inl, some_b, if_pos (Or.inr rfl)]
          rcases e with e | e <;> subst e <;> exact Ret.some (RfC.st H rfl wn)
        · rw [if_neg q2, some_b, if_neg q3, bindL_inr, if_neg (fun z => z.elim q2 q3)]
          exact Ret.some (RfC.st H rfl wn)
    · rw [if_neg q1, if_pos rfl, if_neg q1]; exact Ret.some (RfC.st H rfl wn)
  · subst e
    obtain ⟨a0, a0'⟩ := hA 0 (by decide +kernel)
    obtain ⟨a1, a1'⟩ := hA 1 (by decide +kernel)
    have eS : rfS m s d 8 A y K dp = if A 0 < cn (m 2) then (if A 1 < cn (m 0) then (if m (110 + 8 * A 0 + 5) = 4 then 13 else if m (110 + 8 * A 0) = nI (A 1) then 9 else 0) else 5) else 11 := rfl
    show Ret ((F_X3_isUnit 3 (r 0) σ).bind (fun r12 => (if r12 = 0 then some ((11 : Int32), σ) else (F_X3_isPlace 3 (r 1) σ).bind (fun r13 => (if r13 = 0 then some ((5 : Int32), σ) else (rdo σ 3 20 6 (r 0)).bind (fun r14 => (if r14 = (4 : Int32) then some ((13 : Int32), σ) else (rdo σ 3 15 6 (r 0)).bind (fun r15 => (if r15 = (r 1) then some ((9 : Int32), σ) else some ((3 : Int32), σ)))))))))) _
    rw [a0, a1, c_isUnit hw H.1 (by omega), some_b, c_isPlace hw H.1 (by omega), some_b, eS]
    by_cases q1 : A 0 < cn (m 2)
    · have hc := (H.1.2.2.1 (A 0) q1).2.2.2.2.2.1
      have hc0 := (H.1.2.2.1 (A 0) q1).1
      rw [if_pos q1, if_neg (by decide), if_pos q1]
      by_cases q2 : A 1 < cn (m 0)
      · rw [if_pos q2, if_neg (by decide), rdo_nI (by omega) (by decide), some_b, hc, if_pos q2]
        by_cases q3 : m (110 + 8 * A 0 + 5) = 4
        · rw [if_pos q3, if_pos q3]; exact Ret.some (RfC.st H rfl (by decide))
        · rw [if_neg q3, rdo_nI (by omega) (by decide), some_b, hc0, if_neg q3]
          by_cases q4 : m (110 + 8 * A 0) = nI (A 1)
          · rw [if_pos q4, if_pos q4]; exact Ret.some (RfC.st H rfl (by decide))
          · rw [if_neg q4, if_neg q4]; exact Ret.some (RfC.st H rfl (by decide))
      · rw [if_neg q2, if_pos rfl, if_neg q2]; exact Ret.some (RfC.st H rfl (by decide))
    · rw [if_neg q1, if_pos rfl, if_neg q1]; exact Ret.some (RfC.st H rfl (by decide))
  · subst e
    obtain ⟨a0, a0'⟩ := hA 0 (by decide +kernel)
    obtain ⟨a1, a1'⟩ := hA 1 (by decide +kernel)
    obtain ⟨a2, a2'⟩ := hA 2 (by decide +kernel)
    have eS : rfS m s d 9 A y K dp = if A 0 < cn (m 0) then (if A 1 ≤ 2 then (if 1 ≤ A 2 ∧ A 2 ≤ 9 then rfCall m (A 0) (A 1) else 14) else 10) else 5 := rfl
    show Ret ((F_X3_isPlace 3 (r 0) σ).bind (fun r16 => (if r16 = 0 then some ((5 : Int32), σ) else (if (2 : Int32) < (r 1) then some ((10 : Int32), σ) else (F_X0_in (r 2) (1 : Int32) (9 : Int32) σ).bind (fun r17 => (if r17 = 0 then some ((14 : Int32), σ) else (F_X0_refusedCall (r 0) (r 1) σ).bind (fun r18 => some (r18, σ)))))))) _
    rw [a0, a1, a2, c_isPlace hw H.1 (by omega), some_b, show (1 : Int32) = nI 1 from rfl, show (9 : Int32) = nI 9 from rfl, inC_nI (by omega) (by decide) (by decide), some_b, c_refCall hw H, some_b, eS]
    by_cases q1 : A 0 < cn (m 0)
    · rw [if_pos q1, if_neg (by decide), if_pos q1]
      by_cases q2 : A 1 ≤ 2
      · rw [if_neg (show ¬ (2 : Int32) < nI (A 1) from nI_nlt (a := 2) q2 (by decide)), if_pos q2]
        by_cases q3 : 1 ≤ A 2 ∧ A 2 ≤ 9
        · rw [if_pos q3, if_neg (by decide), if_pos q3]; exact Ret.some (RfC.st H rfl (by decide))
        · rw [if_neg q3, if_pos rfl, if_neg q3]; exact Ret.some (RfC.st H rfl (by decide))
      · rw [if_pos (show (2 : Int32) < nI (A 1) from nI_lt (a := 2) (by omega) (by omega)), if_neg q2]; exact Ret.some (RfC.st H rfl (by decide))
    · rw [if_neg q1, if_pos rfl, if_neg q1]; exact Ret.some (RfC.st H rfl (by decide))
  · subst e
    exact Ret.some (RfC.st H rfl (by decide))
  · subst e
    obtain ⟨a0, a0'⟩ := hA 0 (by decide +kernel)
    obtain ⟨a1, a1'⟩ := hA 1 (by decide +kernel)
    have eS : rfS m s d 11 A y K dp = rfGo m (A 0) (A 1) := rfl
    show Ret ((F_X0_refusedGo (r 0) (r 1) σ).bind (fun q19 => some (q19.1, q19.2))) _
    rw [a0, a1, eS]
    refine Ret.bind (c_refGo hw H (by omega) (by omega)) ?_
    rintro z ⟨z1, z2, z3⟩
    exact Ret.some ⟨z1, z2, fun x h3 _ => z3 x h3, fun e => absurd e (by decide), fun e => absurd e (by decide)⟩
  · subst e
    obtain ⟨a0, a0'⟩ := hA 0 (by decide +kernel)
    have eS : rfS m s d 12 A y K dp = if opC m (A 0) then 0 else 15 := rfl
    show Ret ((F_X3_isOpen 3 (r 0) σ).bind (fun r22 => (if r22 = 0 then some ((15 : Int32), σ) else some ((3 : Int32), σ)))) _
    rw [a0, c_isOpen hw H.1 (by omega), some_b, eS]
    by_cases q : opC m (A 0)
    · rw [if_pos q, if_neg (by decide), if_pos q]; exact Ret.some (RfC.st H rfl (by decide))
    · rw [if_neg q, if_pos rfl, if_neg q]; exact Ret.some (RfC.st H rfl (by decide))
  · subst e
    obtain ⟨a0, a0'⟩ := hA 0 (by decide +kernel)
    obtain ⟨a1, a1'⟩ := hA 1 (by decide +kernel)
    obtain ⟨t1, t2, t3, t4, t5, t6⟩ := BT.1 (Or.inl rfl)
    have eS : rfS m s d 14 A y K dp = rfRep m (A 0) (A 1) y K := rfl
    show Ret (((F_X0_refusedReport (r 0) (r 1) σ).bind (fun q2 => some (q2.1, q2.2))).bind (fun q23 => some (q23.1, q23.2))) _
    rw [a0, a1, eS]
    refine Ret.bind (Ret.bind (c_refReport hw R.2.2.1 H (by omega) (by omega) t1 t2 t3 t4 t5 t6) (fun b hb => Ret.some (Q := fun z : Int32 × St => z.1 = sid (rfRep m (A 0) (A 1) y K) ∧ HH (z.2 3) m ∧ (∀ x, x ≠ 6 → z.2 x = σ x) ∧ (rfRep m (A 0) (A 1) y K = 32 → z.2 6 0 0 = nI (wkQ m (A 1) y K)) ∧ (rfRep m (A 0) (A 1) y K = 0 → AkC z.2 m (A 1) y K)) hb)) ?_
    rintro z ⟨z1, z2, z3, z4, z5⟩
    exact Ret.some ⟨z1, z2, fun x _ h6 => z3 x h6, fun _ => z4, fun _ => z5⟩
  · subst e
    obtain ⟨a0, a0'⟩ := hA 0 (by decide +kernel)
    obtain ⟨t1, t2, t3, t4, t5, t6⟩ := BT.1 (Or.inr rfl)
    have eS : rfS m s d 15 A y K dp = rfNam m (A 0) K y := rfl
    show Ret (((F_X0_refusedName (r 0) σ).bind (fun r5 => some (r5, σ))).bind (fun q23 => some (q23.1, q23.2))) _
    rw [a0, c_refusedName hw R.2.2.1 H (by omega) t1 t2 t3 t4 t5 t6, some_b, some_b, eS]
    unfold rfNam
    refine Ret.some (RfC.st H ?_ (by decide))
    by_cases q1 : A 0 < cn (m 0)
    · rw [if_pos q1, if_pos q1]
      by_cases q2 : 12 < K
      · rw [if_pos q2, if_pos q2]; rfl
      · rw [if_neg q2, if_neg q2]
        by_cases q3 : tknI m (A 0) K y (cn (m 0)) = 1
        · rw [if_pos q3, if_pos q3]; rfl
        · rw [if_neg q3, if_neg q3]; rfl
    · rw [if_neg q1, if_neg q1]; rfl
  · subst e
    obtain ⟨a0, a0'⟩ := hA 0 (by decide +kernel)
    obtain ⟨a1, a1'⟩ := hA 1 (by decide +kernel)
    obtain ⟨a2, a2'⟩ := hA 2 (by decide +kernel)
    have eS : rfS m s d 16 A y K dp = if A 0 < cn (m 1) then (if A 1 ≤ 23 ∧ A 2 ≤ 23 then 0 else 36) else 8 := rfl
    show Ret ((if (r 0) < (σ 3 0 29) then (if (23 : Int32) < (r 1) then some ((25 : Int32), σ) else (if (23 : Int32) < (r 2) then some ((25 : Int32), σ) else some ((3 : Int32), σ))) else some ((8 : Int32), σ)).bind (fun q23 => some (q23.1, q23.2))) _
    rw [a0, a1, a2, z29, eS]
    by_cases q1 : A 0 < cn (m 1)
    · rw [if_pos (nI_lt q1 (by omega)), if_pos q1]
      by_cases q2 : A 1 ≤ 23
      · rw [if_neg (show ¬ (23 : Int32) < nI (A 1) from nI_nlt (a := 23) q2 (by decide))]
        by_cases q3 : A 2 ≤ 23
        · rw [if_neg (show ¬ (23 : Int32) < nI (A 2) from nI_nlt (a := 23) q3 (by decide)), if_pos ⟨q2, q3⟩]; exact Ret.some (RfC.st H rfl (by decide))
        · rw [if_pos (show (23 : Int32) < nI (A 2) from nI_lt (a := 23) (by omega) (by omega)), if_neg (fun z => q3 z.2)]; exact Ret.some (RfC.st H rfl (by decide))
      · rw [if_pos (show (23 : Int32) < nI (A 1) from nI_lt (a := 23) (by omega) (by omega)), if_neg (fun z => q2 z.1)]; exact Ret.some (RfC.st H rfl (by decide))
    · rw [if_neg (nI_nlt (by omega) (by omega)), if_neg q1]; exact Ret.some (RfC.st H rfl (by decide))
  · subst e
    obtain ⟨a0, a0'⟩ := hA 0 (by decide +kernel)
    obtain ⟨a1, a1'⟩ := hA 1 (by decide +kernel)
    obtain ⟨a2, a2'⟩ := hA 2 (by decide +kernel)
    have eS : rfS m s d 17 A y K dp = if A 0 < cn (m 2) then (if A 1 < A 2 then 0 else 6) else 11 := rfl
    show Ret (((F_X3_isUnit 3 (r 0) σ).bind (fun r1 => (if r1 = 0 then some ((11 : Int32), σ) else (if (r 1) < (r 2) then some ((3 : Int32), σ) else some ((6 : Int32), σ))))).bind (fun q23 => some (q23.1, q23.2))) _
    rw [a0, a1, a2, c_isUnit hw H.1 (by omega), some_b, eS]
    by_cases q1 : A 0 < cn (m 2)
    · rw [if_pos q1, if_neg (by decide), if_pos q1]
      by_cases q2 : A 1 < A 2
      · rw [if_pos (nI_lt q2 (by omega)), if_pos q2]; exact Ret.some (RfC.st H rfl (by decide))
      · rw [if_neg (nI_nlt (by omega) (by omega)), if_neg q2]; exact Ret.some (RfC.st H rfl (by decide))
    · rw [if_neg q1, if_pos rfl, if_neg q1]; exact Ret.some (RfC.st H rfl (by decide))
  · subst e
    exact Ret.some (RfC.st H rfl (by decide))
  · subst e
    obtain ⟨a0, a0'⟩ := hA 0 (by decide +kernel)
    have h4 := R.2.2.2
    have eS : rfS m s d 19 A y K dp = if 1 ≤ A 0 ∧ A 0 ≤ 3600 then (if cn (m 4) + A 0 ≤ 1000000 then 0 else 6) else 6 := rfl
    show Ret ((F_X0_in (r 0) (1 : Int32) (3600 : Int32) σ).bind (fun r26 => (if r26 = 0 then some ((6 : Int32), σ) else (if ((1000000 : Int32) - (σ 3 0 32)) < (r 0) then some ((6 : Int32), σ) else some ((3 : Int32), σ))))) _
    rw [a0, show (1 : Int32) = nI 1 from rfl, show (3600 : Int32) = nI 3600 from rfl, inC_nI (by omega) (by decide) (by decide), some_b, z32, show (1000000 : Int32) = nI 1000000 from rfl, nI_sub h4, eS]
    by_cases q1 : 1 ≤ A 0 ∧ A 0 ≤ 3600
    · rw [if_pos q1, if_neg (by decide), if_pos q1]
      by_cases q2 : cn (m 4) + A 0 ≤ 1000000
      · rw [if_neg (nI_nlt (by omega) (by omega)), if_pos q2]; exact Ret.some (RfC.st H rfl (by decide))
      · rw [if_pos (nI_lt (by omega) (by omega)), if_neg q2]; exact Ret.some (RfC.st H rfl (by decide))
    · rw [if_neg q1, if_pos rfl, if_neg q1]; exact Ret.some (RfC.st H rfl (by decide))
  · subst e
    have eS : rfS m s d 20 A y K dp = if s = 0 then 19 else 0 := rfl
    show Ret (if 0 < (σ 0 0 18) then some ((3 : Int32), σ) else some ((26 : Int32), σ)) _
    rw [h18, eS]
    by_cases q : s = 0
    · rw [q, if_neg (show ¬ (0 : Int32) < nI 0 by decide), if_pos rfl]; exact Ret.some (RfC.st H rfl (by decide))
    · rw [if_pos (show (0 : Int32) < nI s from nI_lt (a := 0) (by omega) (by omega)), if_neg q]; exact Ret.some (RfC.st H rfl (by decide))
  · subst e
    have eS : rfS m s d 21 A y K dp = if d = 0 then 0 else 20 := rfl
    show Ret (if (σ 0 0 20) = 0 then some ((3 : Int32), σ) else some ((27 : Int32), σ)) _
    rw [h20, eS]
    by_cases q : d = 0
    · rw [if_pos q, if_pos q]; exact Ret.some (RfC.st H rfl (by decide))
    · rw [if_neg q, if_neg q]; exact Ret.some (RfC.st H rfl (by decide))
  · subst e
    have eS : rfS m s d 22 A y K dp = if d = 0 then 21 else 0 := rfl
    show Ret (if (σ 0 0 20) = 0 then some ((28 : Int32), σ) else some ((3 : Int32), σ)) _
    rw [h20, eS]
    by_cases q : d = 0
    · rw [if_pos q, if_pos q]; exact Ret.some (RfC.st H rfl (by decide))
    · rw [if_neg q, if_neg q]; exact Ret.some (RfC.st H rfl (by decide))
