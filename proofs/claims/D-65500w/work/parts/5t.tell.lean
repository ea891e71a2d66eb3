/-! S9: doing what is told: the model -/
set_option maxRecDepth 100000
noncomputable def tlI (kd r2 r3 : Int32) (z48 : St) : Option St := bindL ((if kd = 0 then (F_X12_begin r2 z48).bind (fun s1026 => some (.inl s1026)) else bindL ((if kd = (1 : Int32) then some (.inl ()) else (if kd = (2 : Int32) then some (.inl ()) else bindL ((if kd = (3 : Int32) then some (.inl ()) else (if kd = (4 : Int32) then some (.inl ()) else (if kd = (5 : Int32) then (F_X12_addUnit r2 r3 z48).bind (fun s1023 => some (.inr (.inr (.inl s1023)))) else bindL ((if kd = (6 : Int32) then some (.inl ()) else (if kd = (7 : Int32) then some (.inl ()) else (if kd = (8 : Int32) then (F_X12_setUnit r2 (0 : Int32) r3 z48).bind (fun s1019 => (F_X12_unit r2 (5 : Int32) s1019).bind (fun r1020 => (if (1 : Int32) < r1020 then some (.inr (.inr (.inr (.inl s1019)))) else (F_X12_letGo r2 s1019).bind (fun s1021 => some (.inr (.inr (.inr (.inl s1021)))))))) else (if kd = (9 : Int32) then (rdo z48 20 23 3 (2 : Int32)).bind (fun r1017 => (F_X12_addCall r2 r3 r1017 z48).bind (fun s1018 => some (.inr (.inr (.inr (.inr s1018)))))) else (if kd = (10 : Int32) then (F_X12_sendAll z48).bind (fun s1016 => some (.inr (.inr (.inr (.inr s1016))))) else (if kd = (11 : Int32) then (F_X12_sendTo r2 r3 z48).bind (fun s1015 => some (.inr (.inr (.inr (.inl s1015))))) else (if kd = (12 : Int32) then (wro z48 20 1 1532 (((160 : Int32) + ((6 : Int32) * r2)) + (3 : Int32)) (0 : Int32)).bind (fun s9 => Option.bind (iter (fun z => B_X12_tell_319 r2 z.1 z.2) ((0 : Int32), s9)) (fun z369 => some (.inr (.inr (.inr (.inl z369)))))) else (if kd = (19 : Int32) then (F_X12_tick r2 z48).bind (fun s8 => some (.inr (.inr (.inr (.inl s8))))) else (if kd = (13 : Int32) then (F_X12_addKind z48).bind (fun s7 => some (.inr (.inr (.inr (.inr s7))))) else (if kd = (14 : Int32) then (F_X12_addCall r2 ((z48 20 0 42) / (10 : Int32)) ((z48 20 0 42) - (z48 20 0 42) / (10 : Int32) * (10 : Int32)) z48).bind (fun s6 => some (.inr (.inr (.inr (.inr s6))))) else bindL ((if kd < (15 : Int32) then some (.inl ()) else (if (18 : Int32) < kd then some (.inl ()) else (F_X12_tellMore r2 r3 z48).bind (fun s4 => some (.inr (.inr (.inr (.inr (.inl s4)))))))) : Option ((Unit) ⊕ ((Unit) ⊕ ((Unit) ⊕ ((Unit) ⊕ ((St) ⊕ (St))))))) (fun z459 => (F_X12_turnBack z48).bind (fun s5 => some (.inr (.inr (.inr (.inl s5)))))))))))))))) : Option ((Unit) ⊕ ((Unit) ⊕ ((Unit) ⊕ ((St) ⊕ (St)))))) (fun z180 => Option.bind ((if kd = (6 : Int32) then some ((4 : Int32)) else some ((0 : Int32))) : Option (Int32)) (fun z197 => (F_X12_setUnit r2 (5 : Int32) z197 z48).bind (fun s1022 => some (.inr (.inr (.inl s1022))))))))) : Option ((Unit) ⊕ ((Unit) ⊕ ((St) ⊕ (St))))) (fun z116 => Option.bind ((if kd = (4 : Int32) then some ((1 : Int32)) else some ((0 : Int32))) : Option (Int32)) (fun z141 => (wro z48 20 1 1532 (((10 : Int32) + ((5 : Int32) * r2)) + (4 : Int32)) z141).bind (fun s1024 => some (.inr (.inl s1024))))))) : Option ((Unit) ⊕ ((St) ⊕ (St)))) (fun z93 => (F_X12_addStreet z48).bind (fun s1025 => some (.inl s1025)))) : Option ((St) ⊕ (St))) (fun z463 => (F_X12_say (0 : Int32) z463).bind (fun s1027 => some s1027))
theorem tell_eq (s : St) : F_X12_tell s = Option.bind ((if (s 20 0 20) = 0 then some ((0 : Int32)) else (if (s 20 0 20) = (20 : Int32) then some ((0 : Int32)) else (if (s 20 0 20) = (21 : Int32) then some ((0 : Int32)) else (if (s 20 0 20) = (22 : Int32) then some ((0 : Int32)) else some ((1 : Int32)))))) : Option (Int32)) (fun z39 => Option.bind ((if z39 = 0 then some (s) else (F_X12_keepStep s).bind (fun s1 => some (s1))) : Option (St)) (fun z48 => (rdo z48 20 23 3 (0 : Int32)).bind (fun r2 => (rdo z48 20 23 3 (1 : Int32)).bind (fun r3 => tlI (z48 20 0 20) r2 r3 z48)))) := rfl
def FrTl (σ τ : St) : Prop := (∀ a, a ≠ 20 → τ a = σ a) ∧ (∀ b, b ≠ 0 → b ≠ 1 → b ≠ 2 → b ≠ 4 → b ≠ 15 → b ≠ 34 → b ≠ 36 → b ≠ 38 → b ≠ 39 → b ≠ 40 → τ 20 b = σ 20 b) ∧ ∀ i, i ≠ 2 → i ≠ 5 → i ≠ 15 → i ≠ 34 → i ≠ 36 → i ≠ 40 → i ≠ 41 → τ 20 0 i = σ 20 0 i
theorem FrTl.rf (σ : St) : FrTl σ σ := ⟨fun _ _ => rfl, fun _ _ _ _ _ _ _ _ _ _ _ => rfl, fun _ _ _ _ _ _ _ _ => rfl⟩
theorem FrTl.tr {σ τ υ : St} (a : FrTl σ τ) (b : FrTl τ υ) : FrTl σ υ := ⟨fun x h => (b.1 x h).trans (a.1 x h), fun x h0 h1 h2 h4 h15 h34 h36 h38 h39 h40 => (b.2.1 x h0 h1 h2 h4 h15 h34 h36 h38 h39 h40).trans (a.2.1 x h0 h1 h2 h4 h15 h34 h36 h38 h39 h40), fun i h2 h5 h15 h34 h36 h40 h41 => (b.2.2 i h2 h5 h15 h34 h36 h40 h41).trans (a.2.2 i h2 h5 h15 h34 h36 h40 h41)⟩
theorem FrTl.app (σ : St) (l : List Int32) : FrTl σ (appM σ l) := ⟨fun _ h => appM_g h, fun _ h0 _ _ _ h15 _ _ _ _ _ => appM_j h15 h0, fun _ _ _ h15 _ _ _ _ => appM_0 h15⟩
theorem FrTl.put (σ : St) (m : Nat → Int32) : FrTl σ (putr σ m) := ⟨fun _ h => putr_g h, fun _ _ h1 _ _ _ _ _ _ _ _ => putr_j h1, fun _ _ _ _ _ _ _ _ => by rw [putr_j (by decide)]⟩
theorem FrTl.fs {σ τ : St} (f : FrS σ τ) : FrTl σ τ := ⟨f.1, fun b h0 h1 _ _ h15 h34 h36 h38 h39 h40 => f.2.1 b h0 h1 h15 h34 h36 h38 h39 h40, fun i _ _ h15 h34 h36 h40 h41 => f.2.2 i h15 h34 h36 h40 h41⟩
def PfM (σ : St) (m : Nat → Int32) (s : Nat) (K : Nat → Nat → Int32) (D : Nat → Int32) (d : Int32) (l : List Int32) (τ : St) : Prop := AbM τ m s K D d ∧ TxM σ τ l ∧ FrTl σ τ
theorem AbM.app {σ : St} {m : Nat → Int32} {s : Nat} {K : Nat → Nat → Int32} {D : Nat → Int32} {d : Int32} {l : List Int32} (A : AbM σ m s K D d) : AbM (appM σ l) m s K D d := A.fr (appM_j (by decide) (by decide)) (appM_j (by decide) (by decide)) (appM_j (by decide) (by decide)) (appM_0 (by decide)) (appM_0 (by decide))
theorem AbM.row1 {σ τ : St} {m m' : Nat → Int32} {s : Nat} {K : Nat → Nat → Int32} {D : Nat → Int32} {d : Int32} (A : AbM σ m s K D d) (h1 : τ 20 1 = m') (h2 : τ 20 2 = σ 20 2) (h4 : τ 20 4 = σ 20 4) (e2 : τ 20 0 2 = σ 20 0 2) (e5 : τ 20 0 5 = σ 20 0 5) : AbM τ m' s K D d := by
  have B := A.row (m' := m')
  exact B.fr (by rw [h1, putr_row]) (by rw [h2, putr_j (by decide)]) (by rw [h4, putr_j (by decide)]) (by rw [e2, putr_j (by decide)]) (by rw [e5, putr_j (by decide)])
theorem tell_kept {σ : St} {m : Nat → Int32} {s w : Nat} {K : Nat → Nat → Int32} {D : Nat → Int32} {d : Int32} {Q : St → Prop} (A : AbM σ m s K D d) (W : AbW m s K D d) (hi : isS w) (hkd : σ 20 0 20 = nI w) (hG : ∀ z, AbM z m (kpS s) (kpK m s K) D d → (∀ a, a ≠ 20 → z a = σ a) → (∀ b, b ≠ 0 → b ≠ 2 → z 20 b = σ 20 b) → (∀ i, i ≠ 2 → z 20 0 i = σ 20 0 i) → FrTl σ z → Ret (tlI (nI w) (σ 20 23 0) (σ 20 23 1) z) Q) : Ret (F_X12_tell σ) Q := by
  have h0 := hi.1
  have h20 := hi.2
  have n0 : ¬ nI w = 0 := nI_ne0 (by omega) (by omega)
  have n20 : ¬ nI w = 20 := by rw [show (20 : Int32) = nI 20 from rfl, nI_eq (by omega) (by decide)]; omega
  have n21 : ¬ nI w = 21 := by rw [show (21 : Int32) = nI 21 from rfl, nI_eq (by omega) (by decide)]; omega
  have n22 : ¬ nI w = 22 := by rw [show (22 : Int32) = nI 22 from rfl, nI_eq (by omega) (by decide)]; omega
  rw [tell_eq, hkd, if_neg n0, if_neg n20, if_neg n21, if_neg n22, some_b, if_neg (show ¬ (1 : Int32) = 0 by decide)]
  obtain ⟨z, z1, z2, z3, z4, z5⟩ := m_keepA A W
  rw [z1, some_b, some_b, show rdo z 20 23 3 (0 : Int32) = some (z 20 23 0) from rd3 (k := 0) (by decide), some_b, show rdo z 20 23 3 (1 : Int32) = some (z 20 23 1) from rd3 (k := 1) (by decide), some_b, z4 23 (by decide) (by decide), z5 20 (by decide), hkd]
  exact hG z z2 z3 z4 z5 ⟨z3, fun b b0 b1 b2 b4 b15 b34 b36 b38 b39 b40 => z4 b b0 b2, fun i i2 i5 i15 i34 i36 i40 i41 => z5 i i2⟩
theorem tell_raw {σ : St} {w : Nat} {Q : St → Prop} (hi : w = 0 ∨ w = 20 ∨ w = 21 ∨ w = 22) (hkd : σ 20 0 20 = nI w) (hG : Ret (tlI (nI w) (σ 20 23 0) (σ 20 23 1) σ) Q) : Ret (F_X12_tell σ) Q := by
  have e : (if nI w = 0 then some ((0 : Int32)) else (if nI w = (20 : Int32) then some ((0 : Int32)) else (if nI w = (21 : Int32) then some ((0 : Int32)) else (if nI w = (22 : Int32) then some ((0 : Int32)) else some ((1 : Int32)))))) = some (0 : Int32) := by rcases hi with e | e | e | e <;> subst e <;> rfl
  rw [tell_eq, hkd, e, some_b, if_pos rfl, some_b, show rdo σ 20 23 3 (0 : Int32) = some (σ 20 23 0) from rd3 (k := 0) (by decide), some_b, show rdo σ 20 23 3 (1 : Int32) = some (σ 20 23 1) from rd3 (k := 1) (by decide), some_b, hkd]
  exact hG
/-- what comes behind a command that answers ok -/
noncomputable def okT (X : Option St) : Option St := X.bind (fun z463 => (F_X12_say (0 : Int32) z463).bind (fun s1027 => some s1027))
theorem tl0 {a b : Int32} {z : St} : tlI (nI 0) a b z = okT (F_X12_begin a z) := by
  show bindL ((F_X12_begin a z).bind (fun s1026 => some (.inl s1026))) _ = _
  unfold okT; generalize F_X12_begin a z = X; cases X <;> rfl
theorem tl12 {a b : Int32} {z : St} {w : Nat} (h : w = 1 ∨ w = 2) : tlI (nI w) a b z = okT (F_X12_addStreet z) := by
  rcases h with e | e <;> subst e
  · show bindL ((F_X12_addStreet z).bind (fun s1025 => some (.inl s1025))) _ = _
    unfold okT; generalize F_X12_addStreet z = X; cases X <;> rfl
  · show bindL ((F_X12_addStreet z).bind (fun s1025 => some (.inl s1025))) _ = _
    unfold okT; generalize F_X12_addStreet z = X; cases X <;> rfl
theorem tl34 {a b : Int32} {z : St} {w : Nat} (h : w = 3 ∨ w = 4) : tlI (nI w) a b z = okT (wro z 20 1 1532 (((10 : Int32) + ((5 : Int32) * a)) + (4 : Int32)) (if w = 4 then 1 else 0)) := by
  rcases h with e | e <;> subst e <;> unfold tlI okT
  · show _ = Option.bind (wro z 20 1 1532 (((10 : Int32) + ((5 : Int32) * a)) + (4 : Int32)) 0) _
    generalize e : wro z 20 1 1532 (((10 : Int32) + ((5 : Int32) * a)) + (4 : Int32)) 0 = X
    show bindL (bindL (bindL (some (.inl ())) (fun _ => (wro z 20 1 1532 (((10 : Int32) + ((5 : Int32) * a)) + (4 : Int32)) 0).bind (fun s1024 => some (.inr (.inl s1024))))) _) _ = _
    rw [e]; cases X <;> rfl
  · show _ = Option.bind (wro z 20 1 1532 (((10 : Int32) + ((5 : Int32) * a)) + (4 : Int32)) 1) _
    generalize e : wro z 20 1 1532 (((10 : Int32) + ((5 : Int32) * a)) + (4 : Int32)) 1 = X
    show bindL (bindL (bindL (some (.inl ())) (fun _ => (wro z 20 1 1532 (((10 : Int32) + ((5 : Int32) * a)) + (4 : Int32)) 1).bind (fun s1024 => some (.inr (.inl s1024))))) _) _ = _
    rw [e]; cases X <;> rfl
theorem tl5 {a b : Int32} {z : St} : tlI (nI 5) a b z = okT (F_X12_addUnit a b z) := by
  unfold tlI okT; generalize F_X12_addUnit a b z = X; cases X <;> rfl
theorem tl67 {a b : Int32} {z : St} {w : Nat} (h : w = 6 ∨ w = 7) : tlI (nI w) a b z = okT (F_X12_setUnit a 5 (if w = 6 then 4 else 0) z) := by
  rcases h with e | e <;> subst e <;> unfold tlI okT
  · show _ = Option.bind (F_X12_setUnit a 5 4 z) _
    generalize e : F_X12_setUnit a 5 4 z = X
    show bindL (bindL (bindL (bindL (some (.inl ())) (fun _ => (F_X12_setUnit a 5 4 z).bind (fun s1022 => some (.inr (.inr (.inl s1022)))))) _) _) _ = _
    rw [e]; cases X <;> rfl
  · show _ = Option.bind (F_X12_setUnit a 5 0 z) _
    generalize e : F_X12_setUnit a 5 0 z = X
    show bindL (bindL (bindL (bindL (some (.inl ())) (fun _ => (F_X12_setUnit a 5 0 z).bind (fun s1022 => some (.inr (.inr (.inl s1022)))))) _) _) _ = _
    rw [e]; cases X <;> rfl
theorem tl8 {a b : Int32} {z s1 : St} {r : Int32} (e1 : F_X12_setUnit a 0 b z = some s1) (e2 : F_X12_unit a 5 s1 = some r) : tlI (nI 8) a b z = okT (if 1 < r then some s1 else F_X12_letGo a s1) := by
  unfold tlI okT
  rw [e1, some_b, e2, some_b]
  by_cases q : 1 < r
  · rw [if_pos q, if_pos q]; rfl
  · rw [if_neg q, if_neg q]
    generalize F_X12_letGo a s1 = X; cases X <;> rfl
theorem tl9 {a b : Int32} {z : St} : tlI (nI 9) a b z = F_X12_addCall a b (z 20 23 2) z := by
  unfold tlI
  rw [show rdo z 20 23 3 (2 : Int32) = some (z 20 23 2) from rd3 (k := 2) (by decide), some_b]
  generalize F_X12_addCall a b (z 20 23 2) z = X; cases X <;> rfl
theorem tl10 {a b : Int32} {z : St} : tlI (nI 10) a b z = F_X12_sendAll z := by
  unfold tlI; generalize F_X12_sendAll z = X; cases X <;> rfl
theorem tl11 {a b : Int32} {z : St} : tlI (nI 11) a b z = okT (F_X12_sendTo a b z) := by
  unfold tlI okT; generalize F_X12_sendTo a b z = X; cases X <;> rfl
theorem tl12' {a b : Int32} {z s9 : St} (e1 : wro z 20 1 1532 (((160 : Int32) + ((6 : Int32) * a)) + (3 : Int32)) (0 : Int32) = some s9) : tlI (nI 12) a b z = okT (iter (fun z => B_X12_tell_319 a z.1 z.2) ((0 : Int32), s9)) := by
  unfold tlI okT; rw [e1, some_b]; generalize iter (fun z => B_X12_tell_319 a z.1 z.2) ((0 : Int32), s9) = X; cases X <;> rfl
theorem tl19 {a b : Int32} {z : St} : tlI (nI 19) a b z = okT (F_X12_tick a z) := by
  unfold tlI okT; generalize F_X12_tick a z = X; cases X <;> rfl
theorem tl13 {a b : Int32} {z : St} : tlI (nI 13) a b z = F_X12_addKind z := by
  unfold tlI; generalize F_X12_addKind z = X; cases X <;> rfl
theorem tl14 {a b : Int32} {z : St} : tlI (nI 14) a b z = F_X12_addCall a ((z 20 0 42) / (10 : Int32)) ((z 20 0 42) - (z 20 0 42) / (10 : Int32) * (10 : Int32)) z := by
  unfold tlI; generalize F_X12_addCall a ((z 20 0 42) / (10 : Int32)) ((z 20 0 42) - (z 20 0 42) / (10 : Int32) * (10 : Int32)) z = X; cases X <;> rfl
theorem tl15 {a b : Int32} {z : St} {w : Nat} (h : w = 15 ∨ w = 16 ∨ w = 17 ∨ w = 18) : tlI (nI w) a b z = okT (F_X12_tellMore a b z) := by
  rcases h with e | e | e | e <;> subst e <;> unfold tlI okT <;> generalize F_X12_tellMore a b z = X <;> cases X <;> rfl
theorem tl20 {a b : Int32} {z : St} {w : Nat} (h : w = 20 ∨ w = 21 ∨ w = 22) : tlI (nI w) a b z = okT (F_X12_turnBack z) := by
  rcases h with e | e | e <;> subst e <;> unfold tlI okT <;> generalize F_X12_turnBack z = X <;> cases X <;> rfl
theorem ok_say {σ τ : St} {m' : Nat → Int32} {s : Nat} {K : Nat → Nat → Int32} {D : Nat → Int32} {d : Int32} {k : Nat} {X : Option St} (eX : X = some τ) (A : AbM τ m' s K D d) (hS : StatM τ) (hs : szM τ k) (hk : k ≤ 3000) (h15 : τ 20 15 = σ 20 15) (h0 : τ 20 0 15 = σ 20 0 15) (f : FrTl σ τ) : Ret (okT X) (PfM σ m' s K D d (aTx 0)) := by
  have hl := tx_len 0 (by decide)
  unfold okT
  rw [eX, some_b, show (0 : Int32) = nI 0 from rfl, f_sayM (by decide) hS hs (by omega), some_b]
  exact Ret.some ⟨A.app, ((TxM.rf σ).fr h15 h0).app, f.tr (FrTl.app _ _)⟩
