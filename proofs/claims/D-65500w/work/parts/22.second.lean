/-! S5: a second of a unit -/
set_option maxRecDepth 100000
/-- the streets and the hour are the same -/
def SameW (m m' : Nat → Int32) : Prop := m' 0 = m 0 ∧ m' 1 = m 1 ∧ hrs m' = hrs m ∧ ∀ i, (10 ≤ i ∧ i < 110) ∨ (340 ≤ i ∧ i < 380) → m' i = m i
theorem SameW.rf (m : Nat → Int32) : SameW m m := ⟨rfl, rfl, rfl, fun _ _ => rfl⟩
theorem SameW.tr {m m' m'' : Nat → Int32} (a : SameW m m') (b : SameW m' m'') : SameW m m'' := ⟨b.1.trans a.1, b.2.1.trans a.2.1, b.2.2.1.trans a.2.2.1, fun i hi => (b.2.2.2 i hi).trans (a.2.2.2 i hi)⟩
theorem SameW.set {m : Nat → Int32} {i : Nat} {v : Int32} (h : (110 ≤ i ∧ i < 340) ∨ 380 ≤ i ∨ (i < 10 ∧ i ≠ 0 ∧ i ≠ 1 ∧ i ≠ 4)) : SameW m (setm m i v) := by
  refine ⟨setm_ne (by omega), setm_ne (by omega), ?_, fun j hj => setm_ne (by omega)⟩
  unfold hrs
  rw [setm_ne (by omega)]
theorem SameW.ak {m m' : Nat → Int32} (h : SameW m m') {k p q : Nat} (hk : k < 20) : arcK m' k p q ↔ arcK m k p q := by
  have e : ∀ j, j < 5 → m' (10 + 5 * k + j) = m (10 + 5 * k + j) := fun j hj => h.2.2.2 _ (Or.inl (by omega))
  have e0 : m' (10 + 5 * k) = m (10 + 5 * k) := e 0 (by omega)
  have f0 : m' (340 + 2 * k) = m (340 + 2 * k) := h.2.2.2 _ (Or.inr (by omega))
  have f1 : m' (340 + 2 * k + 1) = m (340 + 2 * k + 1) := h.2.2.2 _ (Or.inr (by omega))
  unfold arcK stOpen inHours
  rw [e0, e 1 (by omega), e 3 (by omega), e 4 (by omega), f0, f1, h.2.2.1]
theorem SameW.sc {m m' : Nat → Int32} (h : SameW m m') {k : Nat} (hk : k < 20) : sec m' k = sec m k := by
  unfold sec
  rw [h.2.2.2 _ (Or.inl (by omega))]
theorem SameW.arc {m m' : Nat → Int32} (h : SameW m m') (hw : WF m) {p q w : Nat} : Arc m' p q w ↔ Arc m p q w := by
  have hS := hw.2.1.2
  constructor
  · rintro ⟨k, hk, ha, he⟩
    rw [h.2.1] at hk
    exact ⟨k, hk, (h.ak (by omega)).mp ha, he.trans (h.sc (by omega))⟩
  · rintro ⟨k, hk, ha, he⟩
    exact ⟨k, by rw [h.2.1]; exact hk, (h.ak (by omega)).mpr ha, he.trans (h.sc (by omega)).symm⟩
theorem SameW.wn {m m' : Nat → Int32} (h : SameW m m') (hw : WF m) : ∀ n p q d, Wn m' n p q d ↔ Wn m n p q d := by
  intro n
  induction n with
  | zero => intro p q d; exact Iff.rfl
  | succ n ih =>
    intro p q d
    constructor
    · rintro ⟨r, w, e, h1, h2, h3⟩
      exact ⟨r, w, e, (h.arc hw).mp h1, (ih _ _ _).mp h2, h3⟩
    · rintro ⟨r, w, e, h1, h2, h3⟩
      exact ⟨r, w, e, (h.arc hw).mpr h1, (ih _ _ _).mpr h2, h3⟩
theorem SameW.dd {m m' : Nat → Int32} (h : SameW m m') (hw : WF m) (p q : Nat) : DD m' p q = DD m p q := by
  have e : Walk m' p q = Walk m p q := by
    funext d
    exact propext ⟨fun ⟨n, hn⟩ => ⟨n, (h.wn hw _ _ _ _).mp hn⟩, fun ⟨n, hn⟩ => ⟨n, (h.wn hw _ _ _ _).mpr hn⟩⟩
  unfold DD
  rw [e]
theorem KnC.same {c : Nat → Nat → Int32} {m m' : Nat → Int32} (h : KnC c m) (hS : SameW m m') (hw : WF m) : KnC c m' := by
  refine ⟨h.1, fun e a b ha hb => ?_⟩
  rw [hS.1] at ha hb
  rw [hS.dd hw]
  exact h.2 e a b ha hb
theorem KnC.set {c : Nat → Nat → Int32} {m : Nat → Int32} {j i : Nat} {v : Int32} (h : KnC c m) (hj : j ≠ 28) (hz : j ≠ 0 ∨ i ≠ 37) : KnC (setc c j i v) m := by
  have e1 : setc c j i v 0 37 = c 0 37 := by unfold setc; rw [if_neg (by omega)]
  refine ⟨by rw [e1]; exact h.1, fun e a b ha hb => ?_⟩
  rw [e1] at e
  rw [setc_j (fun z => hj z.symm)]
  exact h.2 e a b ha hb
theorem TabR.same {σ : St} {m m' : Nat → Int32} (h : TabR σ m) (hS : SameW m m') (hw : WF m) : TabR σ m' := by
  intro p q hp hq
  rw [hS.1] at hp hq
  rw [hS.dd hw]
  exact h p q hp hq
/-- only one house has changed, and not its words -/
def FrW (σ σ' : St) (h : Nat) : Prop := (∀ a, a ≠ h → σ' a = σ a) ∧ ∀ j, 10 ≤ j → j ≤ 14 → σ' h j = σ h j
theorem FrW.rf (σ : St) (h : Nat) : FrW σ σ h := ⟨fun _ _ => rfl, fun _ _ _ => rfl⟩
theorem FrW.tr {σ τ υ : St} {h : Nat} (a : FrW σ τ h) (b : FrW τ υ h) : FrW σ υ h := ⟨fun x hx => (b.1 x hx).trans (a.1 x hx), fun j h1 h2 => (b.2 j h1 h2).trans (a.2 j h1 h2)⟩
theorem FrW.up {σ τ : St} {h j i : Nat} {v : Int32} (a : FrW σ τ h) (hj : j < 10 ∨ 14 < j) : FrW σ (up3 τ h j i v) h := ⟨fun x hx => (up3_g hx).trans (a.1 x hx), fun k h1 h2 => (up3_j (by omega)).trans (a.2 k h1 h2)⟩
theorem FrK.w {σ τ : St} {h : Nat} (k : FrK σ τ h) : FrW σ τ h := ⟨fun _ hx => k.g hx, fun j h1 h2 => k.j (by omega) (by omega)⟩
/-- a house that is the row m; what else there is has stayed -/
def Hs (σ0 σ : St) (h : Nat) (m : Nat → Int32) : Prop := HC (σ h) m ∧ KnC (σ h) m ∧ FrW σ0 σ h
theorem Hs.upd {σ0 σ : St} {h j i : Nat} {v : Int32} {m m' : Nat → Int32} (H : Hs σ0 σ h m) (hw : WF m) (hS : SameW m m') (hc : HC (setc (σ h) j i v) m') (hj : j < 10 ∨ (14 < j ∧ j ≠ 28)) (hz : j ≠ 0 ∨ i ≠ 37) : Hs σ0 (up3 σ h j i v) h m' := by
  refine ⟨by rw [up3_cells]; exact hc, ?_, H.2.2.up (by omega)⟩
  rw [up3_cells]
  exact (H.2.1.set (by omega) hz).same hS hw
theorem Hs.frK {σ0 σ τ : St} {h : Nat} {m : Nat → Int32} (H : Hs σ0 σ h m) (k : FrK σ τ h) (hk : KnC (τ h) m) : Hs σ0 τ h m := ⟨H.1.frK k, hk, H.2.2.tr k.w⟩
theorem Hs.un2 {σ0 σ : St} {h u : Nat} {v : Int32} {m : Nat → Int32} (H : Hs σ0 σ h m) (hw : WF m) (hu : u < cn (m 2)) : Hs σ0 (up3 σ h 17 u v) h (setm m (110 + 8 * u + 2) v) := H.upd hw (SameW.set (by have := hw.2.2.1.2; omega)) (HC.un2 hw H.1 hu) (by omega) (by omega)
theorem Hs.un3 {σ0 σ : St} {h u : Nat} {v : Int32} {m : Nat → Int32} (H : Hs σ0 σ h m) (hw : WF m) (hu : u < cn (m 2)) : Hs σ0 (up3 σ h 18 u v) h (setm m (110 + 8 * u + 3) v) := H.upd hw (SameW.set (by have := hw.2.2.1.2; omega)) (HC.un3 hw H.1 hu) (by omega) (by omega)
theorem Hs.un4 {σ0 σ : St} {h u : Nat} {v : Int32} {m : Nat → Int32} (H : Hs σ0 σ h m) (hw : WF m) (hu : u < cn (m 2)) : Hs σ0 (up3 σ h 19 u v) h (setm m (110 + 8 * u + 4) v) := H.upd hw (SameW.set (by have := hw.2.2.1.2; omega)) (HC.un4 hw H.1 hu) (by omega) (by omega)
theorem Hs.un5 {σ0 σ : St} {h u : Nat} {v : Int32} {m : Nat → Int32} (H : Hs σ0 σ h m) (hw : WF m) (hu : u < cn (m 2)) (hb : v = 2 ∨ v = 3 → σ h 21 u = m (110 + 8 * u + 6)) : Hs σ0 (up3 σ h 20 u v) h (setm m (110 + 8 * u + 5) v) := H.upd hw (SameW.set (by have := hw.2.2.1.2; omega)) (HC.un5 hw H.1 hu hb) (by omega) (by omega)
theorem Hs.sc5 {σ0 σ : St} {h : Nat} {v : Int32} {m : Nat → Int32} (H : Hs σ0 σ h m) (hw : WF m) : Hs σ0 (up3 σ h 0 33 v) h (setm m 5 v) := H.upd hw (SameW.set (by omega)) (HC.sc5 H.1) (by omega) (by omega)
theorem Hs.sc6 {σ0 σ : St} {h : Nat} {v : Int32} {m : Nat → Int32} (H : Hs σ0 σ h m) (hw : WF m) : Hs σ0 (up3 σ h 0 34 v) h (setm m 6 v) := H.upd hw (SameW.set (by omega)) (HC.sc6 H.1) (by omega) (by omega)
theorem Hs.ca4 {σ0 σ : St} {h q : Nat} {v : Int32} {m : Nat → Int32} (H : Hs σ0 σ h m) (hw : WF m) (hq : q < cn (m 3)) : Hs σ0 (up3 σ h 25 q v) h (setm m (160 + 6 * q + 4) v) := H.upd hw (SameW.set (by have := hw.2.2.2.1.2; omega)) (HC.ca4 hw H.1 hq) (by omega) (by omega)
theorem Hs.ca5 {σ0 σ : St} {h q : Nat} {v : Int32} {m : Nat → Int32} (H : Hs σ0 σ h m) (hw : WF m) (hq : q < cn (m 3)) : Hs σ0 (up3 σ h 26 q v) h (setm m (160 + 6 * q + 5) v) := H.upd hw (SameW.set (by have := hw.2.2.2.1.2; omega)) (HC.ca5 hw H.1 hq) (by omega) (by omega)
/-- the parts of a unit's second -/
def mv3 (m : Nat → Int32) (u : Nat) : Nat → Int32 := setm m (110 + 8 * u + 3) (m (110 + 8 * u + 3) - 1)
def mv4 (m : Nat → Int32) (u : Nat) : Nat → Int32 := setm m (110 + 8 * u + 4) (m (110 + 8 * u + 4) + 1)
def mvF (m : Nat → Int32) : Nat → Int32 := setm m 5 (m 5 + 1)
def mvG (m : Nat → Int32) (c : Nat) : Nat → Int32 := setm m (160 + 6 * c + 4) (m (160 + 6 * c + 4) + 1)
def mvE (m : Nat → Int32) (u : Nat) (g v : Int32) : Nat → Int32 := if m (110 + 8 * u + 3) = 0 ∧ m (110 + 8 * u + 2) = g then setm m (110 + 8 * u + 5) v else m
noncomputable def mv1 (m : Nat → Int32) (u : Nat) : Nat → Int32 := if m (110 + 8 * u + 3) = 0 then stepR m u (cn (m (110 + 8 * u + 2))) (cn (tgt m u)) else m
noncomputable def mv5 (m : Nat → Int32) (u : Nat) : Nat → Int32 := mvF (mv4 (mv3 (mv1 m u) u) u)
noncomputable def mv6 (m : Nat → Int32) (u : Nat) : Nat → Int32 := if m (110 + 8 * u + 5) = 2 then mvG (mv5 m u) (cn (m (110 + 8 * u + 6))) else mv5 m u
noncomputable def mv7 (m : Nat → Int32) (u : Nat) : Nat → Int32 := mvE (mv6 m u) u (tgt m u) (if m (110 + 8 * u + 5) = 2 then 3 else 0)
def mvH (m : Nat → Int32) (u : Nat) : Nat → Int32 := setm m (110 + 8 * u + 4) (if 2 < m (110 + 8 * u + 4) then m (110 + 8 * u + 4) - 2 else 0)
def mvA (m : Nat → Int32) (u : Nat) : Nat → Int32 := setm (setm (mv4 m u) 6 (m 6 + 2)) (160 + 6 * cn (m (110 + 8 * u + 6)) + 5) (m (160 + 6 * cn (m (110 + 8 * u + 6)) + 5) + 2)
/-- whether a unit that moves stays where it is: no way -/
def stuck (m : Nat → Int32) (u : Nat) : Prop := m (110 + 8 * u + 3) = 0 ∧ nxI m (cn (m (110 + 8 * u + 2))) (cn (tgt m u)) < 0
noncomputable def mvU (m : Nat → Int32) (u : Nat) : Nat → Int32 :=
  if m (110 + 8 * u + 5) = 0 ∨ m (110 + 8 * u + 5) = 4 then mvH m u
  else if m (110 + 8 * u + 5) = 3 then mvA m u
  else @ite _ (stuck m u) (Classical.propDecidable _) m (mv7 m u)
theorem nxI_cases {m : Nat → Int32} (hw : WF m) (p g : Nat) : (∃ q, q < cn (m 0) ∧ nx m p g q ∧ nxI m p g = nI q ∧ DD m q g < DD m p g ∧ DD m p g - DD m q g ≤ 999) ∨ nxI m p g = -1 := by
  rcases leastI_cases (nx m p g) with ⟨q, h1, -, h2⟩ | ⟨-, h⟩
  · refine Or.inl ⟨q, nx_lt hw h1, h1, h2, ?_⟩
    obtain ⟨-, k, hk, -, he⟩ := h1
    obtain ⟨s1, s2, -⟩ := sec_lt hw hk
    omega
  · exact Or.inr h
theorem c_steps {σ : St} {h u p g : Nat} {m : Nat → Int32} (hw : WF m) (hc : HC (σ h) m) (hk : KnC (σ h) m) (hu : u < cn (m 2)) (ep : cn (m (110 + 8 * u + 2)) = p) (hg : g < cn (m 0)) : Ret (F_X3_steps h (nI u) (nI g) σ) (fun r => (nxI m p g < 0 ∧ r.1 = 0 ∧ Hs σ r.2 h m) ∨ (¬ nxI m p g < 0 ∧ r.1 = 1 ∧ Hs σ r.2 h (stepR m u p g))) := by
  have hU := hw.2.2.1.2
  have hP2 := hw.1.1.2
  obtain ⟨-, -, ⟨p1, p2⟩, hu3, -⟩ := hw.2.2.2.2.2.2.2.2.1 u hu
  obtain ⟨-, -, c17, -⟩ := hc.2.2.1 u hu
  rw [ep] at p2
  have e1 : m (110 + 8 * u + 2) = nI p := by rw [← ep]; exact p1.1
  unfold F_X3_steps
  rw [rdo_nI (by omega) (by decide), some_b, c17, e1]
  refine Ret.bind (c_nextPlace hw hc hk p2 hg) (fun r hr => ?_)
  obtain ⟨r1, hF, hK⟩ := hr
  have H : Hs σ r.2 h m := ⟨hc.frK hF, hK, hF.w⟩
  rw [r1]
  rcases nxI_cases hw p g with ⟨q, hq, hx, eq, hlt, h999⟩ | e
  · have hn : ¬ nxI m p g < 0 := by rw [eq]; exact nI_pos (by omega)
    have b1 := (DD_bd hw p2 hg).1
    rw [if_neg hn, wro_nI (by omega) (by decide), some_b]
    have H1 := H.un2 (v := nxI m p g) hw hu
    have hw1 : WF (setm m (110 + 8 * u + 2) (nxI m p g)) := hw.un2 hu (by rw [eq, cn_nI (by omega)]; exact ⟨bd_nI (by omega) (by decide), hq⟩)
    have hS1 : SameW m (setm m (110 + 8 * u + 2) (nxI m p g)) := SameW.set (by omega)
    refine Ret.bind (c_far hw1 H1.1 H1.2.1 (by rw [hS1.1]; exact p2) (by rw [hS1.1]; exact hg)) (fun r2 hr2 => ?_)
    obtain ⟨f1, hF2, hK2, -⟩ := hr2
    have H2 := H1.frK hF2 hK2
    rw [eq] at H1 hw1 hS1 H2 hK2 ⊢
    refine Ret.bind (c_far hw1 H2.1 H2.2.1 (by rw [hS1.1]; exact hq) (by rw [hS1.1]; exact hg)) (fun r3 hr3 => ?_)
    obtain ⟨f2, hF3, hK3, -⟩ := hr3
    have H3 := H2.frK hF3 hK3
    rw [f1, f2, wro_nI (by omega) (by decide), some_b]
    refine Ret.some (Or.inr ⟨by rw [eq] at hn; exact hn, rfl, ?_⟩)
    have hS0 : SameW m (setm m (110 + 8 * u + 2) (nxI m p g)) := SameW.set (by omega)
    rw [hS0.dd hw, hS1.dd hw, nI_sub (by omega)]
    have H4 := H3.un3 (u := u) (v := nI (DD m p g - DD m q g)) hw1 (by rw [setm_ne (by omega)]; exact hu)
    unfold stepR
    rw [eq, cn_nI (by omega)]
    exact H4
  · have hn : nxI m p g < 0 := by rw [e]; decide
    rw [if_pos hn]
    exact Ret.some (Or.inl ⟨hn, rfl, H⟩)
