/-! rules: calls, returns; contracts -/
set_option maxRecDepth 100000
def toV (V : Ev) (k : Nat) (r : Int32) : Option Value := match k with
  | 0 => none
  | 1 => some (.int r)
  | _ => some (.ref (eK V r.toNatClampNeg))
def Qm (V : Ev) (k : Nat) (q : Int32 × St) : Array Value → State → Outcome → State → Prop := fun _ s oc t => oc = .returned (toV V k q.1) ∧ va_P (eD V) vwCl (wl V q.2) t.heap ∧ va_F (eA V) s t
def rmd (d : Nat) : Room := { frames := d, cells := 0, slots := 0, locals := 64 * d }
def PcW (V : Ev) (av : List Value) (σ : St) : Array Value → State → Prop := va_Pc av (fun U => va_P (eD V) vwCl (wl V σ) U.heap ∧ EvOk V U)
/-- the contract of y: if F answers q, then y, called with av where the heap holds σ, returns q -/
def Ct (V : Ev) (l : Launch) (y : MethodName) (M : Mt) (ret : Option FieldType) (rk d : Nat) (av : List Value) (σ : St) (F : Option (Int32 × St)) : Prop :=
  ∀ q, F = some q → Met l y (ws_ y M.1 M.2.1 ret) (rmd d) (PcW V av σ) (Qm V rk q) 0 0 (eA V)
/-- how a method ends -/
def Rt (V : Ev) (x : Cx) (ret : Option FieldType) (rk d : Nat) : Prop :=
  x.2.2.2.2.2.2.2.2.2.2.1 = MQ x.2.2.2.2.2.2.2.1 (Qm V rk (xq_ x)) x.2.2.2.2.2.2.1 (xs_ x) x.2.2.2.2.2.2.2.2.2.2.2.1 x.2.2.2.2.2.2.2.2.2.2.2.2.1 (eA V) ∧ x.2.2.2.2.2.2.2.2.1.sig.returnType = ret ∧ xR_ x = rmd d
theorem Ct.of {V : Ev} {l : Launch} {y : MethodName} {M : Mt} {ret : Option FieldType} {rk d : Nat} {av : List Value} {σ : St} {F : Option (Int32 × St)} (hy : plainName y.cls = true) (hown : M.2.2 = y.cls) (hlen : (lg_sl av).length ≤ M.2.1)
    (body : ∀ x : Cx, x.2.1 = l → Ok V x M → Rt V x ret rk d → JB V x M 0 (lv_args 0 av) [] σ F (fun q => xq_ x = q)) : Ct V l y M ret rk d av σ F := by
  intro q hq
  refine Met.ofW (cc := M.1) (maxL := M.2.1) (ret := ret) hy rfl ?_
  intro p e s m args below meth c s₁ B hml hv
  obtain ⟨rfl, hP, hE⟩ := hv
  have hts := atoms_spec (ws := ws_ y M.1 M.2.1 ret) B.pre
  have hts : ∀ w ∈ lw_all, w.before _ s = true := fun w h => hts w (List.mem_cons_of_mem _ h)
  have ho : s.vm.findClass M.2.2 = some m.cls := by rw [hown]; exact findClass_of_methodNamed B.named
  have hl := lv_entry av (n := M.2.1) hlen
  rw [lg_entry_eq]
  exact body (p, l, e, (headSpec (ws_ y M.1 M.2.1 ret) (rmd d)).room, s, m, av.toArray, below, meth, c, MQ below (Qm V rk q) av.toArray s 0 0 (eA V), 0, 0, q) rfl
    ⟨B.exec, B.bytes, hml, ho, hts, hE, B.notSynchronized, Nat.zero_le _, Nat.zero_le _⟩ ⟨rfl, B.returns, rfl⟩ q hq rfl s.heap [] _ hP va_S.rf hl
section
variable {V : Ev} {x : Cx} {M : Mt} {pc : Nat} {lv : List (Nat × Value)} {st : List Value} {σ : St} {β : Type} {P : β → Prop}
theorem j_iret (X : Ok V x M) {d : Nat} (Y : Rt V x (some .int) 1 d) {r : Int32} {b : β} (h : P b → xq_ x = (r, σ)) (hd : decode M.1 pc = .ok (.ireturn, 1)) : JB V x M pc lv [.int r] σ (some b) P := by
  intro b' hb hP H locs ls h1 h2 h3
  cases hb
  have hq := h hP
  obtain ⟨hQ, hr, -⟩ := Y
  unfold Wx
  rw [hQ]
  exact W.iret X.1 X.2.1 hr (fun t ht _ => ⟨by rw [hq]; rfl, by rw [ht, hq]; exact h1, h2.F ht⟩) h2.2.2 hd X.2.2.2.2.2.2.1
theorem j_zret (X : Ok V x M) {d : Nat} (Y : Rt V x (some .boolean) 1 d) {r : Int32} {b : β} (h : P b → xq_ x = (r, σ)) (hn : r = 0 ∨ r = 1) (hd : decode M.1 pc = .ok (.ireturn, 1)) : JB V x M pc lv [.int r] σ (some b) P := by
  intro b' hb hP H locs ls h1 h2 h3
  cases hb
  have hq := h hP
  obtain ⟨hQ, hr, -⟩ := Y
  unfold Wx
  rw [hQ]
  exact W.zret X.1 X.2.1 hr (nar_z hn).1 (fun t ht _ => ⟨by rw [hq]; rfl, by rw [ht, hq]; exact h1, h2.F ht⟩) h2.2.2 hd X.2.2.2.2.2.2.1
theorem j_zretG (X : Ok V x M) {d : Nat} (Y : Rt V x (some .boolean) 1 d) {r : Int32} {F : Int32 → β} (h : P (F r) → xq_ x = (r, σ)) (hd : decode M.1 pc = .ok (.ireturn, 1)) : JB V x M pc lv [.int r] σ ((zro r).bind (fun r => some (F r))) P := by
  intro b' hb hP
  by_cases hn : r = 0 ∨ r = 1
  · simp only [zro, hn, if_true, Option.bind_some] at hb
    exact j_zret (P := P) (b := F r) X Y h hn hd b' hb hP
  · simp [zro, hn] at hb
theorem j_vret (X : Ok V x M) {d : Nat} (Y : Rt V x none 0 d) {r : Int32} {b : β} (h : P b → xq_ x = (r, σ)) (hd : decode M.1 pc = .ok (.return_, 1)) : JB V x M pc lv [] σ (some b) P := by
  intro b' hb hP H locs ls h1 h2 h3
  cases hb
  have hq := h hP
  obtain ⟨hQ, hr, -⟩ := Y
  unfold Wx
  rw [hQ]
  exact W.vret X.1 X.2.1 hr (fun t ht _ => ⟨by rw [hq]; rfl, by rw [ht, hq]; exact h1, h2.F ht⟩) h2.2.2 hd X.2.2.2.2.2.2.1
theorem j_sret (X : Ok V x M) {d : Nat} {C : String} (Y : Rt V x (some (.object C)) 2 d) {r : Int32} {b : β} (h : P b → xq_ x = (r, σ)) (hd : decode M.1 pc = .ok (.areturn, 1)) : JB V x M pc lv [.ref (eK V r.toNatClampNeg)] σ (some b) P := by
  intro b' hb hP H locs ls h1 h2 h3
  cases hb
  have hq := h hP
  obtain ⟨hQ, hr, -⟩ := Y
  unfold Wx
  rw [hQ]
  exact W.aret X.1 X.2.1 hr (Or.inl ⟨_, rfl⟩) (Or.inr ⟨_, rfl⟩) (fun t ht _ => ⟨by rw [hq]; rfl, by rw [ht, hq]; exact h1, h2.F ht⟩) h2.2.2 hd X.2.2.2.2.2.2.1
end
/-- what a method brings to every call of it -/
def Cal (y : MethodName) (M : Mt) (ret : Option FieldType) (n : Nat) : Prop := (Cond.instanceMethod y ∈ lw_all ∧ Cond.selects y.cls y y ∈ lw_all) ∧ Cond.initialized y.cls ∈ lw_all ∧ Cond.code y M.1 M.2.1 ret ∈ lw_all ∧ (y.cls ≠ "java/lang/invoke/MethodHandle" ∧ y.cls ≠ "java/lang/invoke/VarHandle" ∧ (parseMethodDescriptor y.desc).map (fun d => d.parameters.length) = some n) ∧ M.2.1 ≤ 45
def CalS (y : MethodName) (M : Mt) (ret : Option FieldType) (n : Nat) : Prop := Cond.static y ∈ lw_all ∧ Cond.initialized y.cls ∈ lw_all ∧ Cond.code y M.1 M.2.1 ret ∈ lw_all ∧ (y.cls ≠ "java/lang/invoke/MethodHandle" ∧ y.cls ≠ "java/lang/invoke/VarHandle" ∧ (parseMethodDescriptor y.desc).map (fun d => d.parameters.length) = some n) ∧ M.2.1 ≤ 45
def LinkM (own : String) (idx : Nat) (y : MethodName) : Prop := Cond.methodLink own idx y ∈ lw_all ∨ ∃ host, Cond.methodLinkNest own idx y host ∈ lw_tbl
section
variable {V : Ev} {x : Cx} {M : Mt} {pc : Nat} {lv : List (Nat × Value)} {st : List Value} {σ : St} {β : Type} {P : β → Prop}
theorem run_go {H : Heap} {locs : List Loc} {ls : Array Slot} {rk : Nat} {q : Int32 × St} {a : Array Value} {rest st0 : List Value}
    (hr : va_Run x.1 x.2.1 x.2.2.1 x.2.2.2.1 x.2.2.2.2.1 x.2.2.2.2.2.1 x.2.2.2.2.2.2.1 x.2.2.2.2.2.2.2.1 x.2.2.2.2.2.2.2.2.1 x.2.2.2.2.2.2.2.2.2.1 H locs x.2.2.2.2.2.2.2.2.2.2.2.1 x.2.2.2.2.2.2.2.2.2.2.2.2.1 0 0 (F0 x.2.2.2.2.2.1 pc ls st0) rest (Qm V rk q a) (eA V)) (hS : va_S (eA V) (xs_ x).heap H locs)
    (kk : ∀ (H1 : Heap) (locs1 : List Loc), va_P (eD V) vwCl (wl V q.2) H1 → va_S (eA V) (xs_ x).heap H1 locs1 → Wx x H1 locs1 (pc + 3) ls ((toV V rk q.1).toList ++ rest)) : Wx x H locs pc ls st0 := by
  intro T hT X
  obtain ⟨v, st₀, t, T', L, h0, X', hL, e1, e2, ⟨hv, hp, hz, hk⟩, st⟩ := hr T hT X
  cases hv
  rw [h0] at hz hk
  obtain ⟨t2, a1, b1⟩ := kk T'.heap (locs ++ L) (by rw [e1]; exact hp)
    ⟨Nat.le_trans hS.1 (by rw [e1]; exact hz), fun q h1 h2 => by rw [e1, hk q (Nat.lt_of_lt_of_le h1 hS.1) h2]; exact hS.2.1 q h1 h2, fun q hq => by
      rcases List.mem_append.mp hq with h | h
      · exact hS.2.2 q h
      · exact hL q h⟩ T' rfl X'
  exact ⟨t2, st t2 a1, b1⟩
theorem PcW_blind {av : List Value} : FrameBlind (PcW V av σ) := fun _ _ g mk h => ⟨h.1, h.2.1, h.2.2.calling g mk _⟩
/-- the room for a callee of depth d -/
def Rm (x : Cx) (d : Nat) : Prop := d + 1 ≤ (xR_ x).frames ∧ 64 * d + 64 ≤ (xR_ x).locals
theorem Rm.of {ret : Option FieldType} {rk D d : Nat} (Y : Rt V x ret rk D) (h : d < D) : Rm x d := by
  obtain ⟨-, -, hR⟩ := Y
  unfold Rm
  rw [hR]
  exact ⟨h, by show 64 * d + 64 ≤ 64 * D; omega⟩
/-- a call through an object of the world -/
theorem c_V (X : Ok V x M) {y : MethodName} {My : Mt} {ret : Option FieldType} {rk d n idx c g : Nat} {As rest : List Value} {F : Option (Int32 × St)} {q : Int32 × St} (C : Ct V x.2.1 y My ret rk d (.ref (ead V g 0) :: As) σ F) (hF : F = some q) (hcal : Cal y My ret n) (hL : LinkM M.2.2 idx y) (hR : Rm x d) (hc : vwCl[c]?.map (fun q => q.1) = some y.cls) (hc12 : c ≤ 12) (hg : cgv V g = c) (hn : As.length = n) (hw : (rest.map fun v => v.category).sum ≤ 8) (hd : decode M.1 pc = .ok (.invokevirtual idx, 3)) (hst : st = As.reverse ++ .ref (ead V g 0) :: rest)
    (K : Zw V x M (pc + 3) lv ((toV V rk q.1).toList ++ rest) q.2) : Zw V x M pc lv st σ := by
  intro H locs ls h1 h2 h3
  obtain ⟨⟨hi1, hi2⟩, hini, hcode, hd3, h45⟩ := hcal
  have hM := C q hF
  have hts := X.2.2.2.2.1
  obtain ⟨q0, hq0⟩ := ix_obj hg hc12
  have he := wl_at (V := V) (σ := σ) hq0
  rw [cellE_0 (cgv_cg hg hc12).1] at he
  cases hcl : vwCl[c]? with
  | none => rw [hcl] at hc; cases hc
  | some r =>
    rw [hcl] at hc
    have hr1 : r.1 = y.cls := Option.some.inj hc
    have hrecv := va_recv X.2.2.2.2.2.1.1 h1 hcl he
    rw [hr1] at hrecv
    have hp : PreV (xs_ x) H y.cls (ead V g 0) (PcW V (.ref (ead V g 0) :: As) σ) As := ⟨PcW_blind, hrecv, fun U hU hW => ⟨rfl, by rw [hU]; exact h1, X.2.2.2.2.2.1.moved hW (by rw [hU]; exact h2)⟩⟩
    have hRoom : (rmd d).frames + 1 ≤ (xR_ x).frames ∧ 8 + (My.2.1 + 11) + (rmd d).locals ≤ (xR_ x).locals := ⟨hR.1, by have := hR.2; show 8 + (My.2.1 + 11) + 64 * d ≤ _; omega⟩
    refine run_go (a := (Value.ref (ead V g 0) :: As).toArray) (rk := rk) (q := q) (rest := rest) ?_ h2 (fun H1 locs1 a1 a2 => K H1 locs1 ls a1 a2 h3)
    rcases hL with hL | ⟨host, hL⟩
    · exact va_runV (C := y.cls) (As := As) (rest := rest) ⟨X.1, X.2.1, X.2.2.1, X.2.2.2.1, hts⟩ hM (cwV n hts (lw_V hL hi1 hi2 hini hcode) rfl rfl rfl ⟨rfl, hd3⟩ hRoom) hp rfl hn h3.1 hst (lv_room hw) hd ⟨X.2.2.2.2.2.2.2.1, X.2.2.2.2.2.2.2.2⟩
    · exact va_runVN (C := y.cls) (As := As) (rest := rest) ⟨X.1, X.2.1, X.2.2.1, X.2.2.2.1, hts⟩ hM ⟨va_cnB n hts (lw_meth hcode) rfl rfl rfl (X.2.2.2.2.2.1.2.1 _ hL rfl) (hts _ hini) hd3 hRoom, hts _ hi1, hts _ hi2⟩ hp rfl hn h3.1 hst (lv_room hw) hd ⟨X.2.2.2.2.2.2.2.1, X.2.2.2.2.2.2.2.2⟩
/-- a static call -/
theorem c_S (X : Ok V x M) {y : MethodName} {My : Mt} {ret : Option FieldType} {rk d n idx : Nat} {As rest : List Value} {F : Option (Int32 × St)} {q : Int32 × St} (C : Ct V x.2.1 y My ret rk d As σ F) (hF : F = some q) (hcal : CalS y My ret n) (hL : LinkM M.2.2 idx y) (hR : Rm x d) (hn : As.length = n) (hw : (rest.map fun v => v.category).sum ≤ 8) (hd : decode M.1 pc = .ok (.invokestatic idx, 3)) (hst : st = As.reverse ++ rest)
    (K : Zw V x M (pc + 3) lv ((toV V rk q.1).toList ++ rest) q.2) : Zw V x M pc lv st σ := by
  intro H locs ls h1 h2 h3
  obtain ⟨hi1, hini, hcode, hd3, h45⟩ := hcal
  have hM := C q hF
  have hts := X.2.2.2.2.1
  have hp : PreS (xs_ x) H (PcW V As σ) As := ⟨PcW_blind, fun U hU hW => ⟨rfl, by rw [hU]; exact h1, X.2.2.2.2.2.1.moved hW (by rw [hU]; exact h2)⟩⟩
  have hRoom : (rmd d).frames + 1 ≤ (xR_ x).frames ∧ 8 + (My.2.1 + 11) + (rmd d).locals ≤ (xR_ x).locals := ⟨hR.1, by have := hR.2; show 8 + (My.2.1 + 11) + 64 * d ≤ _; omega⟩
  refine run_go (a := As.toArray) (rk := rk) (q := q) (rest := rest) ?_ h2 (fun H1 locs1 a1 a2 => K H1 locs1 ls a1 a2 h3)
  rcases hL with hL | ⟨host, hL⟩
  · exact va_runS (As := As) (rest := rest) ⟨X.1, X.2.1, X.2.2.1, X.2.2.2.1, hts⟩ hM (va_cwS n hts (lw_S hL hi1 hini hcode) rfl rfl rfl hd3 hRoom) hp rfl hn h3.1 hst (lv_room hw) hd ⟨X.2.2.2.2.2.2.2.1, X.2.2.2.2.2.2.2.2⟩
  · exact va_runSN (As := As) (rest := rest) ⟨X.1, X.2.1, X.2.2.1, X.2.2.2.1, hts⟩ hM ⟨va_cnB n hts (lw_meth hcode) rfl rfl rfl (X.2.2.2.2.2.1.2.1 _ hL rfl) (hts _ hini) hd3 hRoom, hts _ hi1, trivial⟩ hp rfl hn h3.1 hst (lv_room hw) hd ⟨X.2.2.2.2.2.2.2.1, X.2.2.2.2.2.2.2.2⟩
/-- a call through a String constant -/
theorem c_T (X : Ok V x M) {y : MethodName} {My : Mt} {ret : Option FieldType} {rk d n idx i : Nat} {As rest : List Value} {F : Option (Int32 × St)} {q : Int32 × St} (hi : i < strL.length) (C : Ct V x.2.1 y My ret rk d (.ref (eK V i) :: As) σ F) (hF : F = some q) (hcal : Cal y My ret n) (hcls : y.cls = "java/lang/String") (hL : Cond.methodLink M.2.2 idx y ∈ lw_all) (hR : Rm x d) (hn : As.length = n) (hw : (rest.map fun v => v.category).sum ≤ 8) (hd : decode M.1 pc = .ok (.invokevirtual idx, 3)) (hst : st = As.reverse ++ .ref (eK V i) :: rest)
    (K : Zw V x M (pc + 3) lv ((toV V rk q.1).toList ++ rest) q.2) : Zw V x M pc lv st σ := by
  intro H locs ls h1 h2 h3
  obtain ⟨⟨hi1, hi2⟩, hini, hcode, hd3, h45⟩ := hcal
  have hM := C q hF
  have hts := X.2.2.2.2.1
  have hrecv : ∃ cell : Cell, H[eK V i]? = some cell ∧ cell.vm.isStatics = false ∧ (xs_ x).vm.findClass y.cls = some cell.cls := by
    obtain ⟨cell, a1, a2, a3, -⟩ := (X.2.2.2.2.2.1.2.2.2.1 i hi).1.kept h2.2.1
    exact ⟨cell, a1, a2, by rw [hcls]; exact a3⟩
  have hp : PreV (xs_ x) H y.cls (eK V i) (PcW V (.ref (eK V i) :: As) σ) As := ⟨PcW_blind, hrecv, fun U hU hW => ⟨rfl, by rw [hU]; exact h1, X.2.2.2.2.2.1.moved hW (by rw [hU]; exact h2)⟩⟩
  have hRoom : (rmd d).frames + 1 ≤ (xR_ x).frames ∧ 8 + (My.2.1 + 11) + (rmd d).locals ≤ (xR_ x).locals := ⟨hR.1, by have := hR.2; show 8 + (My.2.1 + 11) + 64 * d ≤ _; omega⟩
  refine run_go (a := (Value.ref (eK V i) :: As).toArray) (rk := rk) (q := q) (rest := rest) ?_ h2 (fun H1 locs1 a1 a2 => K H1 locs1 ls a1 a2 h3)
  exact va_runV (C := y.cls) (As := As) (rest := rest) ⟨X.1, X.2.1, X.2.2.1, X.2.2.2.1, hts⟩ hM (cwV n hts (lw_V hL hi1 hi2 hini hcode) rfl rfl rfl ⟨rfl, hd3⟩ hRoom) hp rfl hn h3.1 hst (lv_room hw) hd ⟨X.2.2.2.2.2.2.2.1, X.2.2.2.2.2.2.2.2⟩
/-- answers: a number, the state the same (pure); a number and a state; a state -/
theorem j_cP {f : Option Int32} {K : Int32 → Option β} (h : ∀ r, f = some r → Zw V x M (pc + 3) lv (.int r :: st) σ → Zw V x M pc lv (st) σ) (k : ∀ r, JB V x M (pc + 3) lv (.int r :: st) σ (K r) P) : JB V x M pc lv st σ (f.bind K) P := by
  intro b hb hP
  cases hf : f with
  | none => rw [hf] at hb; cases hb
  | some r => rw [hf] at hb; exact h r hf (k r b hb hP)
/-- any call: f's answer a, its number and state by mk -/
theorem jb_call {α : Type} {f : Option α} {K : α → Option β} {stn : α → List Value} {sn : α → St} (h : ∀ a, f = some a → Zw V x M (pc + 3) lv (stn a) (sn a) → Zw V x M pc lv st σ) (k : ∀ a, JB V x M (pc + 3) lv (stn a) (sn a) (K a) P) : JB V x M pc lv st σ (f.bind K) P := by
  intro b hb hP
  cases hf : f with
  | none => rw [hf] at hb; cases hb
  | some a => rw [hf] at hb; exact h a hf (k a b hb hP)
/-- the three shapes of a contract -/
def mkP (σ : St) (f : Option Int32) : Option (Int32 × St) := f.map (fun r => (r, σ))
def mkV (f : Option St) : Option (Int32 × St) := f.map (fun s => (0, s))
theorem j_callVP (X : Ok V x M) {y : MethodName} {My : Mt} {ret : Option FieldType} {d n idx c g : Nat} {As rest : List Value} {f : Option Int32} {K : Int32 → Option β} (C : Ct V x.2.1 y My ret 1 d (.ref (ead V g 0) :: As) σ (mkP σ f)) (hcal : Cal y My ret n) (hL : LinkM M.2.2 idx y) (hR : Rm x d) (hc : vwCl[c]?.map (fun q => q.1) = some y.cls) (hc12 : c ≤ 12) (hg : cgv V g = c) (hn : As.length = n) (hw : (rest.map fun v => v.category).sum ≤ 8) (hd : decode M.1 pc = .ok (.invokevirtual idx, 3)) (hst : st = As.reverse ++ .ref (ead V g 0) :: rest)
    (k : ∀ r, JB V x M (pc + 3) lv (.int r :: rest) σ (K r) P) : JB V x M pc lv st σ (f.bind K) P :=
  jb_call (stn := fun r => .int r :: rest) (sn := fun _ => σ) (fun r hf z => c_V X C (q := (r, σ)) (by rw [hf]; rfl) hcal hL hR hc hc12 hg hn hw hd hst z) k
theorem j_callVI (X : Ok V x M) {y : MethodName} {My : Mt} {ret : Option FieldType} {d n idx c g : Nat} {As rest : List Value} {f : Option (Int32 × St)} {K : Int32 × St → Option β} (C : Ct V x.2.1 y My ret 1 d (.ref (ead V g 0) :: As) σ f) (hcal : Cal y My ret n) (hL : LinkM M.2.2 idx y) (hR : Rm x d) (hc : vwCl[c]?.map (fun q => q.1) = some y.cls) (hc12 : c ≤ 12) (hg : cgv V g = c) (hn : As.length = n) (hw : (rest.map fun v => v.category).sum ≤ 8) (hd : decode M.1 pc = .ok (.invokevirtual idx, 3)) (hst : st = As.reverse ++ .ref (ead V g 0) :: rest)
    (k : ∀ r s1, JB V x M (pc + 3) lv (.int r :: rest) s1 (K (r, s1)) P) : JB V x M pc lv st σ (f.bind K) P :=
  jb_call (stn := fun q => .int q.1 :: rest) (sn := fun q => q.2) (fun q hf z => c_V X C (q := q) hf hcal hL hR hc hc12 hg hn hw hd hst z) (fun q => k q.1 q.2)
theorem j_callVV (X : Ok V x M) {y : MethodName} {My : Mt} {d n idx c g : Nat} {As rest : List Value} {f : Option St} {K : St → Option β} (C : Ct V x.2.1 y My none 0 d (.ref (ead V g 0) :: As) σ (mkV f)) (hcal : Cal y My none n) (hL : LinkM M.2.2 idx y) (hR : Rm x d) (hc : vwCl[c]?.map (fun q => q.1) = some y.cls) (hc12 : c ≤ 12) (hg : cgv V g = c) (hn : As.length = n) (hw : (rest.map fun v => v.category).sum ≤ 8) (hd : decode M.1 pc = .ok (.invokevirtual idx, 3)) (hst : st = As.reverse ++ .ref (ead V g 0) :: rest)
    (k : ∀ s1, JB V x M (pc + 3) lv rest s1 (K s1) P) : JB V x M pc lv st σ (f.bind K) P :=
  jb_call (stn := fun _ => rest) (sn := fun s => s) (fun s hf z => c_V X C (q := (0, s)) (by rw [hf]; rfl) hcal hL hR hc hc12 hg hn hw hd hst z) k
/-- a String is answered (by its place) -/
theorem j_callVT (X : Ok V x M) {y : MethodName} {My : Mt} {ret : Option FieldType} {d n idx c g : Nat} {As rest : List Value} {f : Option (Int32 × St)} {K : Int32 × St → Option β} (C : Ct V x.2.1 y My ret 2 d (.ref (ead V g 0) :: As) σ f) (hcal : Cal y My ret n) (hL : LinkM M.2.2 idx y) (hR : Rm x d) (hc : vwCl[c]?.map (fun q => q.1) = some y.cls) (hc12 : c ≤ 12) (hg : cgv V g = c) (hn : As.length = n) (hw : (rest.map fun v => v.category).sum ≤ 8) (hd : decode M.1 pc = .ok (.invokevirtual idx, 3)) (hst : st = As.reverse ++ .ref (ead V g 0) :: rest)
    (k : ∀ r s1, JB V x M (pc + 3) lv (.ref (eK V r.toNatClampNeg) :: rest) s1 (K (r, s1)) P) : JB V x M pc lv st σ (f.bind K) P :=
  jb_call (stn := fun q => .ref (eK V q.1.toNatClampNeg) :: rest) (sn := fun q => q.2) (fun q hf z => c_V X C (q := q) hf hcal hL hR hc hc12 hg hn hw hd hst z) (fun q => k q.1 q.2)
theorem j_callVTP (X : Ok V x M) {y : MethodName} {My : Mt} {ret : Option FieldType} {d n idx c g : Nat} {As rest : List Value} {f : Option Int32} {K : Int32 → Option β} (C : Ct V x.2.1 y My ret 2 d (.ref (ead V g 0) :: As) σ (mkP σ f)) (hcal : Cal y My ret n) (hL : LinkM M.2.2 idx y) (hR : Rm x d) (hc : vwCl[c]?.map (fun q => q.1) = some y.cls) (hc12 : c ≤ 12) (hg : cgv V g = c) (hn : As.length = n) (hw : (rest.map fun v => v.category).sum ≤ 8) (hd : decode M.1 pc = .ok (.invokevirtual idx, 3)) (hst : st = As.reverse ++ .ref (ead V g 0) :: rest)
    (k : ∀ r, JB V x M (pc + 3) lv (.ref (eK V r.toNatClampNeg) :: rest) σ (K r) P) : JB V x M pc lv st σ (f.bind K) P :=
  jb_call (stn := fun r => .ref (eK V r.toNatClampNeg) :: rest) (sn := fun _ => σ) (fun r hf z => c_V X C (q := (r, σ)) (by rw [hf]; rfl) hcal hL hR hc hc12 hg hn hw hd hst z) k
theorem j_callSP (X : Ok V x M) {y : MethodName} {My : Mt} {ret : Option FieldType} {d n idx : Nat} {As rest : List Value} {f : Option Int32} {K : Int32 → Option β} (C : Ct V x.2.1 y My ret 1 d As σ (mkP σ f)) (hcal : CalS y My ret n) (hL : LinkM M.2.2 idx y) (hR : Rm x d) (hn : As.length = n) (hw : (rest.map fun v => v.category).sum ≤ 8) (hd : decode M.1 pc = .ok (.invokestatic idx, 3)) (hst : st = As.reverse ++ rest)
    (k : ∀ r, JB V x M (pc + 3) lv (.int r :: rest) σ (K r) P) : JB V x M pc lv st σ (f.bind K) P :=
  jb_call (stn := fun r => .int r :: rest) (sn := fun _ => σ) (fun r hf z => c_S X C (q := (r, σ)) (by rw [hf]; rfl) hcal hL hR hn hw hd hst z) k
theorem j_callSV (X : Ok V x M) {y : MethodName} {My : Mt} {d n idx : Nat} {As rest : List Value} {f : Option St} {K : St → Option β} (C : Ct V x.2.1 y My none 0 d As σ (mkV f)) (hcal : CalS y My none n) (hL : LinkM M.2.2 idx y) (hR : Rm x d) (hn : As.length = n) (hw : (rest.map fun v => v.category).sum ≤ 8) (hd : decode M.1 pc = .ok (.invokestatic idx, 3)) (hst : st = As.reverse ++ rest)
    (k : ∀ s1, JB V x M (pc + 3) lv rest s1 (K s1) P) : JB V x M pc lv st σ (f.bind K) P :=
  jb_call (stn := fun _ => rest) (sn := fun s => s) (fun s hf z => c_S X C (q := (0, s)) (by rw [hf]; rfl) hcal hL hR hn hw hd hst z) k
/-- a method of a String constant: r is its place, checked -/
def sok (r : Int32) : Option Nat := if r.toNatClampNeg < strL.length then some r.toNatClampNeg else none
theorem j_callTP (X : Ok V x M) {y : MethodName} {My : Mt} {ret : Option FieldType} {d n idx : Nat} {t : Int32} {As rest : List Value} {f : Nat → Option Int32} {K : Int32 → Option β} (C : ∀ i, i < strL.length → Ct V x.2.1 y My ret 1 d (.ref (eK V i) :: As) σ (mkP σ (f i))) (hcal : Cal y My ret n) (hcls : y.cls = "java/lang/String") (hL : Cond.methodLink M.2.2 idx y ∈ lw_all) (hR : Rm x d) (hn : As.length = n) (hw : (rest.map fun v => v.category).sum ≤ 8) (hd : decode M.1 pc = .ok (.invokevirtual idx, 3)) (hst : st = As.reverse ++ .ref (eK V t.toNatClampNeg) :: rest)
    (k : ∀ r, JB V x M (pc + 3) lv (.int r :: rest) σ (K r) P) : JB V x M pc lv st σ (((sok t).bind f).bind K) P := by
  intro b hb hP
  by_cases hi : t.toNatClampNeg < strL.length
  · simp only [sok, hi, if_true, Option.bind_some] at hb
    exact jb_call (stn := fun r => .int r :: rest) (sn := fun _ => σ) (fun r hf z => c_T X hi (C _ hi) (q := (r, σ)) (by rw [hf]; rfl) hcal hcls hL hR hn hw hd hst z) k b hb hP
  · simp [sok, hi] at hb
/-- a String constant is loaded, by its place -/
theorem j_ldcS (X : Ok V x M) {idx : Nat} (r : Int32) (q : String × Nat × String) (hq : strL[r.toNatClampNeg]? = some q) (h1 : q.1 = M.2.2) (h2 : q.2.1 = idx) (hd : decode M.1 pc = .ok (.ldc idx, 2)) {G : Option β} (K : JB V x M (pc + 2) lv (.ref (eK V r.toNatClampNeg) :: st) σ G P) : JB V x M pc lv st σ G P := by
  refine jb_go (fun _ _ _ _ k => ?_) K
  have hR := X.2.2.2.2.2.1.2.2.1 _ _ hq
  rw [h1, h2] at hR
  exact va_ldcS X.1 X.2.1 X.2.2.2.1 hR hd k
end
theorem ldcwString {p : Program} {l : Launch} {e : Env} {R : Room} {s : State} {m : MethodId} {args : Array Value} {below : List Frame} {meth : Method} {c : Code} {T : State} {locs : List Loc} {cells slots : Nat}
    (X : Stand p l e R s m args below meth c T locs cells slots) (hexec : p.tables.exec = Jvm.exec) {own text : String} {index : Nat} {a : Addr} (hown : s.vm.findClass own = some m.cls)
    (hconst : (Cond.stringRef own index text).before args s = true) (hev : (Term.string own index).eval args s none [] s = some (.ref a)) {g : JFrame} (hg : g.method = m) (hdg : decode c.code g.pc = .ok (.ldc_w index, 3)) :
    ∀ target, Steps p.tables e below (T.setTop { g with pc := g.pc + 3, stack := .ref a :: g.stack }) target → Steps p.tables e below (T.setTop g) target := by
  obtain ⟨k, cf, i, a', hk, hcf, hcp, -, hr, hev'⟩ := Cond.stringRef_spec hown hconst
  cases hev.symm.trans hev'
  obtain ⟨k', hk', he⟩ := X.warmed.alike.2.2 _ _ hk
  have hr' : k'.resolved[index]? = some (some (.string a)) := by
    rcases X.warmed.entry hk hk' index with h | ⟨h, -⟩
    · rw [h]; exact hr
    · rw [hr] at h; cases h
  intro target hrest
  subst hg
  jvm_step X.here [hexec, hdg, ldc_w.wp_string (e := e) (s := T) (f := g) X.here.top hk' (by rw [he]; exact hcf) hcp hr']
  exact hrest
section
variable {V : Ev} {x : Cx} {M : Mt} {pc : Nat} {lv : List (Nat × Value)} {st : List Value} {σ : St} {β : Type} {P : β → Prop}
theorem j_ldcwS (X : Ok V x M) {idx : Nat} (r : Int32) (q : String × Nat × String) (hq : strL[r.toNatClampNeg]? = some q) (h1 : q.1 = M.2.2) (h2 : q.2.1 = idx) (hd : decode M.1 pc = .ok (.ldc_w idx, 3)) {G : Option β} (K : JB V x M (pc + 3) lv (.ref (eK V r.toNatClampNeg) :: st) σ G P) : JB V x M pc lv st σ G P := by
  refine jb_go (fun H locs ls _ k => ?_) K
  have hR := X.2.2.2.2.2.1.2.2.1 _ _ hq
  rw [h1, h2] at hR
  intro T hT Y
  obtain ⟨t, a1, b1⟩ := k T hT Y
  exact ⟨t, ldcwString Y X.1 X.2.2.2.1 hR.1 hR.2 (g := F0 x.2.2.2.2.2.1 pc ls st) rfl (by rw [X.2.1]; exact hd) t a1, b1⟩
def imin (a b : Int32) : Int32 := if b < a then b else a
def imax (a b : Int32) : Int32 := if a < b then b else a
theorem j_min (X : Ok V x M) {idx D rk : Nat} {ret : Option FieldType} (Y : Rt V x ret rk (D + 1)) {a b : Int32} (hl : Cond.methodLink M.2.2 idx Lib.Math.min.name ∈ lw_all) (h1 : Cond.static Lib.Math.min.name ∈ lw_all) (h2 : Cond.initialized "java/lang/Math" ∈ lw_all) (h3 : Cond.code Lib.Math.min.name Lib.Math.min.code 2 (some .int) ∈ lw_all) (hw : (st.map fun v => v.category).sum ≤ 8) (hd : decode M.1 pc = .ok (.invokestatic idx, 3)) {G : Option β} (K : JB V x M (pc + 3) lv (.int (imin a b) :: st) σ G P) : JB V x M pc lv (.int b :: .int a :: st) σ G P := by
  have hts := X.2.2.2.2.1
  have hR := Y.2.2
  exact jb_go (fun _ _ ls h k => va_mmin X.1 X.2.1 (by rw [X.2.2.1, h.1]) X.2.2.2.1 (hts _ hl) (hts _ h1) (hts _ h2) (hts _ h3) (by show 1 ≤ (xR_ x).frames; rw [hR]; show 1 ≤ D + 1; omega) (by show _ ≤ (xR_ x).locals; rw [hR]; show _ ≤ 64 * (D + 1); omega) X.2.2.2.2.2.2.2.1 X.2.2.2.2.2.2.2.2 hd k) K
theorem j_max (X : Ok V x M) {idx D rk : Nat} {ret : Option FieldType} (Y : Rt V x ret rk (D + 1)) {a b : Int32} (hl : Cond.methodLink M.2.2 idx Lib.Math.max.name ∈ lw_all) (h1 : Cond.static Lib.Math.max.name ∈ lw_all) (h2 : Cond.initialized "java/lang/Math" ∈ lw_all) (h3 : Cond.code Lib.Math.max.name Lib.Math.max.code 2 (some .int) ∈ lw_all) (hw : (st.map fun v => v.category).sum ≤ 8) (hd : decode M.1 pc = .ok (.invokestatic idx, 3)) {G : Option β} (K : JB V x M (pc + 3) lv (.int (imax a b) :: st) σ G P) : JB V x M pc lv (.int b :: .int a :: st) σ G P := by
  have hts := X.2.2.2.2.1
  have hR := Y.2.2
  exact jb_go (fun _ _ ls h k => va_mmax X.1 X.2.1 (by rw [X.2.2.1, h.1]) X.2.2.2.1 (hts _ hl) (hts _ h1) (hts _ h2) (hts _ h3) (by show 1 ≤ (xR_ x).frames; rw [hR]; show 1 ≤ D + 1; omega) (by show _ ≤ (xR_ x).locals; rw [hR]; show _ ≤ 64 * (D + 1); omega) X.2.2.2.2.2.2.2.1 X.2.2.2.2.2.2.2.2 hd k) K
end
section
variable {V : Ev} {x : Cx} {M : Mt} {pc : Nat} {lv : List (Nat × Value)} {st : List Value} {σ σ0 : St} {β : Type} {P : β → Prop}
theorem jb_mkP {f : Option Int32} (h : JB V x M pc lv st σ f (fun r => xq_ x = (r, σ0))) : JB V x M pc lv st σ (mkP σ0 f) (fun q => xq_ x = q) := by
  intro q hq hP
  cases hf : f with
  | none => rw [hf] at hq; cases hq
  | some r =>
    rw [hf] at hq
    have e : (r, σ0) = q := Option.some.inj hq
    exact h r hf (by show xq_ x = (r, σ0); rw [e]; exact hP)
theorem jb_mkV {f : Option St} (h : JB V x M pc lv st σ f (fun s => xq_ x = ((0 : Int32), s))) : JB V x M pc lv st σ (mkV f) (fun q => xq_ x = q) := by
  intro q hq hP
  cases hf : f with
  | none => rw [hf] at hq; cases hq
  | some s =>
    rw [hf] at hq
    have e : ((0 : Int32), s) = q := Option.some.inj hq
    exact h s hf (by show xq_ x = ((0 : Int32), s); rw [e]; exact hP)
/-- a number's name -/
def nmo (a : Int32) : Option Int32 := some a
theorem j_name {a : Int32} {K : Int32 → Option β} (k : ∀ r, JB V x M pc lv (.int r :: st) σ (K r) P) : JB V x M pc lv (.int a :: st) σ ((nmo a).bind K) P := k a
def nml (a : Int64) : Option Int64 := some a
theorem j_nameL {a : Int64} {K : Int64 → Option β} (k : ∀ r, JB V x M pc lv (.long r :: st) σ (K r) P) : JB V x M pc lv (.long a :: st) σ ((nml a).bind K) P := k a
theorem j_bindJ {α : Type} {A : Option α} {K : α → Option β} (pcJ : Nat) (lvf : α → List (Nat × Value)) (stf : α → List Value) (sf : α → St) (h1 : JB V x M pc lv st σ A (fun a => Zw V x M pcJ (lvf a) (stf a) (sf a))) (h2 : ∀ a, JB V x M pcJ (lvf a) (stf a) (sf a) (K a) P) : JB V x M pc lv st σ (A.bind K) P := j_bind _ h1 h2
theorem j_bindLJ {α : Type} {A : Option (α ⊕ β)} {K : α → Option β} (pcJ : Nat) (lvf : α → List (Nat × Value)) (stf : α → List Value) (sf : α → St) (h1 : JB V x M pc lv st σ A (SumP (fun a => Zw V x M pcJ (lvf a) (stf a) (sf a)) P)) (h2 : ∀ a, JB V x M pcJ (lvf a) (stf a) (sf a) (K a) P) : JB V x M pc lv st σ (bindL A K) P := j_bindL _ h1 h2
/-- String constants: length, char, equality -/
def strLen (i : Nat) : Option Int32 := some (Int32.ofNat (slen i))
def strChr (i : Nat) (k : Int32) : Option Int32 := if inb k (slen i) = true then some (sbyt i k.toNatClampNeg) else none
def strEq (i j : Nat) : Option Int32 := some (if strB.getD i [] = strB.getD j [] then 1 else 0)
end
