/-! rules: fields, arrays, calls, returns -/
set_option maxRecDepth 100000
def LinkF (own : String) (idx : Nat) (T : u_T) (k : Nat) : Prop := (Cond.fieldLink own idx (T k).1 (T k).2.1 (T k).2.2.1 ∈ lw_all) ∨ (∃ host, Cond.fieldLinkNest own idx (T k).1 (T k).2.1 (T k).2.2.1 host ∈ lw_tbl)
/-- entry idx of own's pool is field k of the class c -/
def GF (own : String) (idx c k : Nat) : Prop := ∃ (C : String) (T : u_T) (N : Nat) (ty : Nat → FieldType), ClF c C T N ty ∧ k < N ∧ N = nf c ∧ LinkF own idx T k ∧ c ≤ 12
/-- .. and may be set; its type -/
def PF (own : String) (idx c k : Nat) (t : FieldType) : Prop := ∃ (C : String) (T : u_T) (N : Nat) (ty : Nat → FieldType), ClF c C T N ty ∧ k < N ∧ N = nf c ∧ LinkF own idx T k ∧ c ≤ 12 ∧ (T k).2.2.2 = false ∧ ty k = t
theorem flds_at {V : Ev} {σ : St} {g k : Nat} (h : k < nf (cg g)) : (flds V σ g)[k]? = some (fval V σ g k) := by
  simp [flds, h]
theorem flds_len {V : Ev} {σ : St} {g : Nat} : (flds V σ g).length = nf (cg g) := by simp [flds]
theorem cellE_0 {V : Ev} {σ : St} {g c : Nat} (h : cg g = c) : cellE V σ g 0 = .inr (c, flds V σ g) := by simp [cellE, h]
theorem cellE_i {V : Ev} {σ : St} {g c k n : Nat} (h : cg g = c) (hk : fk c k = (1, n)) : cellE V σ g (k + 1) = .inl (eca V 0, n, .inl (σ g (k + 1))) := by simp [cellE, h, hk]
theorem cellE_b {V : Ev} {σ : St} {g c k n : Nat} (h : cg g = c) (hk : fk c k = (2, n)) : cellE V σ g (k + 1) = .inl (eca V 1, n, .inl (σ g (k + 1))) := by simp [cellE, h, hk]
theorem cellE_z {V : Ev} {σ : St} {g c k n : Nat} (h : cg g = c) (hk : fk c k = (3, n)) : cellE V σ g (k + 1) = .inl (eca V 2, n, .inl (σ g (k + 1))) := by simp [cellE, h, hk]
theorem cellE_r {V : Ev} {σ : St} {g c k n : Nat} (h : cg g = c) (hk : fk c k = (4, n)) : cellE V σ g (k + 1) = .inl (eca V 3, n, .inr (.inr (.inr (.inr (fun i => some (ead V (14 + i) 0)))))) := by simp [cellE, h, hk]
/-- cells are the same where the state is -/
theorem cellE_eq {V : Ev} {σ σ' : St} {a b : Nat} (h : σ' a b = σ a b) : cellE V σ' a b = cellE V σ a b := by
  by_cases hb : b = 0
  · subst hb
    have hf : fval V σ' a = fval V σ a := by
      funext k
      simp only [fval, h]
    simp only [cellE, flds, hf, if_true]
  · simp only [cellE, hb, if_false, h]
theorem wl_ast {V : Ev} {σ : St} {q g j i : Nat} {v : Int32} {e : va_E} (h : (ixv V)[q]? = some (g, j)) (he : cellE V (up3 σ g j i v) g j = e) : (wl V σ).set q (ead V g j, e) = wl V (up3 σ g j i v) :=
  wl_set h he (fun a b hab => cellE_eq (up3_ne σ v hab))
theorem flds_put {V : Ev} {σ : St} {g k : Nat} {n : Int32} {v : Value} (hk : k < nf (cg g)) (hv : fval V (up3 σ g 0 k n) g k = v) : flds V (up3 σ g 0 k n) g = (flds V σ g).set k v := by
  apply List.ext_getElem?
  intro i
  rw [List.getElem?_set]
  by_cases hi : k = i
  · subst hi
    rw [if_pos rfl, if_pos (by rw [flds_len]; exact hk), flds_at hk, hv]
  · rw [if_neg hi]
    by_cases hl : i < nf (cg g)
    · rw [flds_at hl, flds_at hl]
      have : up3 σ g 0 k n g 0 i = σ g 0 i := by
        rw [up3_arr]
        unfold upd
        rw [if_neg (fun e => hi e.symm)]
      simp only [fval, this]
    · rw [List.getElem?_eq_none (by rw [flds_len]; omega), List.getElem?_eq_none (by rw [flds_len]; omega)]
theorem GF.cg {V : Ev} {own : String} {idx c k g : Nat} (h : GF own idx c k) (hg : cgv V g = c) : cg g = c := by
  obtain ⟨C, T, N, ty, -, -, -, -, h12⟩ := h
  exact (cgv_cg hg h12).1
theorem PF.cg {V : Ev} {own : String} {idx c k g : Nat} {t : FieldType} (h : PF own idx c k t) (hg : cgv V g = c) : cg g = c := by
  obtain ⟨C, T, N, ty, -, -, -, -, h12, -⟩ := h
  exact (cgv_cg hg h12).1
section
variable {V : Ev} {x : Cx} {M : Mt} {pc : Nat} {lv : List (Nat × Value)} {st : List Value} {σ : St} {β : Type} {G : Option β} {P : β → Prop}
theorem w_get (X : Ok V x M) {idx c k g : Nat} (hF : GF M.2.2 idx c k) (hg : cgv V g = c) (hd : decode M.1 pc = .ok (.getfield idx, 3)) {H : Heap} {locs : List Loc} {ls : Array Slot} (hP : va_P (eD V) vwCl (wl V σ) H) (kk : Wx x H locs (pc + 3) ls (fval V σ g k :: st)) : Wx x H locs pc ls (.ref (ead V g 0) :: st) := by
  obtain ⟨C, T, N, ty, ⟨hc, hin, hty, hnm⟩, hk, hN, hL, h12⟩ := hF
  obtain ⟨q, hq⟩ := ix_obj hg h12
  have hg := (cgv_cg hg h12).1
  have he := wl_at (V := V) (σ := σ) hq
  rw [cellE_0 hg] at he
  have hv : (flds V σ g)[k]? = some (fval V σ g k) := flds_at (by rw [hg, ← hN]; exact hk)
  rcases hL with hL | ⟨host, hL⟩
  · exact va_get X.1 X.2.1 X.2.2.2.2.1 hin X.2.2.2.1 X.2.2.2.2.2.1.1 hP q he hc k hk (X.2.2.2.2.1 _ hL) (fun _ h => h) hv hd kk
  · exact va_getN X.1 X.2.1 X.2.2.2.2.1 hin X.2.2.2.1 X.2.2.2.2.2.1.1 hP q he hc k hk (va_Nw.use rfl (X.2.2.2.2.2.1.2.1 _ hL rfl)) (fun _ h => h) hv hd kk
theorem w_put (X : Ok V x M) {idx c k g : Nat} {t : FieldType} {v : Value} {n : Int32} (hF : PF M.2.2 idx c k t) (hg : cgv V g = c) (hn : narrow t v = v) (hfit : fits t v = true) (hv : fval V (up3 σ g 0 k n) g k = v) (hd : decode M.1 pc = .ok (.putfield idx, 3)) {H : Heap} {locs : List Loc} {ls : Array Slot} (hP : va_P (eD V) vwCl (wl V σ) H) (hS : va_S (eA V) (xs_ x).heap H locs)
    (kk : ∀ (H1 : Heap) (locs1 : List Loc), va_P (eD V) vwCl (wl V (up3 σ g 0 k n)) H1 → va_S (eA V) (xs_ x).heap H1 locs1 → Wx x H1 locs1 (pc + 3) ls st) : Wx x H locs pc ls (v :: .ref (ead V g 0) :: st) := by
  obtain ⟨C, T, N, ty, ⟨hc, hin, hty, hnm⟩, hk, hN, hL, h12, hfin, htk⟩ := hF
  obtain ⟨q, hq⟩ := ix_obj hg h12
  have hg := (cgv_cg hg h12).1
  have he := wl_at (V := V) (σ := σ) hq
  rw [cellE_0 hg] at he
  have hkn : k < nf (cg g) := by rw [hg, ← hN]; exact hk
  have hD := X.2.2.2.2.2.1.2.2.2.2.2.1.D σ
  have hset : (wl V σ).set q (ead V g 0, .inr (c, (flds V σ g).set k v)) = wl V (up3 σ g 0 k n) := wl_ast hq (by rw [cellE_0 hg, flds_put hkn hv])
  have hpd : parseFieldDescriptor (T k).2.2.1 = some t := by rw [hty k hk, htk]
  rcases hL with hL | ⟨host, hL⟩
  · refine va_put X.1 X.2.1 X.2.2.2.2.1 hin ty hty hnm X.2.2.2.1 X.2.2.2.2.2.1.1 hP hD hS q he hc k hk (X.2.2.2.2.1 _ hL) (fun _ h => h) hfin hpd hn hfit (by rw [flds_len]; exact hkn) hd (fun H1 locs1 a1 _ a3 => kk H1 locs1 ?_ a3)
    rw [← hset]; exact a1
  · refine va_putN X.1 X.2.1 X.2.2.2.2.1 hin ty hty hnm X.2.2.2.1 X.2.2.2.2.2.1.1 hP hD hS q he hc k hk (va_Nw.use rfl (X.2.2.2.2.2.1.2.1 _ hL rfl)) (fun _ h => h) hfin hpd hn hfit (by rw [flds_len]; exact hkn) hd (fun H1 locs1 a1 _ a3 => kk H1 locs1 ?_ a3)
    rw [← hset]; exact a1
theorem jb_get (X : Ok V x M) {idx c k g : Nat} {v : Value} (hF : GF M.2.2 idx c k) (hg : cgv V g = c) (hv : fval V σ g k = v) (hd : decode M.1 pc = .ok (.getfield idx, 3)) (K : JB V x M (pc + 3) lv (v :: st) σ G P) : JB V x M pc lv (.ref (ead V g 0) :: st) σ G P := by
  intro b hb hP H locs ls h1 h2 h3
  subst hv
  exact w_get X hF hg hd h1 (K b hb hP H locs ls h1 h2 h3)
/-- getfield: a number -/
theorem j_getI (X : Ok V x M) {idx c k g : Nat} (hF : GF M.2.2 idx c k) (hk : fk c k = (0, 0)) (hg : cgv V g = c) (hd : decode M.1 pc = .ok (.getfield idx, 3)) (K : JB V x M (pc + 3) lv (.int (σ g 0 k) :: st) σ G P) : JB V x M pc lv (.ref (ead V g 0) :: st) σ G P := jb_get X hF hg (by simp [fval, hF.cg hg, hk]) hd K
/-- getfield: an array of one's own -/
theorem j_getA (X : Ok V x M) {idx c k g t n : Nat} (hF : GF M.2.2 idx c k) (hk : fk c k = (t + 1, n)) (ht : t < 4) (hg : cgv V g = c) (hd : decode M.1 pc = .ok (.getfield idx, 3)) (K : JB V x M (pc + 3) lv (.ref (ead V g (k + 1)) :: st) σ G P) : JB V x M pc lv (.ref (ead V g 0) :: st) σ G P := jb_get X hF hg (by
  have h5 : ¬ t + 1 = 5 := by omega
  have h6 : ¬ t + 1 = 6 := by omega
  have h7 : ¬ t + 1 = 7 := by omega
  simp [fval, hF.cg hg, hk, h5, h6, h7]
  try omega) hd K
/-- getfield: another object -/
theorem j_getO (X : Ok V x M) {idx c k g h : Nat} (hF : GF M.2.2 idx c k) (hk : fk c k = (5, h)) (hg : cgv V g = c) (hd : decode M.1 pc = .ok (.getfield idx, 3)) (K : JB V x M (pc + 3) lv (.ref (ead V h 0) :: st) σ G P) : JB V x M pc lv (.ref (ead V g 0) :: st) σ G P := jb_get X hF hg (by simp [fval, hF.cg hg, hk]) hd K
/-- getfield: the bytes that are read (1: tape, 2: record, 3: proofBytes) -/
def dyb (v : Int32) : Option Nat := if v = 1 then some 1 else if v = 2 then some 2 else if v = 3 then some 3 else none
def isB (j : Nat) : Prop := j = 1 ∨ j = 2 ∨ j = 3
theorem j_getB (X : Ok V x M) {idx c k g : Nat} {F : Nat → Option β} (hF : GF M.2.2 idx c k) (hk : fk c k = (6, 0)) (hg : cgv V g = c) (hd : decode M.1 pc = .ok (.getfield idx, 3)) (K : ∀ j, isB j → JB V x M (pc + 3) lv (.ref (ead V 0 j) :: st) σ (F j) P) : JB V x M pc lv (.ref (ead V g 0) :: st) σ ((dyb (σ g 0 k)).bind F) P := by
  intro b hb hP H locs ls h1 h2 h3
  have key : ∃ j, isB j ∧ dyb (σ g 0 k) = some j ∧ fval V σ g k = .ref (ead V 0 j) := by
    unfold dyb at hb ⊢
    by_cases e1 : σ g 0 k = 1
    · exact ⟨1, Or.inl rfl, by simp [e1], by simp [fval, hF.cg hg, hk, e1]⟩
    · by_cases e2 : σ g 0 k = 2
      · exact ⟨2, Or.inr (Or.inl rfl), by simp [e2], by simp [fval, hF.cg hg, hk, e2]⟩
      · by_cases e3 : σ g 0 k = 3
        · exact ⟨3, Or.inr (Or.inr rfl), by simp [e3], by simp [fval, hF.cg hg, hk, e3]⟩
        · simp [e1, e2, e3] at hb
  obtain ⟨j, hj, hdy, hv⟩ := key
  rw [hdy, Option.bind_some] at hb
  exact jb_get X hF hg hv hd (K j hj) b hb hP H locs ls h1 h2 h3
/-- getfield: an object that was set before (its group's number is kept) -/
def dyo (v : Int32) (h : Nat) : Option Unit := if v = Int32.ofNat h then some () else none
theorem j_getD (X : Ok V x M) {idx c k g : Nat} (h : Nat) {F : Unit → Option β} (hF : GF M.2.2 idx c k) (hk : fk c k = (7, 0)) (hg : cgv V g = c) (hh : ¬ Int32.ofNat h = 0 ∧ (Int32.ofNat h).toNatClampNeg = h) (hd : decode M.1 pc = .ok (.getfield idx, 3)) (K : JB V x M (pc + 3) lv (.ref (ead V h 0) :: st) σ (F ()) P) : JB V x M pc lv (.ref (ead V g 0) :: st) σ ((dyo (σ g 0 k) h).bind F) P := by
  intro b hb hP H locs ls h1 h2 h3
  by_cases e : σ g 0 k = Int32.ofNat h
  · simp only [dyo, e, if_true, Option.bind_some] at hb
    exact jb_get X hF hg (by simp [fval, hF.cg hg, hk, e, hh.1, hh.2]) hd K b hb hP H locs ls h1 h2 h3
  · simp [dyo, e] at hb
theorem jb_put (X : Ok V x M) {idx c k g : Nat} {t : FieldType} {v : Value} {n : Int32} (hF : PF M.2.2 idx c k t) (hg : cgv V g = c) (hn : narrow t v = v) (hfit : fits t v = true) (hv : fval V (up3 σ g 0 k n) g k = v) (hd : decode M.1 pc = .ok (.putfield idx, 3)) (K : JB V x M (pc + 3) lv st (up3 σ g 0 k n) G P) : JB V x M pc lv (v :: .ref (ead V g 0) :: st) σ G P := by
  intro b hb hP H locs ls h1 h2 h3
  exact w_put X hF hg hn hfit hv hd h1 h2 (fun H1 locs1 a1 a2 => K b hb hP H1 locs1 ls a1 a2 h3)
/-- a state's new name -/
def nst (σ : St) : Option St := some σ
theorem j_putI (X : Ok V x M) {idx c k g : Nat} {a : Int32} {F : St → Option β} (hF : PF M.2.2 idx c k .int) (hk : fk c k = (0, 0)) (hg : cgv V g = c) (hd : decode M.1 pc = .ok (.putfield idx, 3)) (K : ∀ s1 : St, JB V x M (pc + 3) lv st s1 (F s1) P) : JB V x M pc lv (.int a :: .ref (ead V g 0) :: st) σ ((nst (up3 σ g 0 k a)).bind F) P :=
  jb_put X hF hg rfl rfl (by simp [fval, hF.cg hg, hk, up3_same]) hd (K _)
/-- a boolean: 0 or 1 -/
def zro (a : Int32) : Option Int32 := if a = 0 ∨ a = 1 then some a else none
theorem nar_z {a : Int32} (h : a = 0 ∨ a = 1) : narrow .boolean (.int a) = .int a ∧ fits .boolean (.int a) = true := by
  rcases h with rfl | rfl <;> exact ⟨by decide, by decide⟩
theorem j_putZ (X : Ok V x M) {idx c k g : Nat} {a : Int32} {F : St → Option β} (hF : PF M.2.2 idx c k .boolean) (hk : fk c k = (0, 0)) (hg : cgv V g = c) (hd : decode M.1 pc = .ok (.putfield idx, 3)) (K : ∀ s1 : St, JB V x M (pc + 3) lv st s1 (F s1) P) : JB V x M pc lv (.int a :: .ref (ead V g 0) :: st) σ (((zro a).bind (fun r => nst (up3 σ g 0 k r))).bind F) P := by
  intro b hb hP H locs ls h1 h2 h3
  by_cases h : a = 0 ∨ a = 1
  · simp only [zro, h, if_true, Option.bind_some, nst] at hb
    exact jb_put X hF hg (nar_z h).1 (nar_z h).2 (by simp [fval, hF.cg hg, hk, up3_same]) hd (K _) b hb hP H locs ls h1 h2 h3
  · simp [zro, h] at hb
/-- putfield: the bytes that are read -/
theorem j_putB (X : Ok V x M) {idx c k g j : Nat} {F : St → Option β} (hF : PF M.2.2 idx c k (.array .byte)) (hk : fk c k = (6, 0)) (hg : cgv V g = c) (hj : isB j) (hd : decode M.1 pc = .ok (.putfield idx, 3)) (K : ∀ s1 : St, JB V x M (pc + 3) lv st s1 (F s1) P) : JB V x M pc lv (.ref (ead V 0 j) :: .ref (ead V g 0) :: st) σ ((nst (up3 σ g 0 k (Int32.ofNat j))).bind F) P := by
  refine jb_put X hF hg rfl rfl ?_ hd (K _)
  rcases hj with rfl | rfl | rfl <;> (simp [fval, hF.cg hg, hk, up3_same]; try rfl)
/-- putfield: an object, by its group's number -/
theorem j_putD (X : Ok V x M) {idx c k g h : Nat} {C : String} {F : St → Option β} (hF : PF M.2.2 idx c k (.object C)) (hk : fk c k = (7, 0)) (hg : cgv V g = c) (hh : ¬ Int32.ofNat h = 0 ∧ (Int32.ofNat h).toNatClampNeg = h) (hd : decode M.1 pc = .ok (.putfield idx, 3)) (K : ∀ s1 : St, JB V x M (pc + 3) lv st s1 (F s1) P) : JB V x M pc lv (.ref (ead V h 0) :: .ref (ead V g 0) :: st) σ ((nst (up3 σ g 0 k (Int32.ofNat h))).bind F) P := by
  refine jb_put X hF hg rfl rfl ?_ hd (K _)
  simp [fval, hF.cg hg, hk, up3_same, hh.1, hh.2]
def inb (i : Int32) (n : Nat) : Bool := decide (¬ (i < 0 ∨ n ≤ i.toNatClampNeg))
theorem inb_vp {i : Int32} {n : Nat} (h : inb i n = true) : vp_in i n := of_decide_eq_true (p := ¬ (i < 0 ∨ n ≤ i.toNatClampNeg)) h
def rdo (σ : St) (g j n : Nat) (i : Int32) : Option Int32 := if inb i n = true then some (σ g j i.toNatClampNeg) else none
def wro (σ : St) (g j n : Nat) (i v : Int32) : Option St := if inb i n = true then some (up3 σ g j i.toNatClampNeg v) else none
def wrb (σ : St) (g j n : Nat) (i v : Int32) : Option St := if inb i n = true then some (up3 σ g j i.toNatClampNeg v.toInt8.toInt32) else none
def wrz (σ : St) (g j n : Nat) (i v : Int32) : Option St := if inb i n = true then some (up3 σ g j i.toNatClampNeg (vp_nar .boolean v)) else none
theorem jb_rd {g j n : Nat} {i : Int32} {pc' : Nat} {st' : List Value} {F : Int32 → Option β} (h : vp_in i n → ∀ (H : Heap) (locs : List Loc) (ls : Array Slot), va_P (eD V) vwCl (wl V σ) H → Wx x H locs pc' ls (.int (σ g j i.toNatClampNeg) :: st') → Wx x H locs pc ls st) (K : ∀ r : Int32, JB V x M pc' lv (.int r :: st') σ (F r) P) : JB V x M pc lv st σ ((rdo σ g j n i).bind F) P := by
  intro b hb hP H locs ls h1 h2 h3
  by_cases hi : inb i n = true
  · simp only [rdo, hi, if_true, Option.bind_some] at hb
    exact h (inb_vp hi) H locs ls h1 (K _ b hb hP H locs ls h1 h2 h3)
  · simp [rdo, hi] at hb
theorem j_iald (X : Ok V x M) {g c n : Nat} (k : Nat) {i : Int32} {F : Int32 → Option β} (hk : fk c k = (1, n)) (hg : cgv V g = c) (hc : c ≤ 12) (hd : decode M.1 pc = .ok (.iaload, 1)) (K : ∀ r : Int32, JB V x M (pc + 1) lv (.int r :: st) σ (F r) P) : JB V x M pc lv (.int i :: .ref (ead V g (k + 1)) :: st) σ ((rdo σ g (k + 1) n i).bind F) P := by
  obtain ⟨q, hq⟩ := ix_arr (k := k) hg hc (by rw [hk]; dsimp only; omega)
  have he := wl_at (V := V) (σ := σ) hq
  have hg := (cgv_cg hg hc).1
  rw [cellE_i hg hk] at he
  exact jb_rd (fun hi H locs ls h1 kk => va_iald X.1 X.2.1 X.2.2.2.2.2.1.1 h1 q 0 he rfl hi hd kk) K
theorem j_bald (X : Ok V x M) {g c n : Nat} (k : Nat) {i : Int32} {F : Int32 → Option β} (hk : fk c k = (2, n)) (hg : cgv V g = c) (hc : c ≤ 12) (hd : decode M.1 pc = .ok (.baload, 1)) (K : ∀ r : Int32, JB V x M (pc + 1) lv (.int r :: st) σ (F r) P) : JB V x M pc lv (.int i :: .ref (ead V g (k + 1)) :: st) σ ((rdo σ g (k + 1) n i).bind F) P := by
  obtain ⟨q, hq⟩ := ix_arr (k := k) hg hc (by rw [hk]; dsimp only; omega)
  have he := wl_at (V := V) (σ := σ) hq
  have hg := (cgv_cg hg hc).1
  rw [cellE_b hg hk] at he
  exact jb_rd (fun hi H locs ls h1 kk => va_bald X.1 X.2.1 X.2.2.2.2.2.1.1 h1 q 1 he rfl hi hd kk) K
theorem j_zald (X : Ok V x M) {g c n : Nat} (k : Nat) {i : Int32} {F : Int32 → Option β} (hk : fk c k = (3, n)) (hg : cgv V g = c) (hc : c ≤ 12) (hd : decode M.1 pc = .ok (.baload, 1)) (K : ∀ r : Int32, JB V x M (pc + 1) lv (.int r :: st) σ (F r) P) : JB V x M pc lv (.int i :: .ref (ead V g (k + 1)) :: st) σ ((rdo σ g (k + 1) n i).bind F) P := by
  obtain ⟨q, hq⟩ := ix_arr (k := k) hg hc (by rw [hk]; dsimp only; omega)
  have he := wl_at (V := V) (σ := σ) hq
  have hg := (cgv_cg hg hc).1
  rw [cellE_z hg hk] at he
  exact jb_rd (fun hi H locs ls h1 kk => va_zald X.1 X.2.1 X.2.2.2.2.2.1.1 h1 q 2 he rfl hi hd kk) K
/-- the bytes that are read: tape, record, proofBytes -/
def lenB (j : Nat) : Nat := if j = 1 then 3200 else if j = 2 then 200 else 4006
theorem j_dald (X : Ok V x M) (hV : FullV V) {j : Nat} (hj : isB j) {i : Int32} {F : Int32 → Option β} (hd : decode M.1 pc = .ok (.baload, 1)) (K : ∀ r : Int32, JB V x M (pc + 1) lv (.int r :: st) σ (F r) P) : JB V x M pc lv (.int i :: .ref (ead V 0 j) :: st) σ ((rdo σ 0 j (lenB j) i).bind F) P := by
  rcases hj with rfl | rfl | rfl
  · exact j_bald (g := 0) (c := 0) (n := 3200) X 0 rfl (hV.c 0) (by decide) hd K
  · exact j_bald (g := 0) (c := 0) (n := 200) X 1 rfl (hV.c 0) (by decide) hd K
  · exact j_bald (g := 0) (c := 0) (n := 4006) X 2 rfl (hV.c 0) (by decide) hd K
/-- steps[i] -/
def rso (i : Int32) : Option Nat := if inb i 6 = true then some (14 + i.toNatClampNeg) else none
theorem j_rald (X : Ok V x M) (hV : FullV V) {i : Int32} {F : Nat → Option β} (hd : decode M.1 pc = .ok (.aaload, 1)) (K : ∀ h : Nat, cgv V h = 3 → JB V x M (pc + 1) lv (.ref (ead V h 0) :: st) σ (F h) P) : JB V x M pc lv (.int i :: .ref (ead V 0 13) :: st) σ ((rso i).bind F) P := by
  obtain ⟨q, hq⟩ := ix_arr (V := V) (g := 0) (c := 0) (k := 12) (hV.c 0) (by decide) (by decide)
  have he := wl_at (V := V) (σ := σ) hq
  rw [cellE_r (c := 0) (k := 12) (n := 6) rfl rfl] at he
  intro b hb hP H locs ls h1 h2 h3
  by_cases hi : inb i 6 = true
  · simp only [rso, hi, if_true, Option.bind_some] at hb
    have hlt : i.toNatClampNeg < 6 := Nat.not_le.mp fun z => inb_vp hi (Or.inr z)
    have hh : cg (14 + i.toNatClampNeg) = 3 := by
      have key : ∀ m, m < 6 → cg (14 + m) = 3 := by decide
      exact key _ hlt
    exact va_aldq X.1 X.2.1 X.2.2.2.2.2.1.1 h1 q 3 he rfl (inb_vp hi) hd (K _ ((hV.c _).trans hh) b hb hP H locs ls h1 h2 h3)
  · simp [rso, hi] at hb
theorem jb_wr {g j n : Nat} {i v : Int32} {pc' : Nat} {st' : List Value} {W : Option St} {F : St → Option β} (hW : W = if inb i n = true then some (up3 σ g j i.toNatClampNeg v) else none) (h : vp_in i n → ∀ (H : Heap) (locs : List Loc) (ls : Array Slot), va_P (eD V) vwCl (wl V σ) H → va_S (eA V) (xs_ x).heap H locs → (∀ (H1 : Heap) (locs1 : List Loc), va_P (eD V) vwCl (wl V (up3 σ g j i.toNatClampNeg v)) H1 → va_S (eA V) (xs_ x).heap H1 locs1 → Wx x H1 locs1 pc' ls st') → Wx x H locs pc ls st) (K : ∀ s1 : St, JB V x M pc' lv st' s1 (F s1) P) : JB V x M pc lv st σ (W.bind F) P := by
  intro b hb hP H locs ls h1 h2 h3
  subst hW
  by_cases hi : inb i n = true
  · simp only [hi, if_true, Option.bind_some] at hb
    exact h (inb_vp hi) H locs ls h1 h2 (fun H1 locs1 a1 a2 => K _ b hb hP H1 locs1 ls a1 a2 h3)
  · simp [hi] at hb
theorem j_iast (X : Ok V x M) {g c n : Nat} (k : Nat) {i v : Int32} {F : St → Option β} (hk : fk c k = (1, n)) (hg : cgv V g = c) (hc : c ≤ 12) (hd : decode M.1 pc = .ok (.iastore, 1)) (K : ∀ s1 : St, JB V x M (pc + 1) lv st s1 (F s1) P) : JB V x M pc lv (.int v :: .int i :: .ref (ead V g (k + 1)) :: st) σ ((wro σ g (k + 1) n i v).bind F) P := by
  obtain ⟨q, hq⟩ := ix_arr (k := k) hg hc (by rw [hk]; dsimp only; omega)
  have he := wl_at (V := V) (σ := σ) hq
  have hg := (cgv_cg hg hc).1
  rw [cellE_i hg hk] at he
  refine jb_wr rfl (fun hi H locs ls h1 h2 kk => va_iast X.1 X.2.1 X.2.2.2.2.2.1.1 h1 (X.2.2.2.2.2.1.2.2.2.2.2.1.D σ) h2 q 0 he rfl hi hd (fun H1 locs1 a1 _ a3 => kk H1 locs1 ?_ a3)) K
  rw [← wl_ast (e := .inl (eca V 0, n, .inl (upd (σ g (k + 1)) i.toNatClampNeg v))) hq (by rw [cellE_i hg hk, up3_arr])]
  exact a1
theorem j_bast (X : Ok V x M) {g c n : Nat} (k : Nat) {i v : Int32} {F : St → Option β} (hk : fk c k = (2, n)) (hg : cgv V g = c) (hc : c ≤ 12) (hd : decode M.1 pc = .ok (.bastore, 1)) (K : ∀ s1 : St, JB V x M (pc + 1) lv st s1 (F s1) P) : JB V x M pc lv (.int v :: .int i :: .ref (ead V g (k + 1)) :: st) σ ((wrb σ g (k + 1) n i v).bind F) P := by
  obtain ⟨q, hq⟩ := ix_arr (k := k) hg hc (by rw [hk]; dsimp only; omega)
  have he := wl_at (V := V) (σ := σ) hq
  have hg := (cgv_cg hg hc).1
  rw [cellE_b hg hk] at he
  refine jb_wr rfl (fun hi H locs ls h1 h2 kk => va_bast X.1 X.2.1 X.2.2.2.2.2.1.1 h1 (X.2.2.2.2.2.1.2.2.2.2.2.1.D σ) h2 q 1 he rfl hi hd (fun H1 locs1 a1 _ a3 => kk H1 locs1 ?_ a3)) K
  rw [← wl_ast (e := .inl (eca V 1, n, .inl (upd (σ g (k + 1)) i.toNatClampNeg v.toInt8.toInt32))) hq (by rw [cellE_b hg hk, up3_arr])]
  rw [vp_nar_byte] at a1
  exact a1
theorem j_zast (X : Ok V x M) {g c n : Nat} (k : Nat) {i v : Int32} {F : St → Option β} (hk : fk c k = (3, n)) (hg : cgv V g = c) (hc : c ≤ 12) (hd : decode M.1 pc = .ok (.bastore, 1)) (K : ∀ s1 : St, JB V x M (pc + 1) lv st s1 (F s1) P) : JB V x M pc lv (.int v :: .int i :: .ref (ead V g (k + 1)) :: st) σ ((wrz σ g (k + 1) n i v).bind F) P := by
  obtain ⟨q, hq⟩ := ix_arr (k := k) hg hc (by rw [hk]; dsimp only; omega)
  have he := wl_at (V := V) (σ := σ) hq
  have hg := (cgv_cg hg hc).1
  rw [cellE_z hg hk] at he
  refine jb_wr rfl (fun hi H locs ls h1 h2 kk => va_zast X.1 X.2.1 X.2.2.2.2.2.1.1 h1 (X.2.2.2.2.2.1.2.2.2.2.2.1.D σ) h2 q 2 he rfl hi hd (fun H1 locs1 a1 _ a3 => kk H1 locs1 ?_ a3)) K
  rw [← wl_ast (e := .inl (eca V 2, n, .inl (upd (σ g (k + 1)) i.toNatClampNeg (vp_nar .boolean v)))) hq (by rw [cellE_z hg hk, up3_arr])]
  exact a1
end
