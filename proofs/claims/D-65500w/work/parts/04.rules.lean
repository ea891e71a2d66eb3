/-! the judgement, and a rule an instruction -/
set_option maxRecDepth 100000
/-- the String constants: whose pool, which entry, the text -/
def strL : List (String × Nat × String) := [("RescueHouse$Reader", 44, "town1 street3 lane3 close1 open1 unit2 off1 on1 post2 call3 send0 go2 end1 kind8 report7 name6 hours3 away5 shift0 tick1 undo0 drill0 done0 ways1 plan0 prove0 check9 cover0 move0 units0 calls0 bill1 where6 path2 radio1 flow2 dam2 judge4 counts0 ahead1 shifts0 audit0 books0 cut1 mend0 "), ("RescueHouse", 580, "bad "), ("RescueHouse", 585, "shut"), ("RescueHouse", 131, ""), ("RescueHouse", 133, "no size"), ("RescueHouse", 139, "no place"), ("RescueHouse", 141, "no time"), ("RescueHouse", 146, "no room"), ("RescueHouse", 148, "no street"), ("RescueHouse", 154, "same"), ("RescueHouse", 156, "no skill"), ("RescueHouse", 164, "no unit"), ("RescueHouse", 169, "not home"), ("RescueHouse", 171, "off"), ("RescueHouse", 176, "no rank"), ("RescueHouse", 192, "no call"), ("RescueHouse", 274, "not free"), ("RescueHouse", 279, "not waiting"), ("RescueHouse", 291, "no way"), ("RescueHouse", 260, "too deep"), ("RescueHouse", 221, "no kind"), ("RescueHouse", 242, "too many"), ("RescueHouse", 244, "ask"), ("RescueHouse", 246, "no name"), ("RescueHouse", 255, "taken"), ("RescueHouse", 269, "no hour"), ("RescueHouse", 198, "no step"), ("RescueHouse", 204, "on"), ("RescueHouse", 206, "no drill"), ("RescueHouse", 299, "joined "), ("RescueHouse", 309, "call "), ("RescueHouse", 359, "kind "), ("RescueHouse", 392, "ok"), ("RescueHouse", 488, "no names"), ("RescueHouse$Flow", 92, ";c"), ("RescueHouse$Flow", 118, "bad f"), ("RescueHouse$Flow", 127, "bad street "), ("RescueHouse$Flow", 129, "bad place "), ("RescueHouse$Flow", 135, "bad c"), ("RescueHouse$Flow", 140, "bad value"), ("RescueHouse$Flow", 142, "flow "), ("RescueHouse$Cover", 53, "none "), ("RescueHouse", 539, "sound"), ("RescueHouse", 541, "broken"), ("RescueHouse$Planner", 105, "p "), ("RescueHouse$Planner", 117, "s "), ("RescueHouse$Planner", 122, ";c"), ("RescueHouse$Checker", 141, "line "), ("RescueHouse$Checker", 153, "open"), ("RescueHouse$Checker", 155, "sum "), ("RescueHouse$Cover", 69, "none"), ("RescueHouse", 452, "shgao"), ("RescueHouse", 575, "no cut"), ("RescueHouse", 603, "check ")]
/-- their bytes -/
def strB : List (List Int32) := [[116, 111, 119, 110, 49, 32, 115, 116, 114, 101, 101, 116, 51, 32, 108, 97, 110, 101, 51, 32, 99, 108, 111, 115, 101, 49, 32, 111, 112, 101, 110, 49, 32, 117, 110, 105, 116, 50, 32, 111, 102, 102, 49, 32, 111, 110, 49, 32, 112, 111, 115, 116, 50, 32, 99, 97, 108, 108, 51, 32, 115, 101, 110, 100, 48, 32, 103, 111, 50, 32, 101, 110, 100, 49, 32, 107, 105, 110, 100, 56, 32, 114, 101, 112, 111, 114, 116, 55, 32, 110, 97, 109, 101, 54, 32, 104, 111, 117, 114, 115, 51, 32, 97, 119, 97, 121, 53, 32, 115, 104, 105, 102, 116, 48, 32, 116, 105, 99, 107, 49, 32, 117, 110, 100, 111, 48, 32, 100, 114, 105, 108, 108, 48, 32, 100, 111, 110, 101, 48, 32, 119, 97, 121, 115, 49, 32, 112, 108, 97, 110, 48, 32, 112, 114, 111, 118, 101, 48, 32, 99, 104, 101, 99, 107, 57, 32, 99, 111, 118, 101, 114, 48, 32, 109, 111, 118, 101, 48, 32, 117, 110, 105, 116, 115, 48, 32, 99, 97, 108, 108, 115, 48, 32, 98, 105, 108, 108, 49, 32, 119, 104, 101, 114, 101, 54, 32, 112, 97, 116, 104, 50, 32, 114, 97, 100, 105, 111, 49, 32, 102, 108, 111, 119, 50, 32, 100, 97, 109, 50, 32, 106, 117, 100, 103, 101, 52, 32, 99, 111, 117, 110, 116, 115, 48, 32, 97, 104, 101, 97, 100, 49, 32, 115, 104, 105, 102, 116, 115, 48, 32, 97, 117, 100, 105, 116, 48, 32, 98, 111, 111, 107, 115, 48, 32, 99, 117, 116, 49, 32, 109, 101, 110, 100, 48, 32],
  [98, 97, 100, 32],
  [115, 104, 117, 116],
  [],
  [110, 111, 32, 115, 105, 122, 101],
  [110, 111, 32, 112, 108, 97, 99, 101],
  [110, 111, 32, 116, 105, 109, 101],
  [110, 111, 32, 114, 111, 111, 109],
  [110, 111, 32, 115, 116, 114, 101, 101, 116],
  [115, 97, 109, 101],
  [110, 111, 32, 115, 107, 105, 108, 108],
  [110, 111, 32, 117, 110, 105, 116],
  [110, 111, 116, 32, 104, 111, 109, 101],
  [111, 102, 102],
  [110, 111, 32, 114, 97, 110, 107],
  [110, 111, 32, 99, 97, 108, 108],
  [110, 111, 116, 32, 102, 114, 101, 101],
  [110, 111, 116, 32, 119, 97, 105, 116, 105, 110, 103],
  [110, 111, 32, 119, 97, 121],
  [116, 111, 111, 32, 100, 101, 101, 112],
  [110, 111, 32, 107, 105, 110, 100],
  [116, 111, 111, 32, 109, 97, 110, 121],
  [97, 115, 107],
  [110, 111, 32, 110, 97, 109, 101],
  [116, 97, 107, 101, 110],
  [110, 111, 32, 104, 111, 117, 114],
  [110, 111, 32, 115, 116, 101, 112],
  [111, 110],
  [110, 111, 32, 100, 114, 105, 108, 108],
  [106, 111, 105, 110, 101, 100, 32],
  [99, 97, 108, 108, 32],
  [107, 105, 110, 100, 32],
  [111, 107],
  [110, 111, 32, 110, 97, 109, 101, 115],
  [59, 99],
  [98, 97, 100, 32, 102],
  [98, 97, 100, 32, 115, 116, 114, 101, 101, 116, 32],
  [98, 97, 100, 32, 112, 108, 97, 99, 101, 32],
  [98, 97, 100, 32, 99],
  [98, 97, 100, 32, 118, 97, 108, 117, 101],
  [102, 108, 111, 119, 32],
  [110, 111, 110, 101, 32],
  [115, 111, 117, 110, 100],
  [98, 114, 111, 107, 101, 110],
  [112, 32],
  [115, 32],
  [59, 99],
  [108, 105, 110, 101, 32],
  [111, 112, 101, 110],
  [115, 117, 109, 32],
  [110, 111, 110, 101],
  [115, 104, 103, 97, 111],
  [110, 111, 32, 99, 117, 116],
  [99, 104, 101, 99, 107, 32]]
def slen (i : Nat) : Nat := (strB.getD i []).length
def sbyt (i k : Nat) : Int32 := (strB.getD i []).getD k 0
def SWx (V : Ev) (U : State) (H : Heap) : Prop := ∀ i : Nat, i < strL.length →
  va_O "java/lang/String" (eK V i) (eA V) U H ∧ va_OF "java/lang/String" "coder" "B" (.int 0) (eK V i) (eA V) U H ∧ va_OF "java/lang/String" "value" "[B" (.ref (eB V i)) (eK V i) (eA V) U H ∧ va_T .byte (eB V i) (slen i) (fun j => .int (sbyt i j)) (eA V) U H
theorem SWx.moved {V : Ev} {u U : State} {H : Heap} (hvm : u.vm.Alike U.vm) (h : SWx V u H) : SWx V U H :=
  fun i hi => ⟨va_O.moved hvm (h i hi).1, va_OF.moved hvm (h i hi).2.1, va_OF.moved hvm (h i hi).2.2.1, va_T.moved hvm (h i hi).2.2.2⟩
theorem SWx.kept {V : Ev} {U : State} {H H1 : Heap} (h : SWx V U H) (hq : ∀ a : Nat, a < H.size → ¬ eA V a → H1[a]? = H[a]?) : SWx V U H1 :=
  fun i hi => ⟨(h i hi).1.kept hq, (h i hi).2.1.kept hq, (h i hi).2.2.1.kept hq, (h i hi).2.2.2.kept hq⟩
def StrOk (V : Ev) (U : State) : Prop := ∀ (i : Nat) (q : String × Nat × String), strL[i]? = some q → vk_R q.1 q.2.1 q.2.2 (eK V i) U
/-- statics of the JDK that are read -/
def StaOk (V : Ev) (U : State) (H : Heap) : Prop := va_Z "java/lang/String" "COMPACT_STRINGS" "Z" (.int 1) (eA V) U H ∧ va_Zq "jdk/internal/util/Preconditions" "SIOOBE_FORMATTER" "Ljava/util/function/BiFunction;" (eA V) U H
/-- what holds at every method's entry -/
def EvOk (V : Ev) (U : State) : Prop := va_K (eD V) vwCl (etys V) U ∧ NestOk U ∧ StrOk V U ∧ SWx V U U.heap ∧ StaOk V U U.heap ∧ Apart V ∧ esz V ≤ U.heap.size
theorem EvOk.moved {V : Ev} {s U : State} {locs : List Loc} (h : EvOk V s) (hW : s.WarmedH U.vm) (hS : va_S (eA V) s.heap U.heap locs) : EvOk V U := by
  obtain ⟨h1, h2, h3, h4, h5, h6, h7⟩ := h
  refine ⟨va_K.moved hW.alike h1, h2.warm hW, fun i q hq => (h3 i q hq).warm hW, (h4.moved hW.alike).kept hS.2.1, ⟨(va_Z.moved hW.alike h5.1).kept hS.2.1, (va_Zq.moved hW.alike h5.2).kept hS.2.1⟩, h6, Nat.le_trans h7 hS.1⟩
theorem EvOk.calling {V : Ev} {U : State} (h : EvOk V U) (g : JFrame) (mk : MethodId) (a : Array Value) : EvOk V (U.calling g mk a) := by
  obtain ⟨h1, h2, h3, h4, h5, h6, h7⟩ := h
  have hv : U.vm.Alike (U.calling g mk a).vm := Vm.Alike.refl U.vm
  exact ⟨va_K.moved hv h1, NestOk.same (u := U) (U := U.calling g mk a) rfl h2, fun i q hq => vk_R.same (u := U) (U := U.calling g mk a) rfl (h3 i q hq), h4.moved hv, ⟨va_Z.moved hv h5.1, va_Zq.moved hv h5.2⟩, h6, h7⟩
/-- machine, launch, env, room, state at entry, method, arguments, frames below, method, code, what must hold at the end, cells, slots, the answer and the last state -/
abbrev Cx : Type := Program × Launch × Env × Room × State × MethodId × Array Value × List Frame × Method × Code × (State → Prop) × Nat × Nat × (Int32 × St)
/-- a method's code, locals, class -/
abbrev Mt : Type := ByteArray × Nat × String
def Wx (x : Cx) (H : Heap) (locs : List Loc) (pc : Nat) (ls : Array Slot) (st : List Value) : Prop :=
  W x.1 x.2.1 x.2.2.1 x.2.2.2.1 x.2.2.2.2.1 x.2.2.2.2.2.1 x.2.2.2.2.2.2.1 x.2.2.2.2.2.2.2.1 x.2.2.2.2.2.2.2.2.1 x.2.2.2.2.2.2.2.2.2.1 H locs x.2.2.2.2.2.2.2.2.2.2.2.1 x.2.2.2.2.2.2.2.2.2.2.2.2.1 x.2.2.2.2.2.2.2.2.2.2.1 (F0 x.2.2.2.2.2.1 pc ls st)
abbrev xs_ (x : Cx) : State := x.2.2.2.2.1
abbrev xR_ (x : Cx) : Room := x.2.2.2.1
abbrev xq_ (x : Cx) : Int32 × St := x.2.2.2.2.2.2.2.2.2.2.2.2.2
def Ok (V : Ev) (x : Cx) (M : Mt) : Prop :=
  x.1.tables.exec = Jvm.exec ∧ x.2.2.2.2.2.2.2.2.2.1.code = M.1 ∧ x.2.2.2.2.2.2.2.2.2.1.maxLocals = M.2.1 ∧ (xs_ x).vm.findClass M.2.2 = some x.2.2.2.2.2.1.cls ∧ (∀ w ∈ lw_all, w.before x.2.2.2.2.2.2.1 (xs_ x) = true) ∧ EvOk V (xs_ x) ∧ x.2.2.2.2.2.2.2.2.1.locks = false ∧ x.2.2.2.2.2.2.2.2.2.2.2.1 ≤ (xR_ x).cells ∧ x.2.2.2.2.2.2.2.2.2.2.2.2.1 ≤ (xR_ x).slots
def Zw (V : Ev) (x : Cx) (M : Mt) (pc : Nat) (lv : List (Nat × Value)) (st : List Value) (σ : St) : Prop :=
  ∀ (H : Heap) (locs : List Loc) (ls : Array Slot), va_P (eD V) vwCl (wl V σ) H → va_S (eA V) (xs_ x).heap H locs → lv_has ls M.2.1 lv → Wx x H locs pc ls st
/-- from here the machine comes to its end, if the rest G answers b and P b -/
def JB {β : Type} (V : Ev) (x : Cx) (M : Mt) (pc : Nat) (lv : List (Nat × Value)) (st : List Value) (σ : St) (G : Option β) (P : β → Prop) : Prop :=
  ∀ b, G = some b → P b → Zw V x M pc lv st σ
section
variable {V : Ev} {x : Cx} {M : Mt} {pc : Nat} {lv : List (Nat × Value)} {st : List Value} {σ : St} {β : Type} {G : Option β} {P : β → Prop}
theorem jb_go {pc' : Nat} {st' : List Value} (h : ∀ (H : Heap) (locs : List Loc) (ls : Array Slot), lv_has ls M.2.1 lv → Wx x H locs pc' ls st' → Wx x H locs pc ls st) (K : JB V x M pc' lv st' σ G P) : JB V x M pc lv st σ G P :=
  fun b hb hP H locs ls h1 h2 h3 => h H locs ls h3 (K b hb hP H locs ls h1 h2 h3)
theorem j_iconst (X : Ok V x M) {n : Int} (v : Int32) (hd : decode M.1 pc = .ok (.iconst n, 1)) (hv : Int32.ofInt n = v) (K : JB V x M (pc + 1) lv (.int v :: st) σ G P) : JB V x M pc lv st σ G P := jb_go (fun _ _ _ _ k => lv_iconst X.1 X.2.1 hd hv k) K
theorem j_bipush (X : Ok V x M) {n : Int} (v : Int32) (hd : decode M.1 pc = .ok (.bipush n, 2)) (hv : (Int8.ofInt n).toInt32 = v) (K : JB V x M (pc + 2) lv (.int v :: st) σ G P) : JB V x M pc lv st σ G P := jb_go (fun _ _ _ _ k => lv_bipush X.1 X.2.1 hd hv k) K
theorem j_sipush (X : Ok V x M) {n : Int} (v : Int32) (hd : decode M.1 pc = .ok (.sipush n, 3)) (hv : (Int16.ofInt n).toInt32 = v) (K : JB V x M (pc + 3) lv (.int v :: st) σ G P) : JB V x M pc lv st σ G P := jb_go (fun _ _ _ _ k => lv_sipush X.1 X.2.1 hd hv k) K
theorem j_lconst0 (X : Ok V x M) (hd : decode M.1 pc = .ok (.lconst 0, 1)) (K : JB V x M (pc + 1) lv (.long 0 :: st) σ G P) : JB V x M pc lv st σ G P := jb_go (fun _ _ _ _ k => lv_lconst X.1 X.2.1 hd rfl k) K
theorem j_iload_n (X : Ok V x M) {k : Fin 4} {a : Int32} (q : Nat) (hd : decode M.1 pc = .ok (.iload_n k, 1)) (hl : lv[q]? = some ((k : Nat), .int a)) (K : JB V x M (pc + 1) lv (.int a :: st) σ G P) : JB V x M pc lv st σ G P := jb_go (fun _ _ _ h w => lv_iload_n X.1 X.2.1 hd rfl (lv_at h q hl) w) K
theorem j_iload (X : Ok V x M) {i : Nat} {a : Int32} (q : Nat) (hd : decode M.1 pc = .ok (.iload i, 2)) (hl : lv[q]? = some (i, .int a)) (K : JB V x M (pc + 2) lv (.int a :: st) σ G P) : JB V x M pc lv st σ G P := jb_go (fun _ _ _ h w => lv_iload X.1 X.2.1 hd (lv_at h q hl) w) K
theorem j_lload_n (X : Ok V x M) {k : Fin 4} {a : Int64} (q : Nat) (hd : decode M.1 pc = .ok (.lload_n k, 1)) (hl : lv[q]? = some ((k : Nat), .long a)) (K : JB V x M (pc + 1) lv (.long a :: st) σ G P) : JB V x M pc lv st σ G P := jb_go (fun _ _ _ h w => lv_lload_n X.1 X.2.1 hd rfl (lv_at h q hl) w) K
theorem j_aload_n (X : Ok V x M) {k : Fin 4} {a : Nat} (q : Nat) (hd : decode M.1 pc = .ok (.aload_n k, 1)) (hl : lv[q]? = some ((k : Nat), .ref a)) (K : JB V x M (pc + 1) lv (.ref a :: st) σ G P) : JB V x M pc lv st σ G P := jb_go (fun _ _ _ h w => lv_aload_n X.1 X.2.1 hd rfl (lv_at h q hl) w) K
theorem j_aload (X : Ok V x M) {i : Nat} {a : Nat} (q : Nat) (hd : decode M.1 pc = .ok (.aload i, 2)) (hl : lv[q]? = some (i, .ref a)) (K : JB V x M (pc + 2) lv (.ref a :: st) σ G P) : JB V x M pc lv st σ G P := jb_go (fun _ _ _ h w => lv_aload X.1 X.2.1 hd (lv_at h q hl) w) K
/-- the locals are another list -/
theorem jb_st {pc' : Nat} {st' : List Value} {lv' : List (Nat × Value)} (h : ∀ (H : Heap) (locs : List Loc) (ls : Array Slot), lv_has ls M.2.1 lv → (∀ ls', lv_has ls' M.2.1 lv' → Wx x H locs pc' ls' st') → Wx x H locs pc ls st) (K : JB V x M pc' lv' st' σ G P) : JB V x M pc lv st σ G P :=
  fun b hb hP H locs ls h1 h2 h3 => h H locs ls h3 (fun ls' h4 => K b hb hP H locs ls' h1 h2 h4)
def lstI (lv : List (Nat × Value)) (i : Nat) (v : Value) : List (Nat × Value) := (i, v) :: lv.filter (fun q => !(q.1 == i) && !(q.1 + 1 == i && q.2.category == 2))
def lstL (lv : List (Nat × Value)) (i : Nat) (v : Value) : List (Nat × Value) := (i, v) :: lv.filter (fun q => !(q.1 == i) && (!(q.1 == i + 1) && !(q.1 + 1 == i && q.2.category == 2)))
theorem j_istore_n (X : Ok V x M) {k : Fin 4} {a : Int32} (lv' : List (Nat × Value)) (hd : decode M.1 pc = .ok (.istore_n k, 1)) (hn : (k : Nat) < M.2.1) (hl : lstI lv (k : Nat) (.int a) = lv') (K : JB V x M (pc + 1) lv' st σ G P) : JB V x M pc lv (.int a :: st) σ G P := jb_st (fun _ _ _ h w => lv_istore_n X.1 X.2.1 hd rfl h hn hl w) K
theorem j_istore (X : Ok V x M) {i : Nat} {a : Int32} (lv' : List (Nat × Value)) (hd : decode M.1 pc = .ok (.istore i, 2)) (hn : i < M.2.1) (hl : lstI lv i (.int a) = lv') (K : JB V x M (pc + 2) lv' st σ G P) : JB V x M pc lv (.int a :: st) σ G P := jb_st (fun _ _ _ h w => lv_istore X.1 X.2.1 hd h hn hl w) K
theorem j_astore_n (X : Ok V x M) {k : Fin 4} {a : Nat} (lv' : List (Nat × Value)) (hd : decode M.1 pc = .ok (.astore_n k, 1)) (hn : (k : Nat) < M.2.1) (hl : lstI lv (k : Nat) (.ref a) = lv') (K : JB V x M (pc + 1) lv' st σ G P) : JB V x M pc lv (.ref a :: st) σ G P := jb_st (fun _ _ _ h w => lv_astore_n X.1 X.2.1 hd rfl h hn hl w) K
theorem j_astore (X : Ok V x M) {i : Nat} {a : Nat} (lv' : List (Nat × Value)) (hd : decode M.1 pc = .ok (.astore i, 2)) (hn : i < M.2.1) (hl : lstI lv i (.ref a) = lv') (K : JB V x M (pc + 2) lv' st σ G P) : JB V x M pc lv (.ref a :: st) σ G P := jb_st (fun _ _ _ h w => lv_astore X.1 X.2.1 hd h hn hl w) K
theorem j_lstore_n (X : Ok V x M) {k : Fin 4} {a : Int64} (lv' : List (Nat × Value)) (hd : decode M.1 pc = .ok (.lstore_n k, 1)) (hn : (k : Nat) + 1 < M.2.1) (hl : lstL lv (k : Nat) (.long a) = lv') (K : JB V x M (pc + 1) lv' st σ G P) : JB V x M pc lv (.long a :: st) σ G P := jb_st (fun _ _ _ h w => lv_lstore_n X.1 X.2.1 hd rfl h hn hl w) K
theorem j_iinc (X : Ok V x M) {i : Nat} {n : Int} {a : Int32} (q : Nat) (d : Int32) (lv' : List (Nat × Value)) (hd : decode M.1 pc = .ok (.iinc i n, 3)) (hq : lv[q]? = some (i, .int a)) (hv : Int32.ofInt n = d) (hn : i < M.2.1) (hl : lstI lv i (.int (a + d)) = lv') (K : JB V x M (pc + 3) lv' st σ G P) : JB V x M pc lv st σ G P := jb_st (fun _ _ _ h w => lv_iinc X.1 X.2.1 hd h hq (by rw [hv]) hn hl w) K
theorem j_iadd (X : Ok V x M) {a b : Int32} (hd : decode M.1 pc = .ok (.iadd, 1)) (K : JB V x M (pc + 1) lv (.int (a + b) :: st) σ G P) : JB V x M pc lv (.int b :: .int a :: st) σ G P := jb_go (fun _ _ _ _ k => lv_iadd X.1 X.2.1 hd k) K
theorem j_isub (X : Ok V x M) {a b : Int32} (hd : decode M.1 pc = .ok (.isub, 1)) (K : JB V x M (pc + 1) lv (.int (a - b) :: st) σ G P) : JB V x M pc lv (.int b :: .int a :: st) σ G P := jb_go (fun _ _ _ _ k => lv_isub X.1 X.2.1 hd k) K
theorem j_imul (X : Ok V x M) {a b : Int32} (hd : decode M.1 pc = .ok (.imul, 1)) (K : JB V x M (pc + 1) lv (.int (a * b) :: st) σ G P) : JB V x M pc lv (.int b :: .int a :: st) σ G P := jb_go (fun _ _ _ _ k => lv_imul X.1 X.2.1 hd k) K
theorem j_iand (X : Ok V x M) {a b : Int32} (hd : decode M.1 pc = .ok (.iand, 1)) (K : JB V x M (pc + 1) lv (.int (a &&& b) :: st) σ G P) : JB V x M pc lv (.int b :: .int a :: st) σ G P := jb_go (fun _ _ _ _ k => lv_iand X.1 X.2.1 hd k) K
theorem j_ior (X : Ok V x M) {a b : Int32} (hd : decode M.1 pc = .ok (.ior, 1)) (K : JB V x M (pc + 1) lv (.int (a ||| b) :: st) σ G P) : JB V x M pc lv (.int b :: .int a :: st) σ G P := jb_go (fun _ _ _ _ k => lv_ior X.1 X.2.1 hd k) K
theorem j_ixor (X : Ok V x M) {a b : Int32} (hd : decode M.1 pc = .ok (.ixor, 1)) (K : JB V x M (pc + 1) lv (.int (a ^^^ b) :: st) σ G P) : JB V x M pc lv (.int b :: .int a :: st) σ G P := jb_go (fun _ _ _ _ k => lv_ixor X.1 X.2.1 hd k) K
theorem j_ishl (X : Ok V x M) {a b : Int32} (hd : decode M.1 pc = .ok (.ishl, 1)) (K : JB V x M (pc + 1) lv (.int (a <<< (b &&& 31)) :: st) σ G P) : JB V x M pc lv (.int b :: .int a :: st) σ G P := jb_go (fun _ _ _ _ k => lv_ishl X.1 X.2.1 hd k) K
theorem j_ishr (X : Ok V x M) {a b : Int32} (hd : decode M.1 pc = .ok (.ishr, 1)) (K : JB V x M (pc + 1) lv (.int (a >>> (b &&& 31)) :: st) σ G P) : JB V x M pc lv (.int b :: .int a :: st) σ G P := jb_go (fun _ _ _ _ k => lv_ishr X.1 X.2.1 hd k) K
theorem j_ineg (X : Ok V x M) {a : Int32} (hd : decode M.1 pc = .ok (.ineg, 1)) (K : JB V x M (pc + 1) lv (.int (-a) :: st) σ G P) : JB V x M pc lv (.int a :: st) σ G P := jb_go (fun _ _ _ _ k => lv_ineg X.1 X.2.1 hd k) K
theorem j_i2b (X : Ok V x M) {a : Int32} (hd : decode M.1 pc = .ok (.i2b, 1)) (K : JB V x M (pc + 1) lv (.int a.toInt8.toInt32 :: st) σ G P) : JB V x M pc lv (.int a :: st) σ G P := jb_go (fun _ _ _ _ k => lv_i2b X.1 X.2.1 hd rfl k) K
theorem j_i2c (X : Ok V x M) {a : Int32} (hd : decode M.1 pc = .ok (.i2c, 1)) (K : JB V x M (pc + 1) lv (.int (a.toUInt32 % 65536).toInt32 :: st) σ G P) : JB V x M pc lv (.int a :: st) σ G P := jb_go (fun _ _ _ _ k => lv_i2c X.1 X.2.1 hd rfl k) K
theorem j_i2l (X : Ok V x M) {a : Int32} (hd : decode M.1 pc = .ok (.i2l, 1)) (K : JB V x M (pc + 1) lv (.long a.toInt64 :: st) σ G P) : JB V x M pc lv (.int a :: st) σ G P := jb_go (fun _ _ _ _ k => lv_i2l X.1 X.2.1 hd rfl k) K
theorem j_ladd (X : Ok V x M) {a b : Int64} (hd : decode M.1 pc = .ok (.ladd, 1)) (K : JB V x M (pc + 1) lv (.long (a + b) :: st) σ G P) : JB V x M pc lv (.long b :: .long a :: st) σ G P := jb_go (fun _ _ _ _ k => lv_ladd X.1 X.2.1 hd k) K
theorem j_lsub (X : Ok V x M) {a b : Int64} (hd : decode M.1 pc = .ok (.lsub, 1)) (K : JB V x M (pc + 1) lv (.long (a - b) :: st) σ G P) : JB V x M pc lv (.long b :: .long a :: st) σ G P := jb_go (fun _ _ _ _ k => lv_lsub X.1 X.2.1 hd k) K
theorem j_lmul (X : Ok V x M) {a b : Int64} (hd : decode M.1 pc = .ok (.lmul, 1)) (K : JB V x M (pc + 1) lv (.long (a * b) :: st) σ G P) : JB V x M pc lv (.long b :: .long a :: st) σ G P := jb_go (fun _ _ _ _ k => lv_lmul X.1 X.2.1 hd k) K
/-- a constant that isn't 0 divides -/
theorem j_idivc (X : Ok V x M) {a b : Int32} (hd : decode M.1 pc = .ok (.idiv, 1)) (hb : ¬ b = 0) (K : JB V x M (pc + 1) lv (.int (a / b) :: st) σ G P) : JB V x M pc lv (.int b :: .int a :: st) σ G P := jb_go (fun _ _ _ _ k => lv_idiv X.1 X.2.1 hd hb k) K
theorem j_iremc (X : Ok V x M) {a b : Int32} (hd : decode M.1 pc = .ok (.irem, 1)) (hb : ¬ b = 0) (K : JB V x M (pc + 1) lv (.int (a - a / b * b) :: st) σ G P) : JB V x M pc lv (.int b :: .int a :: st) σ G P := jb_go (fun _ _ _ _ k => lv_irem X.1 X.2.1 hd hb k) K
/-- a division that may fail -/
def dvo (a b : Int32) : Option Int32 := if b = 0 then none else some (a / b)
theorem j_idiv (X : Ok V x M) {a b : Int32} {F : Int32 → Option β} (hd : decode M.1 pc = .ok (.idiv, 1)) (K : ∀ r : Int32, JB V x M (pc + 1) lv (.int r :: st) σ (F r) P) : JB V x M pc lv (.int b :: .int a :: st) σ ((dvo a b).bind F) P := by
  intro r hr hP H locs ls h1 h2 h3
  by_cases hb : b = 0
  · simp [dvo, hb] at hr
  · simp only [dvo, hb, if_false, Option.bind_some] at hr
    exact lv_idiv X.1 X.2.1 hd hb (K _ r hr hP H locs ls h1 h2 h3)
theorem j_dup (X : Ok V x M) {a : Value} (hd : decode M.1 pc = .ok (.dup, 1)) (ha : a.category = 1) (K : JB V x M (pc + 1) lv (a :: a :: st) σ G P) : JB V x M pc lv (a :: st) σ G P := jb_go (fun _ _ _ _ k => lv_dup X.1 X.2.1 hd ha k) K
theorem j_pop (X : Ok V x M) {a : Value} (hd : decode M.1 pc = .ok (.pop, 1)) (ha : a.category = 1) (K : JB V x M (pc + 1) lv st σ G P) : JB V x M pc lv (a :: st) σ G P := jb_go (fun _ _ _ _ k => lv_pop X.1 X.2.1 hd ha k) K
theorem j_dup_x1 (X : Ok V x M) {a b : Value} (hd : decode M.1 pc = .ok (.dup_x1, 1)) (ha : a.category = 1) (hb : b.category = 1) (K : JB V x M (pc + 1) lv (a :: b :: a :: st) σ G P) : JB V x M pc lv (a :: b :: st) σ G P := jb_go (fun _ _ _ _ k => lv_dup_x1 X.1 X.2.1 hd ha hb k) K
theorem j_dup2 (X : Ok V x M) {a b : Value} (hd : decode M.1 pc = .ok (.dup2, 1)) (ha : a.category = 1) (hb : b.category = 1) (K : JB V x M (pc + 1) lv (a :: b :: a :: b :: st) σ G P) : JB V x M pc lv (a :: b :: st) σ G P := jb_go (fun _ _ _ _ k => lv_dup2_11 X.1 X.2.1 hd ha hb k) K
theorem j_goto (X : Ok V x M) {off : Int} (tgt : Nat) (hd : decode M.1 pc = .ok (.goto off, 3)) (ht : (pc : Int) + off = (tgt : Int)) (K : JB V x M tgt lv st σ G P) : JB V x M pc lv st σ G P := jb_go (fun _ _ _ _ k => lv_goto X.1 X.2.1 hd ht k) K
theorem j_ldc (X : Ok V x M) {i : Nat} {v : Int32} (hd : decode M.1 pc = .ok (.ldc i, 2)) (hc : Cond.constant M.2.2 i v ∈ lw_all) (K : JB V x M (pc + 2) lv (.int v :: st) σ G P) : JB V x M pc lv st σ G P := jb_go (fun _ _ _ _ k => lv_ldc X.1 X.2.1 X.2.2.2.1 (X.2.2.2.2.1 _ hc) hd k) K
theorem j_ldcw (X : Ok V x M) {i : Nat} {v : Int32} (hd : decode M.1 pc = .ok (.ldc_w i, 3)) (hc : Cond.constant M.2.2 i v ∈ lw_all) (K : JB V x M (pc + 3) lv (.int v :: st) σ G P) : JB V x M pc lv st σ G P := jb_go (fun _ _ _ _ k => lv_ldcw X.1 X.2.1 X.2.2.2.1 (X.2.2.2.2.1 _ hc) hd k) K
theorem j_ldc2 (X : Ok V x M) {i : Nat} {v : Int64} (hd : decode M.1 pc = .ok (.ldc2_w i, 3)) (hc : Cond.constantLong M.2.2 i v ∈ lw_all) (K : JB V x M (pc + 3) lv (.long v :: st) σ G P) : JB V x M pc lv st σ G P := jb_go (fun _ _ _ _ k => lv_ldc2 X.1 X.2.1 X.2.2.2.1 (X.2.2.2.2.1 _ hc) hd k) K
end
/-! rules: branches, joins, loops, fields, arrays, calls, returns -/
set_option maxRecDepth 100000
section
variable {V : Ev} {x : Cx} {M : Mt} {pc : Nat} {lv : List (Nat × Value)} {st : List Value} {σ : St} {β : Type} {G : Option β} {P : β → Prop} {G1 G2 : Option β}
theorem jb_ite {c : Prop} [Decidable c] {st1 : List Value} {tgt pc2 : Nat} (h : ∀ (H : Heap) (locs : List Loc) (ls : Array Slot), (c → Wx x H locs tgt ls st1) → (¬ c → Wx x H locs pc2 ls st1) → Wx x H locs pc ls st) (K1 : JB V x M tgt lv st1 σ G1 P) (K2 : JB V x M pc2 lv st1 σ G2 P) : JB V x M pc lv st σ (if c then G1 else G2) P := by
  intro b hb hP H locs ls h1 h2 h3
  refine h H locs ls (fun hc => ?_) (fun hc => ?_)
  · rw [if_pos hc] at hb
    exact K1 b hb hP H locs ls h1 h2 h3
  · rw [if_neg hc] at hb
    exact K2 b hb hP H locs ls h1 h2 h3
theorem j_ifeq (X : Ok V x M) {a : Int32} {off : Int} (tgt : Nat) (hd : decode M.1 pc = .ok (.ifCond .eq off, 3)) (ht : (pc : Int) + off = (tgt : Int)) (K1 : JB V x M tgt lv st σ G1 P) (K2 : JB V x M (pc + 3) lv st σ G2 P) : JB V x M pc lv (.int a :: st) σ (if a = 0 then G1 else G2) P := jb_ite (fun _ _ _ k1 k2 => lv_if_eq X.1 X.2.1 hd ht k1 k2) K1 K2
theorem j_ifne (X : Ok V x M) {a : Int32} {off : Int} (tgt : Nat) (hd : decode M.1 pc = .ok (.ifCond .ne off, 3)) (ht : (pc : Int) + off = (tgt : Int)) (K1 : JB V x M tgt lv st σ G2 P) (K2 : JB V x M (pc + 3) lv st σ G1 P) : JB V x M pc lv (.int a :: st) σ (if a = 0 then G1 else G2) P := jb_ite (fun _ _ _ k1 k2 => lv_if_ne X.1 X.2.1 hd ht k2 k1) K2 K1
theorem j_iflt (X : Ok V x M) {a : Int32} {off : Int} (tgt : Nat) (hd : decode M.1 pc = .ok (.ifCond .lt off, 3)) (ht : (pc : Int) + off = (tgt : Int)) (K1 : JB V x M tgt lv st σ G1 P) (K2 : JB V x M (pc + 3) lv st σ G2 P) : JB V x M pc lv (.int a :: st) σ (if a < 0 then G1 else G2) P := jb_ite (fun _ _ _ k1 k2 => lv_if_lt X.1 X.2.1 hd ht k1 k2) K1 K2
theorem j_ifge (X : Ok V x M) {a : Int32} {off : Int} (tgt : Nat) (hd : decode M.1 pc = .ok (.ifCond .ge off, 3)) (ht : (pc : Int) + off = (tgt : Int)) (K1 : JB V x M tgt lv st σ G2 P) (K2 : JB V x M (pc + 3) lv st σ G1 P) : JB V x M pc lv (.int a :: st) σ (if a < 0 then G1 else G2) P := jb_ite (fun _ _ _ k1 k2 => lv_if_ge X.1 X.2.1 hd ht (fun h => k2 (Int32.not_lt.mpr h)) (fun h => k1 (Int32.not_le.mp h))) K2 K1
theorem j_ifgt (X : Ok V x M) {a : Int32} {off : Int} (tgt : Nat) (hd : decode M.1 pc = .ok (.ifCond .gt off, 3)) (ht : (pc : Int) + off = (tgt : Int)) (K1 : JB V x M tgt lv st σ G1 P) (K2 : JB V x M (pc + 3) lv st σ G2 P) : JB V x M pc lv (.int a :: st) σ (if 0 < a then G1 else G2) P := jb_ite (fun _ _ _ k1 k2 => lv_if_gt X.1 X.2.1 hd ht k1 k2) K1 K2
theorem j_ifle (X : Ok V x M) {a : Int32} {off : Int} (tgt : Nat) (hd : decode M.1 pc = .ok (.ifCond .le off, 3)) (ht : (pc : Int) + off = (tgt : Int)) (K1 : JB V x M tgt lv st σ G2 P) (K2 : JB V x M (pc + 3) lv st σ G1 P) : JB V x M pc lv (.int a :: st) σ (if 0 < a then G1 else G2) P := jb_ite (fun _ _ _ k1 k2 => lv_if_le X.1 X.2.1 hd ht (fun h => k2 (Int32.not_lt.mpr h)) (fun h => k1 (Int32.not_le.mp h))) K2 K1
theorem j_icmpeq (X : Ok V x M) {a b : Int32} {off : Int} (tgt : Nat) (hd : decode M.1 pc = .ok (.if_icmp .eq off, 3)) (ht : (pc : Int) + off = (tgt : Int)) (K1 : JB V x M tgt lv st σ G1 P) (K2 : JB V x M (pc + 3) lv st σ G2 P) : JB V x M pc lv (.int b :: .int a :: st) σ (if a = b then G1 else G2) P := jb_ite (fun _ _ _ k1 k2 => lv_icmp_eq X.1 X.2.1 hd ht k1 k2) K1 K2
theorem j_icmpne (X : Ok V x M) {a b : Int32} {off : Int} (tgt : Nat) (hd : decode M.1 pc = .ok (.if_icmp .ne off, 3)) (ht : (pc : Int) + off = (tgt : Int)) (K1 : JB V x M tgt lv st σ G2 P) (K2 : JB V x M (pc + 3) lv st σ G1 P) : JB V x M pc lv (.int b :: .int a :: st) σ (if a = b then G1 else G2) P := jb_ite (fun _ _ _ k1 k2 => lv_icmp_ne X.1 X.2.1 hd ht k2 k1) K2 K1
theorem j_icmplt (X : Ok V x M) {a b : Int32} {off : Int} (tgt : Nat) (hd : decode M.1 pc = .ok (.if_icmp .lt off, 3)) (ht : (pc : Int) + off = (tgt : Int)) (K1 : JB V x M tgt lv st σ G1 P) (K2 : JB V x M (pc + 3) lv st σ G2 P) : JB V x M pc lv (.int b :: .int a :: st) σ (if a < b then G1 else G2) P := jb_ite (fun _ _ _ k1 k2 => lv_icmp_lt X.1 X.2.1 hd ht k1 k2) K1 K2
theorem j_icmpge (X : Ok V x M) {a b : Int32} {off : Int} (tgt : Nat) (hd : decode M.1 pc = .ok (.if_icmp .ge off, 3)) (ht : (pc : Int) + off = (tgt : Int)) (K1 : JB V x M tgt lv st σ G2 P) (K2 : JB V x M (pc + 3) lv st σ G1 P) : JB V x M pc lv (.int b :: .int a :: st) σ (if a < b then G1 else G2) P := jb_ite (fun _ _ _ k1 k2 => lv_icmp_ge X.1 X.2.1 hd ht (fun h => k2 (Int32.not_lt.mpr h)) (fun h => k1 (Int32.not_le.mp h))) K2 K1
theorem j_icmpgt (X : Ok V x M) {a b : Int32} {off : Int} (tgt : Nat) (hd : decode M.1 pc = .ok (.if_icmp .gt off, 3)) (ht : (pc : Int) + off = (tgt : Int)) (K1 : JB V x M tgt lv st σ G1 P) (K2 : JB V x M (pc + 3) lv st σ G2 P) : JB V x M pc lv (.int b :: .int a :: st) σ (if b < a then G1 else G2) P := jb_ite (fun _ _ _ k1 k2 => lv_icmp_gt X.1 X.2.1 hd ht k1 k2) K1 K2
theorem j_icmple (X : Ok V x M) {a b : Int32} {off : Int} (tgt : Nat) (hd : decode M.1 pc = .ok (.if_icmp .le off, 3)) (ht : (pc : Int) + off = (tgt : Int)) (K1 : JB V x M tgt lv st σ G2 P) (K2 : JB V x M (pc + 3) lv st σ G1 P) : JB V x M pc lv (.int b :: .int a :: st) σ (if b < a then G1 else G2) P := jb_ite (fun _ _ _ k1 k2 => lv_icmp_le X.1 X.2.1 hd ht (fun h => k2 (Int32.not_lt.mpr h)) (fun h => k1 (Int32.not_le.mp h))) K2 K1
theorem j_lcmp (X : Ok V x M) {a b : Int64} (hd : decode M.1 pc = .ok (.lcmp, 1)) (K : JB V x M (pc + 1) lv (.int (lg_cmp a b) :: st) σ G P) : JB V x M pc lv (.long b :: .long a :: st) σ G P := jb_go (fun _ _ _ _ k => W.lcmp X.1 X.2.1 hd k) K
/-- where a table leads -/
def TT (pc : Nat) (dflt lo hi : Int) (offs : Array Int) (a : Int32) (tgt : Nat) : Prop := ((a.toInt < lo ∨ hi < a.toInt) ∧ (pc : Int) + dflt = (tgt : Int)) ∨ (¬ a.toInt < lo ∧ ¬ hi < a.toInt ∧ ∃ off, offs[(a.toInt - lo).toNat]? = some off ∧ (pc : Int) + off = (tgt : Int))
theorem w_table {dflt lo hi : Int} {offs : Array Int} {len : Nat} {a : Int32} {tgt : Nat} (X : Ok V x M) (hd : decode M.1 pc = .ok (.tableswitch dflt lo hi offs, len)) (ht : TT pc dflt lo hi offs a tgt) {H : Heap} {locs : List Loc} {ls : Array Slot} (k : Wx x H locs tgt ls st) : Wx x H locs pc ls (.int a :: st) := by
  rcases ht with ⟨h, ht⟩ | ⟨h1, h2, off, h3, h4⟩
  · exact lv_tableOut X.1 X.2.1 hd h ht k
  · exact lv_tableIn X.1 X.2.1 hd h1 h2 h3 h4 k
/-- a case of a table: its condition, where it leads; the rest stays at the switch -/
theorem j_tcase (X : Ok V x M) {dflt lo hi : Int} {offs : Array Int} {len : Nat} {a : Int32} (tgt : Nat) {c : Prop} [Decidable c] (hd : decode M.1 pc = .ok (.tableswitch dflt lo hi offs, len)) (ht : c → TT pc dflt lo hi offs a tgt) (K1 : JB V x M tgt lv st σ G1 P) (K2 : ¬ c → JB V x M pc lv (.int a :: st) σ G2 P) : JB V x M pc lv (.int a :: st) σ (if c then G1 else G2) P := by
  intro b hb hP H locs ls h1 h2 h3
  by_cases hc : c
  · rw [if_pos hc] at hb
    exact w_table X hd (ht hc) (K1 b hb hP H locs ls h1 h2 h3)
  · rw [if_neg hc] at hb
    exact K2 hc b hb hP H locs ls h1 h2 h3
theorem j_tlast (X : Ok V x M) {dflt lo hi : Int} {offs : Array Int} {len : Nat} {a : Int32} (tgt : Nat) (hd : decode M.1 pc = .ok (.tableswitch dflt lo hi offs, len)) (ht : TT pc dflt lo hi offs a tgt) (K1 : JB V x M tgt lv st σ G P) : JB V x M pc lv (.int a :: st) σ G P := by
  intro b hb hP H locs ls h1 h2 h3
  exact w_table X hd ht (K1 b hb hP H locs ls h1 h2 h3)
/-- the default of a table: none of the values that lead elsewhere -/
theorem TT_default {pc : Nat} {dflt lo hi : Int} {offs : Array Int} {a : Int32} {tgt : Nat} (vals : List Int32) (hx : ∀ v ∈ vals, ¬ a = v) (ht : (pc : Int) + dflt = (tgt : Int)) (n : Nat) (hn : hi - lo = (n : Int)) (hall : ∀ k, k < n + 1 → Int32.ofInt (lo + (k : Int)) ∈ vals ∨ offs[k]? = some dflt) : TT pc dflt lo hi offs a tgt := by
  by_cases h1 : a.toInt < lo
  · exact Or.inl ⟨Or.inl h1, ht⟩
  by_cases h2 : hi < a.toInt
  · exact Or.inl ⟨Or.inr h2, ht⟩
  refine Or.inr ⟨h1, h2, dflt, ?_, ht⟩
  rcases hall (a.toInt - lo).toNat (by omega) with h | h
  · exact absurd (by rw [show lo + (((a.toInt - lo).toNat : Nat) : Int) = a.toInt by omega, Int32.ofInt_toInt]) (hx _ h)
  · exact h
/-- a case of a lookup -/
theorem j_lcase (X : Ok V x M) {dflt : Int} {ps : Array (Int × Int)} {len : Nat} {a : Int32} (tgt : Nat) {c : Prop} [Decidable c] (hd : decode M.1 pc = .ok (.lookupswitch dflt ps, len)) (hp : (ps.toList.zip (ps.toList.drop 1)).all (fun (a, next) => a.1 < next.1) = true) (ht : c → (pc : Int) + Op.lookupswitch.offset ps.toList dflt a.toInt = (tgt : Int)) (K1 : JB V x M tgt lv st σ G1 P) (K2 : ¬ c → JB V x M pc lv (.int a :: st) σ G2 P) : JB V x M pc lv (.int a :: st) σ (if c then G1 else G2) P := by
  intro b hb hP H locs ls h1 h2 h3
  by_cases hc : c
  · rw [if_pos hc] at hb
    exact lv_lookup X.1 X.2.1 hd hp rfl (ht hc) (K1 b hb hP H locs ls h1 h2 h3)
  · rw [if_neg hc] at hb
    exact K2 hc b hb hP H locs ls h1 h2 h3
theorem j_llast (X : Ok V x M) {dflt : Int} {ps : Array (Int × Int)} {len : Nat} {a : Int32} (tgt : Nat) (hd : decode M.1 pc = .ok (.lookupswitch dflt ps, len)) (hp : (ps.toList.zip (ps.toList.drop 1)).all (fun (a, next) => a.1 < next.1) = true) (ht : (pc : Int) + Op.lookupswitch.offset ps.toList dflt a.toInt = (tgt : Int)) (K1 : JB V x M tgt lv st σ G P) : JB V x M pc lv (.int a :: st) σ G P := by
  intro b hb hP H locs ls h1 h2 h3
  exact lv_lookup X.1 X.2.1 hd hp rfl ht (K1 b hb hP H locs ls h1 h2 h3)
/-- a join: the region's answer, then what is behind it -/
theorem j_bind {α : Type} {A : Option α} {K : α → Option β} (Pa : α → Prop) (h1 : JB V x M pc lv st σ A Pa) (h2 : ∀ a, (∀ b, K a = some b → P b → Pa a)) : JB V x M pc lv st σ (A.bind K) P := by
  intro b hb hP
  cases hA : A with
  | none => rw [hA] at hb; cases hb
  | some a =>
    rw [hA] at hb
    exact h1 a hA (h2 a b hb hP)
/-- a region with two ways out -/
def bindL {α γ : Type} (A : Option (α ⊕ γ)) (K : α → Option γ) : Option γ := match A with
  | none => none
  | some (.inl a) => K a
  | some (.inr g) => some g
theorem bindL_inl {α γ : Type} (a : α) (K : α → Option γ) : bindL (some (.inl a)) K = K a := rfl
theorem bindL_inr {α γ : Type} (g : γ) (K : α → Option γ) : bindL (some (.inr g)) K = some g := rfl
theorem bindL_none {α γ : Type} (K : α → Option γ) : bindL (none : Option (α ⊕ γ)) K = none := rfl
def SumP {α γ : Type} (p : α → Prop) (q : γ → Prop) : α ⊕ γ → Prop
  | .inl a => p a
  | .inr g => q g
theorem j_bindL {α : Type} {A : Option (α ⊕ β)} {K : α → Option β} (Pa : α → Prop) (h1 : JB V x M pc lv st σ A (SumP Pa P)) (h2 : ∀ a, (∀ b, K a = some b → P b → Pa a)) : JB V x M pc lv st σ (bindL A K) P := by
  intro b hb hP
  cases hA : A with
  | none => rw [hA] at hb; cases hb
  | some a =>
    rw [hA] at hb
    cases a with
    | inl a => exact h1 _ hA (h2 a b hb hP)
    | inr g =>
      have e : g = b := Option.some.inj hb
      subst e
      exact h1 _ hA hP
/-- the end of a region -/
theorem j_join {b : β} (ks : List Nat) {lv' : List (Nat × Value)} (h : P b → Zw V x M pc lv' st σ) (hk : lv_pick lv ks = lv') : JB V x M pc lv st σ (some b) P := by
  intro b' hb hP H locs ls h1 h2 h3
  cases hb
  exact h hP H locs ls h1 h2 (lv_sub h3 ks hk)
/-- fewer locals -/
theorem j_sub (ks : List Nat) (lv' : List (Nat × Value)) (hk : lv_pick lv ks = lv') (K : JB V x M pc lv' st σ G P) : JB V x M pc lv st σ G P :=
  fun b hb hP H locs ls h1 h2 h3 => K b hb hP H locs ls h1 h2 (lv_sub h3 ks hk)
end
/-- a loop: the body answers the next state, or the loop's end -/
def itN {α β : Type} (f : α → Option (α ⊕ β)) : Nat → α → Option β
  | 0, _ => none
  | n + 1, a => match f a with
    | none => none
    | some (.inl a') => itN f n a'
    | some (.inr b) => some b
theorem itN_more {α β : Type} {f : α → Option (α ⊕ β)} : ∀ {n : Nat} {a : α} {b : β}, itN f n a = some b → itN f (n + 1) a = some b := by
  intro n
  induction n with
  | zero => intro a b h; cases h
  | succ n ih =>
    intro a b h
    rw [itN] at h ⊢
    cases hf : f a with
    | none => rw [hf] at h; cases h
    | some z =>
      rw [hf] at h
      cases z with
      | inl a' => exact ih h
      | inr b' => exact h
theorem itN_le {α β : Type} {f : α → Option (α ⊕ β)} {n : Nat} {a : α} {b : β} (h : itN f n a = some b) : ∀ k, itN f (n + k) a = some b := by
  intro k
  induction k with
  | zero => exact h
  | succ k ih => exact itN_more ih
theorem itN_det {α β : Type} {f : α → Option (α ⊕ β)} {n m : Nat} {a : α} {b c : β} (h : itN f n a = some b) (h' : itN f m a = some c) : b = c := by
  have h1 := itN_le h m
  have h2 := itN_le h' n
  rw [Nat.add_comm] at h2
  exact Option.some.inj (h1.symm.trans h2)
noncomputable def iter {α β : Type} (f : α → Option (α ⊕ β)) (a : α) : Option β :=
  @dite _ (∃ n b, itN f n a = some b) (Classical.propDecidable _) (fun h => itN f (Classical.choose h) a) (fun _ => none)
theorem iter_of {α β : Type} {f : α → Option (α ⊕ β)} {n : Nat} {a : α} {b : β} (h : itN f n a = some b) : iter f a = some b := by
  have hx : ∃ n b, itN f n a = some b := ⟨n, b, h⟩
  unfold iter
  rw [dif_pos hx]
  obtain ⟨c, hc⟩ := Classical.choose_spec hx
  rw [hc, itN_det hc h]
theorem iter_ex {α β : Type} {f : α → Option (α ⊕ β)} {a : α} {b : β} (h : iter f a = some b) : ∃ n, itN f n a = some b := by
  unfold iter at h
  by_cases hx : ∃ n b, itN f n a = some b
  · rw [dif_pos hx] at h
    exact ⟨_, h⟩
  · rw [dif_neg hx] at h
    cases h
/-- one turn of a loop -/
theorem iter_eq {α β : Type} (f : α → Option (α ⊕ β)) (a : α) : iter f a = match f a with
    | none => none
    | some (.inl a') => iter f a'
    | some (.inr b) => some b := by
  cases hf : f a with
  | none =>
    show iter f a = none
    cases hi : iter f a with
    | none => rfl
    | some b =>
      obtain ⟨n, hn⟩ := iter_ex hi
      cases n with
      | zero => cases hn
      | succ n => rw [itN, hf] at hn; cases hn
  | some z =>
    cases z with
    | inr b => exact iter_of (n := 1) (by rw [itN, hf])
    | inl a' =>
      show iter f a = iter f a'
      cases hi : iter f a' with
      | some b =>
        obtain ⟨n, hn⟩ := iter_ex hi
        exact iter_of (n := n + 1) (by rw [itN, hf]; exact hn)
      | none =>
        cases hj : iter f a with
        | none => rfl
        | some b =>
          obtain ⟨n, hn⟩ := iter_ex hj
          cases n with
          | zero => cases hn
          | succ n =>
            rw [itN, hf] at hn
            rw [iter_of hn] at hi
            cases hi
theorem iter_inl {α β : Type} {f : α → Option (α ⊕ β)} {a a' : α} (h : f a = some (.inl a')) : iter f a = iter f a' := by rw [iter_eq, h]
theorem iter_inr {α β : Type} {f : α → Option (α ⊕ β)} {a : α} {b : β} (h : f a = some (.inr b)) : iter f a = some b := by rw [iter_eq, h]
section
variable {V : Ev} {x : Cx} {M : Mt} {pc : Nat} {st : List Value} {β : Type} {P : β → Prop}
theorem j_iter {α : Type} {f : α → Option (α ⊕ β)} (lvf : α → List (Nat × Value)) (sf : α → St) (K : ∀ a, JB V x M pc (lvf a) st (sf a) (f a) (SumP (fun a => Zw V x M pc (lvf a) st (sf a)) P)) (a : α) : JB V x M pc (lvf a) st (sf a) (iter f a) P := by
  intro b hb hP
  obtain ⟨n, hn⟩ := iter_ex hb
  clear hb
  induction n generalizing a with
  | zero => cases hn
  | succ n ih =>
    rw [itN] at hn
    cases hf : f a with
    | none => rw [hf] at hn; cases hn
    | some z =>
      rw [hf] at hn
      cases z with
      | inr b' =>
        have e : b' = b := Option.some.inj hn
        subst e
        exact K a _ hf hP
      | inl a' => exact K a _ hf (ih a' hn)
end
