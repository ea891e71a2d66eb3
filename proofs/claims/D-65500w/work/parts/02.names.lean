/-! RescueHouse -/
set_option maxRecDepth 100000
def RX0 : String := "RescueHouse"
def TX0 : u_T := fun k => match k with
  | 0 => ("RescueHouse", "tape", "[B", true)
  | 1 => ("RescueHouse", "record", "[B", true)
  | 2 => ("RescueHouse", "proofBytes", "[B", true)
  | 3 => ("RescueHouse", "out", "LRescueHouse$Text;", true)
  | 4 => ("RescueHouse", "reader", "LRescueHouse$Reader;", true)
  | 5 => ("RescueHouse", "house", "LRescueHouse$House;", true)
  | 6 => ("RescueHouse", "drilled", "LRescueHouse$House;", true)
  | 7 => ("RescueHouse", "later", "LRescueHouse$House;", true)
  | 8 => ("RescueHouse", "asker", "LRescueHouse$Asker;", true)
  | 9 => ("RescueHouse", "finder", "LRescueHouse$Finder;", true)
  | 10 => ("RescueHouse", "radio", "LRescueHouse$Radio;", true)
  | 11 => ("RescueHouse", "flow", "LRescueHouse$Flow;", true)
  | 12 => ("RescueHouse", "steps", "[LRescueHouse$House;", true)
  | 13 => ("RescueHouse", "planner", "LRescueHouse$Planner;", true)
  | 14 => ("RescueHouse", "checker", "LRescueHouse$Checker;", true)
  | 15 => ("RescueHouse", "cover", "LRescueHouse$Cover;", true)
  | 16 => ("RescueHouse", "book", "LRescueHouse$Book;", true)
  | 17 => ("RescueHouse", "taped", "I", false)
  | 18 => ("RescueHouse", "stepMany", "I", false)
  | 19 => ("RescueHouse", "stepNext", "I", false)
  | 20 => ("RescueHouse", "drilling", "Z", false)
  | _ => ("RescueHouse", "ranks", "[I", true)
def tyX0 : Nat → FieldType := fun k => match k with
  | 0 => .array .byte
  | 1 => .array .byte
  | 2 => .array .byte
  | 3 => .object "RescueHouse$Text"
  | 4 => .object "RescueHouse$Reader"
  | 5 => .object "RescueHouse$House"
  | 6 => .object "RescueHouse$House"
  | 7 => .object "RescueHouse$House"
  | 8 => .object "RescueHouse$Asker"
  | 9 => .object "RescueHouse$Finder"
  | 10 => .object "RescueHouse$Radio"
  | 11 => .object "RescueHouse$Flow"
  | 12 => .array (.object "RescueHouse$House")
  | 13 => .object "RescueHouse$Planner"
  | 14 => .object "RescueHouse$Checker"
  | 15 => .object "RescueHouse$Cover"
  | 16 => .object "RescueHouse$Book"
  | 17 => .int
  | 18 => .int
  | 19 => .int
  | 20 => .boolean
  | _ => .array .int
abbrev wsX00 : List Cond := u_ws RX0 TX0 22
set_option maxRecDepth 100000 in
theorem nmX0 : ∀ a, a < 22 → ∀ b, b < 22 → a ≠ b → (TX0 a).2.1 ≠ (TX0 b).2.1 := by decide +kernel
set_option maxRecDepth 100000 in
theorem tyX0_ok : ∀ k, k < 22 → parseFieldDescriptor (TX0 k).2.2.1 = some (tyX0 k) := by decide +kernel
abbrev cX0_init : ByteArray := prog_1_method_2_code
def yX0_init : MethodName := ⟨RX0, "<init>", "()V"⟩
abbrev cX0_feed : ByteArray := prog_1_method_30_code
def yX0_feed : MethodName := ⟨RX0, "feed", "(IIIII)I"⟩
abbrev cX0_ask : ByteArray := prog_1_method_31_code
def yX0_ask : MethodName := ⟨RX0, "ask", "(I)I"⟩
abbrev cX0_request : ByteArray := prog_1_method_29_code
def yX0_request : MethodName := ⟨RX0, "request", "([BI)I"⟩
abbrev cX0_in : ByteArray := prog_1_method_1_code
def yX0_in : MethodName := ⟨RX0, "in", "(III)Z"⟩
abbrev cX0_told : ByteArray := prog_1_method_15_code
def yX0_told : MethodName := ⟨RX0, "told", "([BI)V"⟩
abbrev cX0_refusal : ByteArray := prog_1_method_6_code
def yX0_refusal : MethodName := ⟨RX0, "refusal", "(IIII)Ljava/lang/String;"⟩
abbrev cX0_refusedCall : ByteArray := prog_1_method_7_code
def yX0_refusedCall : MethodName := ⟨RX0, "refusedCall", "(II)Ljava/lang/String;"⟩
abbrev cX0_refusedGo : ByteArray := prog_1_method_11_code
def yX0_refusedGo : MethodName := ⟨RX0, "refusedGo", "(II)Ljava/lang/String;"⟩
abbrev cX0_refusedMore : ByteArray := prog_1_method_10_code
def yX0_refusedMore : MethodName := ⟨RX0, "refusedMore", "(IIII)Ljava/lang/String;"⟩
abbrev cX0_refusedReport : ByteArray := prog_1_method_8_code
def yX0_refusedReport : MethodName := ⟨RX0, "refusedReport", "(II)Ljava/lang/String;"⟩
abbrev cX0_refusedName : ByteArray := prog_1_method_9_code
def yX0_refusedName : MethodName := ⟨RX0, "refusedName", "(I)Ljava/lang/String;"⟩
abbrev cX0_perform : ByteArray := prog_1_method_14_code
def yX0_perform : MethodName := ⟨RX0, "perform", "(IIII)V"⟩
abbrev cX0_keep : ByteArray := prog_1_method_4_code
def yX0_keep : MethodName := ⟨RX0, "keep", "()V"⟩
abbrev cX0_forget : ByteArray := prog_1_method_3_code
def yX0_forget : MethodName := ⟨RX0, "forget", "()V"⟩
abbrev cX0_post : ByteArray := prog_1_method_13_code
def yX0_post : MethodName := ⟨RX0, "post", "(II)V"⟩
abbrev cX0_call : ByteArray := prog_1_method_12_code
def yX0_call : MethodName := ⟨RX0, "call", "(III)V"⟩
abbrev cX0_undo : ByteArray := prog_1_method_5_code
def yX0_undo : MethodName := ⟨RX0, "undo", "()V"⟩
abbrev cX0_asked : ByteArray := prog_1_method_28_code
def yX0_asked : MethodName := ⟨RX0, "asked", "()V"⟩
abbrev cX0_askedMore : ByteArray := prog_1_method_27_code
def yX0_askedMore : MethodName := ⟨RX0, "askedMore", "(III)V"⟩
abbrev cX0_where : ByteArray := prog_1_method_21_code
def yX0_where : MethodName := ⟨RX0, "where", "()V"⟩
abbrev cX0_path : ByteArray := prog_1_method_22_code
def yX0_path : MethodName := ⟨RX0, "path", "(II)V"⟩
abbrev cX0_flows : ByteArray := prog_1_method_23_code
def yX0_flows : MethodName := ⟨RX0, "flows", "(II)Z"⟩
abbrev cX0_counts : ByteArray := prog_1_method_24_code
def yX0_counts : MethodName := ⟨RX0, "counts", "()V"⟩
abbrev cX0_ahead : ByteArray := prog_1_method_25_code
def yX0_ahead : MethodName := ⟨RX0, "ahead", "(I)V"⟩
abbrev cX0_shifts : ByteArray := prog_1_method_26_code
def yX0_shifts : MethodName := ⟨RX0, "shifts", "()V"⟩
abbrev cX0_ways : ByteArray := prog_1_method_17_code
def yX0_ways : MethodName := ⟨RX0, "ways", "(I)V"⟩
abbrev cX0_units : ByteArray := prog_1_method_18_code
def yX0_units : MethodName := ⟨RX0, "units", "()V"⟩
abbrev cX0_calls : ByteArray := prog_1_method_19_code
def yX0_calls : MethodName := ⟨RX0, "calls", "()V"⟩
abbrev cX0_bill : ByteArray := prog_1_method_20_code
def yX0_bill : MethodName := ⟨RX0, "bill", "(I)V"⟩
abbrev cX0_mend : ByteArray := prog_1_method_16_code
def yX0_mend : MethodName := ⟨RX0, "mend", "()V"⟩
abbrev cX0_answer : ByteArray := prog_1_method_32_code
def yX0_answer : MethodName := ⟨RX0, "answer", "(I)I"⟩
abbrev cX0_checkAnswer : ByteArray := prog_1_method_33_code
def yX0_checkAnswer : MethodName := ⟨RX0, "checkAnswer", "()I"⟩
abbrev cX0_state : ByteArray := prog_1_method_34_code
def yX0_state : MethodName := ⟨RX0, "state", "(I)I"⟩
abbrev cX0_byteAt : ByteArray := prog_1_method_35_code
def yX0_byteAt : MethodName := ⟨RX0, "byteAt", "(I)I"⟩
abbrev cX0_poke : ByteArray := prog_1_method_36_code
def yX0_poke : MethodName := ⟨RX0, "poke", "(II)Z"⟩
theorem q188 : (Jvm.Cond.initialized "RescueHouse") ∈ lw_all := lw_g (lw_at lw_m1 1 rfl) rfl
theorem q207 : (Jvm.Cond.instantiable "RescueHouse" (22 : Nat)) ∈ lw_all := lw_g (lw_at lw_m1 20 rfl) rfl
theorem q209 : (Jvm.Cond.instanceMethod ({ cls := "RescueHouse", name := "<init>", desc := "()V" } : Jvm.MethodName)) ∈ lw_all := lw_g (lw_at lw_m1 22 rfl) rfl
theorem q210 : (Jvm.Cond.code ({ cls := "RescueHouse", name := "<init>", desc := "()V" } : Jvm.MethodName) prog_1_method_2_code (2 : Nat) (Option.none : Option Jvm.ClassFile.FieldType)) ∈ lw_all := lw_g (lw_at lw_m1 23 rfl) rfl
theorem q211 : (Jvm.Cond.methodLink "RescueHouse" (1 : Nat) ({ cls := "java/lang/Object", name := "<init>", desc := "()V" } : Jvm.MethodName)) ∈ lw_all := lw_g (lw_at lw_m1 24 rfl) rfl
theorem q214 : (Jvm.Cond.classLink "RescueHouse" (19 : Nat) "RescueHouse$Text") ∈ lw_all := lw_g (lw_at lw_m1 27 rfl) rfl
theorem q216 : (Jvm.Cond.methodLinkNest "RescueHouse" (21 : Nat) ({ cls := "RescueHouse$Text", name := "<init>", desc := "()V" } : Jvm.MethodName) "RescueHouse") ∈ lw_tbl := lw_at lw_m1 29 rfl
theorem q221 : (Jvm.Cond.fieldLinkNest "RescueHouse" (605 : Nat) "RescueHouse$Text" "bytes" "[B" "RescueHouse") ∈ lw_tbl := lw_at lw_m1 34 rfl
theorem q223 : (Jvm.Cond.fieldLinkNest "RescueHouse" (591 : Nat) "RescueHouse$Text" "size" "I" "RescueHouse") ∈ lw_tbl := lw_at lw_m1 36 rfl
theorem q230 : (Jvm.Cond.classLink "RescueHouse" (26 : Nat) "RescueHouse$Reader") ∈ lw_all := lw_g (lw_at lw_m1 43 rfl) rfl
theorem q232 : (Jvm.Cond.methodLinkNest "RescueHouse" (28 : Nat) ({ cls := "RescueHouse$Reader", name := "<init>", desc := "()V" } : Jvm.MethodName) "RescueHouse") ∈ lw_tbl := lw_at lw_m1 45 rfl
theorem q237 : (Jvm.Cond.fieldLinkNest "RescueHouse" (394 : Nat) "RescueHouse$Reader" "numbers" "[I" "RescueHouse") ∈ lw_tbl := lw_at lw_m1 50 rfl
theorem q249 : (Jvm.Cond.fieldLinkNest "RescueHouse" (223 : Nat) "RescueHouse$Reader" "bytes" "[B" "RescueHouse") ∈ lw_tbl := lw_at lw_m1 62 rfl
theorem q253 : (Jvm.Cond.fieldLinkNest "RescueHouse" (397 : Nat) "RescueHouse$Reader" "command" "I" "RescueHouse") ∈ lw_tbl := lw_at lw_m1 66 rfl
theorem q259 : (Jvm.Cond.fieldLinkNest "RescueHouse" (226 : Nat) "RescueHouse$Reader" "begin" "I" "RescueHouse") ∈ lw_tbl := lw_at lw_m1 72 rfl
theorem q261 : (Jvm.Cond.fieldLinkNest "RescueHouse" (229 : Nat) "RescueHouse$Reader" "end" "I" "RescueHouse") ∈ lw_tbl := lw_at lw_m1 74 rfl
theorem q263 : (Jvm.Cond.fieldLinkNest "RescueHouse" (257 : Nat) "RescueHouse$Reader" "deepest" "I" "RescueHouse") ∈ lw_tbl := lw_at lw_m1 76 rfl
theorem q303 : (Jvm.Cond.classLink "RescueHouse" (33 : Nat) "RescueHouse$House") ∈ lw_all := lw_g (lw_at lw_m1 116 rfl) rfl
theorem q305 : (Jvm.Cond.methodLink "RescueHouse" (35 : Nat) ({ cls := "RescueHouse$House", name := "<init>", desc := "()V" } : Jvm.MethodName)) ∈ lw_all := lw_g (lw_at lw_m1 118 rfl) rfl
theorem q323 : (Jvm.Cond.fieldLinkNest "RescueHouse" (150 : Nat) "RescueHouse$House" "closed" "[Z" "RescueHouse") ∈ lw_tbl := lw_at lw_m1 136 rfl
theorem q327 : (Jvm.Cond.fieldLinkNest "RescueHouse" (375 : Nat) "RescueHouse$House" "awayFrom" "[I" "RescueHouse") ∈ lw_tbl := lw_at lw_m1 140 rfl
theorem q329 : (Jvm.Cond.fieldLinkNest "RescueHouse" (378 : Nat) "RescueHouse$House" "awayTo" "[I" "RescueHouse") ∈ lw_tbl := lw_at lw_m1 142 rfl
theorem q337 : (Jvm.Cond.fieldLinkNest "RescueHouse" (481 : Nat) "RescueHouse$House" "nameSize" "[I" "RescueHouse") ∈ lw_tbl := lw_at lw_m1 150 rfl
theorem q339 : (Jvm.Cond.fieldLinkNest "RescueHouse" (497 : Nat) "RescueHouse$House" "kept" "[I" "RescueHouse") ∈ lw_tbl := lw_at lw_m1 152 rfl
theorem q341 : (Jvm.Cond.fieldLinkNest "RescueHouse" (173 : Nat) "RescueHouse$House" "station" "[I" "RescueHouse") ∈ lw_tbl := lw_at lw_m1 154 rfl
theorem q346 : (Jvm.Cond.fieldLinkNest "RescueHouse" (458 : Nat) "RescueHouse$House" "place" "[I" "RescueHouse") ∈ lw_tbl := lw_at lw_m1 159 rfl
theorem q349 : (Jvm.Cond.fieldLinkNest "RescueHouse" (461 : Nat) "RescueHouse$House" "rest" "[I" "RescueHouse") ∈ lw_tbl := lw_at lw_m1 162 rfl
theorem q351 : (Jvm.Cond.fieldLinkNest "RescueHouse" (464 : Nat) "RescueHouse$House" "work" "[I" "RescueHouse") ∈ lw_tbl := lw_at lw_m1 164 rfl
theorem q354 : (Jvm.Cond.fieldLinkNest "RescueHouse" (166 : Nat) "RescueHouse$House" "state" "[I" "RescueHouse") ∈ lw_tbl := lw_at lw_m1 167 rfl
theorem q360 : (Jvm.Cond.fieldLinkNest "RescueHouse" (285 : Nat) "RescueHouse$House" "callPlace" "[I" "RescueHouse") ∈ lw_tbl := lw_at lw_m1 173 rfl
theorem q362 : (Jvm.Cond.fieldLinkNest "RescueHouse" (469 : Nat) "RescueHouse$House" "callSkill" "[I" "RescueHouse") ∈ lw_tbl := lw_at lw_m1 175 rfl
theorem q366 : (Jvm.Cond.fieldLinkNest "RescueHouse" (293 : Nat) "RescueHouse$House" "callRank" "[I" "RescueHouse") ∈ lw_tbl := lw_at lw_m1 179 rfl
theorem q368 : (Jvm.Cond.fieldLinkNest "RescueHouse" (475 : Nat) "RescueHouse$House" "fuelBill" "[I" "RescueHouse") ∈ lw_tbl := lw_at lw_m1 181 rfl
theorem q370 : (Jvm.Cond.fieldLinkNest "RescueHouse" (478 : Nat) "RescueHouse$House" "crewBill" "[I" "RescueHouse") ∈ lw_tbl := lw_at lw_m1 183 rfl
theorem q378 : (Jvm.Cond.fieldLinkNest "RescueHouse" (248 : Nat) "RescueHouse$House" "places" "I" "RescueHouse") ∈ lw_tbl := lw_at lw_m1 191 rfl
theorem q382 : (Jvm.Cond.fieldLinkNest "RescueHouse" (143 : Nat) "RescueHouse$House" "streets" "I" "RescueHouse") ∈ lw_tbl := lw_at lw_m1 195 rfl
theorem q386 : (Jvm.Cond.fieldLinkNest "RescueHouse" (158 : Nat) "RescueHouse$House" "units" "I" "RescueHouse") ∈ lw_tbl := lw_at lw_m1 199 rfl
theorem q392 : (Jvm.Cond.fieldLinkNest "RescueHouse" (215 : Nat) "RescueHouse$House" "calls" "I" "RescueHouse") ∈ lw_tbl := lw_at lw_m1 205 rfl
theorem q394 : (Jvm.Cond.fieldLinkNest "RescueHouse" (195 : Nat) "RescueHouse$House" "clock" "I" "RescueHouse") ∈ lw_tbl := lw_at lw_m1 207 rfl
theorem q396 : (Jvm.Cond.fieldLinkNest "RescueHouse" (566 : Nat) "RescueHouse$House" "fuel" "I" "RescueHouse") ∈ lw_tbl := lw_at lw_m1 209 rfl
theorem q398 : (Jvm.Cond.fieldLinkNest "RescueHouse" (569 : Nat) "RescueHouse$House" "crew" "I" "RescueHouse") ∈ lw_tbl := lw_at lw_m1 211 rfl
theorem q400 : (Jvm.Cond.fieldLinkNest "RescueHouse" (218 : Nat) "RescueHouse$House" "kinds" "I" "RescueHouse") ∈ lw_tbl := lw_at lw_m1 213 rfl
theorem q402 : (Jvm.Cond.fieldLinkNest "RescueHouse" (494 : Nat) "RescueHouse$House" "shifts" "I" "RescueHouse") ∈ lw_tbl := lw_at lw_m1 215 rfl
theorem q482 : (Jvm.Cond.classLink "RescueHouse" (46 : Nat) "RescueHouse$Asker") ∈ lw_all := lw_g (lw_at lw_m2 55 rfl) rfl
theorem q484 : (Jvm.Cond.methodLinkNest "RescueHouse" (48 : Nat) ({ cls := "RescueHouse$Asker", name := "<init>", desc := "()V" } : Jvm.MethodName) "RescueHouse") ∈ lw_tbl := lw_at lw_m2 57 rfl
theorem q489 : (Jvm.Cond.fieldLinkNest "RescueHouse" (416 : Nat) "RescueHouse$Asker" "question" "I" "RescueHouse") ∈ lw_tbl := lw_at lw_m2 62 rfl
theorem q491 : (Jvm.Cond.fieldLinkNest "RescueHouse" (236 : Nat) "RescueHouse$Asker" "skill" "I" "RescueHouse") ∈ lw_tbl := lw_at lw_m2 64 rfl
theorem q493 : (Jvm.Cond.fieldLinkNest "RescueHouse" (365 : Nat) "RescueHouse$Asker" "rank" "I" "RescueHouse") ∈ lw_tbl := lw_at lw_m2 66 rfl
theorem q495 : (Jvm.Cond.fieldLinkNest "RescueHouse" (239 : Nat) "RescueHouse$Asker" "tooMany" "Z" "RescueHouse") ∈ lw_tbl := lw_at lw_m2 68 rfl
theorem q505 : (Jvm.Cond.classLink "RescueHouse" (53 : Nat) "RescueHouse$Finder") ∈ lw_all := lw_g (lw_at lw_m2 78 rfl) rfl
theorem q507 : (Jvm.Cond.methodLinkNest "RescueHouse" (55 : Nat) ({ cls := "RescueHouse$Finder", name := "<init>", desc := "()V" } : Jvm.MethodName) "RescueHouse") ∈ lw_tbl := lw_at lw_m2 80 rfl
theorem q518 : (Jvm.Cond.classLink "RescueHouse" (60 : Nat) "RescueHouse$Radio") ∈ lw_all := lw_g (lw_at lw_m2 91 rfl) rfl
theorem q520 : (Jvm.Cond.methodLinkNest "RescueHouse" (62 : Nat) ({ cls := "RescueHouse$Radio", name := "<init>", desc := "()V" } : Jvm.MethodName) "RescueHouse") ∈ lw_tbl := lw_at lw_m2 93 rfl
theorem q543 : (Jvm.Cond.classLink "RescueHouse" (67 : Nat) "RescueHouse$Flow") ∈ lw_all := lw_g (lw_at lw_m2 116 rfl) rfl
theorem q545 : (Jvm.Cond.methodLinkNest "RescueHouse" (69 : Nat) ({ cls := "RescueHouse$Flow", name := "<init>", desc := "()V" } : Jvm.MethodName) "RescueHouse") ∈ lw_tbl := lw_at lw_m2 118 rfl
theorem q553 : (Jvm.Cond.fieldLinkNest "RescueHouse" (516 : Nat) "RescueHouse$Flow" "value" "I" "RescueHouse") ∈ lw_tbl := lw_at lw_m2 126 rfl
theorem q564 : (Jvm.Cond.classLink "RescueHouse" (78 : Nat) "RescueHouse$Planner") ∈ lw_all := lw_g (lw_at lw_m2 137 rfl) rfl
theorem q566 : (Jvm.Cond.methodLinkNest "RescueHouse" (80 : Nat) ({ cls := "RescueHouse$Planner", name := "<init>", desc := "()V" } : Jvm.MethodName) "RescueHouse") ∈ lw_tbl := lw_at lw_m2 139 rfl
theorem q601 : (Jvm.Cond.classLink "RescueHouse" (85 : Nat) "RescueHouse$Checker") ∈ lw_all := lw_g (lw_at lw_m2 174 rfl) rfl
theorem q603 : (Jvm.Cond.methodLinkNest "RescueHouse" (87 : Nat) ({ cls := "RescueHouse$Checker", name := "<init>", desc := "()V" } : Jvm.MethodName) "RescueHouse") ∈ lw_tbl := lw_at lw_m2 176 rfl
theorem q632 : (Jvm.Cond.classLink "RescueHouse" (92 : Nat) "RescueHouse$Cover") ∈ lw_all := lw_g (lw_at lw_m2 205 rfl) rfl
theorem q634 : (Jvm.Cond.methodLinkNest "RescueHouse" (94 : Nat) ({ cls := "RescueHouse$Cover", name := "<init>", desc := "()V" } : Jvm.MethodName) "RescueHouse") ∈ lw_tbl := lw_at lw_m2 207 rfl
theorem q645 : (Jvm.Cond.classLink "RescueHouse" (99 : Nat) "RescueHouse$Book") ∈ lw_all := lw_g (lw_at lw_m2 218 rfl) rfl
theorem q647 : (Jvm.Cond.methodLinkNest "RescueHouse" (101 : Nat) ({ cls := "RescueHouse$Book", name := "<init>", desc := "()V" } : Jvm.MethodName) "RescueHouse") ∈ lw_tbl := lw_at lw_m2 220 rfl
theorem q652 : (Jvm.Cond.fieldLinkNest "RescueHouse" (438 : Nat) "RescueHouse$Book" "bytes" "[B" "RescueHouse") ∈ lw_tbl := lw_at lw_m2 225 rfl
theorem q654 : (Jvm.Cond.fieldLinkNest "RescueHouse" (432 : Nat) "RescueHouse$Book" "used" "I" "RescueHouse") ∈ lw_tbl := lw_at lw_m2 227 rfl
theorem q657 : (Jvm.Cond.fieldLinkNest "RescueHouse" (582 : Nat) "RescueHouse$Book" "open" "Z" "RescueHouse") ∈ lw_tbl := lw_at lw_m2 230 rfl
theorem q667 : (Jvm.Cond.fieldLink "RescueHouse" (9 : Nat) "RescueHouse" "tape" "[B") ∈ lw_all := lw_g (lw_at lw_m3 0 rfl) rfl
theorem q668 : (Jvm.Cond.fieldLink "RescueHouse" (13 : Nat) "RescueHouse" "record" "[B") ∈ lw_all := lw_g (lw_at lw_m3 1 rfl) rfl
theorem q669 : (Jvm.Cond.fieldLink "RescueHouse" (16 : Nat) "RescueHouse" "proofBytes" "[B") ∈ lw_all := lw_g (lw_at lw_m3 2 rfl) rfl
theorem q670 : (Jvm.Cond.fieldLink "RescueHouse" (22 : Nat) "RescueHouse" "out" "LRescueHouse$Text;") ∈ lw_all := lw_g (lw_at lw_m3 3 rfl) rfl
theorem q671 : (Jvm.Cond.fieldLink "RescueHouse" (29 : Nat) "RescueHouse" "reader" "LRescueHouse$Reader;") ∈ lw_all := lw_g (lw_at lw_m3 4 rfl) rfl
theorem q672 : (Jvm.Cond.fieldLink "RescueHouse" (36 : Nat) "RescueHouse" "house" "LRescueHouse$House;") ∈ lw_all := lw_g (lw_at lw_m3 5 rfl) rfl
theorem q673 : (Jvm.Cond.fieldLink "RescueHouse" (40 : Nat) "RescueHouse" "drilled" "LRescueHouse$House;") ∈ lw_all := lw_g (lw_at lw_m3 6 rfl) rfl
theorem q674 : (Jvm.Cond.fieldLink "RescueHouse" (43 : Nat) "RescueHouse" "later" "LRescueHouse$House;") ∈ lw_all := lw_g (lw_at lw_m3 7 rfl) rfl
theorem q675 : (Jvm.Cond.fieldLink "RescueHouse" (49 : Nat) "RescueHouse" "asker" "LRescueHouse$Asker;") ∈ lw_all := lw_g (lw_at lw_m3 8 rfl) rfl
theorem q676 : (Jvm.Cond.fieldLink "RescueHouse" (56 : Nat) "RescueHouse" "finder" "LRescueHouse$Finder;") ∈ lw_all := lw_g (lw_at lw_m3 9 rfl) rfl
theorem q677 : (Jvm.Cond.fieldLink "RescueHouse" (63 : Nat) "RescueHouse" "radio" "LRescueHouse$Radio;") ∈ lw_all := lw_g (lw_at lw_m3 10 rfl) rfl
theorem q678 : (Jvm.Cond.fieldLink "RescueHouse" (70 : Nat) "RescueHouse" "flow" "LRescueHouse$Flow;") ∈ lw_all := lw_g (lw_at lw_m3 11 rfl) rfl
theorem q679 : (Jvm.Cond.fieldLink "RescueHouse" (74 : Nat) "RescueHouse" "steps" "[LRescueHouse$House;") ∈ lw_all := lw_g (lw_at lw_m3 12 rfl) rfl
theorem q680 : (Jvm.Cond.fieldLink "RescueHouse" (81 : Nat) "RescueHouse" "planner" "LRescueHouse$Planner;") ∈ lw_all := lw_g (lw_at lw_m3 13 rfl) rfl
theorem q681 : (Jvm.Cond.fieldLink "RescueHouse" (88 : Nat) "RescueHouse" "checker" "LRescueHouse$Checker;") ∈ lw_all := lw_g (lw_at lw_m3 14 rfl) rfl
theorem q682 : (Jvm.Cond.fieldLink "RescueHouse" (95 : Nat) "RescueHouse" "cover" "LRescueHouse$Cover;") ∈ lw_all := lw_g (lw_at lw_m3 15 rfl) rfl
theorem q683 : (Jvm.Cond.fieldLink "RescueHouse" (102 : Nat) "RescueHouse" "book" "LRescueHouse$Book;") ∈ lw_all := lw_g (lw_at lw_m3 16 rfl) rfl
theorem q684 : (Jvm.Cond.fieldLink "RescueHouse" (594 : Nat) "RescueHouse" "taped" "I") ∈ lw_all := lw_g (lw_at lw_m3 17 rfl) rfl
theorem q685 : (Jvm.Cond.fieldLink "RescueHouse" (110 : Nat) "RescueHouse" "stepMany" "I") ∈ lw_all := lw_g (lw_at lw_m3 18 rfl) rfl
theorem q686 : (Jvm.Cond.fieldLink "RescueHouse" (114 : Nat) "RescueHouse" "stepNext" "I") ∈ lw_all := lw_g (lw_at lw_m3 19 rfl) rfl
theorem q687 : (Jvm.Cond.fieldLink "RescueHouse" (200 : Nat) "RescueHouse" "drilling" "Z") ∈ lw_all := lw_g (lw_at lw_m3 20 rfl) rfl
theorem q688 : (Jvm.Cond.fieldLink "RescueHouse" (106 : Nat) "RescueHouse" "ranks" "[I") ∈ lw_all := lw_g (lw_at lw_m3 21 rfl) rfl
theorem q689 : (Jvm.Cond.laysFinal "RescueHouse" "RescueHouse" "tape" "[B") ∈ lw_all := lw_g (lw_at lw_m3 22 rfl) rfl
theorem q690 : (Jvm.Cond.soleField "RescueHouse" "tape") ∈ lw_all := lw_g (lw_at lw_m3 23 rfl) rfl
theorem q691 : (Jvm.Cond.laysFinal "RescueHouse" "RescueHouse" "record" "[B") ∈ lw_all := lw_g (lw_at lw_m3 24 rfl) rfl
theorem q692 : (Jvm.Cond.soleField "RescueHouse" "record") ∈ lw_all := lw_g (lw_at lw_m3 25 rfl) rfl
theorem q693 : (Jvm.Cond.laysFinal "RescueHouse" "RescueHouse" "proofBytes" "[B") ∈ lw_all := lw_g (lw_at lw_m3 26 rfl) rfl
theorem q694 : (Jvm.Cond.soleField "RescueHouse" "proofBytes") ∈ lw_all := lw_g (lw_at lw_m3 27 rfl) rfl
theorem q695 : (Jvm.Cond.laysFinal "RescueHouse" "RescueHouse" "out" "LRescueHouse$Text;") ∈ lw_all := lw_g (lw_at lw_m3 28 rfl) rfl
theorem q696 : (Jvm.Cond.soleField "RescueHouse" "out") ∈ lw_all := lw_g (lw_at lw_m3 29 rfl) rfl
theorem q697 : (Jvm.Cond.laysFinal "RescueHouse" "RescueHouse" "reader" "LRescueHouse$Reader;") ∈ lw_all := lw_g (lw_at lw_m3 30 rfl) rfl
theorem q698 : (Jvm.Cond.soleField "RescueHouse" "reader") ∈ lw_all := lw_g (lw_at lw_m3 31 rfl) rfl
theorem q699 : (Jvm.Cond.laysFinal "RescueHouse" "RescueHouse" "house" "LRescueHouse$House;") ∈ lw_all := lw_g (lw_at lw_m3 32 rfl) rfl
theorem q700 : (Jvm.Cond.soleField "RescueHouse" "house") ∈ lw_all := lw_g (lw_at lw_m3 33 rfl) rfl
theorem q701 : (Jvm.Cond.laysFinal "RescueHouse" "RescueHouse" "drilled" "LRescueHouse$House;") ∈ lw_all := lw_g (lw_at lw_m3 34 rfl) rfl
theorem q702 : (Jvm.Cond.soleField "RescueHouse" "drilled") ∈ lw_all := lw_g (lw_at lw_m3 35 rfl) rfl
theorem q703 : (Jvm.Cond.laysFinal "RescueHouse" "RescueHouse" "later" "LRescueHouse$House;") ∈ lw_all := lw_g (lw_at lw_m3 36 rfl) rfl
theorem q704 : (Jvm.Cond.soleField "RescueHouse" "later") ∈ lw_all := lw_g (lw_at lw_m3 37 rfl) rfl
theorem q705 : (Jvm.Cond.laysFinal "RescueHouse" "RescueHouse" "asker" "LRescueHouse$Asker;") ∈ lw_all := lw_g (lw_at lw_m3 38 rfl) rfl
theorem q706 : (Jvm.Cond.soleField "RescueHouse" "asker") ∈ lw_all := lw_g (lw_at lw_m3 39 rfl) rfl
theorem q707 : (Jvm.Cond.laysFinal "RescueHouse" "RescueHouse" "finder" "LRescueHouse$Finder;") ∈ lw_all := lw_g (lw_at lw_m3 40 rfl) rfl
theorem q708 : (Jvm.Cond.soleField "RescueHouse" "finder") ∈ lw_all := lw_g (lw_at lw_m3 41 rfl) rfl
theorem q709 : (Jvm.Cond.laysFinal "RescueHouse" "RescueHouse" "radio" "LRescueHouse$Radio;") ∈ lw_all := lw_g (lw_at lw_m3 42 rfl) rfl
theorem q710 : (Jvm.Cond.soleField "RescueHouse" "radio") ∈ lw_all := lw_g (lw_at lw_m3 43 rfl) rfl
theorem q711 : (Jvm.Cond.laysFinal "RescueHouse" "RescueHouse" "flow" "LRescueHouse$Flow;") ∈ lw_all := lw_g (lw_at lw_m3 44 rfl) rfl
theorem q712 : (Jvm.Cond.soleField "RescueHouse" "flow") ∈ lw_all := lw_g (lw_at lw_m3 45 rfl) rfl
theorem q713 : (Jvm.Cond.laysFinal "RescueHouse" "RescueHouse" "steps" "[LRescueHouse$House;") ∈ lw_all := lw_g (lw_at lw_m3 46 rfl) rfl
theorem q714 : (Jvm.Cond.soleField "RescueHouse" "steps") ∈ lw_all := lw_g (lw_at lw_m3 47 rfl) rfl
theorem q715 : (Jvm.Cond.laysFinal "RescueHouse" "RescueHouse" "planner" "LRescueHouse$Planner;") ∈ lw_all := lw_g (lw_at lw_m3 48 rfl) rfl
theorem q716 : (Jvm.Cond.soleField "RescueHouse" "planner") ∈ lw_all := lw_g (lw_at lw_m3 49 rfl) rfl
theorem q717 : (Jvm.Cond.laysFinal "RescueHouse" "RescueHouse" "checker" "LRescueHouse$Checker;") ∈ lw_all := lw_g (lw_at lw_m3 50 rfl) rfl
theorem q718 : (Jvm.Cond.soleField "RescueHouse" "checker") ∈ lw_all := lw_g (lw_at lw_m3 51 rfl) rfl
theorem q719 : (Jvm.Cond.laysFinal "RescueHouse" "RescueHouse" "cover" "LRescueHouse$Cover;") ∈ lw_all := lw_g (lw_at lw_m3 52 rfl) rfl
theorem q720 : (Jvm.Cond.soleField "RescueHouse" "cover") ∈ lw_all := lw_g (lw_at lw_m3 53 rfl) rfl
theorem q721 : (Jvm.Cond.laysFinal "RescueHouse" "RescueHouse" "book" "LRescueHouse$Book;") ∈ lw_all := lw_g (lw_at lw_m3 54 rfl) rfl
theorem q722 : (Jvm.Cond.soleField "RescueHouse" "book") ∈ lw_all := lw_g (lw_at lw_m3 55 rfl) rfl
theorem q723 : (Jvm.Cond.lays "RescueHouse" "RescueHouse" "taped" "I") ∈ lw_all := lw_g (lw_at lw_m3 56 rfl) rfl
theorem q724 : (Jvm.Cond.soleField "RescueHouse" "taped") ∈ lw_all := lw_g (lw_at lw_m3 57 rfl) rfl
theorem q725 : (Jvm.Cond.lays "RescueHouse" "RescueHouse" "stepMany" "I") ∈ lw_all := lw_g (lw_at lw_m3 58 rfl) rfl
theorem q726 : (Jvm.Cond.soleField "RescueHouse" "stepMany") ∈ lw_all := lw_g (lw_at lw_m3 59 rfl) rfl
theorem q727 : (Jvm.Cond.lays "RescueHouse" "RescueHouse" "stepNext" "I") ∈ lw_all := lw_g (lw_at lw_m3 60 rfl) rfl
theorem q728 : (Jvm.Cond.soleField "RescueHouse" "stepNext") ∈ lw_all := lw_g (lw_at lw_m3 61 rfl) rfl
theorem q729 : (Jvm.Cond.lays "RescueHouse" "RescueHouse" "drilling" "Z") ∈ lw_all := lw_g (lw_at lw_m3 62 rfl) rfl
theorem q730 : (Jvm.Cond.soleField "RescueHouse" "drilling") ∈ lw_all := lw_g (lw_at lw_m3 63 rfl) rfl
theorem q731 : (Jvm.Cond.laysFinal "RescueHouse" "RescueHouse" "ranks" "[I") ∈ lw_all := lw_g (lw_at lw_m3 64 rfl) rfl
theorem q732 : (Jvm.Cond.soleField "RescueHouse" "ranks") ∈ lw_all := lw_g (lw_at lw_m3 65 rfl) rfl
theorem q733 : (Jvm.Cond.superclass "RescueHouse" "java/lang/Object") ∈ lw_all := lw_g (lw_at lw_m3 66 rfl) rfl
theorem q735 : (Jvm.Cond.instanceMethod ({ cls := "RescueHouse", name := "feed", desc := "(IIIII)I" } : Jvm.MethodName)) ∈ lw_all := lw_g (lw_at lw_m3 68 rfl) rfl
theorem q736 : (Jvm.Cond.selects "RescueHouse" ({ cls := "RescueHouse", name := "feed", desc := "(IIIII)I" } : Jvm.MethodName) ({ cls := "RescueHouse", name := "feed", desc := "(IIIII)I" } : Jvm.MethodName)) ∈ lw_all := lw_g (lw_at lw_m3 69 rfl) rfl
theorem q737 : (Jvm.Cond.code ({ cls := "RescueHouse", name := "feed", desc := "(IIIII)I" } : Jvm.MethodName) prog_1_method_30_code (8 : Nat) (Option.some Jvm.ClassFile.FieldType.int)) ∈ lw_all := lw_g (lw_at lw_m3 70 rfl) rfl
theorem q739 : (Jvm.Cond.instanceMethod ({ cls := "RescueHouse", name := "ask", desc := "(I)I" } : Jvm.MethodName)) ∈ lw_all := lw_g (lw_at lw_m3 72 rfl) rfl
theorem q740 : (Jvm.Cond.selects "RescueHouse" ({ cls := "RescueHouse", name := "ask", desc := "(I)I" } : Jvm.MethodName) ({ cls := "RescueHouse", name := "ask", desc := "(I)I" } : Jvm.MethodName)) ∈ lw_all := lw_g (lw_at lw_m3 73 rfl) rfl
theorem q741 : (Jvm.Cond.code ({ cls := "RescueHouse", name := "ask", desc := "(I)I" } : Jvm.MethodName) prog_1_method_31_code (2 : Nat) (Option.some Jvm.ClassFile.FieldType.int)) ∈ lw_all := lw_g (lw_at lw_m3 74 rfl) rfl
theorem q742 : (Jvm.Cond.methodLink "RescueHouse" (597 : Nat) ({ cls := "RescueHouse", name := "request", desc := "([BI)I" } : Jvm.MethodName)) ∈ lw_all := lw_g (lw_at lw_m3 75 rfl) rfl
theorem q743 : (Jvm.Cond.privateMethod ({ cls := "RescueHouse", name := "request", desc := "([BI)I" } : Jvm.MethodName)) ∈ lw_tbl := lw_at lw_m3 76 rfl
theorem q744 : (Jvm.Cond.instanceMethod ({ cls := "RescueHouse", name := "request", desc := "([BI)I" } : Jvm.MethodName)) ∈ lw_all := lw_g (lw_at lw_m3 77 rfl) rfl
theorem q745 : (Jvm.Cond.code ({ cls := "RescueHouse", name := "request", desc := "([BI)I" } : Jvm.MethodName) prog_1_method_29_code (4 : Nat) (Option.some Jvm.ClassFile.FieldType.int)) ∈ lw_all := lw_g (lw_at lw_m3 78 rfl) rfl
theorem q746 : (Jvm.Cond.methodLink "RescueHouse" (443 : Nat) ({ cls := "RescueHouse$Text", name := "clear", desc := "()V" } : Jvm.MethodName)) ∈ lw_all := lw_g (lw_at lw_m3 79 rfl) rfl
theorem q750 : (Jvm.Cond.methodLink "RescueHouse" (439 : Nat) ({ cls := "RescueHouse$Reader", name := "read", desc := "([BI)I" } : Jvm.MethodName)) ∈ lw_all := lw_g (lw_at lw_m3 83 rfl) rfl
theorem q840 : (Jvm.Cond.static ({ cls := "RescueHouse", name := "in", desc := "(III)Z" } : Jvm.MethodName)) ∈ lw_all := lw_g (lw_at lw_m3 173 rfl) rfl
theorem q841 : (Jvm.Cond.code ({ cls := "RescueHouse", name := "in", desc := "(III)Z" } : Jvm.MethodName) prog_1_method_1_code (3 : Nat) (Option.some Jvm.ClassFile.FieldType.boolean)) ∈ lw_all := lw_g (lw_at lw_m3 174 rfl) rfl
theorem q873 : (Jvm.Cond.stringRef "RescueHouse" (580 : Nat) "bad ") ∈ lw_tbl := lw_at lw_m3 206 rfl
theorem q874 : (Jvm.Cond.methodLink "RescueHouse" (301 : Nat) ({ cls := "RescueHouse$Text", name := "say", desc := "(Ljava/lang/String;)V" } : Jvm.MethodName)) ∈ lw_all := lw_g (lw_at lw_m3 207 rfl) rfl
theorem q884 : (Jvm.Cond.methodLink "RescueHouse" (305 : Nat) ({ cls := "RescueHouse$Text", name := "number", desc := "(I)V" } : Jvm.MethodName)) ∈ lw_all := lw_g (lw_at lw_m3 217 rfl) rfl
theorem q888 : (Jvm.Cond.stringRef "RescueHouse" (585 : Nat) "shut") ∈ lw_tbl := lw_at lw_m3 221 rfl
theorem q889 : (Jvm.Cond.methodLink "RescueHouse" (586 : Nat) ({ cls := "RescueHouse", name := "told", desc := "([BI)V" } : Jvm.MethodName)) ∈ lw_all := lw_g (lw_at lw_m3 222 rfl) rfl
theorem q890 : (Jvm.Cond.privateMethod ({ cls := "RescueHouse", name := "told", desc := "([BI)V" } : Jvm.MethodName)) ∈ lw_tbl := lw_at lw_m3 223 rfl
theorem q891 : (Jvm.Cond.instanceMethod ({ cls := "RescueHouse", name := "told", desc := "([BI)V" } : Jvm.MethodName)) ∈ lw_all := lw_g (lw_at lw_m3 224 rfl) rfl
theorem q892 : (Jvm.Cond.code ({ cls := "RescueHouse", name := "told", desc := "([BI)V" } : Jvm.MethodName) prog_1_method_15_code (7 : Nat) (Option.none : Option Jvm.ClassFile.FieldType)) ∈ lw_all := lw_g (lw_at lw_m3 225 rfl) rfl
theorem q893 : (Jvm.Cond.methodLink "RescueHouse" (400 : Nat) ({ cls := "RescueHouse", name := "refusal", desc := "(IIII)Ljava/lang/String;" } : Jvm.MethodName)) ∈ lw_all := lw_g (lw_at lw_m3 226 rfl) rfl
theorem q894 : (Jvm.Cond.privateMethod ({ cls := "RescueHouse", name := "refusal", desc := "(IIII)Ljava/lang/String;" } : Jvm.MethodName)) ∈ lw_tbl := lw_at lw_m3 227 rfl
theorem q895 : (Jvm.Cond.instanceMethod ({ cls := "RescueHouse", name := "refusal", desc := "(IIII)Ljava/lang/String;" } : Jvm.MethodName)) ∈ lw_all := lw_g (lw_at lw_m3 228 rfl) rfl
theorem q896 : (Jvm.Cond.code ({ cls := "RescueHouse", name := "refusal", desc := "(IIII)Ljava/lang/String;" } : Jvm.MethodName) prog_1_method_6_code (5 : Nat) (Option.some (Jvm.ClassFile.FieldType.object "java/lang/String"))) ∈ lw_all := lw_g (lw_at lw_m3 229 rfl) rfl
theorem q897 : (Jvm.Cond.methodLink "RescueHouse" (127 : Nat) ({ cls := "RescueHouse", name := "in", desc := "(III)Z" } : Jvm.MethodName)) ∈ lw_all := lw_g (lw_at lw_m3 230 rfl) rfl
theorem q898 : (Jvm.Cond.stringRef "RescueHouse" (131 : Nat) "") ∈ lw_tbl := lw_at lw_m3 231 rfl
theorem q899 : (Jvm.Cond.stringRef "RescueHouse" (133 : Nat) "no size") ∈ lw_tbl := lw_at lw_m3 232 rfl
theorem q900 : (Jvm.Cond.methodLink "RescueHouse" (135 : Nat) ({ cls := "RescueHouse$House", name := "isPlace", desc := "(I)Z" } : Jvm.MethodName)) ∈ lw_all := lw_g (lw_at lw_m3 233 rfl) rfl
theorem q905 : (Jvm.Cond.stringRef "RescueHouse" (139 : Nat) "no place") ∈ lw_tbl := lw_at lw_m3 238 rfl
theorem q906 : (Jvm.Cond.stringRef "RescueHouse" (141 : Nat) "no time") ∈ lw_tbl := lw_at lw_m3 239 rfl
theorem q907 : (Jvm.Cond.stringRef "RescueHouse" (146 : Nat) "no room") ∈ lw_tbl := lw_at lw_m4 0 rfl
theorem q908 : (Jvm.Cond.stringRef "RescueHouse" (148 : Nat) "no street") ∈ lw_tbl := lw_at lw_m4 1 rfl
theorem q909 : (Jvm.Cond.stringRef "RescueHouse" (154 : Nat) "same") ∈ lw_tbl := lw_at lw_m4 2 rfl
theorem q910 : (Jvm.Cond.stringRef "RescueHouse" (156 : Nat) "no skill") ∈ lw_tbl := lw_at lw_m4 3 rfl
theorem q911 : (Jvm.Cond.methodLink "RescueHouse" (161 : Nat) ({ cls := "RescueHouse$House", name := "isUnit", desc := "(I)Z" } : Jvm.MethodName)) ∈ lw_all := lw_g (lw_at lw_m4 4 rfl) rfl
theorem q915 : (Jvm.Cond.stringRef "RescueHouse" (164 : Nat) "no unit") ∈ lw_tbl := lw_at lw_m4 8 rfl
theorem q916 : (Jvm.Cond.stringRef "RescueHouse" (169 : Nat) "not home") ∈ lw_tbl := lw_at lw_m4 9 rfl
theorem q917 : (Jvm.Cond.stringRef "RescueHouse" (171 : Nat) "off") ∈ lw_tbl := lw_at lw_m4 10 rfl
theorem q918 : (Jvm.Cond.stringRef "RescueHouse" (176 : Nat) "no rank") ∈ lw_tbl := lw_at lw_m4 11 rfl
theorem q919 : (Jvm.Cond.methodLink "RescueHouse" (178 : Nat) ({ cls := "RescueHouse", name := "refusedCall", desc := "(II)Ljava/lang/String;" } : Jvm.MethodName)) ∈ lw_all := lw_g (lw_at lw_m4 12 rfl) rfl
theorem q920 : (Jvm.Cond.privateMethod ({ cls := "RescueHouse", name := "refusedCall", desc := "(II)Ljava/lang/String;" } : Jvm.MethodName)) ∈ lw_tbl := lw_at lw_m4 13 rfl
theorem q921 : (Jvm.Cond.instanceMethod ({ cls := "RescueHouse", name := "refusedCall", desc := "(II)Ljava/lang/String;" } : Jvm.MethodName)) ∈ lw_all := lw_g (lw_at lw_m4 14 rfl) rfl
theorem q922 : (Jvm.Cond.code ({ cls := "RescueHouse", name := "refusedCall", desc := "(II)Ljava/lang/String;" } : Jvm.MethodName) prog_1_method_7_code (3 : Nat) (Option.some (Jvm.ClassFile.FieldType.object "java/lang/String"))) ∈ lw_all := lw_g (lw_at lw_m4 15 rfl) rfl
theorem q923 : (Jvm.Cond.methodLink "RescueHouse" (208 : Nat) ({ cls := "RescueHouse$House", name := "alike", desc := "(II)I" } : Jvm.MethodName)) ∈ lw_all := lw_g (lw_at lw_m4 16 rfl) rfl
theorem q931 : (Jvm.Cond.methodLink "RescueHouse" (211 : Nat) ({ cls := "RescueHouse$House", name := "many", desc := "(I)I" } : Jvm.MethodName)) ∈ lw_all := lw_g (lw_at lw_m4 24 rfl) rfl
theorem q947 : (Jvm.Cond.methodLink "RescueHouse" (182 : Nat) ({ cls := "RescueHouse", name := "refusedGo", desc := "(II)Ljava/lang/String;" } : Jvm.MethodName)) ∈ lw_all := lw_g (lw_at lw_m4 40 rfl) rfl
theorem q948 : (Jvm.Cond.privateMethod ({ cls := "RescueHouse", name := "refusedGo", desc := "(II)Ljava/lang/String;" } : Jvm.MethodName)) ∈ lw_tbl := lw_at lw_m4 41 rfl
theorem q949 : (Jvm.Cond.instanceMethod ({ cls := "RescueHouse", name := "refusedGo", desc := "(II)Ljava/lang/String;" } : Jvm.MethodName)) ∈ lw_all := lw_g (lw_at lw_m4 42 rfl) rfl
theorem q950 : (Jvm.Cond.code ({ cls := "RescueHouse", name := "refusedGo", desc := "(II)Ljava/lang/String;" } : Jvm.MethodName) prog_1_method_11_code (3 : Nat) (Option.some (Jvm.ClassFile.FieldType.object "java/lang/String"))) ∈ lw_all := lw_g (lw_at lw_m4 43 rfl) rfl
theorem q951 : (Jvm.Cond.methodLink "RescueHouse" (189 : Nat) ({ cls := "RescueHouse$House", name := "isOpen", desc := "(I)Z" } : Jvm.MethodName)) ∈ lw_all := lw_g (lw_at lw_m4 44 rfl) rfl
theorem q952 : (Jvm.Cond.stringRef "RescueHouse" (192 : Nat) "no call") ∈ lw_tbl := lw_at lw_m4 45 rfl
theorem q953 : (Jvm.Cond.methodLink "RescueHouse" (271 : Nat) ({ cls := "RescueHouse$House", name := "isFree", desc := "(I)Z" } : Jvm.MethodName)) ∈ lw_all := lw_g (lw_at lw_m4 46 rfl) rfl
theorem q954 : (Jvm.Cond.stringRef "RescueHouse" (274 : Nat) "not free") ∈ lw_tbl := lw_at lw_m4 47 rfl
theorem q955 : (Jvm.Cond.methodLink "RescueHouse" (276 : Nat) ({ cls := "RescueHouse$House", name := "waits", desc := "(I)Z" } : Jvm.MethodName)) ∈ lw_all := lw_g (lw_at lw_m4 48 rfl) rfl
theorem q956 : (Jvm.Cond.stringRef "RescueHouse" (279 : Nat) "not waiting") ∈ lw_tbl := lw_at lw_m4 49 rfl
theorem q957 : (Jvm.Cond.methodLink "RescueHouse" (281 : Nat) ({ cls := "RescueHouse$House", name := "has", desc := "(II)Z" } : Jvm.MethodName)) ∈ lw_all := lw_g (lw_at lw_m4 50 rfl) rfl
theorem q961 : (Jvm.Cond.methodLink "RescueHouse" (288 : Nat) ({ cls := "RescueHouse$House", name := "way", desc := "(II)I" } : Jvm.MethodName)) ∈ lw_all := lw_g (lw_at lw_m4 54 rfl) rfl
theorem q985 : (Jvm.Cond.constant "RescueHouse" (194 : Nat) (1000000 : Int32)) ∈ lw_all := lw_g (lw_at lw_m4 78 rfl) rfl
theorem q986 : (Jvm.Cond.stringRef "RescueHouse" (291 : Nat) "no way") ∈ lw_tbl := lw_at lw_m4 79 rfl
theorem q987 : (Jvm.Cond.methodLink "RescueHouse" (185 : Nat) ({ cls := "RescueHouse", name := "refusedMore", desc := "(IIII)Ljava/lang/String;" } : Jvm.MethodName)) ∈ lw_all := lw_g (lw_at lw_m4 80 rfl) rfl
theorem q988 : (Jvm.Cond.privateMethod ({ cls := "RescueHouse", name := "refusedMore", desc := "(IIII)Ljava/lang/String;" } : Jvm.MethodName)) ∈ lw_tbl := lw_at lw_m4 81 rfl
theorem q989 : (Jvm.Cond.instanceMethod ({ cls := "RescueHouse", name := "refusedMore", desc := "(IIII)Ljava/lang/String;" } : Jvm.MethodName)) ∈ lw_all := lw_g (lw_at lw_m4 82 rfl) rfl
theorem q990 : (Jvm.Cond.code ({ cls := "RescueHouse", name := "refusedMore", desc := "(IIII)Ljava/lang/String;" } : Jvm.MethodName) prog_1_method_10_code (5 : Nat) (Option.some (Jvm.ClassFile.FieldType.object "java/lang/String"))) ∈ lw_all := lw_g (lw_at lw_m4 83 rfl) rfl
theorem q991 : (Jvm.Cond.stringRef "RescueHouse" (260 : Nat) "too deep") ∈ lw_tbl := lw_at lw_m4 84 rfl
theorem q992 : (Jvm.Cond.methodLink "RescueHouse" (262 : Nat) ({ cls := "RescueHouse", name := "refusedReport", desc := "(II)Ljava/lang/String;" } : Jvm.MethodName)) ∈ lw_all := lw_g (lw_at lw_m4 85 rfl) rfl
theorem q993 : (Jvm.Cond.privateMethod ({ cls := "RescueHouse", name := "refusedReport", desc := "(II)Ljava/lang/String;" } : Jvm.MethodName)) ∈ lw_tbl := lw_at lw_m4 86 rfl
theorem q994 : (Jvm.Cond.instanceMethod ({ cls := "RescueHouse", name := "refusedReport", desc := "(II)Ljava/lang/String;" } : Jvm.MethodName)) ∈ lw_all := lw_g (lw_at lw_m4 87 rfl) rfl
theorem q995 : (Jvm.Cond.code ({ cls := "RescueHouse", name := "refusedReport", desc := "(II)Ljava/lang/String;" } : Jvm.MethodName) prog_1_method_8_code (3 : Nat) (Option.some (Jvm.ClassFile.FieldType.object "java/lang/String"))) ∈ lw_all := lw_g (lw_at lw_m4 88 rfl) rfl
theorem q996 : (Jvm.Cond.stringRef "RescueHouse" (221 : Nat) "no kind") ∈ lw_tbl := lw_at lw_m4 89 rfl
theorem q997 : (Jvm.Cond.methodLink "RescueHouse" (232 : Nat) ({ cls := "RescueHouse$Asker", name := "goes", desc := "(LRescueHouse$House;I[BII)Z" } : Jvm.MethodName)) ∈ lw_all := lw_g (lw_at lw_m4 90 rfl) rfl
theorem q1004 : (Jvm.Cond.stringRef "RescueHouse" (242 : Nat) "too many") ∈ lw_tbl := lw_at lw_m4 97 rfl
theorem q1005 : (Jvm.Cond.stringRef "RescueHouse" (244 : Nat) "ask") ∈ lw_tbl := lw_at lw_m4 98 rfl
theorem q1006 : (Jvm.Cond.methodLink "RescueHouse" (265 : Nat) ({ cls := "RescueHouse", name := "refusedName", desc := "(I)Ljava/lang/String;" } : Jvm.MethodName)) ∈ lw_all := lw_g (lw_at lw_m4 99 rfl) rfl
theorem q1007 : (Jvm.Cond.privateMethod ({ cls := "RescueHouse", name := "refusedName", desc := "(I)Ljava/lang/String;" } : Jvm.MethodName)) ∈ lw_tbl := lw_at lw_m4 100 rfl
theorem q1008 : (Jvm.Cond.instanceMethod ({ cls := "RescueHouse", name := "refusedName", desc := "(I)Ljava/lang/String;" } : Jvm.MethodName)) ∈ lw_all := lw_g (lw_at lw_m4 101 rfl) rfl
theorem q1009 : (Jvm.Cond.code ({ cls := "RescueHouse", name := "refusedName", desc := "(I)Ljava/lang/String;" } : Jvm.MethodName) prog_1_method_9_code (4 : Nat) (Option.some (Jvm.ClassFile.FieldType.object "java/lang/String"))) ∈ lw_all := lw_g (lw_at lw_m4 102 rfl) rfl
theorem q1010 : (Jvm.Cond.stringRef "RescueHouse" (246 : Nat) "no name") ∈ lw_tbl := lw_at lw_m4 103 rfl
theorem q1011 : (Jvm.Cond.methodLink "RescueHouse" (251 : Nat) ({ cls := "RescueHouse$House", name := "isNamed", desc := "(I[BII)Z" } : Jvm.MethodName)) ∈ lw_all := lw_g (lw_at lw_m4 104 rfl) rfl
theorem q1015 : (Jvm.Cond.stringRef "RescueHouse" (255 : Nat) "taken") ∈ lw_tbl := lw_at lw_m4 108 rfl
theorem q1016 : (Jvm.Cond.stringRef "RescueHouse" (269 : Nat) "no hour") ∈ lw_tbl := lw_at lw_m4 109 rfl
theorem q1017 : (Jvm.Cond.stringRef "RescueHouse" (198 : Nat) "no step") ∈ lw_tbl := lw_at lw_m4 110 rfl
theorem q1018 : (Jvm.Cond.stringRef "RescueHouse" (204 : Nat) "on") ∈ lw_tbl := lw_at lw_m4 111 rfl
theorem q1019 : (Jvm.Cond.stringRef "RescueHouse" (206 : Nat) "no drill") ∈ lw_tbl := lw_at lw_m4 112 rfl
theorem q1020 : (Jvm.Cond.methodLink "RescueHouse" (403 : Nat) ({ cls := "java/lang/String", name := "length", desc := "()I" } : Jvm.MethodName)) ∈ lw_all := lw_g (lw_at lw_m4 113 rfl) rfl
theorem q1021 : (Jvm.Cond.methodLink "RescueHouse" (409 : Nat) ({ cls := "java/lang/String", name := "equals", desc := "(Ljava/lang/Object;)Z" } : Jvm.MethodName)) ∈ lw_all := lw_g (lw_at lw_m4 114 rfl) rfl
theorem q1029 : (Jvm.Cond.methodLink "RescueHouse" (413 : Nat) ({ cls := "RescueHouse$Text", name := "add", desc := "(I)V" } : Jvm.MethodName)) ∈ lw_all := lw_g (lw_at lw_m4 122 rfl) rfl
theorem q1030 : (Jvm.Cond.methodLink "RescueHouse" (419 : Nat) ({ cls := "RescueHouse$Book", name := "begin", desc := "()V" } : Jvm.MethodName)) ∈ lw_all := lw_g (lw_at lw_m4 123 rfl) rfl
theorem q1034 : (Jvm.Cond.methodLink "RescueHouse" (421 : Nat) ({ cls := "RescueHouse$Book", name := "holds", desc := "(I)Z" } : Jvm.MethodName)) ∈ lw_all := lw_g (lw_at lw_m4 127 rfl) rfl
theorem q1038 : (Jvm.Cond.methodLink "RescueHouse" (424 : Nat) ({ cls := "RescueHouse$Book", name := "write", desc := "([BI)V" } : Jvm.MethodName)) ∈ lw_all := lw_g (lw_at lw_m4 131 rfl) rfl
theorem q1046 : (Jvm.Cond.methodLink "RescueHouse" (428 : Nat) ({ cls := "RescueHouse", name := "perform", desc := "(IIII)V" } : Jvm.MethodName)) ∈ lw_all := lw_g (lw_at lw_m4 139 rfl) rfl
theorem q1047 : (Jvm.Cond.privateMethod ({ cls := "RescueHouse", name := "perform", desc := "(IIII)V" } : Jvm.MethodName)) ∈ lw_tbl := lw_at lw_m4 140 rfl
theorem q1048 : (Jvm.Cond.instanceMethod ({ cls := "RescueHouse", name := "perform", desc := "(IIII)V" } : Jvm.MethodName)) ∈ lw_all := lw_g (lw_at lw_m4 141 rfl) rfl
theorem q1049 : (Jvm.Cond.code ({ cls := "RescueHouse", name := "perform", desc := "(IIII)V" } : Jvm.MethodName) prog_1_method_14_code (7 : Nat) (Option.none : Option Jvm.ClassFile.FieldType)) ∈ lw_all := lw_g (lw_at lw_m4 142 rfl) rfl
theorem q1050 : (Jvm.Cond.methodLink "RescueHouse" (318 : Nat) ({ cls := "RescueHouse", name := "keep", desc := "()V" } : Jvm.MethodName)) ∈ lw_all := lw_g (lw_at lw_m4 143 rfl) rfl
theorem q1051 : (Jvm.Cond.privateMethod ({ cls := "RescueHouse", name := "keep", desc := "()V" } : Jvm.MethodName)) ∈ lw_tbl := lw_at lw_m4 144 rfl
theorem q1052 : (Jvm.Cond.instanceMethod ({ cls := "RescueHouse", name := "keep", desc := "()V" } : Jvm.MethodName)) ∈ lw_all := lw_g (lw_at lw_m4 145 rfl) rfl
theorem q1053 : (Jvm.Cond.code ({ cls := "RescueHouse", name := "keep", desc := "()V" } : Jvm.MethodName) prog_1_method_4_code (1 : Nat) (Option.none : Option Jvm.ClassFile.FieldType)) ∈ lw_all := lw_g (lw_at lw_m4 146 rfl) rfl
theorem q1054 : (Jvm.Cond.methodLink "RescueHouse" (117 : Nat) ({ cls := "RescueHouse$House", name := "take", desc := "(LRescueHouse$House;)V" } : Jvm.MethodName)) ∈ lw_all := lw_g (lw_at lw_m4 147 rfl) rfl
theorem q1062 : (Jvm.Cond.methodLink "RescueHouse" (121 : Nat) ({ cls := "java/lang/Math", name := "min", desc := "(II)I" } : Jvm.MethodName)) ∈ lw_all := lw_g (lw_at lw_m4 155 rfl) rfl
theorem q1063 : (Jvm.Cond.methodLink "RescueHouse" (321 : Nat) ({ cls := "RescueHouse", name := "forget", desc := "()V" } : Jvm.MethodName)) ∈ lw_all := lw_g (lw_at lw_m4 156 rfl) rfl
theorem q1064 : (Jvm.Cond.privateMethod ({ cls := "RescueHouse", name := "forget", desc := "()V" } : Jvm.MethodName)) ∈ lw_tbl := lw_at lw_m4 157 rfl
theorem q1065 : (Jvm.Cond.instanceMethod ({ cls := "RescueHouse", name := "forget", desc := "()V" } : Jvm.MethodName)) ∈ lw_all := lw_g (lw_at lw_m4 158 rfl) rfl
theorem q1066 : (Jvm.Cond.code ({ cls := "RescueHouse", name := "forget", desc := "()V" } : Jvm.MethodName) prog_1_method_3_code (1 : Nat) (Option.none : Option Jvm.ClassFile.FieldType)) ∈ lw_all := lw_g (lw_at lw_m4 159 rfl) rfl
theorem q1067 : (Jvm.Cond.methodLink "RescueHouse" (324 : Nat) ({ cls := "RescueHouse$House", name := "begin", desc := "(I)V" } : Jvm.MethodName)) ∈ lw_all := lw_g (lw_at lw_m4 160 rfl) rfl
theorem q1068 : (Jvm.Cond.methodLink "RescueHouse" (326 : Nat) ({ cls := "RescueHouse$House", name := "addStreet", desc := "(IIIZ)V" } : Jvm.MethodName)) ∈ lw_all := lw_g (lw_at lw_m4 161 rfl) rfl
theorem q1072 : (Jvm.Cond.methodLink "RescueHouse" (330 : Nat) ({ cls := "RescueHouse$House", name := "shut", desc := "(IZ)V" } : Jvm.MethodName)) ∈ lw_all := lw_g (lw_at lw_m4 165 rfl) rfl
theorem q1076 : (Jvm.Cond.methodLink "RescueHouse" (334 : Nat) ({ cls := "RescueHouse$House", name := "addUnit", desc := "(II)V" } : Jvm.MethodName)) ∈ lw_all := lw_g (lw_at lw_m4 169 rfl) rfl
theorem q1080 : (Jvm.Cond.methodLink "RescueHouse" (338 : Nat) ({ cls := "RescueHouse", name := "post", desc := "(II)V" } : Jvm.MethodName)) ∈ lw_all := lw_g (lw_at lw_m4 173 rfl) rfl
theorem q1081 : (Jvm.Cond.privateMethod ({ cls := "RescueHouse", name := "post", desc := "(II)V" } : Jvm.MethodName)) ∈ lw_tbl := lw_at lw_m4 174 rfl
theorem q1082 : (Jvm.Cond.instanceMethod ({ cls := "RescueHouse", name := "post", desc := "(II)V" } : Jvm.MethodName)) ∈ lw_all := lw_g (lw_at lw_m4 175 rfl) rfl
theorem q1083 : (Jvm.Cond.code ({ cls := "RescueHouse", name := "post", desc := "(II)V" } : Jvm.MethodName) prog_1_method_13_code (3 : Nat) (Option.none : Option Jvm.ClassFile.FieldType)) ∈ lw_all := lw_g (lw_at lw_m4 176 rfl) rfl
theorem q1084 : (Jvm.Cond.methodLink "RescueHouse" (315 : Nat) ({ cls := "RescueHouse$House", name := "letGo", desc := "(I)V" } : Jvm.MethodName)) ∈ lw_all := lw_g (lw_at lw_m4 177 rfl) rfl
theorem q1088 : (Jvm.Cond.methodLink "RescueHouse" (341 : Nat) ({ cls := "RescueHouse", name := "call", desc := "(III)V" } : Jvm.MethodName)) ∈ lw_all := lw_g (lw_at lw_m4 181 rfl) rfl
theorem q1089 : (Jvm.Cond.privateMethod ({ cls := "RescueHouse", name := "call", desc := "(III)V" } : Jvm.MethodName)) ∈ lw_tbl := lw_at lw_m4 182 rfl
theorem q1090 : (Jvm.Cond.instanceMethod ({ cls := "RescueHouse", name := "call", desc := "(III)V" } : Jvm.MethodName)) ∈ lw_all := lw_g (lw_at lw_m4 183 rfl) rfl
theorem q1091 : (Jvm.Cond.code ({ cls := "RescueHouse", name := "call", desc := "(III)V" } : Jvm.MethodName) prog_1_method_12_code (5 : Nat) (Option.none : Option Jvm.ClassFile.FieldType)) ∈ lw_all := lw_g (lw_at lw_m4 184 rfl) rfl
theorem q1092 : (Jvm.Cond.methodLink "RescueHouse" (296 : Nat) ({ cls := "java/lang/Math", name := "max", desc := "(II)I" } : Jvm.MethodName)) ∈ lw_all := lw_g (lw_at lw_m4 185 rfl) rfl
theorem q1093 : (Jvm.Cond.stringRef "RescueHouse" (299 : Nat) "joined ") ∈ lw_tbl := lw_at lw_m4 186 rfl
theorem q1094 : (Jvm.Cond.stringRef "RescueHouse" (309 : Nat) "call ") ∈ lw_tbl := lw_at lw_m4 187 rfl
theorem q1095 : (Jvm.Cond.methodLink "RescueHouse" (311 : Nat) ({ cls := "RescueHouse$House", name := "addCall", desc := "(III)I" } : Jvm.MethodName)) ∈ lw_all := lw_g (lw_at lw_m4 188 rfl) rfl
theorem q1099 : (Jvm.Cond.methodLink "RescueHouse" (345 : Nat) ({ cls := "RescueHouse$Planner", name := "plan", desc := "(LRescueHouse$House;Z)V" } : Jvm.MethodName)) ∈ lw_all := lw_g (lw_at lw_m4 192 rfl) rfl
theorem q1121 : (Jvm.Cond.methodLink "RescueHouse" (349 : Nat) ({ cls := "RescueHouse$Planner", name := "tell", desc := "(LRescueHouse$House;LRescueHouse$Text;)V" } : Jvm.MethodName)) ∈ lw_all := lw_g (lw_at lw_m4 214 rfl) rfl
theorem q1132 : (Jvm.Cond.methodLink "RescueHouse" (353 : Nat) ({ cls := "RescueHouse$Planner", name := "send", desc := "(LRescueHouse$House;)V" } : Jvm.MethodName)) ∈ lw_all := lw_g (lw_at lw_m4 225 rfl) rfl
theorem q1140 : (Jvm.Cond.methodLink "RescueHouse" (356 : Nat) ({ cls := "RescueHouse$House", name := "sends", desc := "(II)V" } : Jvm.MethodName)) ∈ lw_all := lw_g (lw_at lw_m4 233 rfl) rfl
theorem q1141 : (Jvm.Cond.stringRef "RescueHouse" (359 : Nat) "kind ") ∈ lw_tbl := lw_at lw_m4 234 rfl
theorem q1142 : (Jvm.Cond.methodLink "RescueHouse" (361 : Nat) ({ cls := "RescueHouse$House", name := "addKind", desc := "([BII)I" } : Jvm.MethodName)) ∈ lw_all := lw_g (lw_at lw_m4 235 rfl) rfl
theorem q1146 : (Jvm.Cond.methodLink "RescueHouse" (368 : Nat) ({ cls := "RescueHouse$House", name := "setName", desc := "(I[BII)V" } : Jvm.MethodName)) ∈ lw_all := lw_g (lw_at lw_m4 239 rfl) rfl
theorem q1150 : (Jvm.Cond.methodLink "RescueHouse" (372 : Nat) ({ cls := "RescueHouse$House", name := "keepHours", desc := "(III)V" } : Jvm.MethodName)) ∈ lw_all := lw_g (lw_at lw_m5 3 rfl) rfl
theorem q1154 : (Jvm.Cond.methodLink "RescueHouse" (381 : Nat) ({ cls := "RescueHouse$House", name := "shift", desc := "()V" } : Jvm.MethodName)) ∈ lw_all := lw_g (lw_at lw_m5 7 rfl) rfl
theorem q1158 : (Jvm.Cond.methodLink "RescueHouse" (384 : Nat) ({ cls := "RescueHouse$House", name := "end", desc := "(I)V" } : Jvm.MethodName)) ∈ lw_all := lw_g (lw_at lw_m5 11 rfl) rfl
theorem q1163 : (Jvm.Cond.methodLink "RescueHouse" (386 : Nat) ({ cls := "RescueHouse$House", name := "second", desc := "()V" } : Jvm.MethodName)) ∈ lw_all := lw_g (lw_at lw_m5 16 rfl) rfl
theorem q1180 : (Jvm.Cond.methodLink "RescueHouse" (389 : Nat) ({ cls := "RescueHouse", name := "undo", desc := "()V" } : Jvm.MethodName)) ∈ lw_all := lw_g (lw_at lw_m5 33 rfl) rfl
theorem q1181 : (Jvm.Cond.privateMethod ({ cls := "RescueHouse", name := "undo", desc := "()V" } : Jvm.MethodName)) ∈ lw_tbl := lw_at lw_m5 34 rfl
theorem q1182 : (Jvm.Cond.instanceMethod ({ cls := "RescueHouse", name := "undo", desc := "()V" } : Jvm.MethodName)) ∈ lw_all := lw_g (lw_at lw_m5 35 rfl) rfl
theorem q1183 : (Jvm.Cond.code ({ cls := "RescueHouse", name := "undo", desc := "()V" } : Jvm.MethodName) prog_1_method_5_code (1 : Nat) (Option.none : Option Jvm.ClassFile.FieldType)) ∈ lw_all := lw_g (lw_at lw_m5 36 rfl) rfl
theorem q1184 : (Jvm.Cond.stringRef "RescueHouse" (392 : Nat) "ok") ∈ lw_tbl := lw_at lw_m5 37 rfl
theorem q1185 : (Jvm.Cond.methodLink "RescueHouse" (588 : Nat) ({ cls := "RescueHouse", name := "asked", desc := "()V" } : Jvm.MethodName)) ∈ lw_all := lw_g (lw_at lw_m5 38 rfl) rfl
theorem q1186 : (Jvm.Cond.privateMethod ({ cls := "RescueHouse", name := "asked", desc := "()V" } : Jvm.MethodName)) ∈ lw_tbl := lw_at lw_m5 39 rfl
theorem q1187 : (Jvm.Cond.instanceMethod ({ cls := "RescueHouse", name := "asked", desc := "()V" } : Jvm.MethodName)) ∈ lw_all := lw_g (lw_at lw_m5 40 rfl) rfl
theorem q1188 : (Jvm.Cond.code ({ cls := "RescueHouse", name := "asked", desc := "()V" } : Jvm.MethodName) prog_1_method_28_code (1 : Nat) (Option.none : Option Jvm.ClassFile.FieldType)) ∈ lw_all := lw_g (lw_at lw_m5 41 rfl) rfl
theorem q1189 : (Jvm.Cond.methodLink "RescueHouse" (543 : Nat) ({ cls := "RescueHouse", name := "askedMore", desc := "(III)V" } : Jvm.MethodName)) ∈ lw_all := lw_g (lw_at lw_m5 42 rfl) rfl
theorem q1190 : (Jvm.Cond.privateMethod ({ cls := "RescueHouse", name := "askedMore", desc := "(III)V" } : Jvm.MethodName)) ∈ lw_tbl := lw_at lw_m5 43 rfl
theorem q1191 : (Jvm.Cond.instanceMethod ({ cls := "RescueHouse", name := "askedMore", desc := "(III)V" } : Jvm.MethodName)) ∈ lw_all := lw_g (lw_at lw_m5 44 rfl) rfl
theorem q1192 : (Jvm.Cond.code ({ cls := "RescueHouse", name := "askedMore", desc := "(III)V" } : Jvm.MethodName) prog_1_method_27_code (4 : Nat) (Option.none : Option Jvm.ClassFile.FieldType)) ∈ lw_all := lw_g (lw_at lw_m5 45 rfl) rfl
theorem q1193 : (Jvm.Cond.methodLink "RescueHouse" (500 : Nat) ({ cls := "RescueHouse", name := "where", desc := "()V" } : Jvm.MethodName)) ∈ lw_all := lw_g (lw_at lw_m5 46 rfl) rfl
theorem q1194 : (Jvm.Cond.privateMethod ({ cls := "RescueHouse", name := "where", desc := "()V" } : Jvm.MethodName)) ∈ lw_tbl := lw_at lw_m5 47 rfl
theorem q1195 : (Jvm.Cond.instanceMethod ({ cls := "RescueHouse", name := "where", desc := "()V" } : Jvm.MethodName)) ∈ lw_all := lw_g (lw_at lw_m5 48 rfl) rfl
theorem q1196 : (Jvm.Cond.code ({ cls := "RescueHouse", name := "where", desc := "()V" } : Jvm.MethodName) prog_1_method_21_code (6 : Nat) (Option.none : Option Jvm.ClassFile.FieldType)) ∈ lw_all := lw_g (lw_at lw_m5 49 rfl) rfl
theorem q1197 : (Jvm.Cond.methodLink "RescueHouse" (484 : Nat) ({ cls := "RescueHouse$Finder", name := "edits", desc := "(LRescueHouse$House;I[BII)I" } : Jvm.MethodName)) ∈ lw_all := lw_g (lw_at lw_m5 50 rfl) rfl
theorem q1202 : (Jvm.Cond.stringRef "RescueHouse" (488 : Nat) "no names") ∈ lw_tbl := lw_at lw_m5 55 rfl
theorem q1203 : (Jvm.Cond.methodLink "RescueHouse" (467 : Nat) ({ cls := "RescueHouse$Text", name := "numbers", desc := "(II)V" } : Jvm.MethodName)) ∈ lw_all := lw_g (lw_at lw_m5 56 rfl) rfl
theorem q1204 : (Jvm.Cond.methodLink "RescueHouse" (503 : Nat) ({ cls := "RescueHouse", name := "path", desc := "(II)V" } : Jvm.MethodName)) ∈ lw_all := lw_g (lw_at lw_m5 57 rfl) rfl
theorem q1205 : (Jvm.Cond.privateMethod ({ cls := "RescueHouse", name := "path", desc := "(II)V" } : Jvm.MethodName)) ∈ lw_tbl := lw_at lw_m5 58 rfl
theorem q1206 : (Jvm.Cond.instanceMethod ({ cls := "RescueHouse", name := "path", desc := "(II)V" } : Jvm.MethodName)) ∈ lw_all := lw_g (lw_at lw_m5 59 rfl) rfl
theorem q1207 : (Jvm.Cond.code ({ cls := "RescueHouse", name := "path", desc := "(II)V" } : Jvm.MethodName) prog_1_method_22_code (5 : Nat) (Option.none : Option Jvm.ClassFile.FieldType)) ∈ lw_all := lw_g (lw_at lw_m5 60 rfl) rfl
theorem q1208 : (Jvm.Cond.methodLink "RescueHouse" (490 : Nat) ({ cls := "RescueHouse$House", name := "nextPlace", desc := "(II)I" } : Jvm.MethodName)) ∈ lw_all := lw_g (lw_at lw_m5 61 rfl) rfl
theorem q1209 : (Jvm.Cond.methodLink "RescueHouse" (506 : Nat) ({ cls := "RescueHouse$Radio", name := "tell", desc := "(LRescueHouse$House;ILRescueHouse$Text;)V" } : Jvm.MethodName)) ∈ lw_all := lw_g (lw_at lw_m5 62 rfl) rfl
theorem q1224 : (Jvm.Cond.methodLink "RescueHouse" (509 : Nat) ({ cls := "RescueHouse", name := "flows", desc := "(II)Z" } : Jvm.MethodName)) ∈ lw_all := lw_g (lw_at lw_m5 77 rfl) rfl
theorem q1225 : (Jvm.Cond.privateMethod ({ cls := "RescueHouse", name := "flows", desc := "(II)Z" } : Jvm.MethodName)) ∈ lw_tbl := lw_at lw_m5 78 rfl
theorem q1226 : (Jvm.Cond.instanceMethod ({ cls := "RescueHouse", name := "flows", desc := "(II)Z" } : Jvm.MethodName)) ∈ lw_all := lw_g (lw_at lw_m5 79 rfl) rfl
theorem q1227 : (Jvm.Cond.code ({ cls := "RescueHouse", name := "flows", desc := "(II)Z" } : Jvm.MethodName) prog_1_method_23_code (4 : Nat) (Option.some Jvm.ClassFile.FieldType.boolean)) ∈ lw_all := lw_g (lw_at lw_m5 80 rfl) rfl
theorem q1228 : (Jvm.Cond.methodLink "RescueHouse" (512 : Nat) ({ cls := "RescueHouse$Flow", name := "find", desc := "(LRescueHouse$House;II)V" } : Jvm.MethodName)) ∈ lw_all := lw_g (lw_at lw_m5 81 rfl) rfl
theorem q1257 : (Jvm.Cond.methodLink "RescueHouse" (519 : Nat) ({ cls := "RescueHouse$Flow", name := "dam", desc := "(LRescueHouse$House;IILRescueHouse$Text;)V" } : Jvm.MethodName)) ∈ lw_all := lw_g (lw_at lw_m5 110 rfl) rfl
theorem q1270 : (Jvm.Cond.methodLink "RescueHouse" (523 : Nat) ({ cls := "RescueHouse$Flow", name := "judge", desc := "(LRescueHouse$House;IILRescueHouse$Reader;LRescueHouse$Text;)V" } : Jvm.MethodName)) ∈ lw_all := lw_g (lw_at lw_m5 123 rfl) rfl
theorem q1299 : (Jvm.Cond.methodLink "RescueHouse" (527 : Nat) ({ cls := "RescueHouse", name := "counts", desc := "()V" } : Jvm.MethodName)) ∈ lw_all := lw_g (lw_at lw_m5 152 rfl) rfl
theorem q1300 : (Jvm.Cond.privateMethod ({ cls := "RescueHouse", name := "counts", desc := "()V" } : Jvm.MethodName)) ∈ lw_tbl := lw_at lw_m5 153 rfl
theorem q1301 : (Jvm.Cond.instanceMethod ({ cls := "RescueHouse", name := "counts", desc := "()V" } : Jvm.MethodName)) ∈ lw_all := lw_g (lw_at lw_m5 154 rfl) rfl
theorem q1302 : (Jvm.Cond.code ({ cls := "RescueHouse", name := "counts", desc := "()V" } : Jvm.MethodName) prog_1_method_24_code (6 : Nat) (Option.none : Option Jvm.ClassFile.FieldType)) ∈ lw_all := lw_g (lw_at lw_m5 155 rfl) rfl
theorem q1303 : (Jvm.Cond.methodLink "RescueHouse" (530 : Nat) ({ cls := "RescueHouse", name := "ahead", desc := "(I)V" } : Jvm.MethodName)) ∈ lw_all := lw_g (lw_at lw_m5 156 rfl) rfl
theorem q1304 : (Jvm.Cond.privateMethod ({ cls := "RescueHouse", name := "ahead", desc := "(I)V" } : Jvm.MethodName)) ∈ lw_tbl := lw_at lw_m5 157 rfl
theorem q1305 : (Jvm.Cond.instanceMethod ({ cls := "RescueHouse", name := "ahead", desc := "(I)V" } : Jvm.MethodName)) ∈ lw_all := lw_g (lw_at lw_m5 158 rfl) rfl
theorem q1306 : (Jvm.Cond.code ({ cls := "RescueHouse", name := "ahead", desc := "(I)V" } : Jvm.MethodName) prog_1_method_25_code (3 : Nat) (Option.none : Option Jvm.ClassFile.FieldType)) ∈ lw_all := lw_g (lw_at lw_m5 159 rfl) rfl
theorem q1307 : (Jvm.Cond.methodLink "RescueHouse" (493 : Nat) ({ cls := "RescueHouse$Cover", name := "tell", desc := "(LRescueHouse$House;LRescueHouse$Text;)V" } : Jvm.MethodName)) ∈ lw_all := lw_g (lw_at lw_m5 160 rfl) rfl
theorem q1324 : (Jvm.Cond.methodLink "RescueHouse" (533 : Nat) ({ cls := "RescueHouse", name := "shifts", desc := "()V" } : Jvm.MethodName)) ∈ lw_all := lw_g (lw_at lw_m5 177 rfl) rfl
theorem q1325 : (Jvm.Cond.privateMethod ({ cls := "RescueHouse", name := "shifts", desc := "()V" } : Jvm.MethodName)) ∈ lw_tbl := lw_at lw_m5 178 rfl
theorem q1326 : (Jvm.Cond.instanceMethod ({ cls := "RescueHouse", name := "shifts", desc := "()V" } : Jvm.MethodName)) ∈ lw_all := lw_g (lw_at lw_m5 179 rfl) rfl
theorem q1327 : (Jvm.Cond.code ({ cls := "RescueHouse", name := "shifts", desc := "()V" } : Jvm.MethodName) prog_1_method_26_code (3 : Nat) (Option.none : Option Jvm.ClassFile.FieldType)) ∈ lw_all := lw_g (lw_at lw_m5 180 rfl) rfl
theorem q1328 : (Jvm.Cond.methodLink "RescueHouse" (535 : Nat) ({ cls := "RescueHouse$House", name := "isSound", desc := "()Z" } : Jvm.MethodName)) ∈ lw_all := lw_g (lw_at lw_m5 181 rfl) rfl
theorem q1332 : (Jvm.Cond.stringRef "RescueHouse" (539 : Nat) "sound") ∈ lw_tbl := lw_at lw_m5 185 rfl
theorem q1333 : (Jvm.Cond.stringRef "RescueHouse" (541 : Nat) "broken") ∈ lw_tbl := lw_at lw_m5 186 rfl
theorem q1334 : (Jvm.Cond.methodLink "RescueHouse" (546 : Nat) ({ cls := "RescueHouse", name := "ways", desc := "(I)V" } : Jvm.MethodName)) ∈ lw_all := lw_g (lw_at lw_m5 187 rfl) rfl
theorem q1335 : (Jvm.Cond.privateMethod ({ cls := "RescueHouse", name := "ways", desc := "(I)V" } : Jvm.MethodName)) ∈ lw_tbl := lw_at lw_m5 188 rfl
theorem q1336 : (Jvm.Cond.instanceMethod ({ cls := "RescueHouse", name := "ways", desc := "(I)V" } : Jvm.MethodName)) ∈ lw_all := lw_g (lw_at lw_m5 189 rfl) rfl
theorem q1337 : (Jvm.Cond.code ({ cls := "RescueHouse", name := "ways", desc := "(I)V" } : Jvm.MethodName) prog_1_method_17_code (3 : Nat) (Option.none : Option Jvm.ClassFile.FieldType)) ∈ lw_all := lw_g (lw_at lw_m5 190 rfl) rfl
theorem q1338 : (Jvm.Cond.methodLink "RescueHouse" (449 : Nat) ({ cls := "RescueHouse$Text", name := "told", desc := "(I)V" } : Jvm.MethodName)) ∈ lw_all := lw_g (lw_at lw_m5 191 rfl) rfl
theorem q1342 : (Jvm.Cond.methodLink "RescueHouse" (549 : Nat) ({ cls := "RescueHouse$Planner", name := "prove", desc := "(LRescueHouse$House;LRescueHouse$Text;)V" } : Jvm.MethodName)) ∈ lw_all := lw_g (lw_at lw_m5 195 rfl) rfl
theorem q1356 : (Jvm.Cond.methodLink "RescueHouse" (552 : Nat) ({ cls := "RescueHouse$Checker", name := "check", desc := "(LRescueHouse$Reader;LRescueHouse$House;LRescueHouse$Text;)V" } : Jvm.MethodName)) ∈ lw_all := lw_g (lw_at lw_m5 209 rfl) rfl
theorem q1411 : (Jvm.Cond.methodLink "RescueHouse" (556 : Nat) ({ cls := "RescueHouse$Cover", name := "move", desc := "(LRescueHouse$House;LRescueHouse$Text;)V" } : Jvm.MethodName)) ∈ lw_all := lw_g (lw_at lw_m6 24 rfl) rfl
theorem q1417 : (Jvm.Cond.methodLink "RescueHouse" (559 : Nat) ({ cls := "RescueHouse", name := "units", desc := "()V" } : Jvm.MethodName)) ∈ lw_all := lw_g (lw_at lw_m6 30 rfl) rfl
theorem q1418 : (Jvm.Cond.privateMethod ({ cls := "RescueHouse", name := "units", desc := "()V" } : Jvm.MethodName)) ∈ lw_tbl := lw_at lw_m6 31 rfl
theorem q1419 : (Jvm.Cond.instanceMethod ({ cls := "RescueHouse", name := "units", desc := "()V" } : Jvm.MethodName)) ∈ lw_all := lw_g (lw_at lw_m6 32 rfl) rfl
theorem q1420 : (Jvm.Cond.code ({ cls := "RescueHouse", name := "units", desc := "()V" } : Jvm.MethodName) prog_1_method_18_code (2 : Nat) (Option.none : Option Jvm.ClassFile.FieldType)) ∈ lw_all := lw_g (lw_at lw_m6 33 rfl) rfl
theorem q1421 : (Jvm.Cond.stringRef "RescueHouse" (452 : Nat) "shgao") ∈ lw_tbl := lw_at lw_m6 34 rfl
theorem q1422 : (Jvm.Cond.methodLink "RescueHouse" (454 : Nat) ({ cls := "java/lang/String", name := "charAt", desc := "(I)C" } : Jvm.MethodName)) ∈ lw_all := lw_g (lw_at lw_m6 35 rfl) rfl
theorem q1423 : (Jvm.Cond.methodLink "RescueHouse" (561 : Nat) ({ cls := "RescueHouse", name := "calls", desc := "()V" } : Jvm.MethodName)) ∈ lw_all := lw_g (lw_at lw_m6 36 rfl) rfl
theorem q1424 : (Jvm.Cond.privateMethod ({ cls := "RescueHouse", name := "calls", desc := "()V" } : Jvm.MethodName)) ∈ lw_tbl := lw_at lw_m6 37 rfl
theorem q1425 : (Jvm.Cond.instanceMethod ({ cls := "RescueHouse", name := "calls", desc := "()V" } : Jvm.MethodName)) ∈ lw_all := lw_g (lw_at lw_m6 38 rfl) rfl
theorem q1426 : (Jvm.Cond.code ({ cls := "RescueHouse", name := "calls", desc := "()V" } : Jvm.MethodName) prog_1_method_19_code (2 : Nat) (Option.none : Option Jvm.ClassFile.FieldType)) ∈ lw_all := lw_g (lw_at lw_m6 39 rfl) rfl
theorem q1427 : (Jvm.Cond.methodLink "RescueHouse" (472 : Nat) ({ cls := "RescueHouse$House", name := "serves", desc := "(I)I" } : Jvm.MethodName)) ∈ lw_all := lw_g (lw_at lw_m6 40 rfl) rfl
theorem q1428 : (Jvm.Cond.methodLink "RescueHouse" (563 : Nat) ({ cls := "RescueHouse", name := "bill", desc := "(I)V" } : Jvm.MethodName)) ∈ lw_all := lw_g (lw_at lw_m6 41 rfl) rfl
theorem q1429 : (Jvm.Cond.privateMethod ({ cls := "RescueHouse", name := "bill", desc := "(I)V" } : Jvm.MethodName)) ∈ lw_tbl := lw_at lw_m6 42 rfl
theorem q1430 : (Jvm.Cond.instanceMethod ({ cls := "RescueHouse", name := "bill", desc := "(I)V" } : Jvm.MethodName)) ∈ lw_all := lw_g (lw_at lw_m6 43 rfl) rfl
theorem q1431 : (Jvm.Cond.code ({ cls := "RescueHouse", name := "bill", desc := "(I)V" } : Jvm.MethodName) prog_1_method_20_code (2 : Nat) (Option.none : Option Jvm.ClassFile.FieldType)) ∈ lw_all := lw_g (lw_at lw_m6 44 rfl) rfl
theorem q1432 : (Jvm.Cond.methodLink "RescueHouse" (572 : Nat) ({ cls := "RescueHouse$Book", name := "cut", desc := "(I)Z" } : Jvm.MethodName)) ∈ lw_all := lw_g (lw_at lw_m6 45 rfl) rfl
theorem q1436 : (Jvm.Cond.stringRef "RescueHouse" (575 : Nat) "no cut") ∈ lw_tbl := lw_at lw_m6 49 rfl
theorem q1437 : (Jvm.Cond.methodLink "RescueHouse" (577 : Nat) ({ cls := "RescueHouse", name := "mend", desc := "()V" } : Jvm.MethodName)) ∈ lw_all := lw_g (lw_at lw_m6 50 rfl) rfl
theorem q1438 : (Jvm.Cond.privateMethod ({ cls := "RescueHouse", name := "mend", desc := "()V" } : Jvm.MethodName)) ∈ lw_tbl := lw_at lw_m6 51 rfl
theorem q1439 : (Jvm.Cond.instanceMethod ({ cls := "RescueHouse", name := "mend", desc := "()V" } : Jvm.MethodName)) ∈ lw_all := lw_g (lw_at lw_m6 52 rfl) rfl
theorem q1440 : (Jvm.Cond.code ({ cls := "RescueHouse", name := "mend", desc := "()V" } : Jvm.MethodName) prog_1_method_16_code (4 : Nat) (Option.none : Option Jvm.ClassFile.FieldType)) ∈ lw_all := lw_g (lw_at lw_m6 53 rfl) rfl
theorem q1441 : (Jvm.Cond.methodLink "RescueHouse" (435 : Nat) ({ cls := "RescueHouse$Book", name := "next", desc := "()I" } : Jvm.MethodName)) ∈ lw_all := lw_g (lw_at lw_m6 54 rfl) rfl
theorem q1445 : (Jvm.Cond.methodLink "RescueHouse" (446 : Nat) ({ cls := "RescueHouse$Book", name := "reopen", desc := "()V" } : Jvm.MethodName)) ∈ lw_all := lw_g (lw_at lw_m6 58 rfl) rfl
theorem q1450 : (Jvm.Cond.instanceMethod ({ cls := "RescueHouse", name := "answer", desc := "(I)I" } : Jvm.MethodName)) ∈ lw_all := lw_g (lw_at lw_m6 63 rfl) rfl
theorem q1451 : (Jvm.Cond.selects "RescueHouse" ({ cls := "RescueHouse", name := "answer", desc := "(I)I" } : Jvm.MethodName) ({ cls := "RescueHouse", name := "answer", desc := "(I)I" } : Jvm.MethodName)) ∈ lw_all := lw_g (lw_at lw_m6 64 rfl) rfl
theorem q1452 : (Jvm.Cond.code ({ cls := "RescueHouse", name := "answer", desc := "(I)I" } : Jvm.MethodName) prog_1_method_32_code (2 : Nat) (Option.some Jvm.ClassFile.FieldType.int)) ∈ lw_all := lw_g (lw_at lw_m6 65 rfl) rfl
theorem q1453 : (Jvm.Cond.methodLink "RescueHouse" (600 : Nat) ({ cls := "RescueHouse$Text", name := "at", desc := "(I)I" } : Jvm.MethodName)) ∈ lw_all := lw_g (lw_at lw_m6 66 rfl) rfl
theorem q1458 : (Jvm.Cond.instanceMethod ({ cls := "RescueHouse", name := "checkAnswer", desc := "()I" } : Jvm.MethodName)) ∈ lw_all := lw_g (lw_at lw_m6 71 rfl) rfl
theorem q1459 : (Jvm.Cond.selects "RescueHouse" ({ cls := "RescueHouse", name := "checkAnswer", desc := "()I" } : Jvm.MethodName) ({ cls := "RescueHouse", name := "checkAnswer", desc := "()I" } : Jvm.MethodName)) ∈ lw_all := lw_g (lw_at lw_m6 72 rfl) rfl
theorem q1460 : (Jvm.Cond.code ({ cls := "RescueHouse", name := "checkAnswer", desc := "()I" } : Jvm.MethodName) prog_1_method_33_code (4 : Nat) (Option.some Jvm.ClassFile.FieldType.int)) ∈ lw_all := lw_g (lw_at lw_m6 73 rfl) rfl
theorem q1461 : (Jvm.Cond.stringRef "RescueHouse" (603 : Nat) "check ") ∈ lw_tbl := lw_at lw_m6 74 rfl
theorem q1463 : (Jvm.Cond.instanceMethod ({ cls := "RescueHouse", name := "state", desc := "(I)I" } : Jvm.MethodName)) ∈ lw_all := lw_g (lw_at lw_m6 76 rfl) rfl
theorem q1464 : (Jvm.Cond.selects "RescueHouse" ({ cls := "RescueHouse", name := "state", desc := "(I)I" } : Jvm.MethodName) ({ cls := "RescueHouse", name := "state", desc := "(I)I" } : Jvm.MethodName)) ∈ lw_all := lw_g (lw_at lw_m6 77 rfl) rfl
theorem q1465 : (Jvm.Cond.code ({ cls := "RescueHouse", name := "state", desc := "(I)I" } : Jvm.MethodName) prog_1_method_34_code (2 : Nat) (Option.some Jvm.ClassFile.FieldType.int)) ∈ lw_all := lw_g (lw_at lw_m6 78 rfl) rfl
theorem q1467 : (Jvm.Cond.instanceMethod ({ cls := "RescueHouse", name := "byteAt", desc := "(I)I" } : Jvm.MethodName)) ∈ lw_all := lw_g (lw_at lw_m6 80 rfl) rfl
theorem q1468 : (Jvm.Cond.selects "RescueHouse" ({ cls := "RescueHouse", name := "byteAt", desc := "(I)I" } : Jvm.MethodName) ({ cls := "RescueHouse", name := "byteAt", desc := "(I)I" } : Jvm.MethodName)) ∈ lw_all := lw_g (lw_at lw_m6 81 rfl) rfl
theorem q1469 : (Jvm.Cond.code ({ cls := "RescueHouse", name := "byteAt", desc := "(I)I" } : Jvm.MethodName) prog_1_method_35_code (2 : Nat) (Option.some Jvm.ClassFile.FieldType.int)) ∈ lw_all := lw_g (lw_at lw_m6 82 rfl) rfl
theorem q1471 : (Jvm.Cond.instanceMethod ({ cls := "RescueHouse", name := "poke", desc := "(II)Z" } : Jvm.MethodName)) ∈ lw_all := lw_g (lw_at lw_m6 84 rfl) rfl
theorem q1472 : (Jvm.Cond.selects "RescueHouse" ({ cls := "RescueHouse", name := "poke", desc := "(II)Z" } : Jvm.MethodName) ({ cls := "RescueHouse", name := "poke", desc := "(II)Z" } : Jvm.MethodName)) ∈ lw_all := lw_g (lw_at lw_m6 85 rfl) rfl
theorem q1473 : (Jvm.Cond.code ({ cls := "RescueHouse", name := "poke", desc := "(II)Z" } : Jvm.MethodName) prog_1_method_36_code (3 : Nat) (Option.some Jvm.ClassFile.FieldType.boolean)) ∈ lw_all := lw_g (lw_at lw_m6 86 rfl) rfl
theorem in_X0 : ∀ w ∈ wsX00, w ∈ lw_all := lw_in wsX00 [689, 691, 693, 695, 697, 699, 701, 703, 705, 707, 709, 711, 713, 715, 717, 719, 721, 723, 725, 727, 729, 731] (by decide +kernel) (by decide +kernel)

/-! RescueHouse$Text -/
set_option maxRecDepth 100000
def RX1 : String := "RescueHouse$Text"
def TX1 : u_T := fun k => match k with
  | 0 => ("RescueHouse$Text", "bytes", "[B", true)
  | _ => ("RescueHouse$Text", "size", "I", false)
def tyX1 : Nat → FieldType := fun k => match k with
  | 0 => .array .byte
  | _ => .int
abbrev wsX10 : List Cond := u_ws RX1 TX1 2
theorem nmX1 : ∀ a, a < 2 → ∀ b, b < 2 → a ≠ b → (TX1 a).2.1 ≠ (TX1 b).2.1 := by decide +kernel
theorem tyX1_ok : ∀ k, k < 2 → parseFieldDescriptor (TX1 k).2.2.1 = some (tyX1 k) := by decide +kernel
abbrev cX1_init : ByteArray := prog_12_method_1_code
def yX1_init : MethodName := ⟨RX1, "<init>", "()V"⟩
abbrev cX1_clear : ByteArray := prog_12_method_2_code
def yX1_clear : MethodName := ⟨RX1, "clear", "()V"⟩
abbrev cX1_say : ByteArray := prog_12_method_4_code
def yX1_say : MethodName := ⟨RX1, "say", "(Ljava/lang/String;)V"⟩
abbrev cX1_add : ByteArray := prog_12_method_3_code
def yX1_add : MethodName := ⟨RX1, "add", "(I)V"⟩
abbrev cX1_number : ByteArray := prog_12_method_5_code
def yX1_number : MethodName := ⟨RX1, "number", "(I)V"⟩
abbrev cX1_numbers : ByteArray := prog_12_method_7_code
def yX1_numbers : MethodName := ⟨RX1, "numbers", "(II)V"⟩
abbrev cX1_told : ByteArray := prog_12_method_6_code
def yX1_told : MethodName := ⟨RX1, "told", "(I)V"⟩
abbrev cX1_at : ByteArray := prog_12_method_8_code
def yX1_at : MethodName := ⟨RX1, "at", "(I)I"⟩
theorem q189 : (Jvm.Cond.initialized "RescueHouse$Text") ∈ lw_all := lw_g (lw_at lw_m1 2 rfl) rfl
theorem q215 : (Jvm.Cond.instantiable "RescueHouse$Text" (2 : Nat)) ∈ lw_all := lw_g (lw_at lw_m1 28 rfl) rfl
theorem q217 : (Jvm.Cond.instanceMethod ({ cls := "RescueHouse$Text", name := "<init>", desc := "()V" } : Jvm.MethodName)) ∈ lw_all := lw_g (lw_at lw_m1 30 rfl) rfl
theorem q218 : (Jvm.Cond.code ({ cls := "RescueHouse$Text", name := "<init>", desc := "()V" } : Jvm.MethodName) prog_12_method_1_code (1 : Nat) (Option.none : Option Jvm.ClassFile.FieldType)) ∈ lw_all := lw_g (lw_at lw_m1 31 rfl) rfl
theorem q219 : (Jvm.Cond.methodLink "RescueHouse$Text" (3 : Nat) ({ cls := "java/lang/Object", name := "<init>", desc := "()V" } : Jvm.MethodName)) ∈ lw_all := lw_g (lw_at lw_m1 32 rfl) rfl
theorem q220 : (Jvm.Cond.fieldLink "RescueHouse$Text" (9 : Nat) "RescueHouse$Text" "bytes" "[B") ∈ lw_all := lw_g (lw_at lw_m1 33 rfl) rfl
theorem q222 : (Jvm.Cond.fieldLink "RescueHouse$Text" (15 : Nat) "RescueHouse$Text" "size" "I") ∈ lw_all := lw_g (lw_at lw_m1 35 rfl) rfl
theorem q224 : (Jvm.Cond.laysFinal "RescueHouse$Text" "RescueHouse$Text" "bytes" "[B") ∈ lw_all := lw_g (lw_at lw_m1 37 rfl) rfl
theorem q225 : (Jvm.Cond.soleField "RescueHouse$Text" "bytes") ∈ lw_all := lw_g (lw_at lw_m1 38 rfl) rfl
theorem q226 : (Jvm.Cond.lays "RescueHouse$Text" "RescueHouse$Text" "size" "I") ∈ lw_all := lw_g (lw_at lw_m1 39 rfl) rfl
theorem q227 : (Jvm.Cond.soleField "RescueHouse$Text" "size") ∈ lw_all := lw_g (lw_at lw_m1 40 rfl) rfl
theorem q228 : (Jvm.Cond.superclass "RescueHouse$Text" "java/lang/Object") ∈ lw_all := lw_g (lw_at lw_m1 41 rfl) rfl
theorem q747 : (Jvm.Cond.instanceMethod ({ cls := "RescueHouse$Text", name := "clear", desc := "()V" } : Jvm.MethodName)) ∈ lw_all := lw_g (lw_at lw_m3 80 rfl) rfl
theorem q748 : (Jvm.Cond.selects "RescueHouse$Text" ({ cls := "RescueHouse$Text", name := "clear", desc := "()V" } : Jvm.MethodName) ({ cls := "RescueHouse$Text", name := "clear", desc := "()V" } : Jvm.MethodName)) ∈ lw_all := lw_g (lw_at lw_m3 81 rfl) rfl
theorem q749 : (Jvm.Cond.code ({ cls := "RescueHouse$Text", name := "clear", desc := "()V" } : Jvm.MethodName) prog_12_method_2_code (1 : Nat) (Option.none : Option Jvm.ClassFile.FieldType)) ∈ lw_all := lw_g (lw_at lw_m3 82 rfl) rfl
theorem q875 : (Jvm.Cond.instanceMethod ({ cls := "RescueHouse$Text", name := "say", desc := "(Ljava/lang/String;)V" } : Jvm.MethodName)) ∈ lw_all := lw_g (lw_at lw_m3 208 rfl) rfl
theorem q876 : (Jvm.Cond.selects "RescueHouse$Text" ({ cls := "RescueHouse$Text", name := "say", desc := "(Ljava/lang/String;)V" } : Jvm.MethodName) ({ cls := "RescueHouse$Text", name := "say", desc := "(Ljava/lang/String;)V" } : Jvm.MethodName)) ∈ lw_all := lw_g (lw_at lw_m3 209 rfl) rfl
theorem q877 : (Jvm.Cond.code ({ cls := "RescueHouse$Text", name := "say", desc := "(Ljava/lang/String;)V" } : Jvm.MethodName) prog_12_method_4_code (3 : Nat) (Option.none : Option Jvm.ClassFile.FieldType)) ∈ lw_all := lw_g (lw_at lw_m3 210 rfl) rfl
theorem q878 : (Jvm.Cond.methodLink "RescueHouse$Text" (19 : Nat) ({ cls := "java/lang/String", name := "length", desc := "()I" } : Jvm.MethodName)) ∈ lw_all := lw_g (lw_at lw_m3 211 rfl) rfl
theorem q879 : (Jvm.Cond.methodLink "RescueHouse$Text" (25 : Nat) ({ cls := "java/lang/String", name := "charAt", desc := "(I)C" } : Jvm.MethodName)) ∈ lw_all := lw_g (lw_at lw_m3 212 rfl) rfl
theorem q880 : (Jvm.Cond.methodLink "RescueHouse$Text" (29 : Nat) ({ cls := "RescueHouse$Text", name := "add", desc := "(I)V" } : Jvm.MethodName)) ∈ lw_all := lw_g (lw_at lw_m3 213 rfl) rfl
theorem q881 : (Jvm.Cond.instanceMethod ({ cls := "RescueHouse$Text", name := "add", desc := "(I)V" } : Jvm.MethodName)) ∈ lw_all := lw_g (lw_at lw_m3 214 rfl) rfl
theorem q882 : (Jvm.Cond.selects "RescueHouse$Text" ({ cls := "RescueHouse$Text", name := "add", desc := "(I)V" } : Jvm.MethodName) ({ cls := "RescueHouse$Text", name := "add", desc := "(I)V" } : Jvm.MethodName)) ∈ lw_all := lw_g (lw_at lw_m3 215 rfl) rfl
theorem q883 : (Jvm.Cond.code ({ cls := "RescueHouse$Text", name := "add", desc := "(I)V" } : Jvm.MethodName) prog_12_method_3_code (2 : Nat) (Option.none : Option Jvm.ClassFile.FieldType)) ∈ lw_all := lw_g (lw_at lw_m3 216 rfl) rfl
theorem q885 : (Jvm.Cond.instanceMethod ({ cls := "RescueHouse$Text", name := "number", desc := "(I)V" } : Jvm.MethodName)) ∈ lw_all := lw_g (lw_at lw_m3 218 rfl) rfl
theorem q886 : (Jvm.Cond.selects "RescueHouse$Text" ({ cls := "RescueHouse$Text", name := "number", desc := "(I)V" } : Jvm.MethodName) ({ cls := "RescueHouse$Text", name := "number", desc := "(I)V" } : Jvm.MethodName)) ∈ lw_all := lw_g (lw_at lw_m3 219 rfl) rfl
theorem q887 : (Jvm.Cond.code ({ cls := "RescueHouse$Text", name := "number", desc := "(I)V" } : Jvm.MethodName) prog_12_method_5_code (5 : Nat) (Option.none : Option Jvm.ClassFile.FieldType)) ∈ lw_all := lw_g (lw_at lw_m3 220 rfl) rfl
theorem q1128 : (Jvm.Cond.instanceMethod ({ cls := "RescueHouse$Text", name := "numbers", desc := "(II)V" } : Jvm.MethodName)) ∈ lw_all := lw_g (lw_at lw_m4 221 rfl) rfl
theorem q1129 : (Jvm.Cond.selects "RescueHouse$Text" ({ cls := "RescueHouse$Text", name := "numbers", desc := "(II)V" } : Jvm.MethodName) ({ cls := "RescueHouse$Text", name := "numbers", desc := "(II)V" } : Jvm.MethodName)) ∈ lw_all := lw_g (lw_at lw_m4 222 rfl) rfl
theorem q1130 : (Jvm.Cond.code ({ cls := "RescueHouse$Text", name := "numbers", desc := "(II)V" } : Jvm.MethodName) prog_12_method_7_code (3 : Nat) (Option.none : Option Jvm.ClassFile.FieldType)) ∈ lw_all := lw_g (lw_at lw_m4 223 rfl) rfl
theorem q1131 : (Jvm.Cond.methodLink "RescueHouse$Text" (33 : Nat) ({ cls := "RescueHouse$Text", name := "number", desc := "(I)V" } : Jvm.MethodName)) ∈ lw_all := lw_g (lw_at lw_m4 224 rfl) rfl
theorem q1339 : (Jvm.Cond.instanceMethod ({ cls := "RescueHouse$Text", name := "told", desc := "(I)V" } : Jvm.MethodName)) ∈ lw_all := lw_g (lw_at lw_m5 192 rfl) rfl
theorem q1340 : (Jvm.Cond.selects "RescueHouse$Text" ({ cls := "RescueHouse$Text", name := "told", desc := "(I)V" } : Jvm.MethodName) ({ cls := "RescueHouse$Text", name := "told", desc := "(I)V" } : Jvm.MethodName)) ∈ lw_all := lw_g (lw_at lw_m5 193 rfl) rfl
theorem q1341 : (Jvm.Cond.code ({ cls := "RescueHouse$Text", name := "told", desc := "(I)V" } : Jvm.MethodName) prog_12_method_6_code (2 : Nat) (Option.none : Option Jvm.ClassFile.FieldType)) ∈ lw_all := lw_g (lw_at lw_m5 194 rfl) rfl
theorem q1454 : (Jvm.Cond.instanceMethod ({ cls := "RescueHouse$Text", name := "at", desc := "(I)I" } : Jvm.MethodName)) ∈ lw_all := lw_g (lw_at lw_m6 67 rfl) rfl
theorem q1455 : (Jvm.Cond.selects "RescueHouse$Text" ({ cls := "RescueHouse$Text", name := "at", desc := "(I)I" } : Jvm.MethodName) ({ cls := "RescueHouse$Text", name := "at", desc := "(I)I" } : Jvm.MethodName)) ∈ lw_all := lw_g (lw_at lw_m6 68 rfl) rfl
theorem q1456 : (Jvm.Cond.code ({ cls := "RescueHouse$Text", name := "at", desc := "(I)I" } : Jvm.MethodName) prog_12_method_8_code (2 : Nat) (Option.some Jvm.ClassFile.FieldType.int)) ∈ lw_all := lw_g (lw_at lw_m6 69 rfl) rfl
theorem in_X1 : ∀ w ∈ wsX10, w ∈ lw_all := lw_in wsX10 [224, 226] (by decide +kernel) (by decide +kernel)

/-! RescueHouse$Reader -/
set_option maxRecDepth 100000
def RX2 : String := "RescueHouse$Reader"
def TX2 : u_T := fun k => match k with
  | 0 => ("RescueHouse$Reader", "numbers", "[I", true)
  | 1 => ("RescueHouse$Reader", "kind", "[I", true)
  | 2 => ("RescueHouse$Reader", "from", "[I", true)
  | 3 => ("RescueHouse$Reader", "many", "[I", true)
  | 4 => ("RescueHouse$Reader", "values", "[I", true)
  | 5 => ("RescueHouse$Reader", "within", "[I", true)
  | 6 => ("RescueHouse$Reader", "bytes", "[B", false)
  | 7 => ("RescueHouse$Reader", "size", "I", false)
  | 8 => ("RescueHouse$Reader", "at", "I", false)
  | 9 => ("RescueHouse$Reader", "wrong", "I", false)
  | 10 => ("RescueHouse$Reader", "command", "I", false)
  | 11 => ("RescueHouse$Reader", "lines", "I", false)
  | 12 => ("RescueHouse$Reader", "told", "I", false)
  | 13 => ("RescueHouse$Reader", "begin", "I", false)
  | 14 => ("RescueHouse$Reader", "end", "I", false)
  | 15 => ("RescueHouse$Reader", "deepest", "I", false)
  | _ => ("RescueHouse$Reader", "flows", "I", false)
def tyX2 : Nat → FieldType := fun k => match k with
  | 0 => .array .int
  | 1 => .array .int
  | 2 => .array .int
  | 3 => .array .int
  | 4 => .array .int
  | 5 => .array .int
  | 6 => .array .byte
  | 7 => .int
  | 8 => .int
  | 9 => .int
  | 10 => .int
  | 11 => .int
  | 12 => .int
  | 13 => .int
  | 14 => .int
  | 15 => .int
  | _ => .int
abbrev wsX20 : List Cond := u_ws RX2 TX2 17
set_option maxRecDepth 100000 in
theorem nmX2 : ∀ a, a < 17 → ∀ b, b < 17 → a ≠ b → (TX2 a).2.1 ≠ (TX2 b).2.1 := by decide +kernel
set_option maxRecDepth 100000 in
theorem tyX2_ok : ∀ k, k < 17 → parseFieldDescriptor (TX2 k).2.2.1 = some (tyX2 k) := by decide +kernel
abbrev cX2_init : ByteArray := prog_11_method_1_code
def yX2_init : MethodName := ⟨RX2, "<init>", "()V"⟩
abbrev cX2_read : ByteArray := prog_11_method_18_code
def yX2_read : MethodName := ⟨RX2, "read", "([BI)I"⟩
abbrev cX2_word : ByteArray := prog_11_method_4_code
def yX2_word : MethodName := ⟨RX2, "word", "()I"⟩
abbrev cX2_here : ByteArray := prog_11_method_2_code
def yX2_here : MethodName := ⟨RX2, "here", "()I"⟩
abbrev cX2_takes : ByteArray := prog_11_method_6_code
def yX2_takes : MethodName := ⟨RX2, "takes", "(I)I"⟩
abbrev cX2_goesOn : ByteArray := prog_11_method_5_code
def yX2_goesOn : MethodName := ⟨RX2, "goesOn", "(I)Z"⟩
abbrev cX2_fail : ByteArray := prog_11_method_3_code
def yX2_fail : MethodName := ⟨RX2, "fail", "()V"⟩
abbrev cX2_blank : ByteArray := prog_11_method_7_code
def yX2_blank : MethodName := ⟨RX2, "blank", "()V"⟩
abbrev cX2_line : ByteArray := prog_11_method_16_code
def yX2_line : MethodName := ⟨RX2, "line", "()V"⟩
abbrev cX2_keep : ByteArray := prog_11_method_9_code
def yX2_keep : MethodName := ⟨RX2, "keep", "(I)V"⟩
abbrev cX2_number : ByteArray := prog_11_method_8_code
def yX2_number : MethodName := ⟨RX2, "number", "(I)I"⟩
abbrev cX2_special : ByteArray := prog_11_method_17_code
def yX2_special : MethodName := ⟨RX2, "special", "(I)V"⟩
abbrev cX2_tree : ByteArray := prog_11_method_12_code
def yX2_tree : MethodName := ⟨RX2, "tree", "()V"⟩
abbrev cX2_take : ByteArray := prog_11_method_10_code
def yX2_take : MethodName := ⟨RX2, "take", "(I)V"⟩
abbrev cX2_digit : ByteArray := prog_11_method_11_code
def yX2_digit : MethodName := ⟨RX2, "digit", "(II)V"⟩
abbrev cX2_answers : ByteArray := prog_11_method_13_code
def yX2_answers : MethodName := ⟨RX2, "answers", "()V"⟩
abbrev cX2_letters : ByteArray := prog_11_method_14_code
def yX2_letters : MethodName := ⟨RX2, "letters", "()V"⟩
abbrev cX2_argument : ByteArray := prog_11_method_15_code
def yX2_argument : MethodName := ⟨RX2, "argument", "()V"⟩
theorem q190 : (Jvm.Cond.initialized "RescueHouse$Reader") ∈ lw_all := lw_g (lw_at lw_m1 3 rfl) rfl
theorem q231 : (Jvm.Cond.instantiable "RescueHouse$Reader" (17 : Nat)) ∈ lw_all := lw_g (lw_at lw_m1 44 rfl) rfl
theorem q233 : (Jvm.Cond.instanceMethod ({ cls := "RescueHouse$Reader", name := "<init>", desc := "()V" } : Jvm.MethodName)) ∈ lw_all := lw_g (lw_at lw_m1 46 rfl) rfl
theorem q234 : (Jvm.Cond.code ({ cls := "RescueHouse$Reader", name := "<init>", desc := "()V" } : Jvm.MethodName) prog_11_method_1_code (1 : Nat) (Option.none : Option Jvm.ClassFile.FieldType)) ∈ lw_all := lw_g (lw_at lw_m1 47 rfl) rfl
theorem q235 : (Jvm.Cond.methodLink "RescueHouse$Reader" (3 : Nat) ({ cls := "java/lang/Object", name := "<init>", desc := "()V" } : Jvm.MethodName)) ∈ lw_all := lw_g (lw_at lw_m1 48 rfl) rfl
theorem q236 : (Jvm.Cond.fieldLink "RescueHouse$Reader" (9 : Nat) "RescueHouse$Reader" "numbers" "[I") ∈ lw_all := lw_g (lw_at lw_m1 49 rfl) rfl
theorem q238 : (Jvm.Cond.fieldLink "RescueHouse$Reader" (15 : Nat) "RescueHouse$Reader" "kind" "[I") ∈ lw_all := lw_g (lw_at lw_m1 51 rfl) rfl
theorem q240 : (Jvm.Cond.fieldLink "RescueHouse$Reader" (18 : Nat) "RescueHouse$Reader" "from" "[I") ∈ lw_all := lw_g (lw_at lw_m1 53 rfl) rfl
theorem q242 : (Jvm.Cond.fieldLink "RescueHouse$Reader" (21 : Nat) "RescueHouse$Reader" "many" "[I") ∈ lw_all := lw_g (lw_at lw_m1 55 rfl) rfl
theorem q244 : (Jvm.Cond.fieldLink "RescueHouse$Reader" (24 : Nat) "RescueHouse$Reader" "values" "[I") ∈ lw_all := lw_g (lw_at lw_m1 57 rfl) rfl
theorem q247 : (Jvm.Cond.fieldLink "RescueHouse$Reader" (27 : Nat) "RescueHouse$Reader" "within" "[I") ∈ lw_all := lw_g (lw_at lw_m1 60 rfl) rfl
theorem q248 : (Jvm.Cond.fieldLink "RescueHouse$Reader" (37 : Nat) "RescueHouse$Reader" "bytes" "[B") ∈ lw_all := lw_g (lw_at lw_m1 61 rfl) rfl
theorem q250 : (Jvm.Cond.fieldLink "RescueHouse$Reader" (34 : Nat) "RescueHouse$Reader" "size" "I") ∈ lw_all := lw_g (lw_at lw_m1 63 rfl) rfl
theorem q251 : (Jvm.Cond.fieldLink "RescueHouse$Reader" (30 : Nat) "RescueHouse$Reader" "at" "I") ∈ lw_all := lw_g (lw_at lw_m1 64 rfl) rfl
theorem q252 : (Jvm.Cond.fieldLink "RescueHouse$Reader" (41 : Nat) "RescueHouse$Reader" "wrong" "I") ∈ lw_all := lw_g (lw_at lw_m1 65 rfl) rfl
theorem q254 : (Jvm.Cond.fieldLink "RescueHouse$Reader" (120 : Nat) "RescueHouse$Reader" "command" "I") ∈ lw_all := lw_g (lw_at lw_m1 67 rfl) rfl
theorem q255 : (Jvm.Cond.fieldLink "RescueHouse$Reader" (69 : Nat) "RescueHouse$Reader" "lines" "I") ∈ lw_all := lw_g (lw_at lw_m1 68 rfl) rfl
theorem q257 : (Jvm.Cond.fieldLink "RescueHouse$Reader" (66 : Nat) "RescueHouse$Reader" "told" "I") ∈ lw_all := lw_g (lw_at lw_m1 70 rfl) rfl
theorem q260 : (Jvm.Cond.fieldLink "RescueHouse$Reader" (72 : Nat) "RescueHouse$Reader" "begin" "I") ∈ lw_all := lw_g (lw_at lw_m1 73 rfl) rfl
theorem q262 : (Jvm.Cond.fieldLink "RescueHouse$Reader" (92 : Nat) "RescueHouse$Reader" "end" "I") ∈ lw_all := lw_g (lw_at lw_m1 75 rfl) rfl
theorem q264 : (Jvm.Cond.fieldLink "RescueHouse$Reader" (75 : Nat) "RescueHouse$Reader" "deepest" "I") ∈ lw_all := lw_g (lw_at lw_m1 77 rfl) rfl
theorem q266 : (Jvm.Cond.fieldLink "RescueHouse$Reader" (99 : Nat) "RescueHouse$Reader" "flows" "I") ∈ lw_all := lw_g (lw_at lw_m1 79 rfl) rfl
theorem q267 : (Jvm.Cond.laysFinal "RescueHouse$Reader" "RescueHouse$Reader" "numbers" "[I") ∈ lw_all := lw_g (lw_at lw_m1 80 rfl) rfl
theorem q268 : (Jvm.Cond.soleField "RescueHouse$Reader" "numbers") ∈ lw_all := lw_g (lw_at lw_m1 81 rfl) rfl
theorem q269 : (Jvm.Cond.laysFinal "RescueHouse$Reader" "RescueHouse$Reader" "kind" "[I") ∈ lw_all := lw_g (lw_at lw_m1 82 rfl) rfl
theorem q270 : (Jvm.Cond.soleField "RescueHouse$Reader" "kind") ∈ lw_all := lw_g (lw_at lw_m1 83 rfl) rfl
theorem q271 : (Jvm.Cond.laysFinal "RescueHouse$Reader" "RescueHouse$Reader" "from" "[I") ∈ lw_all := lw_g (lw_at lw_m1 84 rfl) rfl
theorem q272 : (Jvm.Cond.soleField "RescueHouse$Reader" "from") ∈ lw_all := lw_g (lw_at lw_m1 85 rfl) rfl
theorem q273 : (Jvm.Cond.laysFinal "RescueHouse$Reader" "RescueHouse$Reader" "many" "[I") ∈ lw_all := lw_g (lw_at lw_m1 86 rfl) rfl
theorem q274 : (Jvm.Cond.soleField "RescueHouse$Reader" "many") ∈ lw_all := lw_g (lw_at lw_m1 87 rfl) rfl
theorem q275 : (Jvm.Cond.laysFinal "RescueHouse$Reader" "RescueHouse$Reader" "values" "[I") ∈ lw_all := lw_g (lw_at lw_m1 88 rfl) rfl
theorem q276 : (Jvm.Cond.soleField "RescueHouse$Reader" "values") ∈ lw_all := lw_g (lw_at lw_m1 89 rfl) rfl
theorem q277 : (Jvm.Cond.laysFinal "RescueHouse$Reader" "RescueHouse$Reader" "within" "[I") ∈ lw_all := lw_g (lw_at lw_m1 90 rfl) rfl
theorem q278 : (Jvm.Cond.soleField "RescueHouse$Reader" "within") ∈ lw_all := lw_g (lw_at lw_m1 91 rfl) rfl
theorem q279 : (Jvm.Cond.lays "RescueHouse$Reader" "RescueHouse$Reader" "bytes" "[B") ∈ lw_all := lw_g (lw_at lw_m1 92 rfl) rfl
theorem q280 : (Jvm.Cond.soleField "RescueHouse$Reader" "bytes") ∈ lw_all := lw_g (lw_at lw_m1 93 rfl) rfl
theorem q281 : (Jvm.Cond.lays "RescueHouse$Reader" "RescueHouse$Reader" "size" "I") ∈ lw_all := lw_g (lw_at lw_m1 94 rfl) rfl
theorem q282 : (Jvm.Cond.soleField "RescueHouse$Reader" "size") ∈ lw_all := lw_g (lw_at lw_m1 95 rfl) rfl
theorem q283 : (Jvm.Cond.lays "RescueHouse$Reader" "RescueHouse$Reader" "at" "I") ∈ lw_all := lw_g (lw_at lw_m1 96 rfl) rfl
theorem q284 : (Jvm.Cond.soleField "RescueHouse$Reader" "at") ∈ lw_all := lw_g (lw_at lw_m1 97 rfl) rfl
theorem q285 : (Jvm.Cond.lays "RescueHouse$Reader" "RescueHouse$Reader" "wrong" "I") ∈ lw_all := lw_g (lw_at lw_m1 98 rfl) rfl
theorem q286 : (Jvm.Cond.soleField "RescueHouse$Reader" "wrong") ∈ lw_all := lw_g (lw_at lw_m1 99 rfl) rfl
theorem q287 : (Jvm.Cond.lays "RescueHouse$Reader" "RescueHouse$Reader" "command" "I") ∈ lw_all := lw_g (lw_at lw_m1 100 rfl) rfl
theorem q288 : (Jvm.Cond.soleField "RescueHouse$Reader" "command") ∈ lw_all := lw_g (lw_at lw_m1 101 rfl) rfl
theorem q289 : (Jvm.Cond.lays "RescueHouse$Reader" "RescueHouse$Reader" "lines" "I") ∈ lw_all := lw_g (lw_at lw_m1 102 rfl) rfl
theorem q290 : (Jvm.Cond.soleField "RescueHouse$Reader" "lines") ∈ lw_all := lw_g (lw_at lw_m1 103 rfl) rfl
theorem q291 : (Jvm.Cond.lays "RescueHouse$Reader" "RescueHouse$Reader" "told" "I") ∈ lw_all := lw_g (lw_at lw_m1 104 rfl) rfl
theorem q292 : (Jvm.Cond.soleField "RescueHouse$Reader" "told") ∈ lw_all := lw_g (lw_at lw_m1 105 rfl) rfl
theorem q293 : (Jvm.Cond.lays "RescueHouse$Reader" "RescueHouse$Reader" "begin" "I") ∈ lw_all := lw_g (lw_at lw_m1 106 rfl) rfl
theorem q294 : (Jvm.Cond.soleField "RescueHouse$Reader" "begin") ∈ lw_all := lw_g (lw_at lw_m1 107 rfl) rfl
theorem q295 : (Jvm.Cond.lays "RescueHouse$Reader" "RescueHouse$Reader" "end" "I") ∈ lw_all := lw_g (lw_at lw_m1 108 rfl) rfl
theorem q296 : (Jvm.Cond.soleField "RescueHouse$Reader" "end") ∈ lw_all := lw_g (lw_at lw_m1 109 rfl) rfl
theorem q297 : (Jvm.Cond.lays "RescueHouse$Reader" "RescueHouse$Reader" "deepest" "I") ∈ lw_all := lw_g (lw_at lw_m1 110 rfl) rfl
theorem q298 : (Jvm.Cond.soleField "RescueHouse$Reader" "deepest") ∈ lw_all := lw_g (lw_at lw_m1 111 rfl) rfl
theorem q299 : (Jvm.Cond.lays "RescueHouse$Reader" "RescueHouse$Reader" "flows" "I") ∈ lw_all := lw_g (lw_at lw_m1 112 rfl) rfl
theorem q300 : (Jvm.Cond.soleField "RescueHouse$Reader" "flows") ∈ lw_all := lw_g (lw_at lw_m1 113 rfl) rfl
theorem q301 : (Jvm.Cond.superclass "RescueHouse$Reader" "java/lang/Object") ∈ lw_all := lw_g (lw_at lw_m1 114 rfl) rfl
theorem q751 : (Jvm.Cond.instanceMethod ({ cls := "RescueHouse$Reader", name := "read", desc := "([BI)I" } : Jvm.MethodName)) ∈ lw_all := lw_g (lw_at lw_m3 84 rfl) rfl
theorem q752 : (Jvm.Cond.selects "RescueHouse$Reader" ({ cls := "RescueHouse$Reader", name := "read", desc := "([BI)I" } : Jvm.MethodName) ({ cls := "RescueHouse$Reader", name := "read", desc := "([BI)I" } : Jvm.MethodName)) ∈ lw_all := lw_g (lw_at lw_m3 85 rfl) rfl
theorem q753 : (Jvm.Cond.code ({ cls := "RescueHouse$Reader", name := "read", desc := "([BI)I" } : Jvm.MethodName) prog_11_method_18_code (6 : Nat) (Option.some Jvm.ClassFile.FieldType.int)) ∈ lw_all := lw_g (lw_at lw_m3 86 rfl) rfl
theorem q754 : (Jvm.Cond.methodLink "RescueHouse$Reader" (123 : Nat) ({ cls := "RescueHouse$Reader", name := "word", desc := "()I" } : Jvm.MethodName)) ∈ lw_all := lw_g (lw_at lw_m3 87 rfl) rfl
theorem q755 : (Jvm.Cond.privateMethod ({ cls := "RescueHouse$Reader", name := "word", desc := "()I" } : Jvm.MethodName)) ∈ lw_tbl := lw_at lw_m3 88 rfl
theorem q756 : (Jvm.Cond.instanceMethod ({ cls := "RescueHouse$Reader", name := "word", desc := "()I" } : Jvm.MethodName)) ∈ lw_all := lw_g (lw_at lw_m3 89 rfl) rfl
theorem q757 : (Jvm.Cond.code ({ cls := "RescueHouse$Reader", name := "word", desc := "()I" } : Jvm.MethodName) prog_11_method_4_code (5 : Nat) (Option.some Jvm.ClassFile.FieldType.int)) ∈ lw_all := lw_g (lw_at lw_m3 90 rfl) rfl
theorem q758 : (Jvm.Cond.stringRef "RescueHouse$Reader" (44 : Nat) "town1 street3 lane3 close1 open1 unit2 off1 on1 post2 call3 send0 go2 end1 kind8 report7 name6 hours3 away5 shift0 tick1 undo0 drill0 done0 ways1 plan0 prove0 check9 cover0 move0 units0 calls0 bill1 where6 path2 radio1 flow2 dam2 judge4 counts0 ahead1 shifts0 audit0 books0 cut1 mend0 ") ∈ lw_tbl := lw_at lw_m3 91 rfl
theorem q759 : (Jvm.Cond.methodLink "RescueHouse$Reader" (46 : Nat) ({ cls := "java/lang/String", name := "length", desc := "()I" } : Jvm.MethodName)) ∈ lw_all := lw_g (lw_at lw_m3 92 rfl) rfl
theorem q769 : (Jvm.Cond.methodLink "RescueHouse$Reader" (52 : Nat) ({ cls := "java/lang/String", name := "charAt", desc := "(I)C" } : Jvm.MethodName)) ∈ lw_all := lw_g (lw_at lw_m3 102 rfl) rfl
theorem q807 : (Jvm.Cond.methodLink "RescueHouse$Reader" (56 : Nat) ({ cls := "RescueHouse$Reader", name := "here", desc := "()I" } : Jvm.MethodName)) ∈ lw_all := lw_g (lw_at lw_m3 140 rfl) rfl
theorem q808 : (Jvm.Cond.privateMethod ({ cls := "RescueHouse$Reader", name := "here", desc := "()I" } : Jvm.MethodName)) ∈ lw_tbl := lw_at lw_m3 141 rfl
theorem q809 : (Jvm.Cond.instanceMethod ({ cls := "RescueHouse$Reader", name := "here", desc := "()I" } : Jvm.MethodName)) ∈ lw_all := lw_g (lw_at lw_m3 142 rfl) rfl
theorem q810 : (Jvm.Cond.code ({ cls := "RescueHouse$Reader", name := "here", desc := "()I" } : Jvm.MethodName) prog_11_method_2_code (1 : Nat) (Option.some Jvm.ClassFile.FieldType.int)) ∈ lw_all := lw_g (lw_at lw_m3 143 rfl) rfl
theorem q811 : (Jvm.Cond.methodLink "RescueHouse$Reader" (126 : Nat) ({ cls := "RescueHouse$Reader", name := "takes", desc := "(I)I" } : Jvm.MethodName)) ∈ lw_all := lw_g (lw_at lw_m3 144 rfl) rfl
theorem q812 : (Jvm.Cond.privateMethod ({ cls := "RescueHouse$Reader", name := "takes", desc := "(I)I" } : Jvm.MethodName)) ∈ lw_tbl := lw_at lw_m3 145 rfl
theorem q813 : (Jvm.Cond.instanceMethod ({ cls := "RescueHouse$Reader", name := "takes", desc := "(I)I" } : Jvm.MethodName)) ∈ lw_all := lw_g (lw_at lw_m3 146 rfl) rfl
theorem q814 : (Jvm.Cond.code ({ cls := "RescueHouse$Reader", name := "takes", desc := "(I)I" } : Jvm.MethodName) prog_11_method_6_code (5 : Nat) (Option.some Jvm.ClassFile.FieldType.int)) ∈ lw_all := lw_g (lw_at lw_m3 147 rfl) rfl
theorem q815 : (Jvm.Cond.methodLink "RescueHouse$Reader" (129 : Nat) ({ cls := "RescueHouse$Reader", name := "goesOn", desc := "(I)Z" } : Jvm.MethodName)) ∈ lw_all := lw_g (lw_at lw_m3 148 rfl) rfl
theorem q816 : (Jvm.Cond.privateMethod ({ cls := "RescueHouse$Reader", name := "goesOn", desc := "(I)Z" } : Jvm.MethodName)) ∈ lw_tbl := lw_at lw_m3 149 rfl
theorem q817 : (Jvm.Cond.instanceMethod ({ cls := "RescueHouse$Reader", name := "goesOn", desc := "(I)Z" } : Jvm.MethodName)) ∈ lw_all := lw_g (lw_at lw_m3 150 rfl) rfl
theorem q818 : (Jvm.Cond.code ({ cls := "RescueHouse$Reader", name := "goesOn", desc := "(I)Z" } : Jvm.MethodName) prog_11_method_5_code (5 : Nat) (Option.some Jvm.ClassFile.FieldType.boolean)) ∈ lw_all := lw_g (lw_at lw_m3 151 rfl) rfl
theorem q819 : (Jvm.Cond.methodLink "RescueHouse$Reader" (59 : Nat) ({ cls := "RescueHouse$Reader", name := "fail", desc := "()V" } : Jvm.MethodName)) ∈ lw_all := lw_g (lw_at lw_m3 152 rfl) rfl
theorem q820 : (Jvm.Cond.privateMethod ({ cls := "RescueHouse$Reader", name := "fail", desc := "()V" } : Jvm.MethodName)) ∈ lw_tbl := lw_at lw_m3 153 rfl
theorem q821 : (Jvm.Cond.instanceMethod ({ cls := "RescueHouse$Reader", name := "fail", desc := "()V" } : Jvm.MethodName)) ∈ lw_all := lw_g (lw_at lw_m3 154 rfl) rfl
theorem q822 : (Jvm.Cond.code ({ cls := "RescueHouse$Reader", name := "fail", desc := "()V" } : Jvm.MethodName) prog_11_method_3_code (1 : Nat) (Option.none : Option Jvm.ClassFile.FieldType)) ∈ lw_all := lw_g (lw_at lw_m3 155 rfl) rfl
theorem q823 : (Jvm.Cond.methodLink "RescueHouse$Reader" (102 : Nat) ({ cls := "RescueHouse$Reader", name := "blank", desc := "()V" } : Jvm.MethodName)) ∈ lw_all := lw_g (lw_at lw_m3 156 rfl) rfl
theorem q824 : (Jvm.Cond.privateMethod ({ cls := "RescueHouse$Reader", name := "blank", desc := "()V" } : Jvm.MethodName)) ∈ lw_tbl := lw_at lw_m3 157 rfl
theorem q825 : (Jvm.Cond.instanceMethod ({ cls := "RescueHouse$Reader", name := "blank", desc := "()V" } : Jvm.MethodName)) ∈ lw_all := lw_g (lw_at lw_m3 158 rfl) rfl
theorem q826 : (Jvm.Cond.code ({ cls := "RescueHouse$Reader", name := "blank", desc := "()V" } : Jvm.MethodName) prog_11_method_7_code (1 : Nat) (Option.none : Option Jvm.ClassFile.FieldType)) ∈ lw_all := lw_g (lw_at lw_m3 159 rfl) rfl
theorem q827 : (Jvm.Cond.methodLink "RescueHouse$Reader" (133 : Nat) ({ cls := "RescueHouse$Reader", name := "line", desc := "()V" } : Jvm.MethodName)) ∈ lw_all := lw_g (lw_at lw_m3 160 rfl) rfl
theorem q828 : (Jvm.Cond.privateMethod ({ cls := "RescueHouse$Reader", name := "line", desc := "()V" } : Jvm.MethodName)) ∈ lw_tbl := lw_at lw_m3 161 rfl
theorem q829 : (Jvm.Cond.instanceMethod ({ cls := "RescueHouse$Reader", name := "line", desc := "()V" } : Jvm.MethodName)) ∈ lw_all := lw_g (lw_at lw_m3 162 rfl) rfl
theorem q830 : (Jvm.Cond.code ({ cls := "RescueHouse$Reader", name := "line", desc := "()V" } : Jvm.MethodName) prog_11_method_16_code (4 : Nat) (Option.none : Option Jvm.ClassFile.FieldType)) ∈ lw_all := lw_g (lw_at lw_m3 163 rfl) rfl
theorem q831 : (Jvm.Cond.methodLink "RescueHouse$Reader" (105 : Nat) ({ cls := "RescueHouse$Reader", name := "keep", desc := "(I)V" } : Jvm.MethodName)) ∈ lw_all := lw_g (lw_at lw_m3 164 rfl) rfl
theorem q832 : (Jvm.Cond.privateMethod ({ cls := "RescueHouse$Reader", name := "keep", desc := "(I)V" } : Jvm.MethodName)) ∈ lw_tbl := lw_at lw_m3 165 rfl
theorem q833 : (Jvm.Cond.instanceMethod ({ cls := "RescueHouse$Reader", name := "keep", desc := "(I)V" } : Jvm.MethodName)) ∈ lw_all := lw_g (lw_at lw_m3 166 rfl) rfl
theorem q834 : (Jvm.Cond.code ({ cls := "RescueHouse$Reader", name := "keep", desc := "(I)V" } : Jvm.MethodName) prog_11_method_9_code (2 : Nat) (Option.none : Option Jvm.ClassFile.FieldType)) ∈ lw_all := lw_g (lw_at lw_m3 167 rfl) rfl
theorem q835 : (Jvm.Cond.methodLink "RescueHouse$Reader" (95 : Nat) ({ cls := "RescueHouse$Reader", name := "number", desc := "(I)I" } : Jvm.MethodName)) ∈ lw_all := lw_g (lw_at lw_m3 168 rfl) rfl
theorem q836 : (Jvm.Cond.privateMethod ({ cls := "RescueHouse$Reader", name := "number", desc := "(I)I" } : Jvm.MethodName)) ∈ lw_tbl := lw_at lw_m3 169 rfl
theorem q837 : (Jvm.Cond.instanceMethod ({ cls := "RescueHouse$Reader", name := "number", desc := "(I)I" } : Jvm.MethodName)) ∈ lw_all := lw_g (lw_at lw_m3 170 rfl) rfl
theorem q838 : (Jvm.Cond.code ({ cls := "RescueHouse$Reader", name := "number", desc := "(I)I" } : Jvm.MethodName) prog_11_method_8_code (4 : Nat) (Option.some Jvm.ClassFile.FieldType.int)) ∈ lw_all := lw_g (lw_at lw_m3 171 rfl) rfl
theorem q839 : (Jvm.Cond.methodLinkNest "RescueHouse$Reader" (62 : Nat) ({ cls := "RescueHouse", name := "in", desc := "(III)Z" } : Jvm.MethodName) "RescueHouse") ∈ lw_tbl := lw_at lw_m3 172 rfl
theorem q842 : (Jvm.Cond.methodLink "RescueHouse$Reader" (136 : Nat) ({ cls := "RescueHouse$Reader", name := "special", desc := "(I)V" } : Jvm.MethodName)) ∈ lw_all := lw_g (lw_at lw_m3 175 rfl) rfl
theorem q843 : (Jvm.Cond.privateMethod ({ cls := "RescueHouse$Reader", name := "special", desc := "(I)V" } : Jvm.MethodName)) ∈ lw_tbl := lw_at lw_m3 176 rfl
theorem q844 : (Jvm.Cond.instanceMethod ({ cls := "RescueHouse$Reader", name := "special", desc := "(I)V" } : Jvm.MethodName)) ∈ lw_all := lw_g (lw_at lw_m3 177 rfl) rfl
theorem q845 : (Jvm.Cond.code ({ cls := "RescueHouse$Reader", name := "special", desc := "(I)V" } : Jvm.MethodName) prog_11_method_17_code (2 : Nat) (Option.none : Option Jvm.ClassFile.FieldType)) ∈ lw_all := lw_g (lw_at lw_m3 178 rfl) rfl
theorem q846 : (Jvm.Cond.methodLink "RescueHouse$Reader" (108 : Nat) ({ cls := "RescueHouse$Reader", name := "tree", desc := "()V" } : Jvm.MethodName)) ∈ lw_all := lw_g (lw_at lw_m3 179 rfl) rfl
theorem q847 : (Jvm.Cond.privateMethod ({ cls := "RescueHouse$Reader", name := "tree", desc := "()V" } : Jvm.MethodName)) ∈ lw_tbl := lw_at lw_m3 180 rfl
theorem q848 : (Jvm.Cond.instanceMethod ({ cls := "RescueHouse$Reader", name := "tree", desc := "()V" } : Jvm.MethodName)) ∈ lw_all := lw_g (lw_at lw_m3 181 rfl) rfl
theorem q849 : (Jvm.Cond.code ({ cls := "RescueHouse$Reader", name := "tree", desc := "()V" } : Jvm.MethodName) prog_11_method_12_code (3 : Nat) (Option.none : Option Jvm.ClassFile.FieldType)) ∈ lw_all := lw_g (lw_at lw_m3 182 rfl) rfl
theorem q850 : (Jvm.Cond.methodLink "RescueHouse$Reader" (78 : Nat) ({ cls := "java/lang/Math", name := "max", desc := "(II)I" } : Jvm.MethodName)) ∈ lw_all := lw_g (lw_at lw_m3 183 rfl) rfl
theorem q853 : (Jvm.Cond.methodLink "RescueHouse$Reader" (84 : Nat) ({ cls := "RescueHouse$Reader", name := "take", desc := "(I)V" } : Jvm.MethodName)) ∈ lw_all := lw_g (lw_at lw_m3 186 rfl) rfl
theorem q854 : (Jvm.Cond.privateMethod ({ cls := "RescueHouse$Reader", name := "take", desc := "(I)V" } : Jvm.MethodName)) ∈ lw_tbl := lw_at lw_m3 187 rfl
theorem q855 : (Jvm.Cond.instanceMethod ({ cls := "RescueHouse$Reader", name := "take", desc := "(I)V" } : Jvm.MethodName)) ∈ lw_all := lw_g (lw_at lw_m3 188 rfl) rfl
theorem q856 : (Jvm.Cond.code ({ cls := "RescueHouse$Reader", name := "take", desc := "(I)V" } : Jvm.MethodName) prog_11_method_10_code (2 : Nat) (Option.none : Option Jvm.ClassFile.FieldType)) ∈ lw_all := lw_g (lw_at lw_m3 189 rfl) rfl
theorem q857 : (Jvm.Cond.methodLink "RescueHouse$Reader" (88 : Nat) ({ cls := "RescueHouse$Reader", name := "digit", desc := "(II)V" } : Jvm.MethodName)) ∈ lw_all := lw_g (lw_at lw_m3 190 rfl) rfl
theorem q858 : (Jvm.Cond.privateMethod ({ cls := "RescueHouse$Reader", name := "digit", desc := "(II)V" } : Jvm.MethodName)) ∈ lw_tbl := lw_at lw_m3 191 rfl
theorem q859 : (Jvm.Cond.instanceMethod ({ cls := "RescueHouse$Reader", name := "digit", desc := "(II)V" } : Jvm.MethodName)) ∈ lw_all := lw_g (lw_at lw_m3 192 rfl) rfl
theorem q860 : (Jvm.Cond.code ({ cls := "RescueHouse$Reader", name := "digit", desc := "(II)V" } : Jvm.MethodName) prog_11_method_11_code (3 : Nat) (Option.none : Option Jvm.ClassFile.FieldType)) ∈ lw_all := lw_g (lw_at lw_m3 193 rfl) rfl
theorem q861 : (Jvm.Cond.methodLink "RescueHouse$Reader" (111 : Nat) ({ cls := "RescueHouse$Reader", name := "answers", desc := "()V" } : Jvm.MethodName)) ∈ lw_all := lw_g (lw_at lw_m3 194 rfl) rfl
theorem q862 : (Jvm.Cond.privateMethod ({ cls := "RescueHouse$Reader", name := "answers", desc := "()V" } : Jvm.MethodName)) ∈ lw_tbl := lw_at lw_m3 195 rfl
theorem q863 : (Jvm.Cond.instanceMethod ({ cls := "RescueHouse$Reader", name := "answers", desc := "()V" } : Jvm.MethodName)) ∈ lw_all := lw_g (lw_at lw_m3 196 rfl) rfl
theorem q864 : (Jvm.Cond.code ({ cls := "RescueHouse$Reader", name := "answers", desc := "()V" } : Jvm.MethodName) prog_11_method_13_code (1 : Nat) (Option.none : Option Jvm.ClassFile.FieldType)) ∈ lw_all := lw_g (lw_at lw_m3 197 rfl) rfl
theorem q865 : (Jvm.Cond.methodLink "RescueHouse$Reader" (114 : Nat) ({ cls := "RescueHouse$Reader", name := "letters", desc := "()V" } : Jvm.MethodName)) ∈ lw_all := lw_g (lw_at lw_m3 198 rfl) rfl
theorem q866 : (Jvm.Cond.privateMethod ({ cls := "RescueHouse$Reader", name := "letters", desc := "()V" } : Jvm.MethodName)) ∈ lw_tbl := lw_at lw_m3 199 rfl
theorem q867 : (Jvm.Cond.instanceMethod ({ cls := "RescueHouse$Reader", name := "letters", desc := "()V" } : Jvm.MethodName)) ∈ lw_all := lw_g (lw_at lw_m3 200 rfl) rfl
theorem q868 : (Jvm.Cond.code ({ cls := "RescueHouse$Reader", name := "letters", desc := "()V" } : Jvm.MethodName) prog_11_method_14_code (1 : Nat) (Option.none : Option Jvm.ClassFile.FieldType)) ∈ lw_all := lw_g (lw_at lw_m3 201 rfl) rfl
theorem q869 : (Jvm.Cond.methodLink "RescueHouse$Reader" (117 : Nat) ({ cls := "RescueHouse$Reader", name := "argument", desc := "()V" } : Jvm.MethodName)) ∈ lw_all := lw_g (lw_at lw_m3 202 rfl) rfl
theorem q870 : (Jvm.Cond.privateMethod ({ cls := "RescueHouse$Reader", name := "argument", desc := "()V" } : Jvm.MethodName)) ∈ lw_tbl := lw_at lw_m3 203 rfl
theorem q871 : (Jvm.Cond.instanceMethod ({ cls := "RescueHouse$Reader", name := "argument", desc := "()V" } : Jvm.MethodName)) ∈ lw_all := lw_g (lw_at lw_m3 204 rfl) rfl
theorem q872 : (Jvm.Cond.code ({ cls := "RescueHouse$Reader", name := "argument", desc := "()V" } : Jvm.MethodName) prog_11_method_15_code (3 : Nat) (Option.none : Option Jvm.ClassFile.FieldType)) ∈ lw_all := lw_g (lw_at lw_m3 205 rfl) rfl
theorem in_X2 : ∀ w ∈ wsX20, w ∈ lw_all := lw_in wsX20 [267, 269, 271, 273, 275, 277, 279, 281, 283, 285, 287, 289, 291, 293, 295, 297, 299] (by decide +kernel) (by decide +kernel)

/-! RescueHouse$House -/
set_option maxRecDepth 100000
def RX3 : String := "RescueHouse$House"
def TX3 : u_T := fun k => match k with
  | 0 => ("RescueHouse$House", "from", "[I", true)
  | 1 => ("RescueHouse$House", "to", "[I", true)
  | 2 => ("RescueHouse$House", "seconds", "[I", true)
  | 3 => ("RescueHouse$House", "lane", "[Z", true)
  | 4 => ("RescueHouse$House", "closed", "[Z", true)
  | 5 => ("RescueHouse$House", "opens", "[I", true)
  | 6 => ("RescueHouse$House", "shuts", "[I", true)
  | 7 => ("RescueHouse$House", "awayFrom", "[I", true)
  | 8 => ("RescueHouse$House", "awayTo", "[I", true)
  | 9 => ("RescueHouse$House", "trees", "[B", true)
  | 10 => ("RescueHouse$House", "names", "[B", true)
  | 11 => ("RescueHouse$House", "treeSize", "[I", true)
  | 12 => ("RescueHouse$House", "nameSize", "[I", true)
  | 13 => ("RescueHouse$House", "kept", "[I", true)
  | 14 => ("RescueHouse$House", "station", "[I", true)
  | 15 => ("RescueHouse$House", "skills", "[I", true)
  | 16 => ("RescueHouse$House", "place", "[I", true)
  | 17 => ("RescueHouse$House", "rest", "[I", true)
  | 18 => ("RescueHouse$House", "work", "[I", true)
  | 19 => ("RescueHouse$House", "state", "[I", true)
  | 20 => ("RescueHouse$House", "target", "[I", true)
  | 21 => ("RescueHouse$House", "callPlace", "[I", true)
  | 22 => ("RescueHouse$House", "callSkill", "[I", true)
  | 23 => ("RescueHouse$House", "callRank", "[I", true)
  | 24 => ("RescueHouse$House", "fuelBill", "[I", true)
  | 25 => ("RescueHouse$House", "crewBill", "[I", true)
  | 26 => ("RescueHouse$House", "over", "[Z", true)
  | 27 => ("RescueHouse$House", "distance", "[I", true)
  | 28 => ("RescueHouse$House", "places", "I", false)
  | 29 => ("RescueHouse$House", "streets", "I", false)
  | 30 => ("RescueHouse$House", "units", "I", false)
  | 31 => ("RescueHouse$House", "calls", "I", false)
  | 32 => ("RescueHouse$House", "clock", "I", false)
  | 33 => ("RescueHouse$House", "fuel", "I", false)
  | 34 => ("RescueHouse$House", "crew", "I", false)
  | 35 => ("RescueHouse$House", "kinds", "I", false)
  | 36 => ("RescueHouse$House", "shifts", "I", false)
  | _ => ("RescueHouse$House", "known", "Z", false)
def tyX3 : Nat → FieldType := fun k => match k with
  | 0 => .array .int
  | 1 => .array .int
  | 2 => .array .int
  | 3 => .array .boolean
  | 4 => .array .boolean
  | 5 => .array .int
  | 6 => .array .int
  | 7 => .array .int
  | 8 => .array .int
  | 9 => .array .byte
  | 10 => .array .byte
  | 11 => .array .int
  | 12 => .array .int
  | 13 => .array .int
  | 14 => .array .int
  | 15 => .array .int
  | 16 => .array .int
  | 17 => .array .int
  | 18 => .array .int
  | 19 => .array .int
  | 20 => .array .int
  | 21 => .array .int
  | 22 => .array .int
  | 23 => .array .int
  | 24 => .array .int
  | 25 => .array .int
  | 26 => .array .boolean
  | 27 => .array .int
  | 28 => .int
  | 29 => .int
  | 30 => .int
  | 31 => .int
  | 32 => .int
  | 33 => .int
  | 34 => .int
  | 35 => .int
  | 36 => .int
  | _ => .boolean
abbrev wsX30 : List Cond := u_ws RX3 TX3 38
set_option maxRecDepth 100000 in
theorem nmX3 : ∀ a, a < 38 → ∀ b, b < 38 → a ≠ b → (TX3 a).2.1 ≠ (TX3 b).2.1 := by decide +kernel
set_option maxRecDepth 100000 in
theorem tyX3_ok : ∀ k, k < 38 → parseFieldDescriptor (TX3 k).2.2.1 = some (tyX3 k) := by decide +kernel
abbrev cX3_init : ByteArray := prog_8_method_1_code
def yX3_init : MethodName := ⟨RX3, "<init>", "()V"⟩
abbrev cX3_begin : ByteArray := prog_8_method_2_code
def yX3_begin : MethodName := ⟨RX3, "begin", "(I)V"⟩
abbrev cX3_isPlace : ByteArray := prog_8_method_5_code
def yX3_isPlace : MethodName := ⟨RX3, "isPlace", "(I)Z"⟩
abbrev cX3_isUnit : ByteArray := prog_8_method_14_code
def yX3_isUnit : MethodName := ⟨RX3, "isUnit", "(I)Z"⟩
abbrev cX3_alike : ByteArray := prog_8_method_24_code
def yX3_alike : MethodName := ⟨RX3, "alike", "(II)I"⟩
abbrev cX3_isOpen : ByteArray := prog_8_method_15_code
def yX3_isOpen : MethodName := ⟨RX3, "isOpen", "(I)Z"⟩
abbrev cX3_many : ByteArray := prog_8_method_20_code
def yX3_many : MethodName := ⟨RX3, "many", "(I)I"⟩
abbrev cX3_waits : ByteArray := prog_8_method_18_code
def yX3_waits : MethodName := ⟨RX3, "waits", "(I)Z"⟩
abbrev cX3_serves : ByteArray := prog_8_method_17_code
def yX3_serves : MethodName := ⟨RX3, "serves", "(I)I"⟩
abbrev cX3_isFree : ByteArray := prog_8_method_16_code
def yX3_isFree : MethodName := ⟨RX3, "isFree", "(I)Z"⟩
abbrev cX3_has : ByteArray := prog_8_method_19_code
def yX3_has : MethodName := ⟨RX3, "has", "(II)Z"⟩
abbrev cX3_way : ByteArray := prog_8_method_13_code
def yX3_way : MethodName := ⟨RX3, "way", "(II)I"⟩
abbrev cX3_far : ByteArray := prog_8_method_12_code
def yX3_far : MethodName := ⟨RX3, "far", "(II)I"⟩
abbrev cX3_measure : ByteArray := prog_8_method_11_code
def yX3_measure : MethodName := ⟨RX3, "measure", "()V"⟩
abbrev cX3_leads : ByteArray := prog_8_method_10_code
def yX3_leads : MethodName := ⟨RX3, "leads", "(III)I"⟩
abbrev cX3_isOpenStreet : ByteArray := prog_8_method_9_code
def yX3_isOpenStreet : MethodName := ⟨RX3, "isOpenStreet", "(I)Z"⟩
abbrev cX3_isNamed : ByteArray := prog_8_method_33_code
def yX3_isNamed : MethodName := ⟨RX3, "isNamed", "(I[BII)Z"⟩
abbrev cX3_take : ByteArray := prog_8_method_3_code
def yX3_take : MethodName := ⟨RX3, "take", "(LRescueHouse$House;)V"⟩
abbrev cX3_takeWords : ByteArray := prog_8_method_4_code
def yX3_takeWords : MethodName := ⟨RX3, "takeWords", "(LRescueHouse$House;)V"⟩
abbrev cX3_addStreet : ByteArray := prog_8_method_6_code
def yX3_addStreet : MethodName := ⟨RX3, "addStreet", "(IIIZ)V"⟩
abbrev cX3_shut : ByteArray := prog_8_method_7_code
def yX3_shut : MethodName := ⟨RX3, "shut", "(IZ)V"⟩
abbrev cX3_addUnit : ByteArray := prog_8_method_23_code
def yX3_addUnit : MethodName := ⟨RX3, "addUnit", "(II)V"⟩
abbrev cX3_letGo : ByteArray := prog_8_method_21_code
def yX3_letGo : MethodName := ⟨RX3, "letGo", "(I)V"⟩
abbrev cX3_addCall : ByteArray := prog_8_method_25_code
def yX3_addCall : MethodName := ⟨RX3, "addCall", "(III)I"⟩
abbrev cX3_sends : ByteArray := prog_8_method_22_code
def yX3_sends : MethodName := ⟨RX3, "sends", "(II)V"⟩
abbrev cX3_addKind : ByteArray := prog_8_method_31_code
def yX3_addKind : MethodName := ⟨RX3, "addKind", "([BII)I"⟩
abbrev cX3_setName : ByteArray := prog_8_method_32_code
def yX3_setName : MethodName := ⟨RX3, "setName", "(I[BII)V"⟩
abbrev cX3_keepHours : ByteArray := prog_8_method_8_code
def yX3_keepHours : MethodName := ⟨RX3, "keepHours", "(III)V"⟩
abbrev cX3_shift : ByteArray := prog_8_method_34_code
def yX3_shift : MethodName := ⟨RX3, "shift", "()V"⟩
abbrev cX3_end : ByteArray := prog_8_method_26_code
def yX3_end : MethodName := ⟨RX3, "end", "(I)V"⟩
abbrev cX3_second : ByteArray := prog_8_method_30_code
def yX3_second : MethodName := ⟨RX3, "second", "()V"⟩
abbrev cX3_moves : ByteArray := prog_8_method_29_code
def yX3_moves : MethodName := ⟨RX3, "moves", "(I)V"⟩
abbrev cX3_steps : ByteArray := prog_8_method_28_code
def yX3_steps : MethodName := ⟨RX3, "steps", "(II)Z"⟩
abbrev cX3_nextPlace : ByteArray := prog_8_method_27_code
def yX3_nextPlace : MethodName := ⟨RX3, "nextPlace", "(II)I"⟩
abbrev cX3_isSound : ByteArray := prog_8_method_35_code
def yX3_isSound : MethodName := ⟨RX3, "isSound", "()Z"⟩
theorem q191 : (Jvm.Cond.initialized "RescueHouse$House") ∈ lw_all := lw_g (lw_at lw_m1 4 rfl) rfl
theorem q304 : (Jvm.Cond.instantiable "RescueHouse$House" (38 : Nat)) ∈ lw_all := lw_g (lw_at lw_m1 117 rfl) rfl
theorem q306 : (Jvm.Cond.instanceMethod ({ cls := "RescueHouse$House", name := "<init>", desc := "()V" } : Jvm.MethodName)) ∈ lw_all := lw_g (lw_at lw_m1 119 rfl) rfl
theorem q307 : (Jvm.Cond.code ({ cls := "RescueHouse$House", name := "<init>", desc := "()V" } : Jvm.MethodName) prog_8_method_1_code (1 : Nat) (Option.none : Option Jvm.ClassFile.FieldType)) ∈ lw_all := lw_g (lw_at lw_m1 120 rfl) rfl
theorem q308 : (Jvm.Cond.methodLink "RescueHouse$House" (3 : Nat) ({ cls := "java/lang/Object", name := "<init>", desc := "()V" } : Jvm.MethodName)) ∈ lw_all := lw_g (lw_at lw_m1 121 rfl) rfl
theorem q309 : (Jvm.Cond.methodLink "RescueHouse$House" (98 : Nat) ({ cls := "RescueHouse$House", name := "begin", desc := "(I)V" } : Jvm.MethodName)) ∈ lw_all := lw_g (lw_at lw_m1 122 rfl) rfl
theorem q310 : (Jvm.Cond.instanceMethod ({ cls := "RescueHouse$House", name := "begin", desc := "(I)V" } : Jvm.MethodName)) ∈ lw_all := lw_g (lw_at lw_m1 123 rfl) rfl
theorem q311 : (Jvm.Cond.selects "RescueHouse$House" ({ cls := "RescueHouse$House", name := "begin", desc := "(I)V" } : Jvm.MethodName) ({ cls := "RescueHouse$House", name := "begin", desc := "(I)V" } : Jvm.MethodName)) ∈ lw_all := lw_g (lw_at lw_m1 124 rfl) rfl
theorem q312 : (Jvm.Cond.code ({ cls := "RescueHouse$House", name := "begin", desc := "(I)V" } : Jvm.MethodName) prog_8_method_2_code (3 : Nat) (Option.none : Option Jvm.ClassFile.FieldType)) ∈ lw_all := lw_g (lw_at lw_m1 125 rfl) rfl
theorem q313 : (Jvm.Cond.fieldLink "RescueHouse$House" (9 : Nat) "RescueHouse$House" "from" "[I") ∈ lw_all := lw_g (lw_at lw_m1 126 rfl) rfl
theorem q315 : (Jvm.Cond.fieldLink "RescueHouse$House" (15 : Nat) "RescueHouse$House" "to" "[I") ∈ lw_all := lw_g (lw_at lw_m1 128 rfl) rfl
theorem q317 : (Jvm.Cond.fieldLink "RescueHouse$House" (18 : Nat) "RescueHouse$House" "seconds" "[I") ∈ lw_all := lw_g (lw_at lw_m1 130 rfl) rfl
theorem q320 : (Jvm.Cond.fieldLink "RescueHouse$House" (21 : Nat) "RescueHouse$House" "lane" "[Z") ∈ lw_all := lw_g (lw_at lw_m1 133 rfl) rfl
theorem q322 : (Jvm.Cond.fieldLink "RescueHouse$House" (25 : Nat) "RescueHouse$House" "closed" "[Z") ∈ lw_all := lw_g (lw_at lw_m1 135 rfl) rfl
theorem q324 : (Jvm.Cond.fieldLink "RescueHouse$House" (28 : Nat) "RescueHouse$House" "opens" "[I") ∈ lw_all := lw_g (lw_at lw_m1 137 rfl) rfl
theorem q325 : (Jvm.Cond.fieldLink "RescueHouse$House" (31 : Nat) "RescueHouse$House" "shuts" "[I") ∈ lw_all := lw_g (lw_at lw_m1 138 rfl) rfl
theorem q326 : (Jvm.Cond.fieldLink "RescueHouse$House" (34 : Nat) "RescueHouse$House" "awayFrom" "[I") ∈ lw_all := lw_g (lw_at lw_m1 139 rfl) rfl
theorem q328 : (Jvm.Cond.fieldLink "RescueHouse$House" (37 : Nat) "RescueHouse$House" "awayTo" "[I") ∈ lw_all := lw_g (lw_at lw_m1 141 rfl) rfl
theorem q330 : (Jvm.Cond.fieldLink "RescueHouse$House" (40 : Nat) "RescueHouse$House" "trees" "[B") ∈ lw_all := lw_g (lw_at lw_m1 143 rfl) rfl
theorem q332 : (Jvm.Cond.fieldLink "RescueHouse$House" (44 : Nat) "RescueHouse$House" "names" "[B") ∈ lw_all := lw_g (lw_at lw_m1 145 rfl) rfl
theorem q334 : (Jvm.Cond.fieldLink "RescueHouse$House" (47 : Nat) "RescueHouse$House" "treeSize" "[I") ∈ lw_all := lw_g (lw_at lw_m1 147 rfl) rfl
theorem q335 : (Jvm.Cond.fieldLink "RescueHouse$House" (50 : Nat) "RescueHouse$House" "nameSize" "[I") ∈ lw_all := lw_g (lw_at lw_m1 148 rfl) rfl
theorem q338 : (Jvm.Cond.fieldLink "RescueHouse$House" (53 : Nat) "RescueHouse$House" "kept" "[I") ∈ lw_all := lw_g (lw_at lw_m1 151 rfl) rfl
theorem q340 : (Jvm.Cond.fieldLink "RescueHouse$House" (56 : Nat) "RescueHouse$House" "station" "[I") ∈ lw_all := lw_g (lw_at lw_m1 153 rfl) rfl
theorem q342 : (Jvm.Cond.fieldLink "RescueHouse$House" (59 : Nat) "RescueHouse$House" "skills" "[I") ∈ lw_all := lw_g (lw_at lw_m1 155 rfl) rfl
theorem q343 : (Jvm.Cond.fieldLink "RescueHouse$House" (62 : Nat) "RescueHouse$House" "place" "[I") ∈ lw_all := lw_g (lw_at lw_m1 156 rfl) rfl
theorem q347 : (Jvm.Cond.fieldLink "RescueHouse$House" (65 : Nat) "RescueHouse$House" "rest" "[I") ∈ lw_all := lw_g (lw_at lw_m1 160 rfl) rfl
theorem q350 : (Jvm.Cond.fieldLink "RescueHouse$House" (68 : Nat) "RescueHouse$House" "work" "[I") ∈ lw_all := lw_g (lw_at lw_m1 163 rfl) rfl
theorem q352 : (Jvm.Cond.fieldLink "RescueHouse$House" (71 : Nat) "RescueHouse$House" "state" "[I") ∈ lw_all := lw_g (lw_at lw_m1 165 rfl) rfl
theorem q355 : (Jvm.Cond.fieldLink "RescueHouse$House" (74 : Nat) "RescueHouse$House" "target" "[I") ∈ lw_all := lw_g (lw_at lw_m1 168 rfl) rfl
theorem q356 : (Jvm.Cond.fieldLink "RescueHouse$House" (77 : Nat) "RescueHouse$House" "callPlace" "[I") ∈ lw_all := lw_g (lw_at lw_m1 169 rfl) rfl
theorem q361 : (Jvm.Cond.fieldLink "RescueHouse$House" (80 : Nat) "RescueHouse$House" "callSkill" "[I") ∈ lw_all := lw_g (lw_at lw_m1 174 rfl) rfl
theorem q363 : (Jvm.Cond.fieldLink "RescueHouse$House" (83 : Nat) "RescueHouse$House" "callRank" "[I") ∈ lw_all := lw_g (lw_at lw_m1 176 rfl) rfl
theorem q367 : (Jvm.Cond.fieldLink "RescueHouse$House" (86 : Nat) "RescueHouse$House" "fuelBill" "[I") ∈ lw_all := lw_g (lw_at lw_m1 180 rfl) rfl
theorem q369 : (Jvm.Cond.fieldLink "RescueHouse$House" (89 : Nat) "RescueHouse$House" "crewBill" "[I") ∈ lw_all := lw_g (lw_at lw_m1 182 rfl) rfl
theorem q371 : (Jvm.Cond.fieldLink "RescueHouse$House" (92 : Nat) "RescueHouse$House" "over" "[Z") ∈ lw_all := lw_g (lw_at lw_m1 184 rfl) rfl
theorem q372 : (Jvm.Cond.fieldLink "RescueHouse$House" (95 : Nat) "RescueHouse$House" "distance" "[I") ∈ lw_all := lw_g (lw_at lw_m1 185 rfl) rfl
theorem q373 : (Jvm.Cond.fieldLink "RescueHouse$House" (102 : Nat) "RescueHouse$House" "places" "I") ∈ lw_all := lw_g (lw_at lw_m1 186 rfl) rfl
theorem q379 : (Jvm.Cond.fieldLink "RescueHouse$House" (106 : Nat) "RescueHouse$House" "streets" "I") ∈ lw_all := lw_g (lw_at lw_m1 192 rfl) rfl
theorem q383 : (Jvm.Cond.fieldLink "RescueHouse$House" (109 : Nat) "RescueHouse$House" "units" "I") ∈ lw_all := lw_g (lw_at lw_m1 196 rfl) rfl
theorem q388 : (Jvm.Cond.fieldLink "RescueHouse$House" (112 : Nat) "RescueHouse$House" "calls" "I") ∈ lw_all := lw_g (lw_at lw_m1 201 rfl) rfl
theorem q393 : (Jvm.Cond.fieldLink "RescueHouse$House" (115 : Nat) "RescueHouse$House" "clock" "I") ∈ lw_all := lw_g (lw_at lw_m1 206 rfl) rfl
theorem q395 : (Jvm.Cond.fieldLink "RescueHouse$House" (118 : Nat) "RescueHouse$House" "fuel" "I") ∈ lw_all := lw_g (lw_at lw_m1 208 rfl) rfl
theorem q397 : (Jvm.Cond.fieldLink "RescueHouse$House" (121 : Nat) "RescueHouse$House" "crew" "I") ∈ lw_all := lw_g (lw_at lw_m1 210 rfl) rfl
theorem q399 : (Jvm.Cond.fieldLink "RescueHouse$House" (124 : Nat) "RescueHouse$House" "kinds" "I") ∈ lw_all := lw_g (lw_at lw_m1 212 rfl) rfl
theorem q401 : (Jvm.Cond.fieldLink "RescueHouse$House" (127 : Nat) "RescueHouse$House" "shifts" "I") ∈ lw_all := lw_g (lw_at lw_m1 214 rfl) rfl
theorem q403 : (Jvm.Cond.fieldLink "RescueHouse$House" (130 : Nat) "RescueHouse$House" "known" "Z") ∈ lw_all := lw_g (lw_at lw_m1 216 rfl) rfl
theorem q404 : (Jvm.Cond.laysFinal "RescueHouse$House" "RescueHouse$House" "from" "[I") ∈ lw_all := lw_g (lw_at lw_m1 217 rfl) rfl
theorem q405 : (Jvm.Cond.soleField "RescueHouse$House" "from") ∈ lw_all := lw_g (lw_at lw_m1 218 rfl) rfl
theorem q406 : (Jvm.Cond.laysFinal "RescueHouse$House" "RescueHouse$House" "to" "[I") ∈ lw_all := lw_g (lw_at lw_m1 219 rfl) rfl
theorem q407 : (Jvm.Cond.soleField "RescueHouse$House" "to") ∈ lw_all := lw_g (lw_at lw_m1 220 rfl) rfl
theorem q408 : (Jvm.Cond.laysFinal "RescueHouse$House" "RescueHouse$House" "seconds" "[I") ∈ lw_all := lw_g (lw_at lw_m1 221 rfl) rfl
theorem q409 : (Jvm.Cond.soleField "RescueHouse$House" "seconds") ∈ lw_all := lw_g (lw_at lw_m1 222 rfl) rfl
theorem q410 : (Jvm.Cond.laysFinal "RescueHouse$House" "RescueHouse$House" "lane" "[Z") ∈ lw_all := lw_g (lw_at lw_m1 223 rfl) rfl
theorem q411 : (Jvm.Cond.soleField "RescueHouse$House" "lane") ∈ lw_all := lw_g (lw_at lw_m1 224 rfl) rfl
theorem q412 : (Jvm.Cond.laysFinal "RescueHouse$House" "RescueHouse$House" "closed" "[Z") ∈ lw_all := lw_g (lw_at lw_m1 225 rfl) rfl
theorem q413 : (Jvm.Cond.soleField "RescueHouse$House" "closed") ∈ lw_all := lw_g (lw_at lw_m1 226 rfl) rfl
theorem q414 : (Jvm.Cond.laysFinal "RescueHouse$House" "RescueHouse$House" "opens" "[I") ∈ lw_all := lw_g (lw_at lw_m1 227 rfl) rfl
theorem q415 : (Jvm.Cond.soleField "RescueHouse$House" "opens") ∈ lw_all := lw_g (lw_at lw_m1 228 rfl) rfl
theorem q416 : (Jvm.Cond.laysFinal "RescueHouse$House" "RescueHouse$House" "shuts" "[I") ∈ lw_all := lw_g (lw_at lw_m1 229 rfl) rfl
theorem q417 : (Jvm.Cond.soleField "RescueHouse$House" "shuts") ∈ lw_all := lw_g (lw_at lw_m1 230 rfl) rfl
theorem q418 : (Jvm.Cond.laysFinal "RescueHouse$House" "RescueHouse$House" "awayFrom" "[I") ∈ lw_all := lw_g (lw_at lw_m1 231 rfl) rfl
theorem q419 : (Jvm.Cond.soleField "RescueHouse$House" "awayFrom") ∈ lw_all := lw_g (lw_at lw_m1 232 rfl) rfl
theorem q420 : (Jvm.Cond.laysFinal "RescueHouse$House" "RescueHouse$House" "awayTo" "[I") ∈ lw_all := lw_g (lw_at lw_m1 233 rfl) rfl
theorem q421 : (Jvm.Cond.soleField "RescueHouse$House" "awayTo") ∈ lw_all := lw_g (lw_at lw_m1 234 rfl) rfl
theorem q422 : (Jvm.Cond.laysFinal "RescueHouse$House" "RescueHouse$House" "trees" "[B") ∈ lw_all := lw_g (lw_at lw_m1 235 rfl) rfl
theorem q423 : (Jvm.Cond.soleField "RescueHouse$House" "trees") ∈ lw_all := lw_g (lw_at lw_m1 236 rfl) rfl
theorem q424 : (Jvm.Cond.laysFinal "RescueHouse$House" "RescueHouse$House" "names" "[B") ∈ lw_all := lw_g (lw_at lw_m1 237 rfl) rfl
theorem q425 : (Jvm.Cond.soleField "RescueHouse$House" "names") ∈ lw_all := lw_g (lw_at lw_m1 238 rfl) rfl
theorem q426 : (Jvm.Cond.laysFinal "RescueHouse$House" "RescueHouse$House" "treeSize" "[I") ∈ lw_all := lw_g (lw_at lw_m1 239 rfl) rfl
theorem q427 : (Jvm.Cond.soleField "RescueHouse$House" "treeSize") ∈ lw_all := lw_g (lw_at lw_m2 0 rfl) rfl
theorem q428 : (Jvm.Cond.laysFinal "RescueHouse$House" "RescueHouse$House" "nameSize" "[I") ∈ lw_all := lw_g (lw_at lw_m2 1 rfl) rfl
theorem q429 : (Jvm.Cond.soleField "RescueHouse$House" "nameSize") ∈ lw_all := lw_g (lw_at lw_m2 2 rfl) rfl
theorem q430 : (Jvm.Cond.laysFinal "RescueHouse$House" "RescueHouse$House" "kept" "[I") ∈ lw_all := lw_g (lw_at lw_m2 3 rfl) rfl
theorem q431 : (Jvm.Cond.soleField "RescueHouse$House" "kept") ∈ lw_all := lw_g (lw_at lw_m2 4 rfl) rfl
theorem q432 : (Jvm.Cond.laysFinal "RescueHouse$House" "RescueHouse$House" "station" "[I") ∈ lw_all := lw_g (lw_at lw_m2 5 rfl) rfl
theorem q433 : (Jvm.Cond.soleField "RescueHouse$House" "station") ∈ lw_all := lw_g (lw_at lw_m2 6 rfl) rfl
theorem q434 : (Jvm.Cond.laysFinal "RescueHouse$House" "RescueHouse$House" "skills" "[I") ∈ lw_all := lw_g (lw_at lw_m2 7 rfl) rfl
theorem q435 : (Jvm.Cond.soleField "RescueHouse$House" "skills") ∈ lw_all := lw_g (lw_at lw_m2 8 rfl) rfl
theorem q436 : (Jvm.Cond.laysFinal "RescueHouse$House" "RescueHouse$House" "place" "[I") ∈ lw_all := lw_g (lw_at lw_m2 9 rfl) rfl
theorem q437 : (Jvm.Cond.soleField "RescueHouse$House" "place") ∈ lw_all := lw_g (lw_at lw_m2 10 rfl) rfl
theorem q438 : (Jvm.Cond.laysFinal "RescueHouse$House" "RescueHouse$House" "rest" "[I") ∈ lw_all := lw_g (lw_at lw_m2 11 rfl) rfl
theorem q439 : (Jvm.Cond.soleField "RescueHouse$House" "rest") ∈ lw_all := lw_g (lw_at lw_m2 12 rfl) rfl
theorem q440 : (Jvm.Cond.laysFinal "RescueHouse$House" "RescueHouse$House" "work" "[I") ∈ lw_all := lw_g (lw_at lw_m2 13 rfl) rfl
theorem q441 : (Jvm.Cond.soleField "RescueHouse$House" "work") ∈ lw_all := lw_g (lw_at lw_m2 14 rfl) rfl
theorem q442 : (Jvm.Cond.laysFinal "RescueHouse$House" "RescueHouse$House" "state" "[I") ∈ lw_all := lw_g (lw_at lw_m2 15 rfl) rfl
theorem q443 : (Jvm.Cond.soleField "RescueHouse$House" "state") ∈ lw_all := lw_g (lw_at lw_m2 16 rfl) rfl
theorem q444 : (Jvm.Cond.laysFinal "RescueHouse$House" "RescueHouse$House" "target" "[I") ∈ lw_all := lw_g (lw_at lw_m2 17 rfl) rfl
theorem q445 : (Jvm.Cond.soleField "RescueHouse$House" "target") ∈ lw_all := lw_g (lw_at lw_m2 18 rfl) rfl
theorem q446 : (Jvm.Cond.laysFinal "RescueHouse$House" "RescueHouse$House" "callPlace" "[I") ∈ lw_all := lw_g (lw_at lw_m2 19 rfl) rfl
theorem q447 : (Jvm.Cond.soleField "RescueHouse$House" "callPlace") ∈ lw_all := lw_g (lw_at lw_m2 20 rfl) rfl
theorem q448 : (Jvm.Cond.laysFinal "RescueHouse$House" "RescueHouse$House" "callSkill" "[I") ∈ lw_all := lw_g (lw_at lw_m2 21 rfl) rfl
theorem q449 : (Jvm.Cond.soleField "RescueHouse$House" "callSkill") ∈ lw_all := lw_g (lw_at lw_m2 22 rfl) rfl
theorem q450 : (Jvm.Cond.laysFinal "RescueHouse$House" "RescueHouse$House" "callRank" "[I") ∈ lw_all := lw_g (lw_at lw_m2 23 rfl) rfl
theorem q451 : (Jvm.Cond.soleField "RescueHouse$House" "callRank") ∈ lw_all := lw_g (lw_at lw_m2 24 rfl) rfl
theorem q452 : (Jvm.Cond.laysFinal "RescueHouse$House" "RescueHouse$House" "fuelBill" "[I") ∈ lw_all := lw_g (lw_at lw_m2 25 rfl) rfl
theorem q453 : (Jvm.Cond.soleField "RescueHouse$House" "fuelBill") ∈ lw_all := lw_g (lw_at lw_m2 26 rfl) rfl
theorem q454 : (Jvm.Cond.laysFinal "RescueHouse$House" "RescueHouse$House" "crewBill" "[I") ∈ lw_all := lw_g (lw_at lw_m2 27 rfl) rfl
theorem q455 : (Jvm.Cond.soleField "RescueHouse$House" "crewBill") ∈ lw_all := lw_g (lw_at lw_m2 28 rfl) rfl
theorem q456 : (Jvm.Cond.laysFinal "RescueHouse$House" "RescueHouse$House" "over" "[Z") ∈ lw_all := lw_g (lw_at lw_m2 29 rfl) rfl
theorem q457 : (Jvm.Cond.soleField "RescueHouse$House" "over") ∈ lw_all := lw_g (lw_at lw_m2 30 rfl) rfl
theorem q458 : (Jvm.Cond.laysFinal "RescueHouse$House" "RescueHouse$House" "distance" "[I") ∈ lw_all := lw_g (lw_at lw_m2 31 rfl) rfl
theorem q459 : (Jvm.Cond.soleField "RescueHouse$House" "distance") ∈ lw_all := lw_g (lw_at lw_m2 32 rfl) rfl
theorem q460 : (Jvm.Cond.lays "RescueHouse$House" "RescueHouse$House" "places" "I") ∈ lw_all := lw_g (lw_at lw_m2 33 rfl) rfl
theorem q461 : (Jvm.Cond.soleField "RescueHouse$House" "places") ∈ lw_all := lw_g (lw_at lw_m2 34 rfl) rfl
theorem q462 : (Jvm.Cond.lays "RescueHouse$House" "RescueHouse$House" "streets" "I") ∈ lw_all := lw_g (lw_at lw_m2 35 rfl) rfl
theorem q463 : (Jvm.Cond.soleField "RescueHouse$House" "streets") ∈ lw_all := lw_g (lw_at lw_m2 36 rfl) rfl
theorem q464 : (Jvm.Cond.lays "RescueHouse$House" "RescueHouse$House" "units" "I") ∈ lw_all := lw_g (lw_at lw_m2 37 rfl) rfl
theorem q465 : (Jvm.Cond.soleField "RescueHouse$House" "units") ∈ lw_all := lw_g (lw_at lw_m2 38 rfl) rfl
theorem q466 : (Jvm.Cond.lays "RescueHouse$House" "RescueHouse$House" "calls" "I") ∈ lw_all := lw_g (lw_at lw_m2 39 rfl) rfl
theorem q467 : (Jvm.Cond.soleField "RescueHouse$House" "calls") ∈ lw_all := lw_g (lw_at lw_m2 40 rfl) rfl
theorem q468 : (Jvm.Cond.lays "RescueHouse$House" "RescueHouse$House" "clock" "I") ∈ lw_all := lw_g (lw_at lw_m2 41 rfl) rfl
theorem q469 : (Jvm.Cond.soleField "RescueHouse$House" "clock") ∈ lw_all := lw_g (lw_at lw_m2 42 rfl) rfl
theorem q470 : (Jvm.Cond.lays "RescueHouse$House" "RescueHouse$House" "fuel" "I") ∈ lw_all := lw_g (lw_at lw_m2 43 rfl) rfl
theorem q471 : (Jvm.Cond.soleField "RescueHouse$House" "fuel") ∈ lw_all := lw_g (lw_at lw_m2 44 rfl) rfl
theorem q472 : (Jvm.Cond.lays "RescueHouse$House" "RescueHouse$House" "crew" "I") ∈ lw_all := lw_g (lw_at lw_m2 45 rfl) rfl
theorem q473 : (Jvm.Cond.soleField "RescueHouse$House" "crew") ∈ lw_all := lw_g (lw_at lw_m2 46 rfl) rfl
theorem q474 : (Jvm.Cond.lays "RescueHouse$House" "RescueHouse$House" "kinds" "I") ∈ lw_all := lw_g (lw_at lw_m2 47 rfl) rfl
theorem q475 : (Jvm.Cond.soleField "RescueHouse$House" "kinds") ∈ lw_all := lw_g (lw_at lw_m2 48 rfl) rfl
theorem q476 : (Jvm.Cond.lays "RescueHouse$House" "RescueHouse$House" "shifts" "I") ∈ lw_all := lw_g (lw_at lw_m2 49 rfl) rfl
theorem q477 : (Jvm.Cond.soleField "RescueHouse$House" "shifts") ∈ lw_all := lw_g (lw_at lw_m2 50 rfl) rfl
theorem q478 : (Jvm.Cond.lays "RescueHouse$House" "RescueHouse$House" "known" "Z") ∈ lw_all := lw_g (lw_at lw_m2 51 rfl) rfl
theorem q479 : (Jvm.Cond.soleField "RescueHouse$House" "known") ∈ lw_all := lw_g (lw_at lw_m2 52 rfl) rfl
theorem q480 : (Jvm.Cond.superclass "RescueHouse$House" "java/lang/Object") ∈ lw_all := lw_g (lw_at lw_m2 53 rfl) rfl
theorem q901 : (Jvm.Cond.instanceMethod ({ cls := "RescueHouse$House", name := "isPlace", desc := "(I)Z" } : Jvm.MethodName)) ∈ lw_all := lw_g (lw_at lw_m3 234 rfl) rfl
theorem q902 : (Jvm.Cond.selects "RescueHouse$House" ({ cls := "RescueHouse$House", name := "isPlace", desc := "(I)Z" } : Jvm.MethodName) ({ cls := "RescueHouse$House", name := "isPlace", desc := "(I)Z" } : Jvm.MethodName)) ∈ lw_all := lw_g (lw_at lw_m3 235 rfl) rfl
theorem q903 : (Jvm.Cond.code ({ cls := "RescueHouse$House", name := "isPlace", desc := "(I)Z" } : Jvm.MethodName) prog_8_method_5_code (2 : Nat) (Option.some Jvm.ClassFile.FieldType.boolean)) ∈ lw_all := lw_g (lw_at lw_m3 236 rfl) rfl
theorem q904 : (Jvm.Cond.methodLinkNest "RescueHouse$House" (138 : Nat) ({ cls := "RescueHouse", name := "in", desc := "(III)Z" } : Jvm.MethodName) "RescueHouse") ∈ lw_tbl := lw_at lw_m3 237 rfl
theorem q912 : (Jvm.Cond.instanceMethod ({ cls := "RescueHouse$House", name := "isUnit", desc := "(I)Z" } : Jvm.MethodName)) ∈ lw_all := lw_g (lw_at lw_m4 5 rfl) rfl
theorem q913 : (Jvm.Cond.selects "RescueHouse$House" ({ cls := "RescueHouse$House", name := "isUnit", desc := "(I)Z" } : Jvm.MethodName) ({ cls := "RescueHouse$House", name := "isUnit", desc := "(I)Z" } : Jvm.MethodName)) ∈ lw_all := lw_g (lw_at lw_m4 6 rfl) rfl
theorem q914 : (Jvm.Cond.code ({ cls := "RescueHouse$House", name := "isUnit", desc := "(I)Z" } : Jvm.MethodName) prog_8_method_14_code (2 : Nat) (Option.some Jvm.ClassFile.FieldType.boolean)) ∈ lw_all := lw_g (lw_at lw_m4 7 rfl) rfl
theorem q924 : (Jvm.Cond.instanceMethod ({ cls := "RescueHouse$House", name := "alike", desc := "(II)I" } : Jvm.MethodName)) ∈ lw_all := lw_g (lw_at lw_m4 17 rfl) rfl
theorem q925 : (Jvm.Cond.selects "RescueHouse$House" ({ cls := "RescueHouse$House", name := "alike", desc := "(II)I" } : Jvm.MethodName) ({ cls := "RescueHouse$House", name := "alike", desc := "(II)I" } : Jvm.MethodName)) ∈ lw_all := lw_g (lw_at lw_m4 18 rfl) rfl
theorem q926 : (Jvm.Cond.code ({ cls := "RescueHouse$House", name := "alike", desc := "(II)I" } : Jvm.MethodName) prog_8_method_24_code (4 : Nat) (Option.some Jvm.ClassFile.FieldType.int)) ∈ lw_all := lw_g (lw_at lw_m4 19 rfl) rfl
theorem q927 : (Jvm.Cond.methodLink "RescueHouse$House" (163 : Nat) ({ cls := "RescueHouse$House", name := "isOpen", desc := "(I)Z" } : Jvm.MethodName)) ∈ lw_all := lw_g (lw_at lw_m4 20 rfl) rfl
theorem q928 : (Jvm.Cond.instanceMethod ({ cls := "RescueHouse$House", name := "isOpen", desc := "(I)Z" } : Jvm.MethodName)) ∈ lw_all := lw_g (lw_at lw_m4 21 rfl) rfl
theorem q929 : (Jvm.Cond.selects "RescueHouse$House" ({ cls := "RescueHouse$House", name := "isOpen", desc := "(I)Z" } : Jvm.MethodName) ({ cls := "RescueHouse$House", name := "isOpen", desc := "(I)Z" } : Jvm.MethodName)) ∈ lw_all := lw_g (lw_at lw_m4 22 rfl) rfl
theorem q930 : (Jvm.Cond.code ({ cls := "RescueHouse$House", name := "isOpen", desc := "(I)Z" } : Jvm.MethodName) prog_8_method_15_code (2 : Nat) (Option.some Jvm.ClassFile.FieldType.boolean)) ∈ lw_all := lw_g (lw_at lw_m4 23 rfl) rfl
theorem q932 : (Jvm.Cond.instanceMethod ({ cls := "RescueHouse$House", name := "many", desc := "(I)I" } : Jvm.MethodName)) ∈ lw_all := lw_g (lw_at lw_m4 25 rfl) rfl
theorem q933 : (Jvm.Cond.selects "RescueHouse$House" ({ cls := "RescueHouse$House", name := "many", desc := "(I)I" } : Jvm.MethodName) ({ cls := "RescueHouse$House", name := "many", desc := "(I)I" } : Jvm.MethodName)) ∈ lw_all := lw_g (lw_at lw_m4 26 rfl) rfl
theorem q934 : (Jvm.Cond.code ({ cls := "RescueHouse$House", name := "many", desc := "(I)I" } : Jvm.MethodName) prog_8_method_20_code (4 : Nat) (Option.some Jvm.ClassFile.FieldType.int)) ∈ lw_all := lw_g (lw_at lw_m4 27 rfl) rfl
theorem q935 : (Jvm.Cond.methodLink "RescueHouse$House" (170 : Nat) ({ cls := "RescueHouse$House", name := "waits", desc := "(I)Z" } : Jvm.MethodName)) ∈ lw_all := lw_g (lw_at lw_m4 28 rfl) rfl
theorem q936 : (Jvm.Cond.instanceMethod ({ cls := "RescueHouse$House", name := "waits", desc := "(I)Z" } : Jvm.MethodName)) ∈ lw_all := lw_g (lw_at lw_m4 29 rfl) rfl
theorem q937 : (Jvm.Cond.selects "RescueHouse$House" ({ cls := "RescueHouse$House", name := "waits", desc := "(I)Z" } : Jvm.MethodName) ({ cls := "RescueHouse$House", name := "waits", desc := "(I)Z" } : Jvm.MethodName)) ∈ lw_all := lw_g (lw_at lw_m4 30 rfl) rfl
theorem q938 : (Jvm.Cond.code ({ cls := "RescueHouse$House", name := "waits", desc := "(I)Z" } : Jvm.MethodName) prog_8_method_18_code (2 : Nat) (Option.some Jvm.ClassFile.FieldType.boolean)) ∈ lw_all := lw_g (lw_at lw_m4 31 rfl) rfl
theorem q939 : (Jvm.Cond.methodLink "RescueHouse$House" (166 : Nat) ({ cls := "RescueHouse$House", name := "serves", desc := "(I)I" } : Jvm.MethodName)) ∈ lw_all := lw_g (lw_at lw_m4 32 rfl) rfl
theorem q940 : (Jvm.Cond.instanceMethod ({ cls := "RescueHouse$House", name := "serves", desc := "(I)I" } : Jvm.MethodName)) ∈ lw_all := lw_g (lw_at lw_m4 33 rfl) rfl
theorem q941 : (Jvm.Cond.selects "RescueHouse$House" ({ cls := "RescueHouse$House", name := "serves", desc := "(I)I" } : Jvm.MethodName) ({ cls := "RescueHouse$House", name := "serves", desc := "(I)I" } : Jvm.MethodName)) ∈ lw_all := lw_g (lw_at lw_m4 34 rfl) rfl
theorem q942 : (Jvm.Cond.code ({ cls := "RescueHouse$House", name := "serves", desc := "(I)I" } : Jvm.MethodName) prog_8_method_17_code (3 : Nat) (Option.some Jvm.ClassFile.FieldType.int)) ∈ lw_all := lw_g (lw_at lw_m4 35 rfl) rfl
theorem q943 : (Jvm.Cond.methodLink "RescueHouse$House" (173 : Nat) ({ cls := "RescueHouse$House", name := "isFree", desc := "(I)Z" } : Jvm.MethodName)) ∈ lw_all := lw_g (lw_at lw_m4 36 rfl) rfl
theorem q944 : (Jvm.Cond.instanceMethod ({ cls := "RescueHouse$House", name := "isFree", desc := "(I)Z" } : Jvm.MethodName)) ∈ lw_all := lw_g (lw_at lw_m4 37 rfl) rfl
theorem q945 : (Jvm.Cond.selects "RescueHouse$House" ({ cls := "RescueHouse$House", name := "isFree", desc := "(I)Z" } : Jvm.MethodName) ({ cls := "RescueHouse$House", name := "isFree", desc := "(I)Z" } : Jvm.MethodName)) ∈ lw_all := lw_g (lw_at lw_m4 38 rfl) rfl
theorem q946 : (Jvm.Cond.code ({ cls := "RescueHouse$House", name := "isFree", desc := "(I)Z" } : Jvm.MethodName) prog_8_method_16_code (2 : Nat) (Option.some Jvm.ClassFile.FieldType.boolean)) ∈ lw_all := lw_g (lw_at lw_m4 39 rfl) rfl
theorem q958 : (Jvm.Cond.instanceMethod ({ cls := "RescueHouse$House", name := "has", desc := "(II)Z" } : Jvm.MethodName)) ∈ lw_all := lw_g (lw_at lw_m4 51 rfl) rfl
theorem q959 : (Jvm.Cond.selects "RescueHouse$House" ({ cls := "RescueHouse$House", name := "has", desc := "(II)Z" } : Jvm.MethodName) ({ cls := "RescueHouse$House", name := "has", desc := "(II)Z" } : Jvm.MethodName)) ∈ lw_all := lw_g (lw_at lw_m4 52 rfl) rfl
theorem q960 : (Jvm.Cond.code ({ cls := "RescueHouse$House", name := "has", desc := "(II)Z" } : Jvm.MethodName) prog_8_method_19_code (3 : Nat) (Option.some Jvm.ClassFile.FieldType.boolean)) ∈ lw_all := lw_g (lw_at lw_m4 53 rfl) rfl
theorem q962 : (Jvm.Cond.instanceMethod ({ cls := "RescueHouse$House", name := "way", desc := "(II)I" } : Jvm.MethodName)) ∈ lw_all := lw_g (lw_at lw_m4 55 rfl) rfl
theorem q963 : (Jvm.Cond.selects "RescueHouse$House" ({ cls := "RescueHouse$House", name := "way", desc := "(II)I" } : Jvm.MethodName) ({ cls := "RescueHouse$House", name := "way", desc := "(II)I" } : Jvm.MethodName)) ∈ lw_all := lw_g (lw_at lw_m4 56 rfl) rfl
theorem q964 : (Jvm.Cond.code ({ cls := "RescueHouse$House", name := "way", desc := "(II)I" } : Jvm.MethodName) prog_8_method_13_code (3 : Nat) (Option.some Jvm.ClassFile.FieldType.int)) ∈ lw_all := lw_g (lw_at lw_m4 57 rfl) rfl
theorem q965 : (Jvm.Cond.constant "RescueHouse$House" (146 : Nat) (1000000 : Int32)) ∈ lw_all := lw_g (lw_at lw_m4 58 rfl) rfl
theorem q966 : (Jvm.Cond.methodLink "RescueHouse$House" (160 : Nat) ({ cls := "RescueHouse$House", name := "far", desc := "(II)I" } : Jvm.MethodName)) ∈ lw_all := lw_g (lw_at lw_m4 59 rfl) rfl
theorem q967 : (Jvm.Cond.instanceMethod ({ cls := "RescueHouse$House", name := "far", desc := "(II)I" } : Jvm.MethodName)) ∈ lw_all := lw_g (lw_at lw_m4 60 rfl) rfl
theorem q968 : (Jvm.Cond.selects "RescueHouse$House" ({ cls := "RescueHouse$House", name := "far", desc := "(II)I" } : Jvm.MethodName) ({ cls := "RescueHouse$House", name := "far", desc := "(II)I" } : Jvm.MethodName)) ∈ lw_all := lw_g (lw_at lw_m4 61 rfl) rfl
theorem q969 : (Jvm.Cond.code ({ cls := "RescueHouse$House", name := "far", desc := "(II)I" } : Jvm.MethodName) prog_8_method_12_code (3 : Nat) (Option.some Jvm.ClassFile.FieldType.int)) ∈ lw_all := lw_g (lw_at lw_m4 62 rfl) rfl
theorem q970 : (Jvm.Cond.methodLink "RescueHouse$House" (157 : Nat) ({ cls := "RescueHouse$House", name := "measure", desc := "()V" } : Jvm.MethodName)) ∈ lw_all := lw_g (lw_at lw_m4 63 rfl) rfl
theorem q971 : (Jvm.Cond.privateMethod ({ cls := "RescueHouse$House", name := "measure", desc := "()V" } : Jvm.MethodName)) ∈ lw_tbl := lw_at lw_m4 64 rfl
theorem q972 : (Jvm.Cond.instanceMethod ({ cls := "RescueHouse$House", name := "measure", desc := "()V" } : Jvm.MethodName)) ∈ lw_all := lw_g (lw_at lw_m4 65 rfl) rfl
theorem q973 : (Jvm.Cond.code ({ cls := "RescueHouse$House", name := "measure", desc := "()V" } : Jvm.MethodName) prog_8_method_11_code (5 : Nat) (Option.none : Option Jvm.ClassFile.FieldType)) ∈ lw_all := lw_g (lw_at lw_m4 66 rfl) rfl
theorem q974 : (Jvm.Cond.methodLink "RescueHouse$House" (147 : Nat) ({ cls := "RescueHouse$House", name := "leads", desc := "(III)I" } : Jvm.MethodName)) ∈ lw_all := lw_g (lw_at lw_m4 67 rfl) rfl
theorem q975 : (Jvm.Cond.instanceMethod ({ cls := "RescueHouse$House", name := "leads", desc := "(III)I" } : Jvm.MethodName)) ∈ lw_all := lw_g (lw_at lw_m4 68 rfl) rfl
theorem q976 : (Jvm.Cond.selects "RescueHouse$House" ({ cls := "RescueHouse$House", name := "leads", desc := "(III)I" } : Jvm.MethodName) ({ cls := "RescueHouse$House", name := "leads", desc := "(III)I" } : Jvm.MethodName)) ∈ lw_all := lw_g (lw_at lw_m4 69 rfl) rfl
theorem q977 : (Jvm.Cond.code ({ cls := "RescueHouse$House", name := "leads", desc := "(III)I" } : Jvm.MethodName) prog_8_method_10_code (5 : Nat) (Option.some Jvm.ClassFile.FieldType.int)) ∈ lw_all := lw_g (lw_at lw_m4 70 rfl) rfl
theorem q978 : (Jvm.Cond.methodLink "RescueHouse$House" (142 : Nat) ({ cls := "RescueHouse$House", name := "isOpenStreet", desc := "(I)Z" } : Jvm.MethodName)) ∈ lw_all := lw_g (lw_at lw_m4 71 rfl) rfl
theorem q979 : (Jvm.Cond.instanceMethod ({ cls := "RescueHouse$House", name := "isOpenStreet", desc := "(I)Z" } : Jvm.MethodName)) ∈ lw_all := lw_g (lw_at lw_m4 72 rfl) rfl
theorem q980 : (Jvm.Cond.selects "RescueHouse$House" ({ cls := "RescueHouse$House", name := "isOpenStreet", desc := "(I)Z" } : Jvm.MethodName) ({ cls := "RescueHouse$House", name := "isOpenStreet", desc := "(I)Z" } : Jvm.MethodName)) ∈ lw_all := lw_g (lw_at lw_m4 73 rfl) rfl
theorem q981 : (Jvm.Cond.code ({ cls := "RescueHouse$House", name := "isOpenStreet", desc := "(I)Z" } : Jvm.MethodName) prog_8_method_9_code (5 : Nat) (Option.some Jvm.ClassFile.FieldType.boolean)) ∈ lw_all := lw_g (lw_at lw_m4 74 rfl) rfl
theorem q982 : (Jvm.Cond.methodLink "RescueHouse$House" (151 : Nat) ({ cls := "java/lang/Math", name := "min", desc := "(II)I" } : Jvm.MethodName)) ∈ lw_all := lw_g (lw_at lw_m4 75 rfl) rfl
theorem q1012 : (Jvm.Cond.instanceMethod ({ cls := "RescueHouse$House", name := "isNamed", desc := "(I[BII)Z" } : Jvm.MethodName)) ∈ lw_all := lw_g (lw_at lw_m4 105 rfl) rfl
theorem q1013 : (Jvm.Cond.selects "RescueHouse$House" ({ cls := "RescueHouse$House", name := "isNamed", desc := "(I[BII)Z" } : Jvm.MethodName) ({ cls := "RescueHouse$House", name := "isNamed", desc := "(I[BII)Z" } : Jvm.MethodName)) ∈ lw_all := lw_g (lw_at lw_m4 106 rfl) rfl
theorem q1014 : (Jvm.Cond.code ({ cls := "RescueHouse$House", name := "isNamed", desc := "(I[BII)Z" } : Jvm.MethodName) prog_8_method_33_code (6 : Nat) (Option.some Jvm.ClassFile.FieldType.boolean)) ∈ lw_all := lw_g (lw_at lw_m4 107 rfl) rfl
theorem q1055 : (Jvm.Cond.instanceMethod ({ cls := "RescueHouse$House", name := "take", desc := "(LRescueHouse$House;)V" } : Jvm.MethodName)) ∈ lw_all := lw_g (lw_at lw_m4 148 rfl) rfl
theorem q1056 : (Jvm.Cond.selects "RescueHouse$House" ({ cls := "RescueHouse$House", name := "take", desc := "(LRescueHouse$House;)V" } : Jvm.MethodName) ({ cls := "RescueHouse$House", name := "take", desc := "(LRescueHouse$House;)V" } : Jvm.MethodName)) ∈ lw_all := lw_g (lw_at lw_m4 149 rfl) rfl
theorem q1057 : (Jvm.Cond.code ({ cls := "RescueHouse$House", name := "take", desc := "(LRescueHouse$House;)V" } : Jvm.MethodName) prog_8_method_3_code (3 : Nat) (Option.none : Option Jvm.ClassFile.FieldType)) ∈ lw_all := lw_g (lw_at lw_m4 150 rfl) rfl
theorem q1058 : (Jvm.Cond.methodLink "RescueHouse$House" (134 : Nat) ({ cls := "RescueHouse$House", name := "takeWords", desc := "(LRescueHouse$House;)V" } : Jvm.MethodName)) ∈ lw_all := lw_g (lw_at lw_m4 151 rfl) rfl
theorem q1059 : (Jvm.Cond.privateMethod ({ cls := "RescueHouse$House", name := "takeWords", desc := "(LRescueHouse$House;)V" } : Jvm.MethodName)) ∈ lw_tbl := lw_at lw_m4 152 rfl
theorem q1060 : (Jvm.Cond.instanceMethod ({ cls := "RescueHouse$House", name := "takeWords", desc := "(LRescueHouse$House;)V" } : Jvm.MethodName)) ∈ lw_all := lw_g (lw_at lw_m4 153 rfl) rfl
theorem q1061 : (Jvm.Cond.code ({ cls := "RescueHouse$House", name := "takeWords", desc := "(LRescueHouse$House;)V" } : Jvm.MethodName) prog_8_method_4_code (4 : Nat) (Option.none : Option Jvm.ClassFile.FieldType)) ∈ lw_all := lw_g (lw_at lw_m4 154 rfl) rfl
theorem q1069 : (Jvm.Cond.instanceMethod ({ cls := "RescueHouse$House", name := "addStreet", desc := "(IIIZ)V" } : Jvm.MethodName)) ∈ lw_all := lw_g (lw_at lw_m4 162 rfl) rfl
theorem q1070 : (Jvm.Cond.selects "RescueHouse$House" ({ cls := "RescueHouse$House", name := "addStreet", desc := "(IIIZ)V" } : Jvm.MethodName) ({ cls := "RescueHouse$House", name := "addStreet", desc := "(IIIZ)V" } : Jvm.MethodName)) ∈ lw_all := lw_g (lw_at lw_m4 163 rfl) rfl
theorem q1071 : (Jvm.Cond.code ({ cls := "RescueHouse$House", name := "addStreet", desc := "(IIIZ)V" } : Jvm.MethodName) prog_8_method_6_code (5 : Nat) (Option.none : Option Jvm.ClassFile.FieldType)) ∈ lw_all := lw_g (lw_at lw_m4 164 rfl) rfl
theorem q1073 : (Jvm.Cond.instanceMethod ({ cls := "RescueHouse$House", name := "shut", desc := "(IZ)V" } : Jvm.MethodName)) ∈ lw_all := lw_g (lw_at lw_m4 166 rfl) rfl
theorem q1074 : (Jvm.Cond.selects "RescueHouse$House" ({ cls := "RescueHouse$House", name := "shut", desc := "(IZ)V" } : Jvm.MethodName) ({ cls := "RescueHouse$House", name := "shut", desc := "(IZ)V" } : Jvm.MethodName)) ∈ lw_all := lw_g (lw_at lw_m4 167 rfl) rfl
theorem q1075 : (Jvm.Cond.code ({ cls := "RescueHouse$House", name := "shut", desc := "(IZ)V" } : Jvm.MethodName) prog_8_method_7_code (3 : Nat) (Option.none : Option Jvm.ClassFile.FieldType)) ∈ lw_all := lw_g (lw_at lw_m4 168 rfl) rfl
theorem q1077 : (Jvm.Cond.instanceMethod ({ cls := "RescueHouse$House", name := "addUnit", desc := "(II)V" } : Jvm.MethodName)) ∈ lw_all := lw_g (lw_at lw_m4 170 rfl) rfl
theorem q1078 : (Jvm.Cond.selects "RescueHouse$House" ({ cls := "RescueHouse$House", name := "addUnit", desc := "(II)V" } : Jvm.MethodName) ({ cls := "RescueHouse$House", name := "addUnit", desc := "(II)V" } : Jvm.MethodName)) ∈ lw_all := lw_g (lw_at lw_m4 171 rfl) rfl
theorem q1079 : (Jvm.Cond.code ({ cls := "RescueHouse$House", name := "addUnit", desc := "(II)V" } : Jvm.MethodName) prog_8_method_23_code (3 : Nat) (Option.none : Option Jvm.ClassFile.FieldType)) ∈ lw_all := lw_g (lw_at lw_m4 172 rfl) rfl
theorem q1085 : (Jvm.Cond.instanceMethod ({ cls := "RescueHouse$House", name := "letGo", desc := "(I)V" } : Jvm.MethodName)) ∈ lw_all := lw_g (lw_at lw_m4 178 rfl) rfl
theorem q1086 : (Jvm.Cond.selects "RescueHouse$House" ({ cls := "RescueHouse$House", name := "letGo", desc := "(I)V" } : Jvm.MethodName) ({ cls := "RescueHouse$House", name := "letGo", desc := "(I)V" } : Jvm.MethodName)) ∈ lw_all := lw_g (lw_at lw_m4 179 rfl) rfl
theorem q1087 : (Jvm.Cond.code ({ cls := "RescueHouse$House", name := "letGo", desc := "(I)V" } : Jvm.MethodName) prog_8_method_21_code (2 : Nat) (Option.none : Option Jvm.ClassFile.FieldType)) ∈ lw_all := lw_g (lw_at lw_m4 180 rfl) rfl
theorem q1096 : (Jvm.Cond.instanceMethod ({ cls := "RescueHouse$House", name := "addCall", desc := "(III)I" } : Jvm.MethodName)) ∈ lw_all := lw_g (lw_at lw_m4 189 rfl) rfl
theorem q1097 : (Jvm.Cond.selects "RescueHouse$House" ({ cls := "RescueHouse$House", name := "addCall", desc := "(III)I" } : Jvm.MethodName) ({ cls := "RescueHouse$House", name := "addCall", desc := "(III)I" } : Jvm.MethodName)) ∈ lw_all := lw_g (lw_at lw_m4 190 rfl) rfl
theorem q1098 : (Jvm.Cond.code ({ cls := "RescueHouse$House", name := "addCall", desc := "(III)I" } : Jvm.MethodName) prog_8_method_25_code (4 : Nat) (Option.some Jvm.ClassFile.FieldType.int)) ∈ lw_all := lw_g (lw_at lw_m4 191 rfl) rfl
theorem q1137 : (Jvm.Cond.instanceMethod ({ cls := "RescueHouse$House", name := "sends", desc := "(II)V" } : Jvm.MethodName)) ∈ lw_all := lw_g (lw_at lw_m4 230 rfl) rfl
theorem q1138 : (Jvm.Cond.selects "RescueHouse$House" ({ cls := "RescueHouse$House", name := "sends", desc := "(II)V" } : Jvm.MethodName) ({ cls := "RescueHouse$House", name := "sends", desc := "(II)V" } : Jvm.MethodName)) ∈ lw_all := lw_g (lw_at lw_m4 231 rfl) rfl
theorem q1139 : (Jvm.Cond.code ({ cls := "RescueHouse$House", name := "sends", desc := "(II)V" } : Jvm.MethodName) prog_8_method_22_code (3 : Nat) (Option.none : Option Jvm.ClassFile.FieldType)) ∈ lw_all := lw_g (lw_at lw_m4 232 rfl) rfl
theorem q1143 : (Jvm.Cond.instanceMethod ({ cls := "RescueHouse$House", name := "addKind", desc := "([BII)I" } : Jvm.MethodName)) ∈ lw_all := lw_g (lw_at lw_m4 236 rfl) rfl
theorem q1144 : (Jvm.Cond.selects "RescueHouse$House" ({ cls := "RescueHouse$House", name := "addKind", desc := "([BII)I" } : Jvm.MethodName) ({ cls := "RescueHouse$House", name := "addKind", desc := "([BII)I" } : Jvm.MethodName)) ∈ lw_all := lw_g (lw_at lw_m4 237 rfl) rfl
theorem q1145 : (Jvm.Cond.code ({ cls := "RescueHouse$House", name := "addKind", desc := "([BII)I" } : Jvm.MethodName) prog_8_method_31_code (5 : Nat) (Option.some Jvm.ClassFile.FieldType.int)) ∈ lw_all := lw_g (lw_at lw_m4 238 rfl) rfl
theorem q1147 : (Jvm.Cond.instanceMethod ({ cls := "RescueHouse$House", name := "setName", desc := "(I[BII)V" } : Jvm.MethodName)) ∈ lw_all := lw_g (lw_at lw_m5 0 rfl) rfl
theorem q1148 : (Jvm.Cond.selects "RescueHouse$House" ({ cls := "RescueHouse$House", name := "setName", desc := "(I[BII)V" } : Jvm.MethodName) ({ cls := "RescueHouse$House", name := "setName", desc := "(I[BII)V" } : Jvm.MethodName)) ∈ lw_all := lw_g (lw_at lw_m5 1 rfl) rfl
theorem q1149 : (Jvm.Cond.code ({ cls := "RescueHouse$House", name := "setName", desc := "(I[BII)V" } : Jvm.MethodName) prog_8_method_32_code (6 : Nat) (Option.none : Option Jvm.ClassFile.FieldType)) ∈ lw_all := lw_g (lw_at lw_m5 2 rfl) rfl
theorem q1151 : (Jvm.Cond.instanceMethod ({ cls := "RescueHouse$House", name := "keepHours", desc := "(III)V" } : Jvm.MethodName)) ∈ lw_all := lw_g (lw_at lw_m5 4 rfl) rfl
theorem q1152 : (Jvm.Cond.selects "RescueHouse$House" ({ cls := "RescueHouse$House", name := "keepHours", desc := "(III)V" } : Jvm.MethodName) ({ cls := "RescueHouse$House", name := "keepHours", desc := "(III)V" } : Jvm.MethodName)) ∈ lw_all := lw_g (lw_at lw_m5 5 rfl) rfl
theorem q1153 : (Jvm.Cond.code ({ cls := "RescueHouse$House", name := "keepHours", desc := "(III)V" } : Jvm.MethodName) prog_8_method_8_code (4 : Nat) (Option.none : Option Jvm.ClassFile.FieldType)) ∈ lw_all := lw_g (lw_at lw_m5 6 rfl) rfl
theorem q1155 : (Jvm.Cond.instanceMethod ({ cls := "RescueHouse$House", name := "shift", desc := "()V" } : Jvm.MethodName)) ∈ lw_all := lw_g (lw_at lw_m5 8 rfl) rfl
theorem q1156 : (Jvm.Cond.selects "RescueHouse$House" ({ cls := "RescueHouse$House", name := "shift", desc := "()V" } : Jvm.MethodName) ({ cls := "RescueHouse$House", name := "shift", desc := "()V" } : Jvm.MethodName)) ∈ lw_all := lw_g (lw_at lw_m5 9 rfl) rfl
theorem q1157 : (Jvm.Cond.code ({ cls := "RescueHouse$House", name := "shift", desc := "()V" } : Jvm.MethodName) prog_8_method_34_code (2 : Nat) (Option.none : Option Jvm.ClassFile.FieldType)) ∈ lw_all := lw_g (lw_at lw_m5 10 rfl) rfl
theorem q1159 : (Jvm.Cond.instanceMethod ({ cls := "RescueHouse$House", name := "end", desc := "(I)V" } : Jvm.MethodName)) ∈ lw_all := lw_g (lw_at lw_m5 12 rfl) rfl
theorem q1160 : (Jvm.Cond.selects "RescueHouse$House" ({ cls := "RescueHouse$House", name := "end", desc := "(I)V" } : Jvm.MethodName) ({ cls := "RescueHouse$House", name := "end", desc := "(I)V" } : Jvm.MethodName)) ∈ lw_all := lw_g (lw_at lw_m5 13 rfl) rfl
theorem q1161 : (Jvm.Cond.code ({ cls := "RescueHouse$House", name := "end", desc := "(I)V" } : Jvm.MethodName) prog_8_method_26_code (3 : Nat) (Option.none : Option Jvm.ClassFile.FieldType)) ∈ lw_all := lw_g (lw_at lw_m5 14 rfl) rfl
theorem q1162 : (Jvm.Cond.methodLink "RescueHouse$House" (176 : Nat) ({ cls := "RescueHouse$House", name := "letGo", desc := "(I)V" } : Jvm.MethodName)) ∈ lw_all := lw_g (lw_at lw_m5 15 rfl) rfl
theorem q1164 : (Jvm.Cond.instanceMethod ({ cls := "RescueHouse$House", name := "second", desc := "()V" } : Jvm.MethodName)) ∈ lw_all := lw_g (lw_at lw_m5 17 rfl) rfl
theorem q1165 : (Jvm.Cond.selects "RescueHouse$House" ({ cls := "RescueHouse$House", name := "second", desc := "()V" } : Jvm.MethodName) ({ cls := "RescueHouse$House", name := "second", desc := "()V" } : Jvm.MethodName)) ∈ lw_all := lw_g (lw_at lw_m5 18 rfl) rfl
theorem q1166 : (Jvm.Cond.code ({ cls := "RescueHouse$House", name := "second", desc := "()V" } : Jvm.MethodName) prog_8_method_30_code (2 : Nat) (Option.none : Option Jvm.ClassFile.FieldType)) ∈ lw_all := lw_g (lw_at lw_m5 19 rfl) rfl
theorem q1167 : (Jvm.Cond.methodLink "RescueHouse$House" (186 : Nat) ({ cls := "java/lang/Math", name := "max", desc := "(II)I" } : Jvm.MethodName)) ∈ lw_all := lw_g (lw_at lw_m5 20 rfl) rfl
theorem q1168 : (Jvm.Cond.methodLink "RescueHouse$House" (189 : Nat) ({ cls := "RescueHouse$House", name := "moves", desc := "(I)V" } : Jvm.MethodName)) ∈ lw_all := lw_g (lw_at lw_m5 21 rfl) rfl
theorem q1169 : (Jvm.Cond.privateMethod ({ cls := "RescueHouse$House", name := "moves", desc := "(I)V" } : Jvm.MethodName)) ∈ lw_tbl := lw_at lw_m5 22 rfl
theorem q1170 : (Jvm.Cond.instanceMethod ({ cls := "RescueHouse$House", name := "moves", desc := "(I)V" } : Jvm.MethodName)) ∈ lw_all := lw_g (lw_at lw_m5 23 rfl) rfl
theorem q1171 : (Jvm.Cond.code ({ cls := "RescueHouse$House", name := "moves", desc := "(I)V" } : Jvm.MethodName) prog_8_method_29_code (4 : Nat) (Option.none : Option Jvm.ClassFile.FieldType)) ∈ lw_all := lw_g (lw_at lw_m5 24 rfl) rfl
theorem q1172 : (Jvm.Cond.methodLink "RescueHouse$House" (182 : Nat) ({ cls := "RescueHouse$House", name := "steps", desc := "(II)Z" } : Jvm.MethodName)) ∈ lw_all := lw_g (lw_at lw_m5 25 rfl) rfl
theorem q1173 : (Jvm.Cond.privateMethod ({ cls := "RescueHouse$House", name := "steps", desc := "(II)Z" } : Jvm.MethodName)) ∈ lw_tbl := lw_at lw_m5 26 rfl
theorem q1174 : (Jvm.Cond.instanceMethod ({ cls := "RescueHouse$House", name := "steps", desc := "(II)Z" } : Jvm.MethodName)) ∈ lw_all := lw_g (lw_at lw_m5 27 rfl) rfl
theorem q1175 : (Jvm.Cond.code ({ cls := "RescueHouse$House", name := "steps", desc := "(II)Z" } : Jvm.MethodName) prog_8_method_28_code (5 : Nat) (Option.some Jvm.ClassFile.FieldType.boolean)) ∈ lw_all := lw_g (lw_at lw_m5 28 rfl) rfl
theorem q1176 : (Jvm.Cond.methodLink "RescueHouse$House" (179 : Nat) ({ cls := "RescueHouse$House", name := "nextPlace", desc := "(II)I" } : Jvm.MethodName)) ∈ lw_all := lw_g (lw_at lw_m5 29 rfl) rfl
theorem q1177 : (Jvm.Cond.instanceMethod ({ cls := "RescueHouse$House", name := "nextPlace", desc := "(II)I" } : Jvm.MethodName)) ∈ lw_all := lw_g (lw_at lw_m5 30 rfl) rfl
theorem q1178 : (Jvm.Cond.selects "RescueHouse$House" ({ cls := "RescueHouse$House", name := "nextPlace", desc := "(II)I" } : Jvm.MethodName) ({ cls := "RescueHouse$House", name := "nextPlace", desc := "(II)I" } : Jvm.MethodName)) ∈ lw_all := lw_g (lw_at lw_m5 31 rfl) rfl
theorem q1179 : (Jvm.Cond.code ({ cls := "RescueHouse$House", name := "nextPlace", desc := "(II)I" } : Jvm.MethodName) prog_8_method_27_code (6 : Nat) (Option.some Jvm.ClassFile.FieldType.int)) ∈ lw_all := lw_g (lw_at lw_m5 32 rfl) rfl
theorem q1329 : (Jvm.Cond.instanceMethod ({ cls := "RescueHouse$House", name := "isSound", desc := "()Z" } : Jvm.MethodName)) ∈ lw_all := lw_g (lw_at lw_m5 182 rfl) rfl
theorem q1330 : (Jvm.Cond.selects "RescueHouse$House" ({ cls := "RescueHouse$House", name := "isSound", desc := "()Z" } : Jvm.MethodName) ({ cls := "RescueHouse$House", name := "isSound", desc := "()Z" } : Jvm.MethodName)) ∈ lw_all := lw_g (lw_at lw_m5 183 rfl) rfl
theorem q1331 : (Jvm.Cond.code ({ cls := "RescueHouse$House", name := "isSound", desc := "()Z" } : Jvm.MethodName) prog_8_method_35_code (7 : Nat) (Option.some Jvm.ClassFile.FieldType.boolean)) ∈ lw_all := lw_g (lw_at lw_m5 184 rfl) rfl
theorem in_X3 : ∀ w ∈ wsX30, w ∈ lw_all := lw_in wsX30 [404, 406, 408, 410, 412, 414, 416, 418, 420, 422, 424, 426, 428, 430, 432, 434, 436, 438, 440, 442, 444, 446, 448, 450, 452, 454, 456, 458, 460, 462, 464, 466, 468, 470, 472, 474, 476, 478] (by decide +kernel) (by decide +kernel)

/-! RescueHouse$Asker -/
set_option maxRecDepth 100000
def RX4 : String := "RescueHouse$Asker"
def TX4 : u_T := fun k => match k with
  | 0 => ("RescueHouse$Asker", "question", "I", false)
  | 1 => ("RescueHouse$Asker", "skill", "I", false)
  | 2 => ("RescueHouse$Asker", "rank", "I", false)
  | _ => ("RescueHouse$Asker", "tooMany", "Z", false)
def tyX4 : Nat → FieldType := fun k => match k with
  | 0 => .int
  | 1 => .int
  | 2 => .int
  | _ => .boolean
abbrev wsX40 : List Cond := u_ws RX4 TX4 4
theorem nmX4 : ∀ a, a < 4 → ∀ b, b < 4 → a ≠ b → (TX4 a).2.1 ≠ (TX4 b).2.1 := by decide +kernel
theorem tyX4_ok : ∀ k, k < 4 → parseFieldDescriptor (TX4 k).2.2.1 = some (tyX4 k) := by decide +kernel
abbrev cX4_init : ByteArray := prog_2_method_1_code
def yX4_init : MethodName := ⟨RX4, "<init>", "()V"⟩
abbrev cX4_goes : ByteArray := prog_2_method_3_code
def yX4_goes : MethodName := ⟨RX4, "goes", "(LRescueHouse$House;I[BII)Z"⟩
abbrev cX4_behind : ByteArray := prog_2_method_2_code
def yX4_behind : MethodName := ⟨RX4, "behind", "([BI)I"⟩
theorem q192 : (Jvm.Cond.initialized "RescueHouse$Asker") ∈ lw_all := lw_g (lw_at lw_m1 5 rfl) rfl
theorem q331 : (Jvm.Cond.fieldLinkNest "RescueHouse$Asker" (9 : Nat) "RescueHouse$House" "trees" "[B" "RescueHouse") ∈ lw_tbl := lw_at lw_m1 144 rfl
theorem q483 : (Jvm.Cond.instantiable "RescueHouse$Asker" (4 : Nat)) ∈ lw_all := lw_g (lw_at lw_m2 56 rfl) rfl
theorem q485 : (Jvm.Cond.instanceMethod ({ cls := "RescueHouse$Asker", name := "<init>", desc := "()V" } : Jvm.MethodName)) ∈ lw_all := lw_g (lw_at lw_m2 58 rfl) rfl
theorem q486 : (Jvm.Cond.code ({ cls := "RescueHouse$Asker", name := "<init>", desc := "()V" } : Jvm.MethodName) prog_2_method_1_code (1 : Nat) (Option.none : Option Jvm.ClassFile.FieldType)) ∈ lw_all := lw_g (lw_at lw_m2 59 rfl) rfl
theorem q487 : (Jvm.Cond.methodLink "RescueHouse$Asker" (3 : Nat) ({ cls := "java/lang/Object", name := "<init>", desc := "()V" } : Jvm.MethodName)) ∈ lw_all := lw_g (lw_at lw_m2 60 rfl) rfl
theorem q488 : (Jvm.Cond.fieldLink "RescueHouse$Asker" (15 : Nat) "RescueHouse$Asker" "question" "I") ∈ lw_all := lw_g (lw_at lw_m2 61 rfl) rfl
theorem q490 : (Jvm.Cond.fieldLink "RescueHouse$Asker" (29 : Nat) "RescueHouse$Asker" "skill" "I") ∈ lw_all := lw_g (lw_at lw_m2 63 rfl) rfl
theorem q492 : (Jvm.Cond.fieldLink "RescueHouse$Asker" (32 : Nat) "RescueHouse$Asker" "rank" "I") ∈ lw_all := lw_g (lw_at lw_m2 65 rfl) rfl
theorem q494 : (Jvm.Cond.fieldLink "RescueHouse$Asker" (21 : Nat) "RescueHouse$Asker" "tooMany" "Z") ∈ lw_all := lw_g (lw_at lw_m2 67 rfl) rfl
theorem q496 : (Jvm.Cond.lays "RescueHouse$Asker" "RescueHouse$Asker" "question" "I") ∈ lw_all := lw_g (lw_at lw_m2 69 rfl) rfl
theorem q497 : (Jvm.Cond.soleField "RescueHouse$Asker" "question") ∈ lw_all := lw_g (lw_at lw_m2 70 rfl) rfl
theorem q498 : (Jvm.Cond.lays "RescueHouse$Asker" "RescueHouse$Asker" "skill" "I") ∈ lw_all := lw_g (lw_at lw_m2 71 rfl) rfl
theorem q499 : (Jvm.Cond.soleField "RescueHouse$Asker" "skill") ∈ lw_all := lw_g (lw_at lw_m2 72 rfl) rfl
theorem q500 : (Jvm.Cond.lays "RescueHouse$Asker" "RescueHouse$Asker" "rank" "I") ∈ lw_all := lw_g (lw_at lw_m2 73 rfl) rfl
theorem q501 : (Jvm.Cond.soleField "RescueHouse$Asker" "rank") ∈ lw_all := lw_g (lw_at lw_m2 74 rfl) rfl
theorem q502 : (Jvm.Cond.lays "RescueHouse$Asker" "RescueHouse$Asker" "tooMany" "Z") ∈ lw_all := lw_g (lw_at lw_m2 75 rfl) rfl
theorem q503 : (Jvm.Cond.soleField "RescueHouse$Asker" "tooMany") ∈ lw_all := lw_g (lw_at lw_m2 76 rfl) rfl
theorem q504 : (Jvm.Cond.superclass "RescueHouse$Asker" "java/lang/Object") ∈ lw_all := lw_g (lw_at lw_m2 77 rfl) rfl
theorem q998 : (Jvm.Cond.instanceMethod ({ cls := "RescueHouse$Asker", name := "goes", desc := "(LRescueHouse$House;I[BII)Z" } : Jvm.MethodName)) ∈ lw_all := lw_g (lw_at lw_m4 91 rfl) rfl
theorem q999 : (Jvm.Cond.selects "RescueHouse$Asker" ({ cls := "RescueHouse$Asker", name := "goes", desc := "(LRescueHouse$House;I[BII)Z" } : Jvm.MethodName) ({ cls := "RescueHouse$Asker", name := "goes", desc := "(LRescueHouse$House;I[BII)Z" } : Jvm.MethodName)) ∈ lw_all := lw_g (lw_at lw_m4 92 rfl) rfl
theorem q1000 : (Jvm.Cond.code ({ cls := "RescueHouse$Asker", name := "goes", desc := "(LRescueHouse$House;I[BII)Z" } : Jvm.MethodName) prog_2_method_3_code (11 : Nat) (Option.some Jvm.ClassFile.FieldType.boolean)) ∈ lw_all := lw_g (lw_at lw_m4 93 rfl) rfl
theorem q1001 : (Jvm.Cond.methodLink "RescueHouse$Asker" (25 : Nat) ({ cls := "RescueHouse$Asker", name := "behind", desc := "([BI)I" } : Jvm.MethodName)) ∈ lw_all := lw_g (lw_at lw_m4 94 rfl) rfl
theorem q1002 : (Jvm.Cond.static ({ cls := "RescueHouse$Asker", name := "behind", desc := "([BI)I" } : Jvm.MethodName)) ∈ lw_all := lw_g (lw_at lw_m4 95 rfl) rfl
theorem q1003 : (Jvm.Cond.code ({ cls := "RescueHouse$Asker", name := "behind", desc := "([BI)I" } : Jvm.MethodName) prog_2_method_2_code (4 : Nat) (Option.some Jvm.ClassFile.FieldType.int)) ∈ lw_all := lw_g (lw_at lw_m4 96 rfl) rfl
theorem in_X4 : ∀ w ∈ wsX40, w ∈ lw_all := lw_in wsX40 [496, 498, 500, 502] (by decide +kernel) (by decide +kernel)

/-! RescueHouse$Finder -/
set_option maxRecDepth 100000
def RX5 : String := "RescueHouse$Finder"
def TX5 : u_T := fun k => match k with
  | 0 => ("RescueHouse$Finder", "row", "[I", true)
  | _ => ("RescueHouse$Finder", "above", "[I", true)
def tyX5 : Nat → FieldType := fun k => match k with
  | 0 => .array .int
  | _ => .array .int
abbrev wsX50 : List Cond := u_ws RX5 TX5 2
theorem nmX5 : ∀ a, a < 2 → ∀ b, b < 2 → a ≠ b → (TX5 a).2.1 ≠ (TX5 b).2.1 := by decide +kernel
theorem tyX5_ok : ∀ k, k < 2 → parseFieldDescriptor (TX5 k).2.2.1 = some (tyX5 k) := by decide +kernel
abbrev cX5_init : ByteArray := prog_6_method_1_code
def yX5_init : MethodName := ⟨RX5, "<init>", "()V"⟩
abbrev cX5_edits : ByteArray := prog_6_method_2_code
def yX5_edits : MethodName := ⟨RX5, "edits", "(LRescueHouse$House;I[BII)I"⟩
theorem q193 : (Jvm.Cond.initialized "RescueHouse$Finder") ∈ lw_all := lw_g (lw_at lw_m1 6 rfl) rfl
theorem q333 : (Jvm.Cond.fieldLinkNest "RescueHouse$Finder" (23 : Nat) "RescueHouse$House" "names" "[B" "RescueHouse") ∈ lw_tbl := lw_at lw_m1 146 rfl
theorem q336 : (Jvm.Cond.fieldLinkNest "RescueHouse$Finder" (18 : Nat) "RescueHouse$House" "nameSize" "[I" "RescueHouse") ∈ lw_tbl := lw_at lw_m1 149 rfl
theorem q506 : (Jvm.Cond.instantiable "RescueHouse$Finder" (2 : Nat)) ∈ lw_all := lw_g (lw_at lw_m2 79 rfl) rfl
theorem q508 : (Jvm.Cond.instanceMethod ({ cls := "RescueHouse$Finder", name := "<init>", desc := "()V" } : Jvm.MethodName)) ∈ lw_all := lw_g (lw_at lw_m2 81 rfl) rfl
theorem q509 : (Jvm.Cond.code ({ cls := "RescueHouse$Finder", name := "<init>", desc := "()V" } : Jvm.MethodName) prog_6_method_1_code (1 : Nat) (Option.none : Option Jvm.ClassFile.FieldType)) ∈ lw_all := lw_g (lw_at lw_m2 82 rfl) rfl
theorem q510 : (Jvm.Cond.methodLink "RescueHouse$Finder" (3 : Nat) ({ cls := "java/lang/Object", name := "<init>", desc := "()V" } : Jvm.MethodName)) ∈ lw_all := lw_g (lw_at lw_m2 83 rfl) rfl
theorem q511 : (Jvm.Cond.fieldLink "RescueHouse$Finder" (9 : Nat) "RescueHouse$Finder" "row" "[I") ∈ lw_all := lw_g (lw_at lw_m2 84 rfl) rfl
theorem q512 : (Jvm.Cond.fieldLink "RescueHouse$Finder" (15 : Nat) "RescueHouse$Finder" "above" "[I") ∈ lw_all := lw_g (lw_at lw_m2 85 rfl) rfl
theorem q513 : (Jvm.Cond.laysFinal "RescueHouse$Finder" "RescueHouse$Finder" "row" "[I") ∈ lw_all := lw_g (lw_at lw_m2 86 rfl) rfl
theorem q514 : (Jvm.Cond.soleField "RescueHouse$Finder" "row") ∈ lw_all := lw_g (lw_at lw_m2 87 rfl) rfl
theorem q515 : (Jvm.Cond.laysFinal "RescueHouse$Finder" "RescueHouse$Finder" "above" "[I") ∈ lw_all := lw_g (lw_at lw_m2 88 rfl) rfl
theorem q516 : (Jvm.Cond.soleField "RescueHouse$Finder" "above") ∈ lw_all := lw_g (lw_at lw_m2 89 rfl) rfl
theorem q517 : (Jvm.Cond.superclass "RescueHouse$Finder" "java/lang/Object") ∈ lw_all := lw_g (lw_at lw_m2 90 rfl) rfl
theorem q1198 : (Jvm.Cond.instanceMethod ({ cls := "RescueHouse$Finder", name := "edits", desc := "(LRescueHouse$House;I[BII)I" } : Jvm.MethodName)) ∈ lw_all := lw_g (lw_at lw_m5 51 rfl) rfl
theorem q1199 : (Jvm.Cond.selects "RescueHouse$Finder" ({ cls := "RescueHouse$Finder", name := "edits", desc := "(LRescueHouse$House;I[BII)I" } : Jvm.MethodName) ({ cls := "RescueHouse$Finder", name := "edits", desc := "(LRescueHouse$House;I[BII)I" } : Jvm.MethodName)) ∈ lw_all := lw_g (lw_at lw_m5 52 rfl) rfl
theorem q1200 : (Jvm.Cond.code ({ cls := "RescueHouse$Finder", name := "edits", desc := "(LRescueHouse$House;I[BII)I" } : Jvm.MethodName) prog_6_method_2_code (9 : Nat) (Option.some Jvm.ClassFile.FieldType.int)) ∈ lw_all := lw_g (lw_at lw_m5 53 rfl) rfl
theorem q1201 : (Jvm.Cond.methodLink "RescueHouse$Finder" (27 : Nat) ({ cls := "java/lang/Math", name := "min", desc := "(II)I" } : Jvm.MethodName)) ∈ lw_all := lw_g (lw_at lw_m5 54 rfl) rfl
theorem in_X5 : ∀ w ∈ wsX50, w ∈ lw_all := lw_in wsX50 [513, 515] (by decide +kernel) (by decide +kernel)

/-! RescueHouse$Radio -/
set_option maxRecDepth 100000
def RX6 : String := "RescueHouse$Radio"
def TX6 : u_T := fun k => match k with
  | 0 => ("RescueHouse$Radio", "call", "[I", true)
  | 1 => ("RescueHouse$Radio", "now", "[I", true)
  | 2 => ("RescueHouse$Radio", "best", "[I", true)
  | 3 => ("RescueHouse$Radio", "close", "[Z", true)
  | 4 => ("RescueHouse$Radio", "many", "I", false)
  | _ => ("RescueHouse$Radio", "channels", "I", false)
def tyX6 : Nat → FieldType := fun k => match k with
  | 0 => .array .int
  | 1 => .array .int
  | 2 => .array .int
  | 3 => .array .boolean
  | 4 => .int
  | _ => .int
abbrev wsX60 : List Cond := u_ws RX6 TX6 6
theorem nmX6 : ∀ a, a < 6 → ∀ b, b < 6 → a ≠ b → (TX6 a).2.1 ≠ (TX6 b).2.1 := by decide +kernel
theorem tyX6_ok : ∀ k, k < 6 → parseFieldDescriptor (TX6 k).2.2.1 = some (tyX6 k) := by decide +kernel
abbrev cX6_init : ByteArray := prog_10_method_1_code
def yX6_init : MethodName := ⟨RX6, "<init>", "()V"⟩
abbrev cX6_tell : ByteArray := prog_10_method_3_code
def yX6_tell : MethodName := ⟨RX6, "tell", "(LRescueHouse$House;ILRescueHouse$Text;)V"⟩
abbrev cX6_search : ByteArray := prog_10_method_2_code
def yX6_search : MethodName := ⟨RX6, "search", "(LRescueHouse$Radio;II)V"⟩
theorem q194 : (Jvm.Cond.initialized "RescueHouse$Radio") ∈ lw_all := lw_g (lw_at lw_m1 7 rfl) rfl
theorem q358 : (Jvm.Cond.fieldLinkNest "RescueHouse$Radio" (51 : Nat) "RescueHouse$House" "callPlace" "[I" "RescueHouse") ∈ lw_tbl := lw_at lw_m1 171 rfl
theorem q390 : (Jvm.Cond.fieldLinkNest "RescueHouse$Radio" (42 : Nat) "RescueHouse$House" "calls" "I" "RescueHouse") ∈ lw_tbl := lw_at lw_m1 203 rfl
theorem q519 : (Jvm.Cond.instantiable "RescueHouse$Radio" (6 : Nat)) ∈ lw_all := lw_g (lw_at lw_m2 92 rfl) rfl
theorem q521 : (Jvm.Cond.instanceMethod ({ cls := "RescueHouse$Radio", name := "<init>", desc := "()V" } : Jvm.MethodName)) ∈ lw_all := lw_g (lw_at lw_m2 94 rfl) rfl
theorem q522 : (Jvm.Cond.code ({ cls := "RescueHouse$Radio", name := "<init>", desc := "()V" } : Jvm.MethodName) prog_10_method_1_code (1 : Nat) (Option.none : Option Jvm.ClassFile.FieldType)) ∈ lw_all := lw_g (lw_at lw_m2 95 rfl) rfl
theorem q523 : (Jvm.Cond.methodLink "RescueHouse$Radio" (3 : Nat) ({ cls := "java/lang/Object", name := "<init>", desc := "()V" } : Jvm.MethodName)) ∈ lw_all := lw_g (lw_at lw_m2 96 rfl) rfl
theorem q524 : (Jvm.Cond.fieldLink "RescueHouse$Radio" (9 : Nat) "RescueHouse$Radio" "call" "[I") ∈ lw_all := lw_g (lw_at lw_m2 97 rfl) rfl
theorem q525 : (Jvm.Cond.fieldLink "RescueHouse$Radio" (15 : Nat) "RescueHouse$Radio" "now" "[I") ∈ lw_all := lw_g (lw_at lw_m2 98 rfl) rfl
theorem q526 : (Jvm.Cond.fieldLink "RescueHouse$Radio" (18 : Nat) "RescueHouse$Radio" "best" "[I") ∈ lw_all := lw_g (lw_at lw_m2 99 rfl) rfl
theorem q527 : (Jvm.Cond.fieldLink "RescueHouse$Radio" (21 : Nat) "RescueHouse$Radio" "close" "[Z") ∈ lw_all := lw_g (lw_at lw_m2 100 rfl) rfl
theorem q528 : (Jvm.Cond.fieldLink "RescueHouse$Radio" (29 : Nat) "RescueHouse$Radio" "many" "I") ∈ lw_all := lw_g (lw_at lw_m2 101 rfl) rfl
theorem q529 : (Jvm.Cond.fieldLink "RescueHouse$Radio" (25 : Nat) "RescueHouse$Radio" "channels" "I") ∈ lw_all := lw_g (lw_at lw_m2 102 rfl) rfl
theorem q530 : (Jvm.Cond.laysFinal "RescueHouse$Radio" "RescueHouse$Radio" "call" "[I") ∈ lw_all := lw_g (lw_at lw_m2 103 rfl) rfl
theorem q531 : (Jvm.Cond.soleField "RescueHouse$Radio" "call") ∈ lw_all := lw_g (lw_at lw_m2 104 rfl) rfl
theorem q532 : (Jvm.Cond.laysFinal "RescueHouse$Radio" "RescueHouse$Radio" "now" "[I") ∈ lw_all := lw_g (lw_at lw_m2 105 rfl) rfl
theorem q533 : (Jvm.Cond.soleField "RescueHouse$Radio" "now") ∈ lw_all := lw_g (lw_at lw_m2 106 rfl) rfl
theorem q534 : (Jvm.Cond.laysFinal "RescueHouse$Radio" "RescueHouse$Radio" "best" "[I") ∈ lw_all := lw_g (lw_at lw_m2 107 rfl) rfl
theorem q535 : (Jvm.Cond.soleField "RescueHouse$Radio" "best") ∈ lw_all := lw_g (lw_at lw_m2 108 rfl) rfl
theorem q536 : (Jvm.Cond.laysFinal "RescueHouse$Radio" "RescueHouse$Radio" "close" "[Z") ∈ lw_all := lw_g (lw_at lw_m2 109 rfl) rfl
theorem q537 : (Jvm.Cond.soleField "RescueHouse$Radio" "close") ∈ lw_all := lw_g (lw_at lw_m2 110 rfl) rfl
theorem q538 : (Jvm.Cond.lays "RescueHouse$Radio" "RescueHouse$Radio" "many" "I") ∈ lw_all := lw_g (lw_at lw_m2 111 rfl) rfl
theorem q539 : (Jvm.Cond.soleField "RescueHouse$Radio" "many") ∈ lw_all := lw_g (lw_at lw_m2 112 rfl) rfl
theorem q540 : (Jvm.Cond.lays "RescueHouse$Radio" "RescueHouse$Radio" "channels" "I") ∈ lw_all := lw_g (lw_at lw_m2 113 rfl) rfl
theorem q541 : (Jvm.Cond.soleField "RescueHouse$Radio" "channels") ∈ lw_all := lw_g (lw_at lw_m2 114 rfl) rfl
theorem q542 : (Jvm.Cond.superclass "RescueHouse$Radio" "java/lang/Object") ∈ lw_all := lw_g (lw_at lw_m2 115 rfl) rfl
theorem q1210 : (Jvm.Cond.instanceMethod ({ cls := "RescueHouse$Radio", name := "tell", desc := "(LRescueHouse$House;ILRescueHouse$Text;)V" } : Jvm.MethodName)) ∈ lw_all := lw_g (lw_at lw_m5 63 rfl) rfl
theorem q1211 : (Jvm.Cond.selects "RescueHouse$Radio" ({ cls := "RescueHouse$Radio", name := "tell", desc := "(LRescueHouse$House;ILRescueHouse$Text;)V" } : Jvm.MethodName) ({ cls := "RescueHouse$Radio", name := "tell", desc := "(LRescueHouse$House;ILRescueHouse$Text;)V" } : Jvm.MethodName)) ∈ lw_all := lw_g (lw_at lw_m5 64 rfl) rfl
theorem q1212 : (Jvm.Cond.code ({ cls := "RescueHouse$Radio", name := "tell", desc := "(LRescueHouse$House;ILRescueHouse$Text;)V" } : Jvm.MethodName) prog_10_method_3_code (9 : Nat) (Option.none : Option Jvm.ClassFile.FieldType)) ∈ lw_all := lw_g (lw_at lw_m5 65 rfl) rfl
theorem q1213 : (Jvm.Cond.methodLink "RescueHouse$Radio" (47 : Nat) ({ cls := "RescueHouse$House", name := "isOpen", desc := "(I)Z" } : Jvm.MethodName)) ∈ lw_all := lw_g (lw_at lw_m5 66 rfl) rfl
theorem q1214 : (Jvm.Cond.methodLink "RescueHouse$Radio" (54 : Nat) ({ cls := "RescueHouse$House", name := "far", desc := "(II)I" } : Jvm.MethodName)) ∈ lw_all := lw_g (lw_at lw_m5 67 rfl) rfl
theorem q1215 : (Jvm.Cond.methodLink "RescueHouse$Radio" (57 : Nat) ({ cls := "java/lang/Math", name := "min", desc := "(II)I" } : Jvm.MethodName)) ∈ lw_all := lw_g (lw_at lw_m5 68 rfl) rfl
theorem q1216 : (Jvm.Cond.constant "RescueHouse$Radio" (60 : Nat) (1000000 : Int32)) ∈ lw_all := lw_g (lw_at lw_m5 69 rfl) rfl
theorem q1217 : (Jvm.Cond.methodLink "RescueHouse$Radio" (38 : Nat) ({ cls := "RescueHouse$Radio", name := "search", desc := "(LRescueHouse$Radio;II)V" } : Jvm.MethodName)) ∈ lw_all := lw_g (lw_at lw_m5 70 rfl) rfl
theorem q1218 : (Jvm.Cond.static ({ cls := "RescueHouse$Radio", name := "search", desc := "(LRescueHouse$Radio;II)V" } : Jvm.MethodName)) ∈ lw_all := lw_g (lw_at lw_m5 71 rfl) rfl
theorem q1219 : (Jvm.Cond.code ({ cls := "RescueHouse$Radio", name := "search", desc := "(LRescueHouse$Radio;II)V" } : Jvm.MethodName) prog_10_method_2_code (6 : Nat) (Option.none : Option Jvm.ClassFile.FieldType)) ∈ lw_all := lw_g (lw_at lw_m5 72 rfl) rfl
theorem q1220 : (Jvm.Cond.methodLink "RescueHouse$Radio" (32 : Nat) ({ cls := "java/lang/Math", name := "max", desc := "(II)I" } : Jvm.MethodName)) ∈ lw_all := lw_g (lw_at lw_m5 73 rfl) rfl
theorem q1221 : (Jvm.Cond.methodLink "RescueHouse$Radio" (61 : Nat) ({ cls := "RescueHouse$Text", name := "numbers", desc := "(II)V" } : Jvm.MethodName)) ∈ lw_all := lw_g (lw_at lw_m5 74 rfl) rfl
theorem q1222 : (Jvm.Cond.methodLink "RescueHouse$Radio" (67 : Nat) ({ cls := "RescueHouse$Text", name := "add", desc := "(I)V" } : Jvm.MethodName)) ∈ lw_all := lw_g (lw_at lw_m5 75 rfl) rfl
theorem q1223 : (Jvm.Cond.methodLink "RescueHouse$Radio" (71 : Nat) ({ cls := "RescueHouse$Text", name := "number", desc := "(I)V" } : Jvm.MethodName)) ∈ lw_all := lw_g (lw_at lw_m5 76 rfl) rfl
theorem in_X6 : ∀ w ∈ wsX60, w ∈ lw_all := lw_in wsX60 [530, 532, 534, 536, 538, 540] (by decide +kernel) (by decide +kernel)

/-! RescueHouse$Flow -/
set_option maxRecDepth 100000
def RX7 : String := "RescueHouse$Flow"
def TX7 : u_T := fun k => match k with
  | 0 => ("RescueHouse$Flow", "flow", "[I", true)
  | 1 => ("RescueHouse$Flow", "steps", "[I", true)
  | 2 => ("RescueHouse$Flow", "back", "[I", true)
  | _ => ("RescueHouse$Flow", "value", "I", false)
def tyX7 : Nat → FieldType := fun k => match k with
  | 0 => .array .int
  | 1 => .array .int
  | 2 => .array .int
  | _ => .int
abbrev wsX70 : List Cond := u_ws RX7 TX7 4
theorem nmX7 : ∀ a, a < 4 → ∀ b, b < 4 → a ≠ b → (TX7 a).2.1 ≠ (TX7 b).2.1 := by decide +kernel
theorem tyX7_ok : ∀ k, k < 4 → parseFieldDescriptor (TX7 k).2.2.1 = some (tyX7 k) := by decide +kernel
abbrev cX7_init : ByteArray := prog_7_method_1_code
def yX7_init : MethodName := ⟨RX7, "<init>", "()V"⟩
abbrev cX7_find : ByteArray := prog_7_method_8_code
def yX7_find : MethodName := ⟨RX7, "find", "(LRescueHouse$House;II)V"⟩
abbrev cX7_measure : ByteArray := prog_7_method_5_code
def yX7_measure : MethodName := ⟨RX7, "measure", "(LRescueHouse$House;II)Z"⟩
abbrev cX7_other : ByteArray := prog_7_method_4_code
def yX7_other : MethodName := ⟨RX7, "other", "(LRescueHouse$House;II)I"⟩
abbrev cX7_room : ByteArray := prog_7_method_3_code
def yX7_room : MethodName := ⟨RX7, "room", "(LRescueHouse$House;II)I"⟩
abbrev cX7_capacity : ByteArray := prog_7_method_2_code
def yX7_capacity : MethodName := ⟨RX7, "capacity", "(LRescueHouse$House;I)I"⟩
abbrev cX7_next : ByteArray := prog_7_method_6_code
def yX7_next : MethodName := ⟨RX7, "next", "(LRescueHouse$House;I)I"⟩
abbrev cX7_push : ByteArray := prog_7_method_7_code
def yX7_push : MethodName := ⟨RX7, "push", "(LRescueHouse$House;III)V"⟩
abbrev cX7_dam : ByteArray := prog_7_method_10_code
def yX7_dam : MethodName := ⟨RX7, "dam", "(LRescueHouse$House;IILRescueHouse$Text;)V"⟩
abbrev cX7_reach : ByteArray := prog_7_method_9_code
def yX7_reach : MethodName := ⟨RX7, "reach", "(LRescueHouse$House;I)I"⟩
abbrev cX7_judge : ByteArray := prog_7_method_16_code
def yX7_judge : MethodName := ⟨RX7, "judge", "(LRescueHouse$House;IILRescueHouse$Reader;LRescueHouse$Text;)V"⟩
abbrev cX7_badStreet : ByteArray := prog_7_method_11_code
def yX7_badStreet : MethodName := ⟨RX7, "badStreet", "(LRescueHouse$House;LRescueHouse$Reader;)I"⟩
abbrev cX7_badPlace : ByteArray := prog_7_method_13_code
def yX7_badPlace : MethodName := ⟨RX7, "badPlace", "(LRescueHouse$House;II)I"⟩
abbrev cX7_out : ByteArray := prog_7_method_12_code
def yX7_out : MethodName := ⟨RX7, "out", "(LRescueHouse$House;I)I"⟩
abbrev cX7_inside : ByteArray := prog_7_method_14_code
def yX7_inside : MethodName := ⟨RX7, "inside", "(LRescueHouse$House;LRescueHouse$Reader;II)I"⟩
abbrev cX7_across : ByteArray := prog_7_method_15_code
def yX7_across : MethodName := ⟨RX7, "across", "(LRescueHouse$House;I)I"⟩
theorem q195 : (Jvm.Cond.initialized "RescueHouse$Flow") ∈ lw_all := lw_g (lw_at lw_m1 8 rfl) rfl
theorem q246 : (Jvm.Cond.fieldLinkNest "RescueHouse$Flow" (101 : Nat) "RescueHouse$Reader" "values" "[I" "RescueHouse") ∈ lw_tbl := lw_at lw_m1 59 rfl
theorem q258 : (Jvm.Cond.fieldLinkNest "RescueHouse$Flow" (112 : Nat) "RescueHouse$Reader" "told" "I" "RescueHouse") ∈ lw_tbl := lw_at lw_m1 71 rfl
theorem q265 : (Jvm.Cond.fieldLinkNest "RescueHouse$Flow" (109 : Nat) "RescueHouse$Reader" "flows" "I" "RescueHouse") ∈ lw_tbl := lw_at lw_m1 78 rfl
theorem q314 : (Jvm.Cond.fieldLinkNest "RescueHouse$Flow" (30 : Nat) "RescueHouse$House" "from" "[I" "RescueHouse") ∈ lw_tbl := lw_at lw_m1 127 rfl
theorem q316 : (Jvm.Cond.fieldLinkNest "RescueHouse$Flow" (37 : Nat) "RescueHouse$House" "to" "[I" "RescueHouse") ∈ lw_tbl := lw_at lw_m1 129 rfl
theorem q318 : (Jvm.Cond.fieldLinkNest "RescueHouse$Flow" (21 : Nat) "RescueHouse$House" "seconds" "[I" "RescueHouse") ∈ lw_tbl := lw_at lw_m1 131 rfl
theorem q321 : (Jvm.Cond.fieldLinkNest "RescueHouse$Flow" (40 : Nat) "RescueHouse$House" "lane" "[Z" "RescueHouse") ∈ lw_tbl := lw_at lw_m1 134 rfl
theorem q376 : (Jvm.Cond.fieldLinkNest "RescueHouse$Flow" (44 : Nat) "RescueHouse$House" "places" "I" "RescueHouse") ∈ lw_tbl := lw_at lw_m1 189 rfl
theorem q381 : (Jvm.Cond.fieldLinkNest "RescueHouse$Flow" (49 : Nat) "RescueHouse$House" "streets" "I" "RescueHouse") ∈ lw_tbl := lw_at lw_m1 194 rfl
theorem q544 : (Jvm.Cond.instantiable "RescueHouse$Flow" (4 : Nat)) ∈ lw_all := lw_g (lw_at lw_m2 117 rfl) rfl
theorem q546 : (Jvm.Cond.instanceMethod ({ cls := "RescueHouse$Flow", name := "<init>", desc := "()V" } : Jvm.MethodName)) ∈ lw_all := lw_g (lw_at lw_m2 119 rfl) rfl
theorem q547 : (Jvm.Cond.code ({ cls := "RescueHouse$Flow", name := "<init>", desc := "()V" } : Jvm.MethodName) prog_7_method_1_code (1 : Nat) (Option.none : Option Jvm.ClassFile.FieldType)) ∈ lw_all := lw_g (lw_at lw_m2 120 rfl) rfl
theorem q548 : (Jvm.Cond.methodLink "RescueHouse$Flow" (3 : Nat) ({ cls := "java/lang/Object", name := "<init>", desc := "()V" } : Jvm.MethodName)) ∈ lw_all := lw_g (lw_at lw_m2 121 rfl) rfl
theorem q549 : (Jvm.Cond.fieldLink "RescueHouse$Flow" (9 : Nat) "RescueHouse$Flow" "flow" "[I") ∈ lw_all := lw_g (lw_at lw_m2 122 rfl) rfl
theorem q550 : (Jvm.Cond.fieldLink "RescueHouse$Flow" (15 : Nat) "RescueHouse$Flow" "steps" "[I") ∈ lw_all := lw_g (lw_at lw_m2 123 rfl) rfl
theorem q551 : (Jvm.Cond.fieldLink "RescueHouse$Flow" (18 : Nat) "RescueHouse$Flow" "back" "[I") ∈ lw_all := lw_g (lw_at lw_m2 124 rfl) rfl
theorem q552 : (Jvm.Cond.fieldLink "RescueHouse$Flow" (59 : Nat) "RescueHouse$Flow" "value" "I") ∈ lw_all := lw_g (lw_at lw_m2 125 rfl) rfl
theorem q554 : (Jvm.Cond.laysFinal "RescueHouse$Flow" "RescueHouse$Flow" "flow" "[I") ∈ lw_all := lw_g (lw_at lw_m2 127 rfl) rfl
theorem q555 : (Jvm.Cond.soleField "RescueHouse$Flow" "flow") ∈ lw_all := lw_g (lw_at lw_m2 128 rfl) rfl
theorem q556 : (Jvm.Cond.laysFinal "RescueHouse$Flow" "RescueHouse$Flow" "steps" "[I") ∈ lw_all := lw_g (lw_at lw_m2 129 rfl) rfl
theorem q557 : (Jvm.Cond.soleField "RescueHouse$Flow" "steps") ∈ lw_all := lw_g (lw_at lw_m2 130 rfl) rfl
theorem q558 : (Jvm.Cond.laysFinal "RescueHouse$Flow" "RescueHouse$Flow" "back" "[I") ∈ lw_all := lw_g (lw_at lw_m2 131 rfl) rfl
theorem q559 : (Jvm.Cond.soleField "RescueHouse$Flow" "back") ∈ lw_all := lw_g (lw_at lw_m2 132 rfl) rfl
theorem q560 : (Jvm.Cond.lays "RescueHouse$Flow" "RescueHouse$Flow" "value" "I") ∈ lw_all := lw_g (lw_at lw_m2 133 rfl) rfl
theorem q561 : (Jvm.Cond.soleField "RescueHouse$Flow" "value") ∈ lw_all := lw_g (lw_at lw_m2 134 rfl) rfl
theorem q562 : (Jvm.Cond.superclass "RescueHouse$Flow" "java/lang/Object") ∈ lw_all := lw_g (lw_at lw_m2 135 rfl) rfl
theorem q1229 : (Jvm.Cond.instanceMethod ({ cls := "RescueHouse$Flow", name := "find", desc := "(LRescueHouse$House;II)V" } : Jvm.MethodName)) ∈ lw_all := lw_g (lw_at lw_m5 82 rfl) rfl
theorem q1230 : (Jvm.Cond.selects "RescueHouse$Flow" ({ cls := "RescueHouse$Flow", name := "find", desc := "(LRescueHouse$House;II)V" } : Jvm.MethodName) ({ cls := "RescueHouse$Flow", name := "find", desc := "(LRescueHouse$House;II)V" } : Jvm.MethodName)) ∈ lw_all := lw_g (lw_at lw_m5 83 rfl) rfl
theorem q1231 : (Jvm.Cond.code ({ cls := "RescueHouse$Flow", name := "find", desc := "(LRescueHouse$House;II)V" } : Jvm.MethodName) prog_7_method_8_code (8 : Nat) (Option.none : Option Jvm.ClassFile.FieldType)) ∈ lw_all := lw_g (lw_at lw_m5 84 rfl) rfl
theorem q1232 : (Jvm.Cond.methodLink "RescueHouse$Flow" (62 : Nat) ({ cls := "RescueHouse$Flow", name := "measure", desc := "(LRescueHouse$House;II)Z" } : Jvm.MethodName)) ∈ lw_all := lw_g (lw_at lw_m5 85 rfl) rfl
theorem q1233 : (Jvm.Cond.privateMethod ({ cls := "RescueHouse$Flow", name := "measure", desc := "(LRescueHouse$House;II)Z" } : Jvm.MethodName)) ∈ lw_tbl := lw_at lw_m5 86 rfl
theorem q1234 : (Jvm.Cond.instanceMethod ({ cls := "RescueHouse$Flow", name := "measure", desc := "(LRescueHouse$House;II)Z" } : Jvm.MethodName)) ∈ lw_all := lw_g (lw_at lw_m5 87 rfl) rfl
theorem q1235 : (Jvm.Cond.code ({ cls := "RescueHouse$Flow", name := "measure", desc := "(LRescueHouse$House;II)Z" } : Jvm.MethodName) prog_7_method_5_code (9 : Nat) (Option.some Jvm.ClassFile.FieldType.boolean)) ∈ lw_all := lw_g (lw_at lw_m5 88 rfl) rfl
theorem q1236 : (Jvm.Cond.constant "RescueHouse$Flow" (48 : Nat) (1000000 : Int32)) ∈ lw_all := lw_g (lw_at lw_m5 89 rfl) rfl
theorem q1237 : (Jvm.Cond.methodLink "RescueHouse$Flow" (52 : Nat) ({ cls := "RescueHouse$Flow", name := "other", desc := "(LRescueHouse$House;II)I" } : Jvm.MethodName)) ∈ lw_all := lw_g (lw_at lw_m5 90 rfl) rfl
theorem q1238 : (Jvm.Cond.static ({ cls := "RescueHouse$Flow", name := "other", desc := "(LRescueHouse$House;II)I" } : Jvm.MethodName)) ∈ lw_all := lw_g (lw_at lw_m5 91 rfl) rfl
theorem q1239 : (Jvm.Cond.code ({ cls := "RescueHouse$Flow", name := "other", desc := "(LRescueHouse$House;II)I" } : Jvm.MethodName) prog_7_method_4_code (3 : Nat) (Option.some Jvm.ClassFile.FieldType.int)) ∈ lw_all := lw_g (lw_at lw_m5 92 rfl) rfl
theorem q1240 : (Jvm.Cond.methodLink "RescueHouse$Flow" (56 : Nat) ({ cls := "RescueHouse$Flow", name := "room", desc := "(LRescueHouse$House;II)I" } : Jvm.MethodName)) ∈ lw_all := lw_g (lw_at lw_m5 93 rfl) rfl
theorem q1241 : (Jvm.Cond.privateMethod ({ cls := "RescueHouse$Flow", name := "room", desc := "(LRescueHouse$House;II)I" } : Jvm.MethodName)) ∈ lw_tbl := lw_at lw_m5 94 rfl
theorem q1242 : (Jvm.Cond.instanceMethod ({ cls := "RescueHouse$Flow", name := "room", desc := "(LRescueHouse$House;II)I" } : Jvm.MethodName)) ∈ lw_all := lw_g (lw_at lw_m5 95 rfl) rfl
theorem q1243 : (Jvm.Cond.code ({ cls := "RescueHouse$Flow", name := "room", desc := "(LRescueHouse$House;II)I" } : Jvm.MethodName) prog_7_method_3_code (4 : Nat) (Option.some Jvm.ClassFile.FieldType.int)) ∈ lw_all := lw_g (lw_at lw_m5 96 rfl) rfl
theorem q1244 : (Jvm.Cond.methodLink "RescueHouse$Flow" (26 : Nat) ({ cls := "RescueHouse$House", name := "isOpenStreet", desc := "(I)Z" } : Jvm.MethodName)) ∈ lw_all := lw_g (lw_at lw_m5 97 rfl) rfl
theorem q1245 : (Jvm.Cond.methodLink "RescueHouse$Flow" (33 : Nat) ({ cls := "RescueHouse$Flow", name := "capacity", desc := "(LRescueHouse$House;I)I" } : Jvm.MethodName)) ∈ lw_all := lw_g (lw_at lw_m5 98 rfl) rfl
theorem q1246 : (Jvm.Cond.static ({ cls := "RescueHouse$Flow", name := "capacity", desc := "(LRescueHouse$House;I)I" } : Jvm.MethodName)) ∈ lw_all := lw_g (lw_at lw_m5 99 rfl) rfl
theorem q1247 : (Jvm.Cond.code ({ cls := "RescueHouse$Flow", name := "capacity", desc := "(LRescueHouse$House;I)I" } : Jvm.MethodName) prog_7_method_2_code (2 : Nat) (Option.some Jvm.ClassFile.FieldType.int)) ∈ lw_all := lw_g (lw_at lw_m5 100 rfl) rfl
theorem q1248 : (Jvm.Cond.methodLink "RescueHouse$Flow" (66 : Nat) ({ cls := "RescueHouse$Flow", name := "next", desc := "(LRescueHouse$House;I)I" } : Jvm.MethodName)) ∈ lw_all := lw_g (lw_at lw_m5 101 rfl) rfl
theorem q1249 : (Jvm.Cond.privateMethod ({ cls := "RescueHouse$Flow", name := "next", desc := "(LRescueHouse$House;I)I" } : Jvm.MethodName)) ∈ lw_tbl := lw_at lw_m5 102 rfl
theorem q1250 : (Jvm.Cond.instanceMethod ({ cls := "RescueHouse$Flow", name := "next", desc := "(LRescueHouse$House;I)I" } : Jvm.MethodName)) ∈ lw_all := lw_g (lw_at lw_m5 103 rfl) rfl
theorem q1251 : (Jvm.Cond.code ({ cls := "RescueHouse$Flow", name := "next", desc := "(LRescueHouse$House;I)I" } : Jvm.MethodName) prog_7_method_6_code (4 : Nat) (Option.some Jvm.ClassFile.FieldType.int)) ∈ lw_all := lw_g (lw_at lw_m5 104 rfl) rfl
theorem q1252 : (Jvm.Cond.methodLink "RescueHouse$Flow" (69 : Nat) ({ cls := "java/lang/Math", name := "min", desc := "(II)I" } : Jvm.MethodName)) ∈ lw_all := lw_g (lw_at lw_m5 105 rfl) rfl
theorem q1253 : (Jvm.Cond.methodLink "RescueHouse$Flow" (75 : Nat) ({ cls := "RescueHouse$Flow", name := "push", desc := "(LRescueHouse$House;III)V" } : Jvm.MethodName)) ∈ lw_all := lw_g (lw_at lw_m5 106 rfl) rfl
theorem q1254 : (Jvm.Cond.privateMethod ({ cls := "RescueHouse$Flow", name := "push", desc := "(LRescueHouse$House;III)V" } : Jvm.MethodName)) ∈ lw_tbl := lw_at lw_m5 107 rfl
theorem q1255 : (Jvm.Cond.instanceMethod ({ cls := "RescueHouse$Flow", name := "push", desc := "(LRescueHouse$House;III)V" } : Jvm.MethodName)) ∈ lw_all := lw_g (lw_at lw_m5 108 rfl) rfl
theorem q1256 : (Jvm.Cond.code ({ cls := "RescueHouse$Flow", name := "push", desc := "(LRescueHouse$House;III)V" } : Jvm.MethodName) prog_7_method_7_code (5 : Nat) (Option.none : Option Jvm.ClassFile.FieldType)) ∈ lw_all := lw_g (lw_at lw_m5 109 rfl) rfl
theorem q1258 : (Jvm.Cond.instanceMethod ({ cls := "RescueHouse$Flow", name := "dam", desc := "(LRescueHouse$House;IILRescueHouse$Text;)V" } : Jvm.MethodName)) ∈ lw_all := lw_g (lw_at lw_m5 111 rfl) rfl
theorem q1259 : (Jvm.Cond.selects "RescueHouse$Flow" ({ cls := "RescueHouse$Flow", name := "dam", desc := "(LRescueHouse$House;IILRescueHouse$Text;)V" } : Jvm.MethodName) ({ cls := "RescueHouse$Flow", name := "dam", desc := "(LRescueHouse$House;IILRescueHouse$Text;)V" } : Jvm.MethodName)) ∈ lw_all := lw_g (lw_at lw_m5 112 rfl) rfl
theorem q1260 : (Jvm.Cond.code ({ cls := "RescueHouse$Flow", name := "dam", desc := "(LRescueHouse$House;IILRescueHouse$Text;)V" } : Jvm.MethodName) prog_7_method_10_code (7 : Nat) (Option.none : Option Jvm.ClassFile.FieldType)) ∈ lw_all := lw_g (lw_at lw_m5 113 rfl) rfl
theorem q1261 : (Jvm.Cond.methodLink "RescueHouse$Flow" (79 : Nat) ({ cls := "RescueHouse$Flow", name := "find", desc := "(LRescueHouse$House;II)V" } : Jvm.MethodName)) ∈ lw_all := lw_g (lw_at lw_m5 114 rfl) rfl
theorem q1262 : (Jvm.Cond.methodLink "RescueHouse$Flow" (83 : Nat) ({ cls := "RescueHouse$Text", name := "add", desc := "(I)V" } : Jvm.MethodName)) ∈ lw_all := lw_g (lw_at lw_m5 115 rfl) rfl
theorem q1263 : (Jvm.Cond.methodLink "RescueHouse$Flow" (89 : Nat) ({ cls := "RescueHouse$Text", name := "number", desc := "(I)V" } : Jvm.MethodName)) ∈ lw_all := lw_g (lw_at lw_m5 116 rfl) rfl
theorem q1264 : (Jvm.Cond.stringRef "RescueHouse$Flow" (92 : Nat) ";c") ∈ lw_tbl := lw_at lw_m5 117 rfl
theorem q1265 : (Jvm.Cond.methodLink "RescueHouse$Flow" (94 : Nat) ({ cls := "RescueHouse$Text", name := "say", desc := "(Ljava/lang/String;)V" } : Jvm.MethodName)) ∈ lw_all := lw_g (lw_at lw_m5 118 rfl) rfl
theorem q1266 : (Jvm.Cond.methodLink "RescueHouse$Flow" (98 : Nat) ({ cls := "RescueHouse$Flow", name := "reach", desc := "(LRescueHouse$House;I)I" } : Jvm.MethodName)) ∈ lw_all := lw_g (lw_at lw_m5 119 rfl) rfl
theorem q1267 : (Jvm.Cond.privateMethod ({ cls := "RescueHouse$Flow", name := "reach", desc := "(LRescueHouse$House;I)I" } : Jvm.MethodName)) ∈ lw_tbl := lw_at lw_m5 120 rfl
theorem q1268 : (Jvm.Cond.instanceMethod ({ cls := "RescueHouse$Flow", name := "reach", desc := "(LRescueHouse$House;I)I" } : Jvm.MethodName)) ∈ lw_all := lw_g (lw_at lw_m5 121 rfl) rfl
theorem q1269 : (Jvm.Cond.code ({ cls := "RescueHouse$Flow", name := "reach", desc := "(LRescueHouse$House;I)I" } : Jvm.MethodName) prog_7_method_9_code (9 : Nat) (Option.some Jvm.ClassFile.FieldType.int)) ∈ lw_all := lw_g (lw_at lw_m5 122 rfl) rfl
theorem q1271 : (Jvm.Cond.instanceMethod ({ cls := "RescueHouse$Flow", name := "judge", desc := "(LRescueHouse$House;IILRescueHouse$Reader;LRescueHouse$Text;)V" } : Jvm.MethodName)) ∈ lw_all := lw_g (lw_at lw_m5 124 rfl) rfl
theorem q1272 : (Jvm.Cond.selects "RescueHouse$Flow" ({ cls := "RescueHouse$Flow", name := "judge", desc := "(LRescueHouse$House;IILRescueHouse$Reader;LRescueHouse$Text;)V" } : Jvm.MethodName) ({ cls := "RescueHouse$Flow", name := "judge", desc := "(LRescueHouse$House;IILRescueHouse$Reader;LRescueHouse$Text;)V" } : Jvm.MethodName)) ∈ lw_all := lw_g (lw_at lw_m5 125 rfl) rfl
theorem q1273 : (Jvm.Cond.code ({ cls := "RescueHouse$Flow", name := "judge", desc := "(LRescueHouse$House;IILRescueHouse$Reader;LRescueHouse$Text;)V" } : Jvm.MethodName) prog_7_method_16_code (10 : Nat) (Option.none : Option Jvm.ClassFile.FieldType)) ∈ lw_all := lw_g (lw_at lw_m5 126 rfl) rfl
theorem q1274 : (Jvm.Cond.stringRef "RescueHouse$Flow" (118 : Nat) "bad f") ∈ lw_tbl := lw_at lw_m5 127 rfl
theorem q1275 : (Jvm.Cond.methodLink "RescueHouse$Flow" (120 : Nat) ({ cls := "RescueHouse$Flow", name := "badStreet", desc := "(LRescueHouse$House;LRescueHouse$Reader;)I" } : Jvm.MethodName)) ∈ lw_all := lw_g (lw_at lw_m5 128 rfl) rfl
theorem q1276 : (Jvm.Cond.privateMethod ({ cls := "RescueHouse$Flow", name := "badStreet", desc := "(LRescueHouse$House;LRescueHouse$Reader;)I" } : Jvm.MethodName)) ∈ lw_tbl := lw_at lw_m5 129 rfl
theorem q1277 : (Jvm.Cond.instanceMethod ({ cls := "RescueHouse$Flow", name := "badStreet", desc := "(LRescueHouse$House;LRescueHouse$Reader;)I" } : Jvm.MethodName)) ∈ lw_all := lw_g (lw_at lw_m5 130 rfl) rfl
theorem q1278 : (Jvm.Cond.code ({ cls := "RescueHouse$Flow", name := "badStreet", desc := "(LRescueHouse$House;LRescueHouse$Reader;)I" } : Jvm.MethodName) prog_7_method_11_code (6 : Nat) (Option.some Jvm.ClassFile.FieldType.int)) ∈ lw_all := lw_g (lw_at lw_m5 131 rfl) rfl
theorem q1279 : (Jvm.Cond.methodLink "RescueHouse$Flow" (124 : Nat) ({ cls := "RescueHouse$Flow", name := "badPlace", desc := "(LRescueHouse$House;II)I" } : Jvm.MethodName)) ∈ lw_all := lw_g (lw_at lw_m5 132 rfl) rfl
theorem q1280 : (Jvm.Cond.privateMethod ({ cls := "RescueHouse$Flow", name := "badPlace", desc := "(LRescueHouse$House;II)I" } : Jvm.MethodName)) ∈ lw_tbl := lw_at lw_m5 133 rfl
theorem q1281 : (Jvm.Cond.instanceMethod ({ cls := "RescueHouse$Flow", name := "badPlace", desc := "(LRescueHouse$House;II)I" } : Jvm.MethodName)) ∈ lw_all := lw_g (lw_at lw_m5 134 rfl) rfl
theorem q1282 : (Jvm.Cond.code ({ cls := "RescueHouse$Flow", name := "badPlace", desc := "(LRescueHouse$House;II)I" } : Jvm.MethodName) prog_7_method_13_code (5 : Nat) (Option.some Jvm.ClassFile.FieldType.int)) ∈ lw_all := lw_g (lw_at lw_m5 135 rfl) rfl
theorem q1283 : (Jvm.Cond.methodLink "RescueHouse$Flow" (106 : Nat) ({ cls := "RescueHouse$Flow", name := "out", desc := "(LRescueHouse$House;I)I" } : Jvm.MethodName)) ∈ lw_all := lw_g (lw_at lw_m5 136 rfl) rfl
theorem q1284 : (Jvm.Cond.privateMethod ({ cls := "RescueHouse$Flow", name := "out", desc := "(LRescueHouse$House;I)I" } : Jvm.MethodName)) ∈ lw_tbl := lw_at lw_m5 137 rfl
theorem q1285 : (Jvm.Cond.instanceMethod ({ cls := "RescueHouse$Flow", name := "out", desc := "(LRescueHouse$House;I)I" } : Jvm.MethodName)) ∈ lw_all := lw_g (lw_at lw_m5 138 rfl) rfl
theorem q1286 : (Jvm.Cond.code ({ cls := "RescueHouse$Flow", name := "out", desc := "(LRescueHouse$House;I)I" } : Jvm.MethodName) prog_7_method_12_code (5 : Nat) (Option.some Jvm.ClassFile.FieldType.int)) ∈ lw_all := lw_g (lw_at lw_m5 139 rfl) rfl
theorem q1287 : (Jvm.Cond.stringRef "RescueHouse$Flow" (127 : Nat) "bad street ") ∈ lw_tbl := lw_at lw_m5 140 rfl
theorem q1288 : (Jvm.Cond.stringRef "RescueHouse$Flow" (129 : Nat) "bad place ") ∈ lw_tbl := lw_at lw_m5 141 rfl
theorem q1289 : (Jvm.Cond.methodLink "RescueHouse$Flow" (131 : Nat) ({ cls := "RescueHouse$Flow", name := "inside", desc := "(LRescueHouse$House;LRescueHouse$Reader;II)I" } : Jvm.MethodName)) ∈ lw_all := lw_g (lw_at lw_m5 142 rfl) rfl
theorem q1290 : (Jvm.Cond.static ({ cls := "RescueHouse$Flow", name := "inside", desc := "(LRescueHouse$House;LRescueHouse$Reader;II)I" } : Jvm.MethodName)) ∈ lw_all := lw_g (lw_at lw_m5 143 rfl) rfl
theorem q1291 : (Jvm.Cond.code ({ cls := "RescueHouse$Flow", name := "inside", desc := "(LRescueHouse$House;LRescueHouse$Reader;II)I" } : Jvm.MethodName) prog_7_method_14_code (8 : Nat) (Option.some Jvm.ClassFile.FieldType.int)) ∈ lw_all := lw_g (lw_at lw_m5 144 rfl) rfl
theorem q1292 : (Jvm.Cond.methodLink "RescueHouse$Flow" (115 : Nat) ({ cls := "RescueHouse$House", name := "isPlace", desc := "(I)Z" } : Jvm.MethodName)) ∈ lw_all := lw_g (lw_at lw_m5 145 rfl) rfl
theorem q1293 : (Jvm.Cond.stringRef "RescueHouse$Flow" (135 : Nat) "bad c") ∈ lw_tbl := lw_at lw_m5 146 rfl
theorem q1294 : (Jvm.Cond.methodLink "RescueHouse$Flow" (137 : Nat) ({ cls := "RescueHouse$Flow", name := "across", desc := "(LRescueHouse$House;I)I" } : Jvm.MethodName)) ∈ lw_all := lw_g (lw_at lw_m5 147 rfl) rfl
theorem q1295 : (Jvm.Cond.static ({ cls := "RescueHouse$Flow", name := "across", desc := "(LRescueHouse$House;I)I" } : Jvm.MethodName)) ∈ lw_all := lw_g (lw_at lw_m5 148 rfl) rfl
theorem q1296 : (Jvm.Cond.code ({ cls := "RescueHouse$Flow", name := "across", desc := "(LRescueHouse$House;I)I" } : Jvm.MethodName) prog_7_method_15_code (6 : Nat) (Option.some Jvm.ClassFile.FieldType.int)) ∈ lw_all := lw_g (lw_at lw_m5 149 rfl) rfl
theorem q1297 : (Jvm.Cond.stringRef "RescueHouse$Flow" (140 : Nat) "bad value") ∈ lw_tbl := lw_at lw_m5 150 rfl
theorem q1298 : (Jvm.Cond.stringRef "RescueHouse$Flow" (142 : Nat) "flow ") ∈ lw_tbl := lw_at lw_m5 151 rfl
theorem in_X7 : ∀ w ∈ wsX70, w ∈ lw_all := lw_in wsX70 [554, 556, 558, 560] (by decide +kernel) (by decide +kernel)

/-! RescueHouse$Planner -/
set_option maxRecDepth 100000
def RX8 : String := "RescueHouse$Planner"
def TX8 : u_T := fun k => match k with
  | 0 => ("RescueHouse$Planner", "free", "[I", true)
  | 1 => ("RescueHouse$Planner", "waiting", "[I", true)
  | 2 => ("RescueHouse$Planner", "worth", "[I", true)
  | 3 => ("RescueHouse$Planner", "table", "[I", true)
  | 4 => ("RescueHouse$Planner", "pair", "[I", true)
  | 5 => ("RescueHouse$Planner", "dual", "[I", true)
  | 6 => ("RescueHouse$Planner", "units", "I", false)
  | 7 => ("RescueHouse$Planner", "calls", "I", false)
  | 8 => ("RescueHouse$Planner", "ranks", "I", false)
  | _ => ("RescueHouse$Planner", "seconds", "I", false)
def tyX8 : Nat → FieldType := fun k => match k with
  | 0 => .array .int
  | 1 => .array .int
  | 2 => .array .int
  | 3 => .array .int
  | 4 => .array .int
  | 5 => .array .int
  | 6 => .int
  | 7 => .int
  | 8 => .int
  | _ => .int
abbrev wsX80 : List Cond := u_ws RX8 TX8 10
theorem nmX8 : ∀ a, a < 10 → ∀ b, b < 10 → a ≠ b → (TX8 a).2.1 ≠ (TX8 b).2.1 := by decide +kernel
theorem tyX8_ok : ∀ k, k < 10 → parseFieldDescriptor (TX8 k).2.2.1 = some (tyX8 k) := by decide +kernel
abbrev cX8_init : ByteArray := prog_9_method_1_code
def yX8_init : MethodName := ⟨RX8, "<init>", "()V"⟩
abbrev cX8_plan : ByteArray := prog_9_method_5_code
def yX8_plan : MethodName := ⟨RX8, "plan", "(LRescueHouse$House;Z)V"⟩
abbrev cX8_look : ByteArray := prog_9_method_2_code
def yX8_look : MethodName := ⟨RX8, "look", "(LRescueHouse$House;)V"⟩
abbrev cX8_fill : ByteArray := prog_9_method_3_code
def yX8_fill : MethodName := ⟨RX8, "fill", "(I)I"⟩
abbrev cX8_choose : ByteArray := prog_9_method_4_code
def yX8_choose : MethodName := ⟨RX8, "choose", "(II)I"⟩
abbrev cX8_tell : ByteArray := prog_9_method_6_code
def yX8_tell : MethodName := ⟨RX8, "tell", "(LRescueHouse$House;LRescueHouse$Text;)V"⟩
abbrev cX8_send : ByteArray := prog_9_method_7_code
def yX8_send : MethodName := ⟨RX8, "send", "(LRescueHouse$House;)V"⟩
abbrev cX8_prove : ByteArray := prog_9_method_9_code
def yX8_prove : MethodName := ⟨RX8, "prove", "(LRescueHouse$House;LRescueHouse$Text;)V"⟩
abbrev cX8_dualOf : ByteArray := prog_9_method_8_code
def yX8_dualOf : MethodName := ⟨RX8, "dualOf", "(I)I"⟩
theorem q196 : (Jvm.Cond.initialized "RescueHouse$Planner") ∈ lw_all := lw_g (lw_at lw_m1 9 rfl) rfl
theorem q357 : (Jvm.Cond.fieldLinkNest "RescueHouse$Planner" (48 : Nat) "RescueHouse$House" "callPlace" "[I" "RescueHouse") ∈ lw_tbl := lw_at lw_m1 170 rfl
theorem q364 : (Jvm.Cond.fieldLinkNest "RescueHouse$Planner" (60 : Nat) "RescueHouse$House" "callRank" "[I" "RescueHouse") ∈ lw_tbl := lw_at lw_m1 177 rfl
theorem q377 : (Jvm.Cond.fieldLinkNest "RescueHouse$Planner" (111 : Nat) "RescueHouse$House" "places" "I" "RescueHouse") ∈ lw_tbl := lw_at lw_m1 190 rfl
theorem q384 : (Jvm.Cond.fieldLinkNest "RescueHouse$Planner" (37 : Nat) "RescueHouse$House" "units" "I" "RescueHouse") ∈ lw_tbl := lw_at lw_m1 197 rfl
theorem q389 : (Jvm.Cond.fieldLinkNest "RescueHouse$Planner" (44 : Nat) "RescueHouse$House" "calls" "I" "RescueHouse") ∈ lw_tbl := lw_at lw_m1 202 rfl
theorem q565 : (Jvm.Cond.instantiable "RescueHouse$Planner" (10 : Nat)) ∈ lw_all := lw_g (lw_at lw_m2 138 rfl) rfl
theorem q567 : (Jvm.Cond.instanceMethod ({ cls := "RescueHouse$Planner", name := "<init>", desc := "()V" } : Jvm.MethodName)) ∈ lw_all := lw_g (lw_at lw_m2 140 rfl) rfl
theorem q568 : (Jvm.Cond.code ({ cls := "RescueHouse$Planner", name := "<init>", desc := "()V" } : Jvm.MethodName) prog_9_method_1_code (1 : Nat) (Option.none : Option Jvm.ClassFile.FieldType)) ∈ lw_all := lw_g (lw_at lw_m2 141 rfl) rfl
theorem q569 : (Jvm.Cond.methodLink "RescueHouse$Planner" (3 : Nat) ({ cls := "java/lang/Object", name := "<init>", desc := "()V" } : Jvm.MethodName)) ∈ lw_all := lw_g (lw_at lw_m2 142 rfl) rfl
theorem q570 : (Jvm.Cond.fieldLink "RescueHouse$Planner" (9 : Nat) "RescueHouse$Planner" "free" "[I") ∈ lw_all := lw_g (lw_at lw_m2 143 rfl) rfl
theorem q571 : (Jvm.Cond.fieldLink "RescueHouse$Planner" (15 : Nat) "RescueHouse$Planner" "waiting" "[I") ∈ lw_all := lw_g (lw_at lw_m2 144 rfl) rfl
theorem q572 : (Jvm.Cond.fieldLink "RescueHouse$Planner" (18 : Nat) "RescueHouse$Planner" "worth" "[I") ∈ lw_all := lw_g (lw_at lw_m2 145 rfl) rfl
theorem q573 : (Jvm.Cond.fieldLink "RescueHouse$Planner" (21 : Nat) "RescueHouse$Planner" "table" "[I") ∈ lw_all := lw_g (lw_at lw_m2 146 rfl) rfl
theorem q574 : (Jvm.Cond.fieldLink "RescueHouse$Planner" (24 : Nat) "RescueHouse$Planner" "pair" "[I") ∈ lw_all := lw_g (lw_at lw_m2 147 rfl) rfl
theorem q575 : (Jvm.Cond.fieldLink "RescueHouse$Planner" (27 : Nat) "RescueHouse$Planner" "dual" "[I") ∈ lw_all := lw_g (lw_at lw_m2 148 rfl) rfl
theorem q576 : (Jvm.Cond.fieldLink "RescueHouse$Planner" (30 : Nat) "RescueHouse$Planner" "units" "I") ∈ lw_all := lw_g (lw_at lw_m2 149 rfl) rfl
theorem q577 : (Jvm.Cond.fieldLink "RescueHouse$Planner" (34 : Nat) "RescueHouse$Planner" "calls" "I") ∈ lw_all := lw_g (lw_at lw_m2 150 rfl) rfl
theorem q578 : (Jvm.Cond.fieldLink "RescueHouse$Planner" (76 : Nat) "RescueHouse$Planner" "ranks" "I") ∈ lw_all := lw_g (lw_at lw_m2 151 rfl) rfl
theorem q579 : (Jvm.Cond.fieldLink "RescueHouse$Planner" (79 : Nat) "RescueHouse$Planner" "seconds" "I") ∈ lw_all := lw_g (lw_at lw_m2 152 rfl) rfl
theorem q580 : (Jvm.Cond.laysFinal "RescueHouse$Planner" "RescueHouse$Planner" "free" "[I") ∈ lw_all := lw_g (lw_at lw_m2 153 rfl) rfl
theorem q581 : (Jvm.Cond.soleField "RescueHouse$Planner" "free") ∈ lw_all := lw_g (lw_at lw_m2 154 rfl) rfl
theorem q582 : (Jvm.Cond.laysFinal "RescueHouse$Planner" "RescueHouse$Planner" "waiting" "[I") ∈ lw_all := lw_g (lw_at lw_m2 155 rfl) rfl
theorem q583 : (Jvm.Cond.soleField "RescueHouse$Planner" "waiting") ∈ lw_all := lw_g (lw_at lw_m2 156 rfl) rfl
theorem q584 : (Jvm.Cond.laysFinal "RescueHouse$Planner" "RescueHouse$Planner" "worth" "[I") ∈ lw_all := lw_g (lw_at lw_m2 157 rfl) rfl
theorem q585 : (Jvm.Cond.soleField "RescueHouse$Planner" "worth") ∈ lw_all := lw_g (lw_at lw_m2 158 rfl) rfl
theorem q586 : (Jvm.Cond.laysFinal "RescueHouse$Planner" "RescueHouse$Planner" "table" "[I") ∈ lw_all := lw_g (lw_at lw_m2 159 rfl) rfl
theorem q587 : (Jvm.Cond.soleField "RescueHouse$Planner" "table") ∈ lw_all := lw_g (lw_at lw_m2 160 rfl) rfl
theorem q588 : (Jvm.Cond.laysFinal "RescueHouse$Planner" "RescueHouse$Planner" "pair" "[I") ∈ lw_all := lw_g (lw_at lw_m2 161 rfl) rfl
theorem q589 : (Jvm.Cond.soleField "RescueHouse$Planner" "pair") ∈ lw_all := lw_g (lw_at lw_m2 162 rfl) rfl
theorem q590 : (Jvm.Cond.laysFinal "RescueHouse$Planner" "RescueHouse$Planner" "dual" "[I") ∈ lw_all := lw_g (lw_at lw_m2 163 rfl) rfl
theorem q591 : (Jvm.Cond.soleField "RescueHouse$Planner" "dual") ∈ lw_all := lw_g (lw_at lw_m2 164 rfl) rfl
theorem q592 : (Jvm.Cond.lays "RescueHouse$Planner" "RescueHouse$Planner" "units" "I") ∈ lw_all := lw_g (lw_at lw_m2 165 rfl) rfl
theorem q593 : (Jvm.Cond.soleField "RescueHouse$Planner" "units") ∈ lw_all := lw_g (lw_at lw_m2 166 rfl) rfl
theorem q594 : (Jvm.Cond.lays "RescueHouse$Planner" "RescueHouse$Planner" "calls" "I") ∈ lw_all := lw_g (lw_at lw_m2 167 rfl) rfl
theorem q595 : (Jvm.Cond.soleField "RescueHouse$Planner" "calls") ∈ lw_all := lw_g (lw_at lw_m2 168 rfl) rfl
theorem q596 : (Jvm.Cond.lays "RescueHouse$Planner" "RescueHouse$Planner" "ranks" "I") ∈ lw_all := lw_g (lw_at lw_m2 169 rfl) rfl
theorem q597 : (Jvm.Cond.soleField "RescueHouse$Planner" "ranks") ∈ lw_all := lw_g (lw_at lw_m2 170 rfl) rfl
theorem q598 : (Jvm.Cond.lays "RescueHouse$Planner" "RescueHouse$Planner" "seconds" "I") ∈ lw_all := lw_g (lw_at lw_m2 171 rfl) rfl
theorem q599 : (Jvm.Cond.soleField "RescueHouse$Planner" "seconds") ∈ lw_all := lw_g (lw_at lw_m2 172 rfl) rfl
theorem q600 : (Jvm.Cond.superclass "RescueHouse$Planner" "java/lang/Object") ∈ lw_all := lw_g (lw_at lw_m2 173 rfl) rfl
theorem q1100 : (Jvm.Cond.instanceMethod ({ cls := "RescueHouse$Planner", name := "plan", desc := "(LRescueHouse$House;Z)V" } : Jvm.MethodName)) ∈ lw_all := lw_g (lw_at lw_m4 193 rfl) rfl
theorem q1101 : (Jvm.Cond.selects "RescueHouse$Planner" ({ cls := "RescueHouse$Planner", name := "plan", desc := "(LRescueHouse$House;Z)V" } : Jvm.MethodName) ({ cls := "RescueHouse$Planner", name := "plan", desc := "(LRescueHouse$House;Z)V" } : Jvm.MethodName)) ∈ lw_all := lw_g (lw_at lw_m4 194 rfl) rfl
theorem q1102 : (Jvm.Cond.code ({ cls := "RescueHouse$Planner", name := "plan", desc := "(LRescueHouse$House;Z)V" } : Jvm.MethodName) prog_9_method_5_code (6 : Nat) (Option.none : Option Jvm.ClassFile.FieldType)) ∈ lw_all := lw_g (lw_at lw_m4 195 rfl) rfl
theorem q1103 : (Jvm.Cond.methodLink "RescueHouse$Planner" (68 : Nat) ({ cls := "RescueHouse$Planner", name := "look", desc := "(LRescueHouse$House;)V" } : Jvm.MethodName)) ∈ lw_all := lw_g (lw_at lw_m4 196 rfl) rfl
theorem q1104 : (Jvm.Cond.privateMethod ({ cls := "RescueHouse$Planner", name := "look", desc := "(LRescueHouse$House;)V" } : Jvm.MethodName)) ∈ lw_tbl := lw_at lw_m4 197 rfl
theorem q1105 : (Jvm.Cond.instanceMethod ({ cls := "RescueHouse$Planner", name := "look", desc := "(LRescueHouse$House;)V" } : Jvm.MethodName)) ∈ lw_all := lw_g (lw_at lw_m4 198 rfl) rfl
theorem q1106 : (Jvm.Cond.code ({ cls := "RescueHouse$Planner", name := "look", desc := "(LRescueHouse$House;)V" } : Jvm.MethodName) prog_9_method_2_code (5 : Nat) (Option.none : Option Jvm.ClassFile.FieldType)) ∈ lw_all := lw_g (lw_at lw_m4 199 rfl) rfl
theorem q1107 : (Jvm.Cond.methodLink "RescueHouse$Planner" (40 : Nat) ({ cls := "RescueHouse$House", name := "isFree", desc := "(I)Z" } : Jvm.MethodName)) ∈ lw_all := lw_g (lw_at lw_m4 200 rfl) rfl
theorem q1108 : (Jvm.Cond.methodLink "RescueHouse$Planner" (45 : Nat) ({ cls := "RescueHouse$House", name := "waits", desc := "(I)Z" } : Jvm.MethodName)) ∈ lw_all := lw_g (lw_at lw_m4 201 rfl) rfl
theorem q1109 : (Jvm.Cond.methodLink "RescueHouse$Planner" (51 : Nat) ({ cls := "RescueHouse$House", name := "way", desc := "(II)I" } : Jvm.MethodName)) ∈ lw_all := lw_g (lw_at lw_m4 202 rfl) rfl
theorem q1110 : (Jvm.Cond.methodLink "RescueHouse$Planner" (55 : Nat) ({ cls := "RescueHouse$House", name := "has", desc := "(II)Z" } : Jvm.MethodName)) ∈ lw_all := lw_g (lw_at lw_m4 203 rfl) rfl
theorem q1111 : (Jvm.Cond.constant "RescueHouse$Planner" (59 : Nat) (1000000 : Int32)) ∈ lw_all := lw_g (lw_at lw_m4 204 rfl) rfl
theorem q1112 : (Jvm.Cond.methodLink "RescueHouse$Planner" (72 : Nat) ({ cls := "RescueHouse$Planner", name := "fill", desc := "(I)I" } : Jvm.MethodName)) ∈ lw_all := lw_g (lw_at lw_m4 205 rfl) rfl
theorem q1113 : (Jvm.Cond.privateMethod ({ cls := "RescueHouse$Planner", name := "fill", desc := "(I)I" } : Jvm.MethodName)) ∈ lw_tbl := lw_at lw_m4 206 rfl
theorem q1114 : (Jvm.Cond.instanceMethod ({ cls := "RescueHouse$Planner", name := "fill", desc := "(I)I" } : Jvm.MethodName)) ∈ lw_all := lw_g (lw_at lw_m4 207 rfl) rfl
theorem q1115 : (Jvm.Cond.code ({ cls := "RescueHouse$Planner", name := "fill", desc := "(I)I" } : Jvm.MethodName) prog_9_method_3_code (7 : Nat) (Option.some Jvm.ClassFile.FieldType.int)) ∈ lw_all := lw_g (lw_at lw_m4 208 rfl) rfl
theorem q1116 : (Jvm.Cond.methodLink "RescueHouse$Planner" (63 : Nat) ({ cls := "java/lang/Math", name := "max", desc := "(II)I" } : Jvm.MethodName)) ∈ lw_all := lw_g (lw_at lw_m4 209 rfl) rfl
theorem q1117 : (Jvm.Cond.methodLink "RescueHouse$Planner" (82 : Nat) ({ cls := "RescueHouse$Planner", name := "choose", desc := "(II)I" } : Jvm.MethodName)) ∈ lw_all := lw_g (lw_at lw_m4 210 rfl) rfl
theorem q1118 : (Jvm.Cond.privateMethod ({ cls := "RescueHouse$Planner", name := "choose", desc := "(II)I" } : Jvm.MethodName)) ∈ lw_tbl := lw_at lw_m4 211 rfl
theorem q1119 : (Jvm.Cond.instanceMethod ({ cls := "RescueHouse$Planner", name := "choose", desc := "(II)I" } : Jvm.MethodName)) ∈ lw_all := lw_g (lw_at lw_m4 212 rfl) rfl
theorem q1120 : (Jvm.Cond.code ({ cls := "RescueHouse$Planner", name := "choose", desc := "(II)I" } : Jvm.MethodName) prog_9_method_4_code (5 : Nat) (Option.some Jvm.ClassFile.FieldType.int)) ∈ lw_all := lw_g (lw_at lw_m4 213 rfl) rfl
theorem q1122 : (Jvm.Cond.instanceMethod ({ cls := "RescueHouse$Planner", name := "tell", desc := "(LRescueHouse$House;LRescueHouse$Text;)V" } : Jvm.MethodName)) ∈ lw_all := lw_g (lw_at lw_m4 215 rfl) rfl
theorem q1123 : (Jvm.Cond.selects "RescueHouse$Planner" ({ cls := "RescueHouse$Planner", name := "tell", desc := "(LRescueHouse$House;LRescueHouse$Text;)V" } : Jvm.MethodName) ({ cls := "RescueHouse$Planner", name := "tell", desc := "(LRescueHouse$House;LRescueHouse$Text;)V" } : Jvm.MethodName)) ∈ lw_all := lw_g (lw_at lw_m4 216 rfl) rfl
theorem q1124 : (Jvm.Cond.code ({ cls := "RescueHouse$Planner", name := "tell", desc := "(LRescueHouse$House;LRescueHouse$Text;)V" } : Jvm.MethodName) prog_9_method_6_code (4 : Nat) (Option.none : Option Jvm.ClassFile.FieldType)) ∈ lw_all := lw_g (lw_at lw_m4 217 rfl) rfl
theorem q1125 : (Jvm.Cond.methodLink "RescueHouse$Planner" (85 : Nat) ({ cls := "RescueHouse$Text", name := "number", desc := "(I)V" } : Jvm.MethodName)) ∈ lw_all := lw_g (lw_at lw_m4 218 rfl) rfl
theorem q1126 : (Jvm.Cond.methodLink "RescueHouse$Planner" (91 : Nat) ({ cls := "RescueHouse$Text", name := "add", desc := "(I)V" } : Jvm.MethodName)) ∈ lw_all := lw_g (lw_at lw_m4 219 rfl) rfl
theorem q1127 : (Jvm.Cond.methodLink "RescueHouse$Planner" (94 : Nat) ({ cls := "RescueHouse$Text", name := "numbers", desc := "(II)V" } : Jvm.MethodName)) ∈ lw_all := lw_g (lw_at lw_m4 220 rfl) rfl
theorem q1133 : (Jvm.Cond.instanceMethod ({ cls := "RescueHouse$Planner", name := "send", desc := "(LRescueHouse$House;)V" } : Jvm.MethodName)) ∈ lw_all := lw_g (lw_at lw_m4 226 rfl) rfl
theorem q1134 : (Jvm.Cond.selects "RescueHouse$Planner" ({ cls := "RescueHouse$Planner", name := "send", desc := "(LRescueHouse$House;)V" } : Jvm.MethodName) ({ cls := "RescueHouse$Planner", name := "send", desc := "(LRescueHouse$House;)V" } : Jvm.MethodName)) ∈ lw_all := lw_g (lw_at lw_m4 227 rfl) rfl
theorem q1135 : (Jvm.Cond.code ({ cls := "RescueHouse$Planner", name := "send", desc := "(LRescueHouse$House;)V" } : Jvm.MethodName) prog_9_method_7_code (3 : Nat) (Option.none : Option Jvm.ClassFile.FieldType)) ∈ lw_all := lw_g (lw_at lw_m4 228 rfl) rfl
theorem q1136 : (Jvm.Cond.methodLink "RescueHouse$Planner" (98 : Nat) ({ cls := "RescueHouse$House", name := "sends", desc := "(II)V" } : Jvm.MethodName)) ∈ lw_all := lw_g (lw_at lw_m4 229 rfl) rfl
theorem q1343 : (Jvm.Cond.instanceMethod ({ cls := "RescueHouse$Planner", name := "prove", desc := "(LRescueHouse$House;LRescueHouse$Text;)V" } : Jvm.MethodName)) ∈ lw_all := lw_g (lw_at lw_m5 196 rfl) rfl
theorem q1344 : (Jvm.Cond.selects "RescueHouse$Planner" ({ cls := "RescueHouse$Planner", name := "prove", desc := "(LRescueHouse$House;LRescueHouse$Text;)V" } : Jvm.MethodName) ({ cls := "RescueHouse$Planner", name := "prove", desc := "(LRescueHouse$House;LRescueHouse$Text;)V" } : Jvm.MethodName)) ∈ lw_all := lw_g (lw_at lw_m5 197 rfl) rfl
theorem q1345 : (Jvm.Cond.code ({ cls := "RescueHouse$Planner", name := "prove", desc := "(LRescueHouse$House;LRescueHouse$Text;)V" } : Jvm.MethodName) prog_9_method_9_code (5 : Nat) (Option.none : Option Jvm.ClassFile.FieldType)) ∈ lw_all := lw_g (lw_at lw_m5 198 rfl) rfl
theorem q1346 : (Jvm.Cond.methodLink "RescueHouse$Planner" (101 : Nat) ({ cls := "RescueHouse$Planner", name := "plan", desc := "(LRescueHouse$House;Z)V" } : Jvm.MethodName)) ∈ lw_all := lw_g (lw_at lw_m5 199 rfl) rfl
theorem q1347 : (Jvm.Cond.stringRef "RescueHouse$Planner" (105 : Nat) "p ") ∈ lw_tbl := lw_at lw_m5 200 rfl
theorem q1348 : (Jvm.Cond.methodLink "RescueHouse$Planner" (107 : Nat) ({ cls := "RescueHouse$Text", name := "say", desc := "(Ljava/lang/String;)V" } : Jvm.MethodName)) ∈ lw_all := lw_g (lw_at lw_m5 201 rfl) rfl
theorem q1349 : (Jvm.Cond.methodLink "RescueHouse$Planner" (114 : Nat) ({ cls := "RescueHouse$Text", name := "told", desc := "(I)V" } : Jvm.MethodName)) ∈ lw_all := lw_g (lw_at lw_m5 202 rfl) rfl
theorem q1350 : (Jvm.Cond.stringRef "RescueHouse$Planner" (117 : Nat) "s ") ∈ lw_tbl := lw_at lw_m5 203 rfl
theorem q1351 : (Jvm.Cond.methodLink "RescueHouse$Planner" (119 : Nat) ({ cls := "RescueHouse$Planner", name := "dualOf", desc := "(I)I" } : Jvm.MethodName)) ∈ lw_all := lw_g (lw_at lw_m5 204 rfl) rfl
theorem q1352 : (Jvm.Cond.privateMethod ({ cls := "RescueHouse$Planner", name := "dualOf", desc := "(I)I" } : Jvm.MethodName)) ∈ lw_tbl := lw_at lw_m5 205 rfl
theorem q1353 : (Jvm.Cond.instanceMethod ({ cls := "RescueHouse$Planner", name := "dualOf", desc := "(I)I" } : Jvm.MethodName)) ∈ lw_all := lw_g (lw_at lw_m5 206 rfl) rfl
theorem q1354 : (Jvm.Cond.code ({ cls := "RescueHouse$Planner", name := "dualOf", desc := "(I)I" } : Jvm.MethodName) prog_9_method_8_code (3 : Nat) (Option.some Jvm.ClassFile.FieldType.int)) ∈ lw_all := lw_g (lw_at lw_m5 207 rfl) rfl
theorem q1355 : (Jvm.Cond.stringRef "RescueHouse$Planner" (122 : Nat) ";c") ∈ lw_tbl := lw_at lw_m5 208 rfl
theorem in_X8 : ∀ w ∈ wsX80, w ∈ lw_all := lw_in wsX80 [580, 582, 584, 586, 588, 590, 592, 594, 596, 598] (by decide +kernel) (by decide +kernel)

/-! RescueHouse$Checker -/
set_option maxRecDepth 100000
def RX9 : String := "RescueHouse$Checker"
def TX9 : u_T := fun k => match k with
  | 0 => ("RescueHouse$Checker", "told", "[I", true)
  | 1 => ("RescueHouse$Checker", "pairUnit", "[I", true)
  | 2 => ("RescueHouse$Checker", "taken", "[Z", true)
  | 3 => ("RescueHouse$Checker", "latest", "I", false)
  | 4 => ("RescueHouse$Checker", "ranks", "I", false)
  | 5 => ("RescueHouse$Checker", "seconds", "I", false)
  | 6 => ("RescueHouse$Checker", "proof", "LRescueHouse$Reader;", false)
  | _ => ("RescueHouse$Checker", "house", "LRescueHouse$House;", false)
def tyX9 : Nat → FieldType := fun k => match k with
  | 0 => .array .int
  | 1 => .array .int
  | 2 => .array .boolean
  | 3 => .int
  | 4 => .int
  | 5 => .int
  | 6 => .object "RescueHouse$Reader"
  | _ => .object "RescueHouse$House"
abbrev wsX90 : List Cond := u_ws RX9 TX9 8
theorem nmX9 : ∀ a, a < 8 → ∀ b, b < 8 → a ≠ b → (TX9 a).2.1 ≠ (TX9 b).2.1 := by decide +kernel
theorem tyX9_ok : ∀ k, k < 8 → parseFieldDescriptor (TX9 k).2.2.1 = some (tyX9 k) := by decide +kernel
abbrev cX9_init : ByteArray := prog_4_method_1_code
def yX9_init : MethodName := ⟨RX9, "<init>", "()V"⟩
abbrev cX9_check : ByteArray := prog_4_method_11_code
def yX9_check : MethodName := ⟨RX9, "check", "(LRescueHouse$Reader;LRescueHouse$House;LRescueHouse$Text;)V"⟩
abbrev cX9_isRight : ByteArray := prog_4_method_10_code
def yX9_isRight : MethodName := ⟨RX9, "isRight", "(I)Z"⟩
abbrev cX9_isRightWays : ByteArray := prog_4_method_5_code
def yX9_isRightWays : MethodName := ⟨RX9, "isRightWays", "(I)Z"⟩
abbrev cX9_value : ByteArray := prog_4_method_2_code
def yX9_value : MethodName := ⟨RX9, "value", "(II)I"⟩
abbrev cX9_isEnd : ByteArray := prog_4_method_4_code
def yX9_isEnd : MethodName := ⟨RX9, "isEnd", "(II)Z"⟩
abbrev cX9_isRightPair : ByteArray := prog_4_method_7_code
def yX9_isRightPair : MethodName := ⟨RX9, "isRightPair", "(I)Z"⟩
abbrev cX9_can : ByteArray := prog_4_method_6_code
def yX9_can : MethodName := ⟨RX9, "can", "(II)Z"⟩
abbrev cX9_way : ByteArray := prog_4_method_3_code
def yX9_way : MethodName := ⟨RX9, "way", "(II)I"⟩
abbrev cX9_isRightUnits : ByteArray := prog_4_method_8_code
def yX9_isRightUnits : MethodName := ⟨RX9, "isRightUnits", "(I)Z"⟩
abbrev cX9_isRightCalls : ByteArray := prog_4_method_9_code
def yX9_isRightCalls : MethodName := ⟨RX9, "isRightCalls", "(I)Z"⟩
theorem q197 : (Jvm.Cond.initialized "RescueHouse$Checker") ∈ lw_all := lw_g (lw_at lw_m1 10 rfl) rfl
theorem q239 : (Jvm.Cond.fieldLinkNest "RescueHouse$Checker" (120 : Nat) "RescueHouse$Reader" "kind" "[I" "RescueHouse") ∈ lw_tbl := lw_at lw_m1 52 rfl
theorem q241 : (Jvm.Cond.fieldLinkNest "RescueHouse$Checker" (31 : Nat) "RescueHouse$Reader" "from" "[I" "RescueHouse") ∈ lw_tbl := lw_at lw_m1 54 rfl
theorem q243 : (Jvm.Cond.fieldLinkNest "RescueHouse$Checker" (66 : Nat) "RescueHouse$Reader" "many" "[I" "RescueHouse") ∈ lw_tbl := lw_at lw_m1 56 rfl
theorem q245 : (Jvm.Cond.fieldLinkNest "RescueHouse$Checker" (26 : Nat) "RescueHouse$Reader" "values" "[I" "RescueHouse") ∈ lw_tbl := lw_at lw_m1 58 rfl
theorem q256 : (Jvm.Cond.fieldLinkNest "RescueHouse$Checker" (135 : Nat) "RescueHouse$Reader" "lines" "I" "RescueHouse") ∈ lw_tbl := lw_at lw_m1 69 rfl
theorem q319 : (Jvm.Cond.fieldLinkNest "RescueHouse$Checker" (56 : Nat) "RescueHouse$House" "seconds" "[I" "RescueHouse") ∈ lw_tbl := lw_at lw_m1 132 rfl
theorem q345 : (Jvm.Cond.fieldLinkNest "RescueHouse$Checker" (69 : Nat) "RescueHouse$House" "place" "[I" "RescueHouse") ∈ lw_tbl := lw_at lw_m1 158 rfl
theorem q348 : (Jvm.Cond.fieldLinkNest "RescueHouse$Checker" (72 : Nat) "RescueHouse$House" "rest" "[I" "RescueHouse") ∈ lw_tbl := lw_at lw_m1 161 rfl
theorem q359 : (Jvm.Cond.fieldLinkNest "RescueHouse$Checker" (82 : Nat) "RescueHouse$House" "callPlace" "[I" "RescueHouse") ∈ lw_tbl := lw_at lw_m1 172 rfl
theorem q365 : (Jvm.Cond.fieldLinkNest "RescueHouse$Checker" (104 : Nat) "RescueHouse$House" "callRank" "[I" "RescueHouse") ∈ lw_tbl := lw_at lw_m1 178 rfl
theorem q375 : (Jvm.Cond.fieldLinkNest "RescueHouse$Checker" (42 : Nat) "RescueHouse$House" "places" "I" "RescueHouse") ∈ lw_tbl := lw_at lw_m1 188 rfl
theorem q380 : (Jvm.Cond.fieldLinkNest "RescueHouse$Checker" (48 : Nat) "RescueHouse$House" "streets" "I" "RescueHouse") ∈ lw_tbl := lw_at lw_m1 193 rfl
theorem q387 : (Jvm.Cond.fieldLinkNest "RescueHouse$Checker" (109 : Nat) "RescueHouse$House" "units" "I" "RescueHouse") ∈ lw_tbl := lw_at lw_m1 200 rfl
theorem q391 : (Jvm.Cond.fieldLinkNest "RescueHouse$Checker" (88 : Nat) "RescueHouse$House" "calls" "I" "RescueHouse") ∈ lw_tbl := lw_at lw_m1 204 rfl
theorem q602 : (Jvm.Cond.instantiable "RescueHouse$Checker" (8 : Nat)) ∈ lw_all := lw_g (lw_at lw_m2 175 rfl) rfl
theorem q604 : (Jvm.Cond.instanceMethod ({ cls := "RescueHouse$Checker", name := "<init>", desc := "()V" } : Jvm.MethodName)) ∈ lw_all := lw_g (lw_at lw_m2 177 rfl) rfl
theorem q605 : (Jvm.Cond.code ({ cls := "RescueHouse$Checker", name := "<init>", desc := "()V" } : Jvm.MethodName) prog_4_method_1_code (1 : Nat) (Option.none : Option Jvm.ClassFile.FieldType)) ∈ lw_all := lw_g (lw_at lw_m2 178 rfl) rfl
theorem q606 : (Jvm.Cond.methodLink "RescueHouse$Checker" (3 : Nat) ({ cls := "java/lang/Object", name := "<init>", desc := "()V" } : Jvm.MethodName)) ∈ lw_all := lw_g (lw_at lw_m2 179 rfl) rfl
theorem q607 : (Jvm.Cond.fieldLink "RescueHouse$Checker" (9 : Nat) "RescueHouse$Checker" "told" "[I") ∈ lw_all := lw_g (lw_at lw_m2 180 rfl) rfl
theorem q608 : (Jvm.Cond.fieldLink "RescueHouse$Checker" (15 : Nat) "RescueHouse$Checker" "pairUnit" "[I") ∈ lw_all := lw_g (lw_at lw_m2 181 rfl) rfl
theorem q609 : (Jvm.Cond.fieldLink "RescueHouse$Checker" (18 : Nat) "RescueHouse$Checker" "taken" "[Z") ∈ lw_all := lw_g (lw_at lw_m2 182 rfl) rfl
theorem q610 : (Jvm.Cond.fieldLink "RescueHouse$Checker" (112 : Nat) "RescueHouse$Checker" "latest" "I") ∈ lw_all := lw_g (lw_at lw_m2 183 rfl) rfl
theorem q611 : (Jvm.Cond.fieldLink "RescueHouse$Checker" (101 : Nat) "RescueHouse$Checker" "ranks" "I") ∈ lw_all := lw_g (lw_at lw_m2 184 rfl) rfl
theorem q612 : (Jvm.Cond.fieldLink "RescueHouse$Checker" (107 : Nat) "RescueHouse$Checker" "seconds" "I") ∈ lw_all := lw_g (lw_at lw_m2 185 rfl) rfl
theorem q613 : (Jvm.Cond.fieldLink "RescueHouse$Checker" (22 : Nat) "RescueHouse$Checker" "proof" "LRescueHouse$Reader;") ∈ lw_all := lw_g (lw_at lw_m2 186 rfl) rfl
theorem q614 : (Jvm.Cond.fieldLink "RescueHouse$Checker" (38 : Nat) "RescueHouse$Checker" "house" "LRescueHouse$House;") ∈ lw_all := lw_g (lw_at lw_m2 187 rfl) rfl
theorem q615 : (Jvm.Cond.laysFinal "RescueHouse$Checker" "RescueHouse$Checker" "told" "[I") ∈ lw_all := lw_g (lw_at lw_m2 188 rfl) rfl
theorem q616 : (Jvm.Cond.soleField "RescueHouse$Checker" "told") ∈ lw_all := lw_g (lw_at lw_m2 189 rfl) rfl
theorem q617 : (Jvm.Cond.laysFinal "RescueHouse$Checker" "RescueHouse$Checker" "pairUnit" "[I") ∈ lw_all := lw_g (lw_at lw_m2 190 rfl) rfl
theorem q618 : (Jvm.Cond.soleField "RescueHouse$Checker" "pairUnit") ∈ lw_all := lw_g (lw_at lw_m2 191 rfl) rfl
theorem q619 : (Jvm.Cond.laysFinal "RescueHouse$Checker" "RescueHouse$Checker" "taken" "[Z") ∈ lw_all := lw_g (lw_at lw_m2 192 rfl) rfl
theorem q620 : (Jvm.Cond.soleField "RescueHouse$Checker" "taken") ∈ lw_all := lw_g (lw_at lw_m2 193 rfl) rfl
theorem q621 : (Jvm.Cond.lays "RescueHouse$Checker" "RescueHouse$Checker" "latest" "I") ∈ lw_all := lw_g (lw_at lw_m2 194 rfl) rfl
theorem q622 : (Jvm.Cond.soleField "RescueHouse$Checker" "latest") ∈ lw_all := lw_g (lw_at lw_m2 195 rfl) rfl
theorem q623 : (Jvm.Cond.lays "RescueHouse$Checker" "RescueHouse$Checker" "ranks" "I") ∈ lw_all := lw_g (lw_at lw_m2 196 rfl) rfl
theorem q624 : (Jvm.Cond.soleField "RescueHouse$Checker" "ranks") ∈ lw_all := lw_g (lw_at lw_m2 197 rfl) rfl
theorem q625 : (Jvm.Cond.lays "RescueHouse$Checker" "RescueHouse$Checker" "seconds" "I") ∈ lw_all := lw_g (lw_at lw_m2 198 rfl) rfl
theorem q626 : (Jvm.Cond.soleField "RescueHouse$Checker" "seconds") ∈ lw_all := lw_g (lw_at lw_m2 199 rfl) rfl
theorem q627 : (Jvm.Cond.lays "RescueHouse$Checker" "RescueHouse$Checker" "proof" "LRescueHouse$Reader;") ∈ lw_all := lw_g (lw_at lw_m2 200 rfl) rfl
theorem q628 : (Jvm.Cond.soleField "RescueHouse$Checker" "proof") ∈ lw_all := lw_g (lw_at lw_m2 201 rfl) rfl
theorem q629 : (Jvm.Cond.lays "RescueHouse$Checker" "RescueHouse$Checker" "house" "LRescueHouse$House;") ∈ lw_all := lw_g (lw_at lw_m2 202 rfl) rfl
theorem q630 : (Jvm.Cond.soleField "RescueHouse$Checker" "house") ∈ lw_all := lw_g (lw_at lw_m2 203 rfl) rfl
theorem q631 : (Jvm.Cond.superclass "RescueHouse$Checker" "java/lang/Object") ∈ lw_all := lw_g (lw_at lw_m2 204 rfl) rfl
theorem q1357 : (Jvm.Cond.instanceMethod ({ cls := "RescueHouse$Checker", name := "check", desc := "(LRescueHouse$Reader;LRescueHouse$House;LRescueHouse$Text;)V" } : Jvm.MethodName)) ∈ lw_all := lw_g (lw_at lw_m5 210 rfl) rfl
theorem q1358 : (Jvm.Cond.selects "RescueHouse$Checker" ({ cls := "RescueHouse$Checker", name := "check", desc := "(LRescueHouse$Reader;LRescueHouse$House;LRescueHouse$Text;)V" } : Jvm.MethodName) ({ cls := "RescueHouse$Checker", name := "check", desc := "(LRescueHouse$Reader;LRescueHouse$House;LRescueHouse$Text;)V" } : Jvm.MethodName)) ∈ lw_all := lw_g (lw_at lw_m5 211 rfl) rfl
theorem q1359 : (Jvm.Cond.code ({ cls := "RescueHouse$Checker", name := "check", desc := "(LRescueHouse$Reader;LRescueHouse$House;LRescueHouse$Text;)V" } : Jvm.MethodName) prog_4_method_11_code (5 : Nat) (Option.none : Option Jvm.ClassFile.FieldType)) ∈ lw_all := lw_g (lw_at lw_m5 212 rfl) rfl
theorem q1360 : (Jvm.Cond.methodLink "RescueHouse$Checker" (138 : Nat) ({ cls := "RescueHouse$Checker", name := "isRight", desc := "(I)Z" } : Jvm.MethodName)) ∈ lw_all := lw_g (lw_at lw_m5 213 rfl) rfl
theorem q1361 : (Jvm.Cond.privateMethod ({ cls := "RescueHouse$Checker", name := "isRight", desc := "(I)Z" } : Jvm.MethodName)) ∈ lw_tbl := lw_at lw_m5 214 rfl
theorem q1362 : (Jvm.Cond.instanceMethod ({ cls := "RescueHouse$Checker", name := "isRight", desc := "(I)Z" } : Jvm.MethodName)) ∈ lw_all := lw_g (lw_at lw_m5 215 rfl) rfl
theorem q1363 : (Jvm.Cond.code ({ cls := "RescueHouse$Checker", name := "isRight", desc := "(I)Z" } : Jvm.MethodName) prog_4_method_10_code (2 : Nat) (Option.some Jvm.ClassFile.FieldType.boolean)) ∈ lw_all := lw_g (lw_at lw_m5 216 rfl) rfl
theorem q1364 : (Jvm.Cond.methodLink "RescueHouse$Checker" (123 : Nat) ({ cls := "RescueHouse$Checker", name := "isRightWays", desc := "(I)Z" } : Jvm.MethodName)) ∈ lw_all := lw_g (lw_at lw_m5 217 rfl) rfl
theorem q1365 : (Jvm.Cond.privateMethod ({ cls := "RescueHouse$Checker", name := "isRightWays", desc := "(I)Z" } : Jvm.MethodName)) ∈ lw_tbl := lw_at lw_m5 218 rfl
theorem q1366 : (Jvm.Cond.instanceMethod ({ cls := "RescueHouse$Checker", name := "isRightWays", desc := "(I)Z" } : Jvm.MethodName)) ∈ lw_all := lw_g (lw_at lw_m5 219 rfl) rfl
theorem q1367 : (Jvm.Cond.code ({ cls := "RescueHouse$Checker", name := "isRightWays", desc := "(I)Z" } : Jvm.MethodName) prog_4_method_5_code (6 : Nat) (Option.some Jvm.ClassFile.FieldType.boolean)) ∈ lw_all := lw_g (lw_at lw_m5 220 rfl) rfl
theorem q1368 : (Jvm.Cond.methodLink "RescueHouse$Checker" (34 : Nat) ({ cls := "RescueHouse$Checker", name := "value", desc := "(II)I" } : Jvm.MethodName)) ∈ lw_all := lw_g (lw_at lw_m5 221 rfl) rfl
theorem q1369 : (Jvm.Cond.privateMethod ({ cls := "RescueHouse$Checker", name := "value", desc := "(II)I" } : Jvm.MethodName)) ∈ lw_tbl := lw_at lw_m5 222 rfl
theorem q1370 : (Jvm.Cond.instanceMethod ({ cls := "RescueHouse$Checker", name := "value", desc := "(II)I" } : Jvm.MethodName)) ∈ lw_all := lw_g (lw_at lw_m5 223 rfl) rfl
theorem q1371 : (Jvm.Cond.code ({ cls := "RescueHouse$Checker", name := "value", desc := "(II)I" } : Jvm.MethodName) prog_4_method_2_code (3 : Nat) (Option.some Jvm.ClassFile.FieldType.int)) ∈ lw_all := lw_g (lw_at lw_m5 224 rfl) rfl
theorem q1372 : (Jvm.Cond.methodLink "RescueHouse$Checker" (59 : Nat) ({ cls := "RescueHouse$House", name := "isUnit", desc := "(I)Z" } : Jvm.MethodName)) ∈ lw_all := lw_g (lw_at lw_m5 225 rfl) rfl
theorem q1373 : (Jvm.Cond.methodLink "RescueHouse$Checker" (63 : Nat) ({ cls := "RescueHouse$House", name := "isFree", desc := "(I)Z" } : Jvm.MethodName)) ∈ lw_all := lw_g (lw_at lw_m5 226 rfl) rfl
theorem q1374 : (Jvm.Cond.methodLink "RescueHouse$Checker" (75 : Nat) ({ cls := "RescueHouse$Checker", name := "isEnd", desc := "(II)Z" } : Jvm.MethodName)) ∈ lw_all := lw_g (lw_at lw_m5 227 rfl) rfl
theorem q1375 : (Jvm.Cond.privateMethod ({ cls := "RescueHouse$Checker", name := "isEnd", desc := "(II)Z" } : Jvm.MethodName)) ∈ lw_tbl := lw_at lw_m5 228 rfl
theorem q1376 : (Jvm.Cond.instanceMethod ({ cls := "RescueHouse$Checker", name := "isEnd", desc := "(II)Z" } : Jvm.MethodName)) ∈ lw_all := lw_g (lw_at lw_m5 229 rfl) rfl
theorem q1377 : (Jvm.Cond.code ({ cls := "RescueHouse$Checker", name := "isEnd", desc := "(II)Z" } : Jvm.MethodName) prog_4_method_4_code (5 : Nat) (Option.some Jvm.ClassFile.FieldType.boolean)) ∈ lw_all := lw_g (lw_at lw_m5 230 rfl) rfl
theorem q1378 : (Jvm.Cond.methodLink "RescueHouse$Checker" (51 : Nat) ({ cls := "RescueHouse$House", name := "leads", desc := "(III)I" } : Jvm.MethodName)) ∈ lw_all := lw_g (lw_at lw_m5 231 rfl) rfl
theorem q1379 : (Jvm.Cond.constant "RescueHouse$Checker" (55 : Nat) (1000000 : Int32)) ∈ lw_all := lw_g (lw_at lw_m5 232 rfl) rfl
theorem q1380 : (Jvm.Cond.methodLink "RescueHouse$Checker" (126 : Nat) ({ cls := "RescueHouse$Checker", name := "isRightPair", desc := "(I)Z" } : Jvm.MethodName)) ∈ lw_all := lw_g (lw_at lw_m5 233 rfl) rfl
theorem q1381 : (Jvm.Cond.privateMethod ({ cls := "RescueHouse$Checker", name := "isRightPair", desc := "(I)Z" } : Jvm.MethodName)) ∈ lw_tbl := lw_at lw_m5 234 rfl
theorem q1382 : (Jvm.Cond.instanceMethod ({ cls := "RescueHouse$Checker", name := "isRightPair", desc := "(I)Z" } : Jvm.MethodName)) ∈ lw_all := lw_g (lw_at lw_m5 235 rfl) rfl
theorem q1383 : (Jvm.Cond.code ({ cls := "RescueHouse$Checker", name := "isRightPair", desc := "(I)Z" } : Jvm.MethodName) prog_4_method_7_code (4 : Nat) (Option.some Jvm.ClassFile.FieldType.boolean)) ∈ lw_all := lw_g (lw_at lw_m5 236 rfl) rfl
theorem q1384 : (Jvm.Cond.methodLinkNest "RescueHouse$Checker" (91 : Nat) ({ cls := "RescueHouse", name := "in", desc := "(III)Z" } : Jvm.MethodName) "RescueHouse") ∈ lw_tbl := lw_at lw_m5 237 rfl
theorem q1385 : (Jvm.Cond.methodLink "RescueHouse$Checker" (95 : Nat) ({ cls := "RescueHouse$House", name := "waits", desc := "(I)Z" } : Jvm.MethodName)) ∈ lw_all := lw_g (lw_at lw_m5 238 rfl) rfl
theorem q1386 : (Jvm.Cond.methodLink "RescueHouse$Checker" (98 : Nat) ({ cls := "RescueHouse$Checker", name := "can", desc := "(II)Z" } : Jvm.MethodName)) ∈ lw_all := lw_g (lw_at lw_m5 239 rfl) rfl
theorem q1387 : (Jvm.Cond.privateMethod ({ cls := "RescueHouse$Checker", name := "can", desc := "(II)Z" } : Jvm.MethodName)) ∈ lw_tbl := lw_at lw_m6 0 rfl
theorem q1388 : (Jvm.Cond.instanceMethod ({ cls := "RescueHouse$Checker", name := "can", desc := "(II)Z" } : Jvm.MethodName)) ∈ lw_all := lw_g (lw_at lw_m6 1 rfl) rfl
theorem q1389 : (Jvm.Cond.code ({ cls := "RescueHouse$Checker", name := "can", desc := "(II)Z" } : Jvm.MethodName) prog_4_method_6_code (3 : Nat) (Option.some Jvm.ClassFile.FieldType.boolean)) ∈ lw_all := lw_g (lw_at lw_m6 2 rfl) rfl
theorem q1390 : (Jvm.Cond.methodLink "RescueHouse$Checker" (79 : Nat) ({ cls := "RescueHouse$House", name := "has", desc := "(II)Z" } : Jvm.MethodName)) ∈ lw_all := lw_g (lw_at lw_m6 3 rfl) rfl
theorem q1391 : (Jvm.Cond.methodLink "RescueHouse$Checker" (85 : Nat) ({ cls := "RescueHouse$Checker", name := "way", desc := "(II)I" } : Jvm.MethodName)) ∈ lw_all := lw_g (lw_at lw_m6 4 rfl) rfl
theorem q1392 : (Jvm.Cond.privateMethod ({ cls := "RescueHouse$Checker", name := "way", desc := "(II)I" } : Jvm.MethodName)) ∈ lw_tbl := lw_at lw_m6 5 rfl
theorem q1393 : (Jvm.Cond.instanceMethod ({ cls := "RescueHouse$Checker", name := "way", desc := "(II)I" } : Jvm.MethodName)) ∈ lw_all := lw_g (lw_at lw_m6 6 rfl) rfl
theorem q1394 : (Jvm.Cond.code ({ cls := "RescueHouse$Checker", name := "way", desc := "(II)I" } : Jvm.MethodName) prog_4_method_3_code (3 : Nat) (Option.some Jvm.ClassFile.FieldType.int)) ∈ lw_all := lw_g (lw_at lw_m6 7 rfl) rfl
theorem q1395 : (Jvm.Cond.methodLink "RescueHouse$Checker" (129 : Nat) ({ cls := "RescueHouse$Checker", name := "isRightUnits", desc := "(I)Z" } : Jvm.MethodName)) ∈ lw_all := lw_g (lw_at lw_m6 8 rfl) rfl
theorem q1396 : (Jvm.Cond.privateMethod ({ cls := "RescueHouse$Checker", name := "isRightUnits", desc := "(I)Z" } : Jvm.MethodName)) ∈ lw_tbl := lw_at lw_m6 9 rfl
theorem q1397 : (Jvm.Cond.instanceMethod ({ cls := "RescueHouse$Checker", name := "isRightUnits", desc := "(I)Z" } : Jvm.MethodName)) ∈ lw_all := lw_g (lw_at lw_m6 10 rfl) rfl
theorem q1398 : (Jvm.Cond.code ({ cls := "RescueHouse$Checker", name := "isRightUnits", desc := "(I)Z" } : Jvm.MethodName) prog_4_method_8_code (4 : Nat) (Option.some Jvm.ClassFile.FieldType.boolean)) ∈ lw_all := lw_g (lw_at lw_m6 11 rfl) rfl
theorem q1399 : (Jvm.Cond.methodLink "RescueHouse$Checker" (132 : Nat) ({ cls := "RescueHouse$Checker", name := "isRightCalls", desc := "(I)Z" } : Jvm.MethodName)) ∈ lw_all := lw_g (lw_at lw_m6 12 rfl) rfl
theorem q1400 : (Jvm.Cond.privateMethod ({ cls := "RescueHouse$Checker", name := "isRightCalls", desc := "(I)Z" } : Jvm.MethodName)) ∈ lw_tbl := lw_at lw_m6 13 rfl
theorem q1401 : (Jvm.Cond.instanceMethod ({ cls := "RescueHouse$Checker", name := "isRightCalls", desc := "(I)Z" } : Jvm.MethodName)) ∈ lw_all := lw_g (lw_at lw_m6 14 rfl) rfl
theorem q1402 : (Jvm.Cond.code ({ cls := "RescueHouse$Checker", name := "isRightCalls", desc := "(I)Z" } : Jvm.MethodName) prog_4_method_9_code (10 : Nat) (Option.some Jvm.ClassFile.FieldType.boolean)) ∈ lw_all := lw_g (lw_at lw_m6 15 rfl) rfl
theorem q1403 : (Jvm.Cond.methodLink "RescueHouse$Checker" (115 : Nat) ({ cls := "RescueHouse$House", name := "many", desc := "(I)I" } : Jvm.MethodName)) ∈ lw_all := lw_g (lw_at lw_m6 16 rfl) rfl
theorem q1404 : (Jvm.Cond.constantLong "RescueHouse$Checker" (118 : Nat) (1000000 : Int64)) ∈ lw_all := lw_g (lw_at lw_m6 17 rfl) rfl
theorem q1405 : (Jvm.Cond.stringRef "RescueHouse$Checker" (141 : Nat) "line ") ∈ lw_tbl := lw_at lw_m6 18 rfl
theorem q1406 : (Jvm.Cond.methodLink "RescueHouse$Checker" (143 : Nat) ({ cls := "RescueHouse$Text", name := "say", desc := "(Ljava/lang/String;)V" } : Jvm.MethodName)) ∈ lw_all := lw_g (lw_at lw_m6 19 rfl) rfl
theorem q1407 : (Jvm.Cond.methodLink "RescueHouse$Checker" (149 : Nat) ({ cls := "RescueHouse$Text", name := "number", desc := "(I)V" } : Jvm.MethodName)) ∈ lw_all := lw_g (lw_at lw_m6 20 rfl) rfl
theorem q1408 : (Jvm.Cond.stringRef "RescueHouse$Checker" (153 : Nat) "open") ∈ lw_tbl := lw_at lw_m6 21 rfl
theorem q1409 : (Jvm.Cond.stringRef "RescueHouse$Checker" (155 : Nat) "sum ") ∈ lw_tbl := lw_at lw_m6 22 rfl
theorem q1410 : (Jvm.Cond.methodLink "RescueHouse$Checker" (157 : Nat) ({ cls := "RescueHouse$Text", name := "numbers", desc := "(II)V" } : Jvm.MethodName)) ∈ lw_all := lw_g (lw_at lw_m6 23 rfl) rfl
theorem in_X9 : ∀ w ∈ wsX90, w ∈ lw_all := lw_in wsX90 [615, 617, 619, 621, 623, 625, 627, 629] (by decide +kernel) (by decide +kernel)

/-! RescueHouse$Cover -/
set_option maxRecDepth 100000
def RX10 : String := "RescueHouse$Cover"
def TX10 : u_T := fun k => match k with
  | 0 => ("RescueHouse$Cover", "place", "I", false)
  | _ => ("RescueHouse$Cover", "least", "I", false)
def tyX10 : Nat → FieldType := fun k => match k with
  | 0 => .int
  | _ => .int
abbrev wsX100 : List Cond := u_ws RX10 TX10 2
theorem nmX10 : ∀ a, a < 2 → ∀ b, b < 2 → a ≠ b → (TX10 a).2.1 ≠ (TX10 b).2.1 := by decide +kernel
theorem tyX10_ok : ∀ k, k < 2 → parseFieldDescriptor (TX10 k).2.2.1 = some (tyX10 k) := by decide +kernel
abbrev cX10_init : ByteArray := prog_5_method_1_code
def yX10_init : MethodName := ⟨RX10, "<init>", "()V"⟩
abbrev cX10_tell : ByteArray := prog_5_method_3_code
def yX10_tell : MethodName := ⟨RX10, "tell", "(LRescueHouse$House;LRescueHouse$Text;)V"⟩
abbrev cX10_look : ByteArray := prog_5_method_2_code
def yX10_look : MethodName := ⟨RX10, "look", "(LRescueHouse$House;II)Z"⟩
abbrev cX10_move : ByteArray := prog_5_method_4_code
def yX10_move : MethodName := ⟨RX10, "move", "(LRescueHouse$House;LRescueHouse$Text;)V"⟩
theorem q198 : (Jvm.Cond.initialized "RescueHouse$Cover") ∈ lw_all := lw_g (lw_at lw_m1 11 rfl) rfl
theorem q344 : (Jvm.Cond.fieldLinkNest "RescueHouse$Cover" (67 : Nat) "RescueHouse$House" "place" "[I" "RescueHouse") ∈ lw_tbl := lw_at lw_m1 157 rfl
theorem q353 : (Jvm.Cond.fieldLinkNest "RescueHouse$Cover" (63 : Nat) "RescueHouse$House" "state" "[I" "RescueHouse") ∈ lw_tbl := lw_at lw_m1 166 rfl
theorem q374 : (Jvm.Cond.fieldLinkNest "RescueHouse$Cover" (18 : Nat) "RescueHouse$House" "places" "I" "RescueHouse") ∈ lw_tbl := lw_at lw_m1 187 rfl
theorem q385 : (Jvm.Cond.fieldLinkNest "RescueHouse$Cover" (24 : Nat) "RescueHouse$House" "units" "I" "RescueHouse") ∈ lw_tbl := lw_at lw_m1 198 rfl
theorem q633 : (Jvm.Cond.instantiable "RescueHouse$Cover" (2 : Nat)) ∈ lw_all := lw_g (lw_at lw_m2 206 rfl) rfl
theorem q635 : (Jvm.Cond.instanceMethod ({ cls := "RescueHouse$Cover", name := "<init>", desc := "()V" } : Jvm.MethodName)) ∈ lw_all := lw_g (lw_at lw_m2 208 rfl) rfl
theorem q636 : (Jvm.Cond.code ({ cls := "RescueHouse$Cover", name := "<init>", desc := "()V" } : Jvm.MethodName) prog_5_method_1_code (1 : Nat) (Option.none : Option Jvm.ClassFile.FieldType)) ∈ lw_all := lw_g (lw_at lw_m2 209 rfl) rfl
theorem q637 : (Jvm.Cond.methodLink "RescueHouse$Cover" (3 : Nat) ({ cls := "java/lang/Object", name := "<init>", desc := "()V" } : Jvm.MethodName)) ∈ lw_all := lw_g (lw_at lw_m2 210 rfl) rfl
theorem q638 : (Jvm.Cond.fieldLink "RescueHouse$Cover" (9 : Nat) "RescueHouse$Cover" "place" "I") ∈ lw_all := lw_g (lw_at lw_m2 211 rfl) rfl
theorem q639 : (Jvm.Cond.fieldLink "RescueHouse$Cover" (15 : Nat) "RescueHouse$Cover" "least" "I") ∈ lw_all := lw_g (lw_at lw_m2 212 rfl) rfl
theorem q640 : (Jvm.Cond.lays "RescueHouse$Cover" "RescueHouse$Cover" "place" "I") ∈ lw_all := lw_g (lw_at lw_m2 213 rfl) rfl
theorem q641 : (Jvm.Cond.soleField "RescueHouse$Cover" "place") ∈ lw_all := lw_g (lw_at lw_m2 214 rfl) rfl
theorem q642 : (Jvm.Cond.lays "RescueHouse$Cover" "RescueHouse$Cover" "least" "I") ∈ lw_all := lw_g (lw_at lw_m2 215 rfl) rfl
theorem q643 : (Jvm.Cond.soleField "RescueHouse$Cover" "least") ∈ lw_all := lw_g (lw_at lw_m2 216 rfl) rfl
theorem q644 : (Jvm.Cond.superclass "RescueHouse$Cover" "java/lang/Object") ∈ lw_all := lw_g (lw_at lw_m2 217 rfl) rfl
theorem q1308 : (Jvm.Cond.instanceMethod ({ cls := "RescueHouse$Cover", name := "tell", desc := "(LRescueHouse$House;LRescueHouse$Text;)V" } : Jvm.MethodName)) ∈ lw_all := lw_g (lw_at lw_m5 161 rfl) rfl
theorem q1309 : (Jvm.Cond.selects "RescueHouse$Cover" ({ cls := "RescueHouse$Cover", name := "tell", desc := "(LRescueHouse$House;LRescueHouse$Text;)V" } : Jvm.MethodName) ({ cls := "RescueHouse$Cover", name := "tell", desc := "(LRescueHouse$House;LRescueHouse$Text;)V" } : Jvm.MethodName)) ∈ lw_all := lw_g (lw_at lw_m5 162 rfl) rfl
theorem q1310 : (Jvm.Cond.code ({ cls := "RescueHouse$Cover", name := "tell", desc := "(LRescueHouse$House;LRescueHouse$Text;)V" } : Jvm.MethodName) prog_5_method_3_code (3 : Nat) (Option.none : Option Jvm.ClassFile.FieldType)) ∈ lw_all := lw_g (lw_at lw_m5 163 rfl) rfl
theorem q1311 : (Jvm.Cond.methodLink "RescueHouse$Cover" (43 : Nat) ({ cls := "RescueHouse$Cover", name := "look", desc := "(LRescueHouse$House;II)Z" } : Jvm.MethodName)) ∈ lw_all := lw_g (lw_at lw_m5 164 rfl) rfl
theorem q1312 : (Jvm.Cond.instanceMethod ({ cls := "RescueHouse$Cover", name := "look", desc := "(LRescueHouse$House;II)Z" } : Jvm.MethodName)) ∈ lw_all := lw_g (lw_at lw_m5 165 rfl) rfl
theorem q1313 : (Jvm.Cond.selects "RescueHouse$Cover" ({ cls := "RescueHouse$Cover", name := "look", desc := "(LRescueHouse$House;II)Z" } : Jvm.MethodName) ({ cls := "RescueHouse$Cover", name := "look", desc := "(LRescueHouse$House;II)Z" } : Jvm.MethodName)) ∈ lw_all := lw_g (lw_at lw_m5 166 rfl) rfl
theorem q1314 : (Jvm.Cond.code ({ cls := "RescueHouse$Cover", name := "look", desc := "(LRescueHouse$House;II)Z" } : Jvm.MethodName) prog_5_method_2_code (7 : Nat) (Option.some Jvm.ClassFile.FieldType.boolean)) ∈ lw_all := lw_g (lw_at lw_m5 167 rfl) rfl
theorem q1315 : (Jvm.Cond.constant "RescueHouse$Cover" (23 : Nat) (1000000 : Int32)) ∈ lw_all := lw_g (lw_at lw_m5 168 rfl) rfl
theorem q1316 : (Jvm.Cond.methodLink "RescueHouse$Cover" (27 : Nat) ({ cls := "RescueHouse$House", name := "isFree", desc := "(I)Z" } : Jvm.MethodName)) ∈ lw_all := lw_g (lw_at lw_m5 169 rfl) rfl
theorem q1317 : (Jvm.Cond.methodLink "RescueHouse$Cover" (31 : Nat) ({ cls := "RescueHouse$House", name := "far", desc := "(II)I" } : Jvm.MethodName)) ∈ lw_all := lw_g (lw_at lw_m5 170 rfl) rfl
theorem q1318 : (Jvm.Cond.methodLink "RescueHouse$Cover" (35 : Nat) ({ cls := "RescueHouse$House", name := "way", desc := "(II)I" } : Jvm.MethodName)) ∈ lw_all := lw_g (lw_at lw_m5 171 rfl) rfl
theorem q1319 : (Jvm.Cond.methodLink "RescueHouse$Cover" (38 : Nat) ({ cls := "java/lang/Math", name := "min", desc := "(II)I" } : Jvm.MethodName)) ∈ lw_all := lw_g (lw_at lw_m5 172 rfl) rfl
theorem q1320 : (Jvm.Cond.methodLink "RescueHouse$Cover" (47 : Nat) ({ cls := "RescueHouse$Text", name := "numbers", desc := "(II)V" } : Jvm.MethodName)) ∈ lw_all := lw_g (lw_at lw_m5 173 rfl) rfl
theorem q1321 : (Jvm.Cond.stringRef "RescueHouse$Cover" (53 : Nat) "none ") ∈ lw_tbl := lw_at lw_m5 174 rfl
theorem q1322 : (Jvm.Cond.methodLink "RescueHouse$Cover" (55 : Nat) ({ cls := "RescueHouse$Text", name := "say", desc := "(Ljava/lang/String;)V" } : Jvm.MethodName)) ∈ lw_all := lw_g (lw_at lw_m5 175 rfl) rfl
theorem q1323 : (Jvm.Cond.methodLink "RescueHouse$Cover" (59 : Nat) ({ cls := "RescueHouse$Text", name := "number", desc := "(I)V" } : Jvm.MethodName)) ∈ lw_all := lw_g (lw_at lw_m5 176 rfl) rfl
theorem q1412 : (Jvm.Cond.instanceMethod ({ cls := "RescueHouse$Cover", name := "move", desc := "(LRescueHouse$House;LRescueHouse$Text;)V" } : Jvm.MethodName)) ∈ lw_all := lw_g (lw_at lw_m6 25 rfl) rfl
theorem q1413 : (Jvm.Cond.selects "RescueHouse$Cover" ({ cls := "RescueHouse$Cover", name := "move", desc := "(LRescueHouse$House;LRescueHouse$Text;)V" } : Jvm.MethodName) ({ cls := "RescueHouse$Cover", name := "move", desc := "(LRescueHouse$House;LRescueHouse$Text;)V" } : Jvm.MethodName)) ∈ lw_all := lw_g (lw_at lw_m6 26 rfl) rfl
theorem q1414 : (Jvm.Cond.code ({ cls := "RescueHouse$Cover", name := "move", desc := "(LRescueHouse$House;LRescueHouse$Text;)V" } : Jvm.MethodName) prog_5_method_4_code (8 : Nat) (Option.none : Option Jvm.ClassFile.FieldType)) ∈ lw_all := lw_g (lw_at lw_m6 27 rfl) rfl
theorem q1415 : (Jvm.Cond.stringRef "RescueHouse$Cover" (69 : Nat) "none") ∈ lw_tbl := lw_at lw_m6 28 rfl
theorem q1416 : (Jvm.Cond.methodLink "RescueHouse$Cover" (71 : Nat) ({ cls := "RescueHouse$Text", name := "add", desc := "(I)V" } : Jvm.MethodName)) ∈ lw_all := lw_g (lw_at lw_m6 29 rfl) rfl
theorem in_X10 : ∀ w ∈ wsX100, w ∈ lw_all := lw_in wsX100 [640, 642] (by decide +kernel) (by decide +kernel)

/-! RescueHouse$Book -/
set_option maxRecDepth 100000
def RX11 : String := "RescueHouse$Book"
def TX11 : u_T := fun k => match k with
  | 0 => ("RescueHouse$Book", "bytes", "[B", true)
  | 1 => ("RescueHouse$Book", "used", "I", false)
  | 2 => ("RescueHouse$Book", "latest", "I", false)
  | _ => ("RescueHouse$Book", "open", "Z", false)
def tyX11 : Nat → FieldType := fun k => match k with
  | 0 => .array .byte
  | 1 => .int
  | 2 => .int
  | _ => .boolean
abbrev wsX110 : List Cond := u_ws RX11 TX11 4
theorem nmX11 : ∀ a, a < 4 → ∀ b, b < 4 → a ≠ b → (TX11 a).2.1 ≠ (TX11 b).2.1 := by decide +kernel
theorem tyX11_ok : ∀ k, k < 4 → parseFieldDescriptor (TX11 k).2.2.1 = some (tyX11 k) := by decide +kernel
abbrev cX11_init : ByteArray := prog_3_method_1_code
def yX11_init : MethodName := ⟨RX11, "<init>", "()V"⟩
abbrev cX11_begin : ByteArray := prog_3_method_2_code
def yX11_begin : MethodName := ⟨RX11, "begin", "()V"⟩
abbrev cX11_holds : ByteArray := prog_3_method_3_code
def yX11_holds : MethodName := ⟨RX11, "holds", "(I)Z"⟩
abbrev cX11_write : ByteArray := prog_3_method_5_code
def yX11_write : MethodName := ⟨RX11, "write", "([BI)V"⟩
abbrev cX11_sum : ByteArray := prog_3_method_4_code
def yX11_sum : MethodName := ⟨RX11, "sum", "(II)I"⟩
abbrev cX11_cut : ByteArray := prog_3_method_6_code
def yX11_cut : MethodName := ⟨RX11, "cut", "(I)Z"⟩
abbrev cX11_next : ByteArray := prog_3_method_7_code
def yX11_next : MethodName := ⟨RX11, "next", "()I"⟩
abbrev cX11_reopen : ByteArray := prog_3_method_8_code
def yX11_reopen : MethodName := ⟨RX11, "reopen", "()V"⟩
theorem q199 : (Jvm.Cond.initialized "RescueHouse$Book") ∈ lw_all := lw_g (lw_at lw_m1 12 rfl) rfl
theorem q646 : (Jvm.Cond.instantiable "RescueHouse$Book" (4 : Nat)) ∈ lw_all := lw_g (lw_at lw_m2 219 rfl) rfl
theorem q648 : (Jvm.Cond.instanceMethod ({ cls := "RescueHouse$Book", name := "<init>", desc := "()V" } : Jvm.MethodName)) ∈ lw_all := lw_g (lw_at lw_m2 221 rfl) rfl
theorem q649 : (Jvm.Cond.code ({ cls := "RescueHouse$Book", name := "<init>", desc := "()V" } : Jvm.MethodName) prog_3_method_1_code (1 : Nat) (Option.none : Option Jvm.ClassFile.FieldType)) ∈ lw_all := lw_g (lw_at lw_m2 222 rfl) rfl
theorem q650 : (Jvm.Cond.methodLink "RescueHouse$Book" (3 : Nat) ({ cls := "java/lang/Object", name := "<init>", desc := "()V" } : Jvm.MethodName)) ∈ lw_all := lw_g (lw_at lw_m2 223 rfl) rfl
theorem q651 : (Jvm.Cond.fieldLink "RescueHouse$Book" (9 : Nat) "RescueHouse$Book" "bytes" "[B") ∈ lw_all := lw_g (lw_at lw_m2 224 rfl) rfl
theorem q653 : (Jvm.Cond.fieldLink "RescueHouse$Book" (23 : Nat) "RescueHouse$Book" "used" "I") ∈ lw_all := lw_g (lw_at lw_m2 226 rfl) rfl
theorem q655 : (Jvm.Cond.fieldLink "RescueHouse$Book" (15 : Nat) "RescueHouse$Book" "latest" "I") ∈ lw_all := lw_g (lw_at lw_m2 228 rfl) rfl
theorem q656 : (Jvm.Cond.fieldLink "RescueHouse$Book" (19 : Nat) "RescueHouse$Book" "open" "Z") ∈ lw_all := lw_g (lw_at lw_m2 229 rfl) rfl
theorem q658 : (Jvm.Cond.laysFinal "RescueHouse$Book" "RescueHouse$Book" "bytes" "[B") ∈ lw_all := lw_g (lw_at lw_m2 231 rfl) rfl
theorem q659 : (Jvm.Cond.soleField "RescueHouse$Book" "bytes") ∈ lw_all := lw_g (lw_at lw_m2 232 rfl) rfl
theorem q660 : (Jvm.Cond.lays "RescueHouse$Book" "RescueHouse$Book" "used" "I") ∈ lw_all := lw_g (lw_at lw_m2 233 rfl) rfl
theorem q661 : (Jvm.Cond.soleField "RescueHouse$Book" "used") ∈ lw_all := lw_g (lw_at lw_m2 234 rfl) rfl
theorem q662 : (Jvm.Cond.lays "RescueHouse$Book" "RescueHouse$Book" "latest" "I") ∈ lw_all := lw_g (lw_at lw_m2 235 rfl) rfl
theorem q663 : (Jvm.Cond.soleField "RescueHouse$Book" "latest") ∈ lw_all := lw_g (lw_at lw_m2 236 rfl) rfl
theorem q664 : (Jvm.Cond.lays "RescueHouse$Book" "RescueHouse$Book" "open" "Z") ∈ lw_all := lw_g (lw_at lw_m2 237 rfl) rfl
theorem q665 : (Jvm.Cond.soleField "RescueHouse$Book" "open") ∈ lw_all := lw_g (lw_at lw_m2 238 rfl) rfl
theorem q666 : (Jvm.Cond.superclass "RescueHouse$Book" "java/lang/Object") ∈ lw_all := lw_g (lw_at lw_m2 239 rfl) rfl
theorem q1031 : (Jvm.Cond.instanceMethod ({ cls := "RescueHouse$Book", name := "begin", desc := "()V" } : Jvm.MethodName)) ∈ lw_all := lw_g (lw_at lw_m4 124 rfl) rfl
theorem q1032 : (Jvm.Cond.selects "RescueHouse$Book" ({ cls := "RescueHouse$Book", name := "begin", desc := "()V" } : Jvm.MethodName) ({ cls := "RescueHouse$Book", name := "begin", desc := "()V" } : Jvm.MethodName)) ∈ lw_all := lw_g (lw_at lw_m4 125 rfl) rfl
theorem q1033 : (Jvm.Cond.code ({ cls := "RescueHouse$Book", name := "begin", desc := "()V" } : Jvm.MethodName) prog_3_method_2_code (2 : Nat) (Option.none : Option Jvm.ClassFile.FieldType)) ∈ lw_all := lw_g (lw_at lw_m4 126 rfl) rfl
theorem q1035 : (Jvm.Cond.instanceMethod ({ cls := "RescueHouse$Book", name := "holds", desc := "(I)Z" } : Jvm.MethodName)) ∈ lw_all := lw_g (lw_at lw_m4 128 rfl) rfl
theorem q1036 : (Jvm.Cond.selects "RescueHouse$Book" ({ cls := "RescueHouse$Book", name := "holds", desc := "(I)Z" } : Jvm.MethodName) ({ cls := "RescueHouse$Book", name := "holds", desc := "(I)Z" } : Jvm.MethodName)) ∈ lw_all := lw_g (lw_at lw_m4 129 rfl) rfl
theorem q1037 : (Jvm.Cond.code ({ cls := "RescueHouse$Book", name := "holds", desc := "(I)Z" } : Jvm.MethodName) prog_3_method_3_code (2 : Nat) (Option.some Jvm.ClassFile.FieldType.boolean)) ∈ lw_all := lw_g (lw_at lw_m4 130 rfl) rfl
theorem q1039 : (Jvm.Cond.instanceMethod ({ cls := "RescueHouse$Book", name := "write", desc := "([BI)V" } : Jvm.MethodName)) ∈ lw_all := lw_g (lw_at lw_m4 132 rfl) rfl
theorem q1040 : (Jvm.Cond.selects "RescueHouse$Book" ({ cls := "RescueHouse$Book", name := "write", desc := "([BI)V" } : Jvm.MethodName) ({ cls := "RescueHouse$Book", name := "write", desc := "([BI)V" } : Jvm.MethodName)) ∈ lw_all := lw_g (lw_at lw_m4 133 rfl) rfl
theorem q1041 : (Jvm.Cond.code ({ cls := "RescueHouse$Book", name := "write", desc := "([BI)V" } : Jvm.MethodName) prog_3_method_5_code (4 : Nat) (Option.none : Option Jvm.ClassFile.FieldType)) ∈ lw_all := lw_g (lw_at lw_m4 134 rfl) rfl
theorem q1042 : (Jvm.Cond.methodLink "RescueHouse$Book" (26 : Nat) ({ cls := "RescueHouse$Book", name := "sum", desc := "(II)I" } : Jvm.MethodName)) ∈ lw_all := lw_g (lw_at lw_m4 135 rfl) rfl
theorem q1043 : (Jvm.Cond.privateMethod ({ cls := "RescueHouse$Book", name := "sum", desc := "(II)I" } : Jvm.MethodName)) ∈ lw_tbl := lw_at lw_m4 136 rfl
theorem q1044 : (Jvm.Cond.instanceMethod ({ cls := "RescueHouse$Book", name := "sum", desc := "(II)I" } : Jvm.MethodName)) ∈ lw_all := lw_g (lw_at lw_m4 137 rfl) rfl
theorem q1045 : (Jvm.Cond.code ({ cls := "RescueHouse$Book", name := "sum", desc := "(II)I" } : Jvm.MethodName) prog_3_method_4_code (5 : Nat) (Option.some Jvm.ClassFile.FieldType.int)) ∈ lw_all := lw_g (lw_at lw_m4 138 rfl) rfl
theorem q1433 : (Jvm.Cond.instanceMethod ({ cls := "RescueHouse$Book", name := "cut", desc := "(I)Z" } : Jvm.MethodName)) ∈ lw_all := lw_g (lw_at lw_m6 46 rfl) rfl
theorem q1434 : (Jvm.Cond.selects "RescueHouse$Book" ({ cls := "RescueHouse$Book", name := "cut", desc := "(I)Z" } : Jvm.MethodName) ({ cls := "RescueHouse$Book", name := "cut", desc := "(I)Z" } : Jvm.MethodName)) ∈ lw_all := lw_g (lw_at lw_m6 47 rfl) rfl
theorem q1435 : (Jvm.Cond.code ({ cls := "RescueHouse$Book", name := "cut", desc := "(I)Z" } : Jvm.MethodName) prog_3_method_6_code (3 : Nat) (Option.some Jvm.ClassFile.FieldType.boolean)) ∈ lw_all := lw_g (lw_at lw_m6 48 rfl) rfl
theorem q1442 : (Jvm.Cond.instanceMethod ({ cls := "RescueHouse$Book", name := "next", desc := "()I" } : Jvm.MethodName)) ∈ lw_all := lw_g (lw_at lw_m6 55 rfl) rfl
theorem q1443 : (Jvm.Cond.selects "RescueHouse$Book" ({ cls := "RescueHouse$Book", name := "next", desc := "()I" } : Jvm.MethodName) ({ cls := "RescueHouse$Book", name := "next", desc := "()I" } : Jvm.MethodName)) ∈ lw_all := lw_g (lw_at lw_m6 56 rfl) rfl
theorem q1444 : (Jvm.Cond.code ({ cls := "RescueHouse$Book", name := "next", desc := "()I" } : Jvm.MethodName) prog_3_method_7_code (2 : Nat) (Option.some Jvm.ClassFile.FieldType.int)) ∈ lw_all := lw_g (lw_at lw_m6 57 rfl) rfl
theorem q1446 : (Jvm.Cond.instanceMethod ({ cls := "RescueHouse$Book", name := "reopen", desc := "()V" } : Jvm.MethodName)) ∈ lw_all := lw_g (lw_at lw_m6 59 rfl) rfl
theorem q1447 : (Jvm.Cond.selects "RescueHouse$Book" ({ cls := "RescueHouse$Book", name := "reopen", desc := "()V" } : Jvm.MethodName) ({ cls := "RescueHouse$Book", name := "reopen", desc := "()V" } : Jvm.MethodName)) ∈ lw_all := lw_g (lw_at lw_m6 60 rfl) rfl
theorem q1448 : (Jvm.Cond.code ({ cls := "RescueHouse$Book", name := "reopen", desc := "()V" } : Jvm.MethodName) prog_3_method_8_code (2 : Nat) (Option.none : Option Jvm.ClassFile.FieldType)) ∈ lw_all := lw_g (lw_at lw_m6 61 rfl) rfl
theorem in_X11 : ∀ w ∈ wsX110, w ∈ lw_all := lw_in wsX110 [658, 660, 662, 664] (by decide +kernel) (by decide +kernel)

/-! RescueHouseModel -/
set_option maxRecDepth 100000
def RX12 : String := "RescueHouseModel"
def TX12 : u_T := fun k => match k with
  | 0 => ("RescueHouseModel", "house", "[I", true)
  | 1 => ("RescueHouseModel", "kept", "[I", true)
  | 2 => ("RescueHouseModel", "steps", "I", false)
  | 3 => ("RescueHouseModel", "drilled", "[I", true)
  | 4 => ("RescueHouseModel", "beside", "[I", true)
  | 5 => ("RescueHouseModel", "drill", "Z", false)
  | 6 => ("RescueHouseModel", "book", "[I", true)
  | 7 => ("RescueHouseModel", "used", "I", false)
  | 8 => ("RescueHouseModel", "shut", "Z", false)
  | 9 => ("RescueHouseModel", "latest", "I", false)
  | 10 => ("RescueHouseModel", "tape", "[I", true)
  | 11 => ("RescueHouseModel", "taped", "I", false)
  | 12 => ("RescueHouseModel", "request", "[I", true)
  | 13 => ("RescueHouseModel", "asked", "I", false)
  | 14 => ("RescueHouseModel", "out", "[I", true)
  | 15 => ("RescueHouseModel", "told", "I", false)
  | 16 => ("RescueHouseModel", "requests", "[I", true)
  | 17 => ("RescueHouseModel", "numbers", "[I", true)
  | 18 => ("RescueHouseModel", "answers", "[I", true)
  | 19 => ("RescueHouseModel", "wrong", "I", false)
  | 20 => ("RescueHouseModel", "kind", "I", false)
  | 21 => ("RescueHouseModel", "at", "I", false)
  | 22 => ("RescueHouseModel", "args", "[I", true)
  | 23 => ("RescueHouseModel", "tree", "[I", true)
  | 24 => ("RescueHouseModel", "treeNodes", "I", false)
  | 25 => ("RescueHouseModel", "deepest", "I", false)
  | 26 => ("RescueHouseModel", "pending", "[I", true)
  | 27 => ("RescueHouseModel", "letters", "[I", true)
  | 28 => ("RescueHouseModel", "many2", "I", false)
  | 29 => ("RescueHouseModel", "flows", "[I", true)
  | 30 => ("RescueHouseModel", "flowCount", "I", false)
  | 31 => ("RescueHouseModel", "cuts", "[I", true)
  | 32 => ("RescueHouseModel", "cutCount", "I", false)
  | 33 => ("RescueHouseModel", "distance", "[I", true)
  | 34 => ("RescueHouseModel", "waiting", "I", false)
  | 35 => ("RescueHouseModel", "waits", "[I", true)
  | 36 => ("RescueHouseModel", "frees", "I", false)
  | 37 => ("RescueHouseModel", "free", "[I", true)
  | 38 => ("RescueHouseModel", "choice", "[I", true)
  | 39 => ("RescueHouseModel", "best", "[I", true)
  | 40 => ("RescueHouseModel", "bestRanks", "I", false)
  | 41 => ("RescueHouseModel", "bestSeconds", "I", false)
  | 42 => ("RescueHouseModel", "metNode", "I", false)
  | 43 => ("RescueHouseModel", "metQuestions", "I", false)
  | 44 => ("RescueHouseModel", "metMore", "Z", false)
  | 45 => ("RescueHouseModel", "duals", "[I", true)
  | 46 => ("RescueHouseModel", "pairs", "[I", true)
  | 47 => ("RescueHouseModel", "coverPlace", "I", false)
  | 48 => ("RescueHouseModel", "row", "[I", true)
  | 49 => ("RescueHouseModel", "channel", "[I", true)
  | 50 => ("RescueHouseModel", "channels", "I", false)
  | 51 => ("RescueHouseModel", "flow", "[I", true)
  | 52 => ("RescueHouseModel", "far", "[I", true)
  | 53 => ("RescueHouseModel", "waysOut", "[I", true)
  | 54 => ("RescueHouseModel", "proved", "[Z", true)
  | 55 => ("RescueHouseModel", "claimed", "[I", true)
  | 56 => ("RescueHouseModel", "told2", "I", false)
  | 57 => ("RescueHouseModel", "pairCall", "[I", true)
  | 58 => ("RescueHouseModel", "pairUnit", "[I", true)
  | 59 => ("RescueHouseModel", "many", "I", false)
  | 60 => ("RescueHouseModel", "line", "[I", true)
  | 61 => ("RescueHouseModel", "ofUnits", "[I", true)
  | _ => ("RescueHouseModel", "hasUnits", "Z", false)
def tyX12 : Nat → FieldType := fun k => match k with
  | 0 => .array .int
  | 1 => .array .int
  | 2 => .int
  | 3 => .array .int
  | 4 => .array .int
  | 5 => .boolean
  | 6 => .array .int
  | 7 => .int
  | 8 => .boolean
  | 9 => .int
  | 10 => .array .int
  | 11 => .int
  | 12 => .array .int
  | 13 => .int
  | 14 => .array .int
  | 15 => .int
  | 16 => .array .int
  | 17 => .array .int
  | 18 => .array .int
  | 19 => .int
  | 20 => .int
  | 21 => .int
  | 22 => .array .int
  | 23 => .array .int
  | 24 => .int
  | 25 => .int
  | 26 => .array .int
  | 27 => .array .int
  | 28 => .int
  | 29 => .array .int
  | 30 => .int
  | 31 => .array .int
  | 32 => .int
  | 33 => .array .int
  | 34 => .int
  | 35 => .array .int
  | 36 => .int
  | 37 => .array .int
  | 38 => .array .int
  | 39 => .array .int
  | 40 => .int
  | 41 => .int
  | 42 => .int
  | 43 => .int
  | 44 => .boolean
  | 45 => .array .int
  | 46 => .array .int
  | 47 => .int
  | 48 => .array .int
  | 49 => .array .int
  | 50 => .int
  | 51 => .array .int
  | 52 => .array .int
  | 53 => .array .int
  | 54 => .array .boolean
  | 55 => .array .int
  | 56 => .int
  | 57 => .array .int
  | 58 => .array .int
  | 59 => .int
  | 60 => .array .int
  | 61 => .array .int
  | _ => .boolean
abbrev wsX120 : List Cond := u_ws RX12 TX12 63
set_option maxRecDepth 100000 in
theorem nmX12 : ∀ a, a < 63 → ∀ b, b < 63 → a ≠ b → (TX12 a).2.1 ≠ (TX12 b).2.1 := by decide +kernel
set_option maxRecDepth 100000 in
theorem tyX12_ok : ∀ k, k < 63 → parseFieldDescriptor (TX12 k).2.2.1 = some (tyX12 k) := by decide +kernel
abbrev cX12_init : ByteArray := prog_14_method_1_code
def yX12_init : MethodName := ⟨RX12, "<init>", "()V"⟩
abbrev cX12_begin : ByteArray := prog_14_method_2_code
def yX12_begin : MethodName := ⟨RX12, "begin", "(I)V"⟩
abbrev cX12_feed : ByteArray := prog_14_method_121_code
def yX12_feed : MethodName := ⟨RX12, "feed", "(IIIII)I"⟩
abbrev cX12_ask : ByteArray := prog_14_method_122_code
def yX12_ask : MethodName := ⟨RX12, "ask", "(I)I"⟩
abbrev cX12_answerIt : ByteArray := prog_14_method_116_code
def yX12_answerIt : MethodName := ⟨RX12, "answerIt", "()V"⟩
abbrev cX12_read : ByteArray := prog_14_method_29_code
def yX12_read : MethodName := ⟨RX12, "read", "()V"⟩
abbrev cX12_findWord : ByteArray := prog_14_method_19_code
def yX12_findWord : MethodName := ⟨RX12, "findWord", "()V"⟩
abbrev cX12_expect : ByteArray := prog_14_method_16_code
def yX12_expect : MethodName := ⟨RX12, "expect", "(I)V"⟩
abbrev cX12_byteHere : ByteArray := prog_14_method_15_code
def yX12_byteHere : MethodName := ⟨RX12, "byteHere", "()I"⟩
abbrev cX12_readNumber : ByteArray := prog_14_method_18_code
def yX12_readNumber : MethodName := ⟨RX12, "readNumber", "(I)I"⟩
abbrev cX12_isDigit : ByteArray := prog_14_method_17_code
def yX12_isDigit : MethodName := ⟨RX12, "isDigit", "()Z"⟩
abbrev cX12_in : ByteArray := prog_14_method_3_code
def yX12_in : MethodName := ⟨RX12, "in", "(III)Z"⟩
abbrev cX12_readRest : ByteArray := prog_14_method_28_code
def yX12_readRest : MethodName := ⟨RX12, "readRest", "()V"⟩
abbrev cX12_readTree : ByteArray := prog_14_method_23_code
def yX12_readTree : MethodName := ⟨RX12, "readTree", "()V"⟩
abbrev cX12_addNode : ByteArray := prog_14_method_22_code
def yX12_addNode : MethodName := ⟨RX12, "addNode", "(I)V"⟩
abbrev cX12_readAnswers : ByteArray := prog_14_method_24_code
def yX12_readAnswers : MethodName := ⟨RX12, "readAnswers", "()V"⟩
abbrev cX12_takeLetter : ByteArray := prog_14_method_25_code
def yX12_takeLetter : MethodName := ⟨RX12, "takeLetter", "()V"⟩
abbrev cX12_readArgument : ByteArray := prog_14_method_27_code
def yX12_readArgument : MethodName := ⟨RX12, "readArgument", "()V"⟩
abbrev cX12_readWord : ByteArray := prog_14_method_26_code
def yX12_readWord : MethodName := ⟨RX12, "readWord", "()V"⟩
abbrev cX12_readLine : ByteArray := prog_14_method_20_code
def yX12_readLine : MethodName := ⟨RX12, "readLine", "()V"⟩
abbrev cX12_readOne : ByteArray := prog_14_method_21_code
def yX12_readOne : MethodName := ⟨RX12, "readOne", "()V"⟩
abbrev cX12_say : ByteArray := prog_14_method_13_code
def yX12_say : MethodName := ⟨RX12, "say", "(I)V"⟩
abbrev cX12_put : ByteArray := prog_14_method_12_code
def yX12_put : MethodName := ⟨RX12, "put", "(I)V"⟩
abbrev cX12_number : ByteArray := prog_14_method_14_code
def yX12_number : MethodName := ⟨RX12, "number", "(I)V"⟩
abbrev cX12_refusal : ByteArray := prog_14_method_54_code
def yX12_refusal : MethodName := ⟨RX12, "refusal", "()I"⟩
abbrev cX12_isPlace : ByteArray := prog_14_method_9_code
def yX12_isPlace : MethodName := ⟨RX12, "isPlace", "(I)Z"⟩
abbrev cX12_street : ByteArray := prog_14_method_4_code
def yX12_street : MethodName := ⟨RX12, "street", "(II)I"⟩
abbrev cX12_isUnit : ByteArray := prog_14_method_10_code
def yX12_isUnit : MethodName := ⟨RX12, "isUnit", "(I)Z"⟩
abbrev cX12_unit : ByteArray := prog_14_method_5_code
def yX12_unit : MethodName := ⟨RX12, "unit", "(II)I"⟩
abbrev cX12_joins : ByteArray := prog_14_method_52_code
def yX12_joins : MethodName := ⟨RX12, "joins", "(II)I"⟩
abbrev cX12_call : ByteArray := prog_14_method_7_code
def yX12_call : MethodName := ⟨RX12, "call", "(II)I"⟩
abbrev cX12_openCalls : ByteArray := prog_14_method_53_code
def yX12_openCalls : MethodName := ⟨RX12, "openCalls", "()I"⟩
abbrev cX12_refusalOfReport : ByteArray := prog_14_method_57_code
def yX12_refusalOfReport : MethodName := ⟨RX12, "refusalOfReport", "(II)I"⟩
abbrev cX12_lead : ByteArray := prog_14_method_56_code
def yX12_lead : MethodName := ⟨RX12, "lead", "(I)V"⟩
abbrev cX12_behindTree : ByteArray := prog_14_method_55_code
def yX12_behindTree : MethodName := ⟨RX12, "behindTree", "(II)I"⟩
abbrev cX12_isTaken : ByteArray := prog_14_method_58_code
def yX12_isTaken : MethodName := ⟨RX12, "isTaken", "(I)Z"⟩
abbrev cX12_refusalOfGo : ByteArray := prog_14_method_59_code
def yX12_refusalOfGo : MethodName := ⟨RX12, "refusalOfGo", "(II)I"⟩
abbrev cX12_isOpenCall : ByteArray := prog_14_method_11_code
def yX12_isOpenCall : MethodName := ⟨RX12, "isOpenCall", "(I)Z"⟩
abbrev cX12_isFree : ByteArray := prog_14_method_37_code
def yX12_isFree : MethodName := ⟨RX12, "isFree", "(I)Z"⟩
abbrev cX12_isAway : ByteArray := prog_14_method_36_code
def yX12_isAway : MethodName := ⟨RX12, "isAway", "(I)Z"⟩
abbrev cX12_isWaiting : ByteArray := prog_14_method_39_code
def yX12_isWaiting : MethodName := ⟨RX12, "isWaiting", "(I)Z"⟩
abbrev cX12_unitOf : ByteArray := prog_14_method_38_code
def yX12_unitOf : MethodName := ⟨RX12, "unitOf", "(I)I"⟩
abbrev cX12_hasSkill : ByteArray := prog_14_method_43_code
def yX12_hasSkill : MethodName := ⟨RX12, "hasSkill", "(II)Z"⟩
abbrev cX12_findDistances : ByteArray := prog_14_method_33_code
def yX12_findDistances : MethodName := ⟨RX12, "findDistances", "()V"⟩
abbrev cX12_goesFrom : ByteArray := prog_14_method_31_code
def yX12_goesFrom : MethodName := ⟨RX12, "goesFrom", "(II)Z"⟩
abbrev cX12_isOpenNow : ByteArray := prog_14_method_30_code
def yX12_isOpenNow : MethodName := ⟨RX12, "isOpenNow", "(I)Z"⟩
abbrev cX12_shortens : ByteArray := prog_14_method_34_code
def yX12_shortens : MethodName := ⟨RX12, "shortens", "(III)Z"⟩
abbrev cX12_wayOf : ByteArray := prog_14_method_35_code
def yX12_wayOf : MethodName := ⟨RX12, "wayOf", "(II)I"⟩
abbrev cX12_hasRoom : ByteArray := prog_14_method_110_code
def yX12_hasRoom : MethodName := ⟨RX12, "hasRoom", "()Z"⟩
abbrev cX12_write : ByteArray := prog_14_method_111_code
def yX12_write : MethodName := ⟨RX12, "write", "()V"⟩
abbrev cX12_clearFrom : ByteArray := prog_14_method_112_code
def yX12_clearFrom : MethodName := ⟨RX12, "clearFrom", "(I)V"⟩
abbrev cX12_sumOfRequest : ByteArray := prog_14_method_109_code
def yX12_sumOfRequest : MethodName := ⟨RX12, "sumOfRequest", "()I"⟩
abbrev cX12_tell : ByteArray := prog_14_method_61_code
def yX12_tell : MethodName := ⟨RX12, "tell", "()V"⟩
abbrev cX12_keepStep : ByteArray := prog_14_method_60_code
def yX12_keepStep : MethodName := ⟨RX12, "keepStep", "()V"⟩
abbrev cX12_addStreet : ByteArray := prog_14_method_65_code
def yX12_addStreet : MethodName := ⟨RX12, "addStreet", "()V"⟩
abbrev cX12_addUnit : ByteArray := prog_14_method_66_code
def yX12_addUnit : MethodName := ⟨RX12, "addUnit", "(II)V"⟩
abbrev cX12_setUnit : ByteArray := prog_14_method_6_code
def yX12_setUnit : MethodName := ⟨RX12, "setUnit", "(III)V"⟩
abbrev cX12_letGo : ByteArray := prog_14_method_40_code
def yX12_letGo : MethodName := ⟨RX12, "letGo", "(I)V"⟩
abbrev cX12_addCall : ByteArray := prog_14_method_67_code
def yX12_addCall : MethodName := ⟨RX12, "addCall", "(III)V"⟩
abbrev cX12_setCall : ByteArray := prog_14_method_8_code
def yX12_setCall : MethodName := ⟨RX12, "setCall", "(III)V"⟩
abbrev cX12_sendAll : ByteArray := prog_14_method_68_code
def yX12_sendAll : MethodName := ⟨RX12, "sendAll", "()V"⟩
abbrev cX12_findBoth : ByteArray := prog_14_method_42_code
def yX12_findBoth : MethodName := ⟨RX12, "findBoth", "()V"⟩
abbrev cX12_findPlan : ByteArray := prog_14_method_46_code
def yX12_findPlan : MethodName := ⟨RX12, "findPlan", "(I)V"⟩
abbrev cX12_sumOf : ByteArray := prog_14_method_45_code
def yX12_sumOf : MethodName := ⟨RX12, "sumOf", "(Z)I"⟩
abbrev cX12_may : ByteArray := prog_14_method_44_code
def yX12_may : MethodName := ⟨RX12, "may", "(II)Z"⟩
abbrev cX12_tellPlan : ByteArray := prog_14_method_70_code
def yX12_tellPlan : MethodName := ⟨RX12, "tellPlan", "()V"⟩
abbrev cX12_sendTo : ByteArray := prog_14_method_41_code
def yX12_sendTo : MethodName := ⟨RX12, "sendTo", "(II)V"⟩
abbrev cX12_tick : ByteArray := prog_14_method_51_code
def yX12_tick : MethodName := ⟨RX12, "tick", "(I)V"⟩
abbrev cX12_second : ByteArray := prog_14_method_50_code
def yX12_second : MethodName := ⟨RX12, "second", "(I)V"⟩
abbrev cX12_takesStep : ByteArray := prog_14_method_49_code
def yX12_takesStep : MethodName := ⟨RX12, "takesStep", "(I)Z"⟩
abbrev cX12_targetOf : ByteArray := prog_14_method_48_code
def yX12_targetOf : MethodName := ⟨RX12, "targetOf", "(I)I"⟩
abbrev cX12_otherEnd : ByteArray := prog_14_method_32_code
def yX12_otherEnd : MethodName := ⟨RX12, "otherEnd", "(II)I"⟩
abbrev cX12_addKind : ByteArray := prog_14_method_62_code
def yX12_addKind : MethodName := ⟨RX12, "addKind", "()V"⟩
abbrev cX12_tellMore : ByteArray := prog_14_method_63_code
def yX12_tellMore : MethodName := ⟨RX12, "tellMore", "(II)V"⟩
abbrev cX12_turnBack : ByteArray := prog_14_method_64_code
def yX12_turnBack : MethodName := ⟨RX12, "turnBack", "()V"⟩
abbrev cX12_askIt : ByteArray := prog_14_method_117_code
def yX12_askIt : MethodName := ⟨RX12, "askIt", "()V"⟩
abbrev cX12_tellWays : ByteArray := prog_14_method_69_code
def yX12_tellWays : MethodName := ⟨RX12, "tellWays", "(I)V"⟩
abbrev cX12_tellProof : ByteArray := prog_14_method_71_code
def yX12_tellProof : MethodName := ⟨RX12, "tellProof", "()V"⟩
abbrev cX12_worthOfPlan : ByteArray := prog_14_method_47_code
def yX12_worthOfPlan : MethodName := ⟨RX12, "worthOfPlan", "(I)I"⟩
abbrev cX12_check : ByteArray := prog_14_method_108_code
def yX12_check : MethodName := ⟨RX12, "check", "()V"⟩
abbrev cX12_takeLine : ByteArray := prog_14_method_102_code
def yX12_takeLine : MethodName := ⟨RX12, "takeLine", "()I"⟩
abbrev cX12_isRightWays : ByteArray := prog_14_method_103_code
def yX12_isRightWays : MethodName := ⟨RX12, "isRightWays", "()Z"⟩
abbrev cX12_isRightPair : ByteArray := prog_14_method_105_code
def yX12_isRightPair : MethodName := ⟨RX12, "isRightPair", "()Z"⟩
abbrev cX12_worthBy : ByteArray := prog_14_method_104_code
def yX12_worthBy : MethodName := ⟨RX12, "worthBy", "(II)I"⟩
abbrev cX12_isRightUnits : ByteArray := prog_14_method_106_code
def yX12_isRightUnits : MethodName := ⟨RX12, "isRightUnits", "()Z"⟩
abbrev cX12_isRightCalls : ByteArray := prog_14_method_107_code
def yX12_isRightCalls : MethodName := ⟨RX12, "isRightCalls", "()Z"⟩
abbrev cX12_tellCover : ByteArray := prog_14_method_73_code
def yX12_tellCover : MethodName := ⟨RX12, "tellCover", "()V"⟩
abbrev cX12_coverWith : ByteArray := prog_14_method_72_code
def yX12_coverWith : MethodName := ⟨RX12, "coverWith", "(II)I"⟩
abbrev cX12_tellMove : ByteArray := prog_14_method_74_code
def yX12_tellMove : MethodName := ⟨RX12, "tellMove", "()V"⟩
abbrev cX12_tellUnits : ByteArray := prog_14_method_75_code
def yX12_tellUnits : MethodName := ⟨RX12, "tellUnits", "()V"⟩
abbrev cX12_tellCalls : ByteArray := prog_14_method_76_code
def yX12_tellCalls : MethodName := ⟨RX12, "tellCalls", "()V"⟩
abbrev cX12_tellBill : ByteArray := prog_14_method_120_code
def yX12_tellBill : MethodName := ⟨RX12, "tellBill", "(I)V"⟩
abbrev cX12_tellBooks : ByteArray := prog_14_method_77_code
def yX12_tellBooks : MethodName := ⟨RX12, "tellBooks", "()V"⟩
abbrev cX12_askMore : ByteArray := prog_14_method_118_code
def yX12_askMore : MethodName := ⟨RX12, "askMore", "(II)V"⟩
abbrev cX12_tellWhere : ByteArray := prog_14_method_79_code
def yX12_tellWhere : MethodName := ⟨RX12, "tellWhere", "()V"⟩
abbrev cX12_edits : ByteArray := prog_14_method_78_code
def yX12_edits : MethodName := ⟨RX12, "edits", "(I)I"⟩
abbrev cX12_tellPath : ByteArray := prog_14_method_81_code
def yX12_tellPath : MethodName := ⟨RX12, "tellPath", "(II)V"⟩
abbrev cX12_nextPlace : ByteArray := prog_14_method_80_code
def yX12_nextPlace : MethodName := ⟨RX12, "nextPlace", "(II)I"⟩
abbrev cX12_tellRadio : ByteArray := prog_14_method_84_code
def yX12_tellRadio : MethodName := ⟨RX12, "tellRadio", "(I)V"⟩
abbrev cX12_colours : ByteArray := prog_14_method_83_code
def yX12_colours : MethodName := ⟨RX12, "colours", "(IIII)Z"⟩
abbrev cX12_areClose : ByteArray := prog_14_method_82_code
def yX12_areClose : MethodName := ⟨RX12, "areClose", "(III)Z"⟩
abbrev cX12_areApart : ByteArray := prog_14_method_91_code
def yX12_areApart : MethodName := ⟨RX12, "areApart", "(II)Z"⟩
abbrev cX12_askFlow : ByteArray := prog_14_method_119_code
def yX12_askFlow : MethodName := ⟨RX12, "askFlow", "(II)V"⟩
abbrev cX12_tellDam : ByteArray := prog_14_method_92_code
def yX12_tellDam : MethodName := ⟨RX12, "tellDam", "(II)V"⟩
abbrev cX12_findFlow : ByteArray := prog_14_method_89_code
def yX12_findFlow : MethodName := ⟨RX12, "findFlow", "(II)V"⟩
abbrev cX12_findFar : ByteArray := prog_14_method_87_code
def yX12_findFar : MethodName := ⟨RX12, "findFar", "(I)V"⟩
abbrev cX12_room : ByteArray := prog_14_method_86_code
def yX12_room : MethodName := ⟨RX12, "room", "(II)I"⟩
abbrev cX12_capacity : ByteArray := prog_14_method_85_code
def yX12_capacity : MethodName := ⟨RX12, "capacity", "(I)I"⟩
abbrev cX12_streetFrom : ByteArray := prog_14_method_88_code
def yX12_streetFrom : MethodName := ⟨RX12, "streetFrom", "(I)I"⟩
abbrev cX12_judge : ByteArray := prog_14_method_95_code
def yX12_judge : MethodName := ⟨RX12, "judge", "(II)V"⟩
abbrev cX12_canBe : ByteArray := prog_14_method_93_code
def yX12_canBe : MethodName := ⟨RX12, "canBe", "(I)Z"⟩
abbrev cX12_out : ByteArray := prog_14_method_90_code
def yX12_out : MethodName := ⟨RX12, "out", "(IZ)I"⟩
abbrev cX12_isInCut : ByteArray := prog_14_method_94_code
def yX12_isInCut : MethodName := ⟨RX12, "isInCut", "(I)Z"⟩
abbrev cX12_tellCounts : ByteArray := prog_14_method_97_code
def yX12_tellCounts : MethodName := ⟨RX12, "tellCounts", "()V"⟩
abbrev cX12_callsOf : ByteArray := prog_14_method_96_code
def yX12_callsOf : MethodName := ⟨RX12, "callsOf", "(I)I"⟩
abbrev cX12_tellAhead : ByteArray := prog_14_method_98_code
def yX12_tellAhead : MethodName := ⟨RX12, "tellAhead", "(I)V"⟩
abbrev cX12_tellShifts : ByteArray := prog_14_method_99_code
def yX12_tellShifts : MethodName := ⟨RX12, "tellShifts", "()V"⟩
abbrev cX12_audit : ByteArray := prog_14_method_101_code
def yX12_audit : MethodName := ⟨RX12, "audit", "()V"⟩
abbrev cX12_isUnitSound : ByteArray := prog_14_method_100_code
def yX12_isUnitSound : MethodName := ⟨RX12, "isUnitSound", "(I)Z"⟩
abbrev cX12_cut : ByteArray := prog_14_method_113_code
def yX12_cut : MethodName := ⟨RX12, "cut", "(I)V"⟩
abbrev cX12_mend : ByteArray := prog_14_method_115_code
def yX12_mend : MethodName := ⟨RX12, "mend", "()V"⟩
abbrev cX12_takeRecord : ByteArray := prog_14_method_114_code
def yX12_takeRecord : MethodName := ⟨RX12, "takeRecord", "(I)Z"⟩
abbrev cX12_answer : ByteArray := prog_14_method_123_code
def yX12_answer : MethodName := ⟨RX12, "answer", "(I)I"⟩
abbrev cX12_checkAnswer : ByteArray := prog_14_method_124_code
def yX12_checkAnswer : MethodName := ⟨RX12, "checkAnswer", "()I"⟩
abbrev cX12_state : ByteArray := prog_14_method_125_code
def yX12_state : MethodName := ⟨RX12, "state", "(I)I"⟩
abbrev cX12_byteAt : ByteArray := prog_14_method_126_code
def yX12_byteAt : MethodName := ⟨RX12, "byteAt", "(I)I"⟩
abbrev cX12_poke : ByteArray := prog_14_method_127_code
def yX12_poke : MethodName := ⟨RX12, "poke", "(II)Z"⟩
theorem q200 : (Jvm.Cond.initialized "RescueHouseModel") ∈ lw_all := lw_g (lw_at lw_m1 13 rfl) rfl
theorem q1475 : (Jvm.Cond.instantiable "RescueHouseModel" (63 : Nat)) ∈ lw_all := lw_g (lw_at lw_m6 88 rfl) rfl
theorem q1477 : (Jvm.Cond.instanceMethod ({ cls := "RescueHouseModel", name := "<init>", desc := "()V" } : Jvm.MethodName)) ∈ lw_all := lw_g (lw_at lw_m6 90 rfl) rfl
theorem q1478 : (Jvm.Cond.code ({ cls := "RescueHouseModel", name := "<init>", desc := "()V" } : Jvm.MethodName) prog_14_method_1_code (1 : Nat) (Option.none : Option Jvm.ClassFile.FieldType)) ∈ lw_all := lw_g (lw_at lw_m6 91 rfl) rfl
theorem q1479 : (Jvm.Cond.methodLink "RescueHouseModel" (1 : Nat) ({ cls := "java/lang/Object", name := "<init>", desc := "()V" } : Jvm.MethodName)) ∈ lw_all := lw_g (lw_at lw_m6 92 rfl) rfl
theorem q1480 : (Jvm.Cond.methodLink "RescueHouseModel" (120 : Nat) ({ cls := "RescueHouseModel", name := "begin", desc := "(I)V" } : Jvm.MethodName)) ∈ lw_all := lw_g (lw_at lw_m6 93 rfl) rfl
theorem q1481 : (Jvm.Cond.privateMethod ({ cls := "RescueHouseModel", name := "begin", desc := "(I)V" } : Jvm.MethodName)) ∈ lw_tbl := lw_at lw_m6 94 rfl
theorem q1482 : (Jvm.Cond.instanceMethod ({ cls := "RescueHouseModel", name := "begin", desc := "(I)V" } : Jvm.MethodName)) ∈ lw_all := lw_g (lw_at lw_m6 95 rfl) rfl
theorem q1483 : (Jvm.Cond.code ({ cls := "RescueHouseModel", name := "begin", desc := "(I)V" } : Jvm.MethodName) prog_14_method_2_code (3 : Nat) (Option.none : Option Jvm.ClassFile.FieldType)) ∈ lw_all := lw_g (lw_at lw_m6 96 rfl) rfl
theorem q1484 : (Jvm.Cond.fieldLink "RescueHouseModel" (7 : Nat) "RescueHouseModel" "house" "[I") ∈ lw_all := lw_g (lw_at lw_m6 97 rfl) rfl
theorem q1485 : (Jvm.Cond.fieldLink "RescueHouseModel" (13 : Nat) "RescueHouseModel" "kept" "[I") ∈ lw_all := lw_g (lw_at lw_m6 98 rfl) rfl
theorem q1486 : (Jvm.Cond.fieldLink "RescueHouseModel" (124 : Nat) "RescueHouseModel" "steps" "I") ∈ lw_all := lw_g (lw_at lw_m6 99 rfl) rfl
theorem q1487 : (Jvm.Cond.fieldLink "RescueHouseModel" (16 : Nat) "RescueHouseModel" "drilled" "[I") ∈ lw_all := lw_g (lw_at lw_m6 100 rfl) rfl
theorem q1488 : (Jvm.Cond.fieldLink "RescueHouseModel" (19 : Nat) "RescueHouseModel" "beside" "[I") ∈ lw_all := lw_g (lw_at lw_m6 101 rfl) rfl
theorem q1489 : (Jvm.Cond.fieldLink "RescueHouseModel" (127 : Nat) "RescueHouseModel" "drill" "Z") ∈ lw_all := lw_g (lw_at lw_m6 102 rfl) rfl
theorem q1490 : (Jvm.Cond.fieldLink "RescueHouseModel" (22 : Nat) "RescueHouseModel" "book" "[I") ∈ lw_all := lw_g (lw_at lw_m6 103 rfl) rfl
theorem q1491 : (Jvm.Cond.fieldLink "RescueHouseModel" (468 : Nat) "RescueHouseModel" "used" "I") ∈ lw_all := lw_g (lw_at lw_m6 104 rfl) rfl
theorem q1492 : (Jvm.Cond.fieldLink "RescueHouseModel" (474 : Nat) "RescueHouseModel" "shut" "Z") ∈ lw_all := lw_g (lw_at lw_m6 105 rfl) rfl
theorem q1493 : (Jvm.Cond.fieldLink "RescueHouseModel" (25 : Nat) "RescueHouseModel" "latest" "I") ∈ lw_all := lw_g (lw_at lw_m6 106 rfl) rfl
theorem q1494 : (Jvm.Cond.fieldLink "RescueHouseModel" (29 : Nat) "RescueHouseModel" "tape" "[I") ∈ lw_all := lw_g (lw_at lw_m6 107 rfl) rfl
theorem q1495 : (Jvm.Cond.fieldLink "RescueHouseModel" (567 : Nat) "RescueHouseModel" "taped" "I") ∈ lw_all := lw_g (lw_at lw_m6 108 rfl) rfl
theorem q1496 : (Jvm.Cond.fieldLink "RescueHouseModel" (32 : Nat) "RescueHouseModel" "request" "[I") ∈ lw_all := lw_g (lw_at lw_m6 109 rfl) rfl
theorem q1497 : (Jvm.Cond.fieldLink "RescueHouseModel" (148 : Nat) "RescueHouseModel" "asked" "I") ∈ lw_all := lw_g (lw_at lw_m6 110 rfl) rfl
theorem q1498 : (Jvm.Cond.fieldLink "RescueHouseModel" (35 : Nat) "RescueHouseModel" "out" "[I") ∈ lw_all := lw_g (lw_at lw_m6 111 rfl) rfl
theorem q1499 : (Jvm.Cond.fieldLink "RescueHouseModel" (139 : Nat) "RescueHouseModel" "told" "I") ∈ lw_all := lw_g (lw_at lw_m6 112 rfl) rfl
theorem q1500 : (Jvm.Cond.fieldLink "RescueHouseModel" (38 : Nat) "RescueHouseModel" "requests" "[I") ∈ lw_all := lw_g (lw_at lw_m6 113 rfl) rfl
theorem q1501 : (Jvm.Cond.fieldLink "RescueHouseModel" (41 : Nat) "RescueHouseModel" "numbers" "[I") ∈ lw_all := lw_g (lw_at lw_m6 114 rfl) rfl
theorem q1502 : (Jvm.Cond.fieldLink "RescueHouseModel" (44 : Nat) "RescueHouseModel" "answers" "[I") ∈ lw_all := lw_g (lw_at lw_m6 115 rfl) rfl
theorem q1503 : (Jvm.Cond.fieldLink "RescueHouseModel" (151 : Nat) "RescueHouseModel" "wrong" "I") ∈ lw_all := lw_g (lw_at lw_m6 116 rfl) rfl
theorem q1504 : (Jvm.Cond.fieldLink "RescueHouseModel" (162 : Nat) "RescueHouseModel" "kind" "I") ∈ lw_all := lw_g (lw_at lw_m6 117 rfl) rfl
theorem q1505 : (Jvm.Cond.fieldLink "RescueHouseModel" (145 : Nat) "RescueHouseModel" "at" "I") ∈ lw_all := lw_g (lw_at lw_m6 118 rfl) rfl
theorem q1506 : (Jvm.Cond.fieldLink "RescueHouseModel" (47 : Nat) "RescueHouseModel" "args" "[I") ∈ lw_all := lw_g (lw_at lw_m6 119 rfl) rfl
theorem q1507 : (Jvm.Cond.fieldLink "RescueHouseModel" (50 : Nat) "RescueHouseModel" "tree" "[I") ∈ lw_all := lw_g (lw_at lw_m6 120 rfl) rfl
theorem q1508 : (Jvm.Cond.fieldLink "RescueHouseModel" (175 : Nat) "RescueHouseModel" "treeNodes" "I") ∈ lw_all := lw_g (lw_at lw_m6 121 rfl) rfl
theorem q1509 : (Jvm.Cond.fieldLink "RescueHouseModel" (178 : Nat) "RescueHouseModel" "deepest" "I") ∈ lw_all := lw_g (lw_at lw_m6 122 rfl) rfl
theorem q1510 : (Jvm.Cond.fieldLink "RescueHouseModel" (53 : Nat) "RescueHouseModel" "pending" "[I") ∈ lw_all := lw_g (lw_at lw_m6 123 rfl) rfl
theorem q1511 : (Jvm.Cond.fieldLink "RescueHouseModel" (56 : Nat) "RescueHouseModel" "letters" "[I") ∈ lw_all := lw_g (lw_at lw_m6 124 rfl) rfl
theorem q1512 : (Jvm.Cond.fieldLink "RescueHouseModel" (184 : Nat) "RescueHouseModel" "many2" "I") ∈ lw_all := lw_g (lw_at lw_m6 125 rfl) rfl
theorem q1513 : (Jvm.Cond.fieldLink "RescueHouseModel" (59 : Nat) "RescueHouseModel" "flows" "[I") ∈ lw_all := lw_g (lw_at lw_m6 126 rfl) rfl
theorem q1514 : (Jvm.Cond.fieldLink "RescueHouseModel" (190 : Nat) "RescueHouseModel" "flowCount" "I") ∈ lw_all := lw_g (lw_at lw_m6 127 rfl) rfl
theorem q1515 : (Jvm.Cond.fieldLink "RescueHouseModel" (62 : Nat) "RescueHouseModel" "cuts" "[I") ∈ lw_all := lw_g (lw_at lw_m6 128 rfl) rfl
theorem q1516 : (Jvm.Cond.fieldLink "RescueHouseModel" (193 : Nat) "RescueHouseModel" "cutCount" "I") ∈ lw_all := lw_g (lw_at lw_m6 129 rfl) rfl
theorem q1517 : (Jvm.Cond.fieldLink "RescueHouseModel" (65 : Nat) "RescueHouseModel" "distance" "[I") ∈ lw_all := lw_g (lw_at lw_m6 130 rfl) rfl
theorem q1518 : (Jvm.Cond.fieldLink "RescueHouseModel" (250 : Nat) "RescueHouseModel" "waiting" "I") ∈ lw_all := lw_g (lw_at lw_m6 131 rfl) rfl
theorem q1519 : (Jvm.Cond.fieldLink "RescueHouseModel" (68 : Nat) "RescueHouseModel" "waits" "[I") ∈ lw_all := lw_g (lw_at lw_m6 132 rfl) rfl
theorem q1520 : (Jvm.Cond.fieldLink "RescueHouseModel" (253 : Nat) "RescueHouseModel" "frees" "I") ∈ lw_all := lw_g (lw_at lw_m6 133 rfl) rfl
theorem q1521 : (Jvm.Cond.fieldLink "RescueHouseModel" (71 : Nat) "RescueHouseModel" "free" "[I") ∈ lw_all := lw_g (lw_at lw_m6 134 rfl) rfl
theorem q1522 : (Jvm.Cond.fieldLink "RescueHouseModel" (74 : Nat) "RescueHouseModel" "choice" "[I") ∈ lw_all := lw_g (lw_at lw_m6 135 rfl) rfl
theorem q1523 : (Jvm.Cond.fieldLink "RescueHouseModel" (77 : Nat) "RescueHouseModel" "best" "[I") ∈ lw_all := lw_g (lw_at lw_m6 136 rfl) rfl
theorem q1524 : (Jvm.Cond.fieldLink "RescueHouseModel" (265 : Nat) "RescueHouseModel" "bestRanks" "I") ∈ lw_all := lw_g (lw_at lw_m6 137 rfl) rfl
theorem q1525 : (Jvm.Cond.fieldLink "RescueHouseModel" (268 : Nat) "RescueHouseModel" "bestSeconds" "I") ∈ lw_all := lw_g (lw_at lw_m6 138 rfl) rfl
theorem q1526 : (Jvm.Cond.fieldLink "RescueHouseModel" (324 : Nat) "RescueHouseModel" "metNode" "I") ∈ lw_all := lw_g (lw_at lw_m6 139 rfl) rfl
theorem q1527 : (Jvm.Cond.fieldLink "RescueHouseModel" (330 : Nat) "RescueHouseModel" "metQuestions" "I") ∈ lw_all := lw_g (lw_at lw_m6 140 rfl) rfl
theorem q1528 : (Jvm.Cond.fieldLink "RescueHouseModel" (327 : Nat) "RescueHouseModel" "metMore" "Z") ∈ lw_all := lw_g (lw_at lw_m6 141 rfl) rfl
theorem q1529 : (Jvm.Cond.fieldLink "RescueHouseModel" (80 : Nat) "RescueHouseModel" "duals" "[I") ∈ lw_all := lw_g (lw_at lw_m6 142 rfl) rfl
theorem q1530 : (Jvm.Cond.fieldLink "RescueHouseModel" (83 : Nat) "RescueHouseModel" "pairs" "[I") ∈ lw_all := lw_g (lw_at lw_m6 143 rfl) rfl
theorem q1531 : (Jvm.Cond.fieldLink "RescueHouseModel" (385 : Nat) "RescueHouseModel" "coverPlace" "I") ∈ lw_all := lw_g (lw_at lw_m6 144 rfl) rfl
theorem q1532 : (Jvm.Cond.fieldLink "RescueHouseModel" (86 : Nat) "RescueHouseModel" "row" "[I") ∈ lw_all := lw_g (lw_at lw_m6 145 rfl) rfl
theorem q1533 : (Jvm.Cond.fieldLink "RescueHouseModel" (89 : Nat) "RescueHouseModel" "channel" "[I") ∈ lw_all := lw_g (lw_at lw_m6 146 rfl) rfl
theorem q1534 : (Jvm.Cond.fieldLink "RescueHouseModel" (404 : Nat) "RescueHouseModel" "channels" "I") ∈ lw_all := lw_g (lw_at lw_m6 147 rfl) rfl
theorem q1535 : (Jvm.Cond.fieldLink "RescueHouseModel" (92 : Nat) "RescueHouseModel" "flow" "[I") ∈ lw_all := lw_g (lw_at lw_m6 148 rfl) rfl
theorem q1536 : (Jvm.Cond.fieldLink "RescueHouseModel" (95 : Nat) "RescueHouseModel" "far" "[I") ∈ lw_all := lw_g (lw_at lw_m6 149 rfl) rfl
theorem q1537 : (Jvm.Cond.fieldLink "RescueHouseModel" (98 : Nat) "RescueHouseModel" "waysOut" "[I") ∈ lw_all := lw_g (lw_at lw_m6 150 rfl) rfl
theorem q1538 : (Jvm.Cond.fieldLink "RescueHouseModel" (101 : Nat) "RescueHouseModel" "proved" "[Z") ∈ lw_all := lw_g (lw_at lw_m6 151 rfl) rfl
theorem q1539 : (Jvm.Cond.fieldLink "RescueHouseModel" (105 : Nat) "RescueHouseModel" "claimed" "[I") ∈ lw_all := lw_g (lw_at lw_m6 152 rfl) rfl
theorem q1540 : (Jvm.Cond.fieldLink "RescueHouseModel" (447 : Nat) "RescueHouseModel" "told2" "I") ∈ lw_all := lw_g (lw_at lw_m6 153 rfl) rfl
theorem q1541 : (Jvm.Cond.fieldLink "RescueHouseModel" (108 : Nat) "RescueHouseModel" "pairCall" "[I") ∈ lw_all := lw_g (lw_at lw_m6 154 rfl) rfl
theorem q1542 : (Jvm.Cond.fieldLink "RescueHouseModel" (111 : Nat) "RescueHouseModel" "pairUnit" "[I") ∈ lw_all := lw_g (lw_at lw_m6 155 rfl) rfl
theorem q1543 : (Jvm.Cond.fieldLink "RescueHouseModel" (441 : Nat) "RescueHouseModel" "many" "I") ∈ lw_all := lw_g (lw_at lw_m6 156 rfl) rfl
theorem q1544 : (Jvm.Cond.fieldLink "RescueHouseModel" (114 : Nat) "RescueHouseModel" "line" "[I") ∈ lw_all := lw_g (lw_at lw_m6 157 rfl) rfl
theorem q1545 : (Jvm.Cond.fieldLink "RescueHouseModel" (117 : Nat) "RescueHouseModel" "ofUnits" "[I") ∈ lw_all := lw_g (lw_at lw_m6 158 rfl) rfl
theorem q1546 : (Jvm.Cond.fieldLink "RescueHouseModel" (450 : Nat) "RescueHouseModel" "hasUnits" "Z") ∈ lw_all := lw_g (lw_at lw_m6 159 rfl) rfl
theorem q1547 : (Jvm.Cond.laysFinal "RescueHouseModel" "RescueHouseModel" "house" "[I") ∈ lw_all := lw_g (lw_at lw_m6 160 rfl) rfl
theorem q1548 : (Jvm.Cond.soleField "RescueHouseModel" "house") ∈ lw_all := lw_g (lw_at lw_m6 161 rfl) rfl
theorem q1549 : (Jvm.Cond.laysFinal "RescueHouseModel" "RescueHouseModel" "kept" "[I") ∈ lw_all := lw_g (lw_at lw_m6 162 rfl) rfl
theorem q1550 : (Jvm.Cond.soleField "RescueHouseModel" "kept") ∈ lw_all := lw_g (lw_at lw_m6 163 rfl) rfl
theorem q1551 : (Jvm.Cond.lays "RescueHouseModel" "RescueHouseModel" "steps" "I") ∈ lw_all := lw_g (lw_at lw_m6 164 rfl) rfl
theorem q1552 : (Jvm.Cond.soleField "RescueHouseModel" "steps") ∈ lw_all := lw_g (lw_at lw_m6 165 rfl) rfl
theorem q1553 : (Jvm.Cond.laysFinal "RescueHouseModel" "RescueHouseModel" "drilled" "[I") ∈ lw_all := lw_g (lw_at lw_m6 166 rfl) rfl
theorem q1554 : (Jvm.Cond.soleField "RescueHouseModel" "drilled") ∈ lw_all := lw_g (lw_at lw_m6 167 rfl) rfl
theorem q1555 : (Jvm.Cond.laysFinal "RescueHouseModel" "RescueHouseModel" "beside" "[I") ∈ lw_all := lw_g (lw_at lw_m6 168 rfl) rfl
theorem q1556 : (Jvm.Cond.soleField "RescueHouseModel" "beside") ∈ lw_all := lw_g (lw_at lw_m6 169 rfl) rfl
theorem q1557 : (Jvm.Cond.lays "RescueHouseModel" "RescueHouseModel" "drill" "Z") ∈ lw_all := lw_g (lw_at lw_m6 170 rfl) rfl
theorem q1558 : (Jvm.Cond.soleField "RescueHouseModel" "drill") ∈ lw_all := lw_g (lw_at lw_m6 171 rfl) rfl
theorem q1559 : (Jvm.Cond.laysFinal "RescueHouseModel" "RescueHouseModel" "book" "[I") ∈ lw_all := lw_g (lw_at lw_m6 172 rfl) rfl
theorem q1560 : (Jvm.Cond.soleField "RescueHouseModel" "book") ∈ lw_all := lw_g (lw_at lw_m6 173 rfl) rfl
theorem q1561 : (Jvm.Cond.lays "RescueHouseModel" "RescueHouseModel" "used" "I") ∈ lw_all := lw_g (lw_at lw_m6 174 rfl) rfl
theorem q1562 : (Jvm.Cond.soleField "RescueHouseModel" "used") ∈ lw_all := lw_g (lw_at lw_m6 175 rfl) rfl
theorem q1563 : (Jvm.Cond.lays "RescueHouseModel" "RescueHouseModel" "shut" "Z") ∈ lw_all := lw_g (lw_at lw_m6 176 rfl) rfl
theorem q1564 : (Jvm.Cond.soleField "RescueHouseModel" "shut") ∈ lw_all := lw_g (lw_at lw_m6 177 rfl) rfl
theorem q1565 : (Jvm.Cond.lays "RescueHouseModel" "RescueHouseModel" "latest" "I") ∈ lw_all := lw_g (lw_at lw_m6 178 rfl) rfl
theorem q1566 : (Jvm.Cond.soleField "RescueHouseModel" "latest") ∈ lw_all := lw_g (lw_at lw_m6 179 rfl) rfl
theorem q1567 : (Jvm.Cond.laysFinal "RescueHouseModel" "RescueHouseModel" "tape" "[I") ∈ lw_all := lw_g (lw_at lw_m6 180 rfl) rfl
theorem q1568 : (Jvm.Cond.soleField "RescueHouseModel" "tape") ∈ lw_all := lw_g (lw_at lw_m6 181 rfl) rfl
theorem q1569 : (Jvm.Cond.lays "RescueHouseModel" "RescueHouseModel" "taped" "I") ∈ lw_all := lw_g (lw_at lw_m6 182 rfl) rfl
theorem q1570 : (Jvm.Cond.soleField "RescueHouseModel" "taped") ∈ lw_all := lw_g (lw_at lw_m6 183 rfl) rfl
theorem q1571 : (Jvm.Cond.laysFinal "RescueHouseModel" "RescueHouseModel" "request" "[I") ∈ lw_all := lw_g (lw_at lw_m6 184 rfl) rfl
theorem q1572 : (Jvm.Cond.soleField "RescueHouseModel" "request") ∈ lw_all := lw_g (lw_at lw_m6 185 rfl) rfl
theorem q1573 : (Jvm.Cond.lays "RescueHouseModel" "RescueHouseModel" "asked" "I") ∈ lw_all := lw_g (lw_at lw_m6 186 rfl) rfl
theorem q1574 : (Jvm.Cond.soleField "RescueHouseModel" "asked") ∈ lw_all := lw_g (lw_at lw_m6 187 rfl) rfl
theorem q1575 : (Jvm.Cond.laysFinal "RescueHouseModel" "RescueHouseModel" "out" "[I") ∈ lw_all := lw_g (lw_at lw_m6 188 rfl) rfl
theorem q1576 : (Jvm.Cond.soleField "RescueHouseModel" "out") ∈ lw_all := lw_g (lw_at lw_m6 189 rfl) rfl
theorem q1577 : (Jvm.Cond.lays "RescueHouseModel" "RescueHouseModel" "told" "I") ∈ lw_all := lw_g (lw_at lw_m6 190 rfl) rfl
theorem q1578 : (Jvm.Cond.soleField "RescueHouseModel" "told") ∈ lw_all := lw_g (lw_at lw_m6 191 rfl) rfl
theorem q1579 : (Jvm.Cond.laysFinal "RescueHouseModel" "RescueHouseModel" "requests" "[I") ∈ lw_all := lw_g (lw_at lw_m6 192 rfl) rfl
theorem q1580 : (Jvm.Cond.soleField "RescueHouseModel" "requests") ∈ lw_all := lw_g (lw_at lw_m6 193 rfl) rfl
theorem q1581 : (Jvm.Cond.laysFinal "RescueHouseModel" "RescueHouseModel" "numbers" "[I") ∈ lw_all := lw_g (lw_at lw_m6 194 rfl) rfl
theorem q1582 : (Jvm.Cond.soleField "RescueHouseModel" "numbers") ∈ lw_all := lw_g (lw_at lw_m6 195 rfl) rfl
theorem q1583 : (Jvm.Cond.laysFinal "RescueHouseModel" "RescueHouseModel" "answers" "[I") ∈ lw_all := lw_g (lw_at lw_m6 196 rfl) rfl
theorem q1584 : (Jvm.Cond.soleField "RescueHouseModel" "answers") ∈ lw_all := lw_g (lw_at lw_m6 197 rfl) rfl
theorem q1585 : (Jvm.Cond.lays "RescueHouseModel" "RescueHouseModel" "wrong" "I") ∈ lw_all := lw_g (lw_at lw_m6 198 rfl) rfl
theorem q1586 : (Jvm.Cond.soleField "RescueHouseModel" "wrong") ∈ lw_all := lw_g (lw_at lw_m6 199 rfl) rfl
theorem q1587 : (Jvm.Cond.lays "RescueHouseModel" "RescueHouseModel" "kind" "I") ∈ lw_all := lw_g (lw_at lw_m6 200 rfl) rfl
theorem q1588 : (Jvm.Cond.soleField "RescueHouseModel" "kind") ∈ lw_all := lw_g (lw_at lw_m6 201 rfl) rfl
theorem q1589 : (Jvm.Cond.lays "RescueHouseModel" "RescueHouseModel" "at" "I") ∈ lw_all := lw_g (lw_at lw_m6 202 rfl) rfl
theorem q1590 : (Jvm.Cond.soleField "RescueHouseModel" "at") ∈ lw_all := lw_g (lw_at lw_m6 203 rfl) rfl
theorem q1591 : (Jvm.Cond.laysFinal "RescueHouseModel" "RescueHouseModel" "args" "[I") ∈ lw_all := lw_g (lw_at lw_m6 204 rfl) rfl
theorem q1592 : (Jvm.Cond.soleField "RescueHouseModel" "args") ∈ lw_all := lw_g (lw_at lw_m6 205 rfl) rfl
theorem q1593 : (Jvm.Cond.laysFinal "RescueHouseModel" "RescueHouseModel" "tree" "[I") ∈ lw_all := lw_g (lw_at lw_m6 206 rfl) rfl
theorem q1594 : (Jvm.Cond.soleField "RescueHouseModel" "tree") ∈ lw_all := lw_g (lw_at lw_m6 207 rfl) rfl
theorem q1595 : (Jvm.Cond.lays "RescueHouseModel" "RescueHouseModel" "treeNodes" "I") ∈ lw_all := lw_g (lw_at lw_m6 208 rfl) rfl
theorem q1596 : (Jvm.Cond.soleField "RescueHouseModel" "treeNodes") ∈ lw_all := lw_g (lw_at lw_m6 209 rfl) rfl
theorem q1597 : (Jvm.Cond.lays "RescueHouseModel" "RescueHouseModel" "deepest" "I") ∈ lw_all := lw_g (lw_at lw_m6 210 rfl) rfl
theorem q1598 : (Jvm.Cond.soleField "RescueHouseModel" "deepest") ∈ lw_all := lw_g (lw_at lw_m6 211 rfl) rfl
theorem q1599 : (Jvm.Cond.laysFinal "RescueHouseModel" "RescueHouseModel" "pending" "[I") ∈ lw_all := lw_g (lw_at lw_m6 212 rfl) rfl
theorem q1600 : (Jvm.Cond.soleField "RescueHouseModel" "pending") ∈ lw_all := lw_g (lw_at lw_m6 213 rfl) rfl
theorem q1601 : (Jvm.Cond.laysFinal "RescueHouseModel" "RescueHouseModel" "letters" "[I") ∈ lw_all := lw_g (lw_at lw_m6 214 rfl) rfl
theorem q1602 : (Jvm.Cond.soleField "RescueHouseModel" "letters") ∈ lw_all := lw_g (lw_at lw_m6 215 rfl) rfl
theorem q1603 : (Jvm.Cond.lays "RescueHouseModel" "RescueHouseModel" "many2" "I") ∈ lw_all := lw_g (lw_at lw_m6 216 rfl) rfl
theorem q1604 : (Jvm.Cond.soleField "RescueHouseModel" "many2") ∈ lw_all := lw_g (lw_at lw_m6 217 rfl) rfl
theorem q1605 : (Jvm.Cond.laysFinal "RescueHouseModel" "RescueHouseModel" "flows" "[I") ∈ lw_all := lw_g (lw_at lw_m6 218 rfl) rfl
theorem q1606 : (Jvm.Cond.soleField "RescueHouseModel" "flows") ∈ lw_all := lw_g (lw_at lw_m6 219 rfl) rfl
theorem q1607 : (Jvm.Cond.lays "RescueHouseModel" "RescueHouseModel" "flowCount" "I") ∈ lw_all := lw_g (lw_at lw_m6 220 rfl) rfl
theorem q1608 : (Jvm.Cond.soleField "RescueHouseModel" "flowCount") ∈ lw_all := lw_g (lw_at lw_m6 221 rfl) rfl
theorem q1609 : (Jvm.Cond.laysFinal "RescueHouseModel" "RescueHouseModel" "cuts" "[I") ∈ lw_all := lw_g (lw_at lw_m6 222 rfl) rfl
theorem q1610 : (Jvm.Cond.soleField "RescueHouseModel" "cuts") ∈ lw_all := lw_g (lw_at lw_m6 223 rfl) rfl
theorem q1611 : (Jvm.Cond.lays "RescueHouseModel" "RescueHouseModel" "cutCount" "I") ∈ lw_all := lw_g (lw_at lw_m6 224 rfl) rfl
theorem q1612 : (Jvm.Cond.soleField "RescueHouseModel" "cutCount") ∈ lw_all := lw_g (lw_at lw_m6 225 rfl) rfl
theorem q1613 : (Jvm.Cond.laysFinal "RescueHouseModel" "RescueHouseModel" "distance" "[I") ∈ lw_all := lw_g (lw_at lw_m6 226 rfl) rfl
theorem q1614 : (Jvm.Cond.soleField "RescueHouseModel" "distance") ∈ lw_all := lw_g (lw_at lw_m6 227 rfl) rfl
theorem q1615 : (Jvm.Cond.lays "RescueHouseModel" "RescueHouseModel" "waiting" "I") ∈ lw_all := lw_g (lw_at lw_m6 228 rfl) rfl
theorem q1616 : (Jvm.Cond.soleField "RescueHouseModel" "waiting") ∈ lw_all := lw_g (lw_at lw_m6 229 rfl) rfl
theorem q1617 : (Jvm.Cond.laysFinal "RescueHouseModel" "RescueHouseModel" "waits" "[I") ∈ lw_all := lw_g (lw_at lw_m6 230 rfl) rfl
theorem q1618 : (Jvm.Cond.soleField "RescueHouseModel" "waits") ∈ lw_all := lw_g (lw_at lw_m6 231 rfl) rfl
theorem q1619 : (Jvm.Cond.lays "RescueHouseModel" "RescueHouseModel" "frees" "I") ∈ lw_all := lw_g (lw_at lw_m6 232 rfl) rfl
theorem q1620 : (Jvm.Cond.soleField "RescueHouseModel" "frees") ∈ lw_all := lw_g (lw_at lw_m6 233 rfl) rfl
theorem q1621 : (Jvm.Cond.laysFinal "RescueHouseModel" "RescueHouseModel" "free" "[I") ∈ lw_all := lw_g (lw_at lw_m6 234 rfl) rfl
theorem q1622 : (Jvm.Cond.soleField "RescueHouseModel" "free") ∈ lw_all := lw_g (lw_at lw_m6 235 rfl) rfl
theorem q1623 : (Jvm.Cond.laysFinal "RescueHouseModel" "RescueHouseModel" "choice" "[I") ∈ lw_all := lw_g (lw_at lw_m6 236 rfl) rfl
theorem q1624 : (Jvm.Cond.soleField "RescueHouseModel" "choice") ∈ lw_all := lw_g (lw_at lw_m6 237 rfl) rfl
theorem q1625 : (Jvm.Cond.laysFinal "RescueHouseModel" "RescueHouseModel" "best" "[I") ∈ lw_all := lw_g (lw_at lw_m6 238 rfl) rfl
theorem q1626 : (Jvm.Cond.soleField "RescueHouseModel" "best") ∈ lw_all := lw_g (lw_at lw_m6 239 rfl) rfl
theorem q1627 : (Jvm.Cond.lays "RescueHouseModel" "RescueHouseModel" "bestRanks" "I") ∈ lw_all := lw_g (lw_at lw_m7 0 rfl) rfl
theorem q1628 : (Jvm.Cond.soleField "RescueHouseModel" "bestRanks") ∈ lw_all := lw_g (lw_at lw_m7 1 rfl) rfl
theorem q1629 : (Jvm.Cond.lays "RescueHouseModel" "RescueHouseModel" "bestSeconds" "I") ∈ lw_all := lw_g (lw_at lw_m7 2 rfl) rfl
theorem q1630 : (Jvm.Cond.soleField "RescueHouseModel" "bestSeconds") ∈ lw_all := lw_g (lw_at lw_m7 3 rfl) rfl
theorem q1631 : (Jvm.Cond.lays "RescueHouseModel" "RescueHouseModel" "metNode" "I") ∈ lw_all := lw_g (lw_at lw_m7 4 rfl) rfl
theorem q1632 : (Jvm.Cond.soleField "RescueHouseModel" "metNode") ∈ lw_all := lw_g (lw_at lw_m7 5 rfl) rfl
theorem q1633 : (Jvm.Cond.lays "RescueHouseModel" "RescueHouseModel" "metQuestions" "I") ∈ lw_all := lw_g (lw_at lw_m7 6 rfl) rfl
theorem q1634 : (Jvm.Cond.soleField "RescueHouseModel" "metQuestions") ∈ lw_all := lw_g (lw_at lw_m7 7 rfl) rfl
theorem q1635 : (Jvm.Cond.lays "RescueHouseModel" "RescueHouseModel" "metMore" "Z") ∈ lw_all := lw_g (lw_at lw_m7 8 rfl) rfl
theorem q1636 : (Jvm.Cond.soleField "RescueHouseModel" "metMore") ∈ lw_all := lw_g (lw_at lw_m7 9 rfl) rfl
theorem q1637 : (Jvm.Cond.laysFinal "RescueHouseModel" "RescueHouseModel" "duals" "[I") ∈ lw_all := lw_g (lw_at lw_m7 10 rfl) rfl
theorem q1638 : (Jvm.Cond.soleField "RescueHouseModel" "duals") ∈ lw_all := lw_g (lw_at lw_m7 11 rfl) rfl
theorem q1639 : (Jvm.Cond.laysFinal "RescueHouseModel" "RescueHouseModel" "pairs" "[I") ∈ lw_all := lw_g (lw_at lw_m7 12 rfl) rfl
theorem q1640 : (Jvm.Cond.soleField "RescueHouseModel" "pairs") ∈ lw_all := lw_g (lw_at lw_m7 13 rfl) rfl
theorem q1641 : (Jvm.Cond.lays "RescueHouseModel" "RescueHouseModel" "coverPlace" "I") ∈ lw_all := lw_g (lw_at lw_m7 14 rfl) rfl
theorem q1642 : (Jvm.Cond.soleField "RescueHouseModel" "coverPlace") ∈ lw_all := lw_g (lw_at lw_m7 15 rfl) rfl
theorem q1643 : (Jvm.Cond.laysFinal "RescueHouseModel" "RescueHouseModel" "row" "[I") ∈ lw_all := lw_g (lw_at lw_m7 16 rfl) rfl
theorem q1644 : (Jvm.Cond.soleField "RescueHouseModel" "row") ∈ lw_all := lw_g (lw_at lw_m7 17 rfl) rfl
theorem q1645 : (Jvm.Cond.laysFinal "RescueHouseModel" "RescueHouseModel" "channel" "[I") ∈ lw_all := lw_g (lw_at lw_m7 18 rfl) rfl
theorem q1646 : (Jvm.Cond.soleField "RescueHouseModel" "channel") ∈ lw_all := lw_g (lw_at lw_m7 19 rfl) rfl
theorem q1647 : (Jvm.Cond.lays "RescueHouseModel" "RescueHouseModel" "channels" "I") ∈ lw_all := lw_g (lw_at lw_m7 20 rfl) rfl
theorem q1648 : (Jvm.Cond.soleField "RescueHouseModel" "channels") ∈ lw_all := lw_g (lw_at lw_m7 21 rfl) rfl
theorem q1649 : (Jvm.Cond.laysFinal "RescueHouseModel" "RescueHouseModel" "flow" "[I") ∈ lw_all := lw_g (lw_at lw_m7 22 rfl) rfl
theorem q1650 : (Jvm.Cond.soleField "RescueHouseModel" "flow") ∈ lw_all := lw_g (lw_at lw_m7 23 rfl) rfl
theorem q1651 : (Jvm.Cond.laysFinal "RescueHouseModel" "RescueHouseModel" "far" "[I") ∈ lw_all := lw_g (lw_at lw_m7 24 rfl) rfl
theorem q1652 : (Jvm.Cond.soleField "RescueHouseModel" "far") ∈ lw_all := lw_g (lw_at lw_m7 25 rfl) rfl
theorem q1653 : (Jvm.Cond.laysFinal "RescueHouseModel" "RescueHouseModel" "waysOut" "[I") ∈ lw_all := lw_g (lw_at lw_m7 26 rfl) rfl
theorem q1654 : (Jvm.Cond.soleField "RescueHouseModel" "waysOut") ∈ lw_all := lw_g (lw_at lw_m7 27 rfl) rfl
theorem q1655 : (Jvm.Cond.laysFinal "RescueHouseModel" "RescueHouseModel" "proved" "[Z") ∈ lw_all := lw_g (lw_at lw_m7 28 rfl) rfl
theorem q1656 : (Jvm.Cond.soleField "RescueHouseModel" "proved") ∈ lw_all := lw_g (lw_at lw_m7 29 rfl) rfl
theorem q1657 : (Jvm.Cond.laysFinal "RescueHouseModel" "RescueHouseModel" "claimed" "[I") ∈ lw_all := lw_g (lw_at lw_m7 30 rfl) rfl
theorem q1658 : (Jvm.Cond.soleField "RescueHouseModel" "claimed") ∈ lw_all := lw_g (lw_at lw_m7 31 rfl) rfl
theorem q1659 : (Jvm.Cond.lays "RescueHouseModel" "RescueHouseModel" "told2" "I") ∈ lw_all := lw_g (lw_at lw_m7 32 rfl) rfl
theorem q1660 : (Jvm.Cond.soleField "RescueHouseModel" "told2") ∈ lw_all := lw_g (lw_at lw_m7 33 rfl) rfl
theorem q1661 : (Jvm.Cond.laysFinal "RescueHouseModel" "RescueHouseModel" "pairCall" "[I") ∈ lw_all := lw_g (lw_at lw_m7 34 rfl) rfl
theorem q1662 : (Jvm.Cond.soleField "RescueHouseModel" "pairCall") ∈ lw_all := lw_g (lw_at lw_m7 35 rfl) rfl
theorem q1663 : (Jvm.Cond.laysFinal "RescueHouseModel" "RescueHouseModel" "pairUnit" "[I") ∈ lw_all := lw_g (lw_at lw_m7 36 rfl) rfl
theorem q1664 : (Jvm.Cond.soleField "RescueHouseModel" "pairUnit") ∈ lw_all := lw_g (lw_at lw_m7 37 rfl) rfl
theorem q1665 : (Jvm.Cond.lays "RescueHouseModel" "RescueHouseModel" "many" "I") ∈ lw_all := lw_g (lw_at lw_m7 38 rfl) rfl
theorem q1666 : (Jvm.Cond.soleField "RescueHouseModel" "many") ∈ lw_all := lw_g (lw_at lw_m7 39 rfl) rfl
theorem q1667 : (Jvm.Cond.laysFinal "RescueHouseModel" "RescueHouseModel" "line" "[I") ∈ lw_all := lw_g (lw_at lw_m7 40 rfl) rfl
theorem q1668 : (Jvm.Cond.soleField "RescueHouseModel" "line") ∈ lw_all := lw_g (lw_at lw_m7 41 rfl) rfl
theorem q1669 : (Jvm.Cond.laysFinal "RescueHouseModel" "RescueHouseModel" "ofUnits" "[I") ∈ lw_all := lw_g (lw_at lw_m7 42 rfl) rfl
theorem q1670 : (Jvm.Cond.soleField "RescueHouseModel" "ofUnits") ∈ lw_all := lw_g (lw_at lw_m7 43 rfl) rfl
theorem q1671 : (Jvm.Cond.lays "RescueHouseModel" "RescueHouseModel" "hasUnits" "Z") ∈ lw_all := lw_g (lw_at lw_m7 44 rfl) rfl
theorem q1672 : (Jvm.Cond.soleField "RescueHouseModel" "hasUnits") ∈ lw_all := lw_g (lw_at lw_m7 45 rfl) rfl
theorem q1673 : (Jvm.Cond.superclass "RescueHouseModel" "java/lang/Object") ∈ lw_all := lw_g (lw_at lw_m7 46 rfl) rfl
theorem q1675 : (Jvm.Cond.instanceMethod ({ cls := "RescueHouseModel", name := "feed", desc := "(IIIII)I" } : Jvm.MethodName)) ∈ lw_all := lw_g (lw_at lw_m7 48 rfl) rfl
theorem q1676 : (Jvm.Cond.selects "RescueHouseModel" ({ cls := "RescueHouseModel", name := "feed", desc := "(IIIII)I" } : Jvm.MethodName) ({ cls := "RescueHouseModel", name := "feed", desc := "(IIIII)I" } : Jvm.MethodName)) ∈ lw_all := lw_g (lw_at lw_m7 49 rfl) rfl
theorem q1677 : (Jvm.Cond.code ({ cls := "RescueHouseModel", name := "feed", desc := "(IIIII)I" } : Jvm.MethodName) prog_14_method_121_code (8 : Nat) (Option.some Jvm.ClassFile.FieldType.int)) ∈ lw_all := lw_g (lw_at lw_m7 50 rfl) rfl
theorem q1679 : (Jvm.Cond.instanceMethod ({ cls := "RescueHouseModel", name := "ask", desc := "(I)I" } : Jvm.MethodName)) ∈ lw_all := lw_g (lw_at lw_m7 52 rfl) rfl
theorem q1680 : (Jvm.Cond.selects "RescueHouseModel" ({ cls := "RescueHouseModel", name := "ask", desc := "(I)I" } : Jvm.MethodName) ({ cls := "RescueHouseModel", name := "ask", desc := "(I)I" } : Jvm.MethodName)) ∈ lw_all := lw_g (lw_at lw_m7 53 rfl) rfl
theorem q1681 : (Jvm.Cond.code ({ cls := "RescueHouseModel", name := "ask", desc := "(I)I" } : Jvm.MethodName) prog_14_method_122_code (3 : Nat) (Option.some Jvm.ClassFile.FieldType.int)) ∈ lw_all := lw_g (lw_at lw_m7 54 rfl) rfl
theorem q1682 : (Jvm.Cond.methodLink "RescueHouseModel" (570 : Nat) ({ cls := "RescueHouseModel", name := "answerIt", desc := "()V" } : Jvm.MethodName)) ∈ lw_all := lw_g (lw_at lw_m7 55 rfl) rfl
theorem q1683 : (Jvm.Cond.privateMethod ({ cls := "RescueHouseModel", name := "answerIt", desc := "()V" } : Jvm.MethodName)) ∈ lw_tbl := lw_at lw_m7 56 rfl
theorem q1684 : (Jvm.Cond.instanceMethod ({ cls := "RescueHouseModel", name := "answerIt", desc := "()V" } : Jvm.MethodName)) ∈ lw_all := lw_g (lw_at lw_m7 57 rfl) rfl
theorem q1685 : (Jvm.Cond.code ({ cls := "RescueHouseModel", name := "answerIt", desc := "()V" } : Jvm.MethodName) prog_14_method_116_code (2 : Nat) (Option.none : Option Jvm.ClassFile.FieldType)) ∈ lw_all := lw_g (lw_at lw_m7 58 rfl) rfl
theorem q1686 : (Jvm.Cond.methodLink "RescueHouseModel" (483 : Nat) ({ cls := "RescueHouseModel", name := "read", desc := "()V" } : Jvm.MethodName)) ∈ lw_all := lw_g (lw_at lw_m7 59 rfl) rfl
theorem q1687 : (Jvm.Cond.privateMethod ({ cls := "RescueHouseModel", name := "read", desc := "()V" } : Jvm.MethodName)) ∈ lw_tbl := lw_at lw_m7 60 rfl
theorem q1688 : (Jvm.Cond.instanceMethod ({ cls := "RescueHouseModel", name := "read", desc := "()V" } : Jvm.MethodName)) ∈ lw_all := lw_g (lw_at lw_m7 61 rfl) rfl
theorem q1689 : (Jvm.Cond.code ({ cls := "RescueHouseModel", name := "read", desc := "()V" } : Jvm.MethodName) prog_14_method_29_code (2 : Nat) (Option.none : Option Jvm.ClassFile.FieldType)) ∈ lw_all := lw_g (lw_at lw_m7 62 rfl) rfl
theorem q1690 : (Jvm.Cond.methodLink "RescueHouseModel" (211 : Nat) ({ cls := "RescueHouseModel", name := "findWord", desc := "()V" } : Jvm.MethodName)) ∈ lw_all := lw_g (lw_at lw_m7 63 rfl) rfl
theorem q1691 : (Jvm.Cond.privateMethod ({ cls := "RescueHouseModel", name := "findWord", desc := "()V" } : Jvm.MethodName)) ∈ lw_tbl := lw_at lw_m7 64 rfl
theorem q1692 : (Jvm.Cond.instanceMethod ({ cls := "RescueHouseModel", name := "findWord", desc := "()V" } : Jvm.MethodName)) ∈ lw_all := lw_g (lw_at lw_m7 65 rfl) rfl
theorem q1693 : (Jvm.Cond.code ({ cls := "RescueHouseModel", name := "findWord", desc := "()V" } : Jvm.MethodName) prog_14_method_19_code (5 : Nat) (Option.none : Option Jvm.ClassFile.FieldType)) ∈ lw_all := lw_g (lw_at lw_m7 66 rfl) rfl
theorem q1694 : (Jvm.Cond.methodLink "RescueHouseModel" (165 : Nat) ({ cls := "RescueHouseModel", name := "expect", desc := "(I)V" } : Jvm.MethodName)) ∈ lw_all := lw_g (lw_at lw_m7 67 rfl) rfl
theorem q1695 : (Jvm.Cond.privateMethod ({ cls := "RescueHouseModel", name := "expect", desc := "(I)V" } : Jvm.MethodName)) ∈ lw_tbl := lw_at lw_m7 68 rfl
theorem q1696 : (Jvm.Cond.instanceMethod ({ cls := "RescueHouseModel", name := "expect", desc := "(I)V" } : Jvm.MethodName)) ∈ lw_all := lw_g (lw_at lw_m7 69 rfl) rfl
theorem q1697 : (Jvm.Cond.code ({ cls := "RescueHouseModel", name := "expect", desc := "(I)V" } : Jvm.MethodName) prog_14_method_16_code (2 : Nat) (Option.none : Option Jvm.ClassFile.FieldType)) ∈ lw_all := lw_g (lw_at lw_m7 70 rfl) rfl
theorem q1698 : (Jvm.Cond.methodLink "RescueHouseModel" (154 : Nat) ({ cls := "RescueHouseModel", name := "byteHere", desc := "()I" } : Jvm.MethodName)) ∈ lw_all := lw_g (lw_at lw_m7 71 rfl) rfl
theorem q1699 : (Jvm.Cond.privateMethod ({ cls := "RescueHouseModel", name := "byteHere", desc := "()I" } : Jvm.MethodName)) ∈ lw_tbl := lw_at lw_m7 72 rfl
theorem q1700 : (Jvm.Cond.instanceMethod ({ cls := "RescueHouseModel", name := "byteHere", desc := "()I" } : Jvm.MethodName)) ∈ lw_all := lw_g (lw_at lw_m7 73 rfl) rfl
theorem q1701 : (Jvm.Cond.code ({ cls := "RescueHouseModel", name := "byteHere", desc := "()I" } : Jvm.MethodName) prog_14_method_15_code (1 : Nat) (Option.some Jvm.ClassFile.FieldType.int)) ∈ lw_all := lw_g (lw_at lw_m7 74 rfl) rfl
theorem q1702 : (Jvm.Cond.methodLink "RescueHouseModel" (168 : Nat) ({ cls := "RescueHouseModel", name := "readNumber", desc := "(I)I" } : Jvm.MethodName)) ∈ lw_all := lw_g (lw_at lw_m7 75 rfl) rfl
theorem q1703 : (Jvm.Cond.privateMethod ({ cls := "RescueHouseModel", name := "readNumber", desc := "(I)I" } : Jvm.MethodName)) ∈ lw_tbl := lw_at lw_m7 76 rfl
theorem q1704 : (Jvm.Cond.instanceMethod ({ cls := "RescueHouseModel", name := "readNumber", desc := "(I)I" } : Jvm.MethodName)) ∈ lw_all := lw_g (lw_at lw_m7 77 rfl) rfl
theorem q1705 : (Jvm.Cond.code ({ cls := "RescueHouseModel", name := "readNumber", desc := "(I)I" } : Jvm.MethodName) prog_14_method_18_code (4 : Nat) (Option.some Jvm.ClassFile.FieldType.int)) ∈ lw_all := lw_g (lw_at lw_m7 78 rfl) rfl
theorem q1706 : (Jvm.Cond.methodLink "RescueHouseModel" (158 : Nat) ({ cls := "RescueHouseModel", name := "isDigit", desc := "()Z" } : Jvm.MethodName)) ∈ lw_all := lw_g (lw_at lw_m7 79 rfl) rfl
theorem q1707 : (Jvm.Cond.privateMethod ({ cls := "RescueHouseModel", name := "isDigit", desc := "()Z" } : Jvm.MethodName)) ∈ lw_tbl := lw_at lw_m7 80 rfl
theorem q1708 : (Jvm.Cond.instanceMethod ({ cls := "RescueHouseModel", name := "isDigit", desc := "()Z" } : Jvm.MethodName)) ∈ lw_all := lw_g (lw_at lw_m7 81 rfl) rfl
theorem q1709 : (Jvm.Cond.code ({ cls := "RescueHouseModel", name := "isDigit", desc := "()Z" } : Jvm.MethodName) prog_14_method_17_code (1 : Nat) (Option.some Jvm.ClassFile.FieldType.boolean)) ∈ lw_all := lw_g (lw_at lw_m7 82 rfl) rfl
theorem q1710 : (Jvm.Cond.methodLink "RescueHouseModel" (131 : Nat) ({ cls := "RescueHouseModel", name := "in", desc := "(III)Z" } : Jvm.MethodName)) ∈ lw_all := lw_g (lw_at lw_m7 83 rfl) rfl
theorem q1711 : (Jvm.Cond.static ({ cls := "RescueHouseModel", name := "in", desc := "(III)Z" } : Jvm.MethodName)) ∈ lw_all := lw_g (lw_at lw_m7 84 rfl) rfl
theorem q1712 : (Jvm.Cond.code ({ cls := "RescueHouseModel", name := "in", desc := "(III)Z" } : Jvm.MethodName) prog_14_method_3_code (3 : Nat) (Option.some Jvm.ClassFile.FieldType.boolean)) ∈ lw_all := lw_g (lw_at lw_m7 85 rfl) rfl
theorem q1713 : (Jvm.Cond.methodLink "RescueHouseModel" (214 : Nat) ({ cls := "RescueHouseModel", name := "readRest", desc := "()V" } : Jvm.MethodName)) ∈ lw_all := lw_g (lw_at lw_m7 86 rfl) rfl
theorem q1714 : (Jvm.Cond.privateMethod ({ cls := "RescueHouseModel", name := "readRest", desc := "()V" } : Jvm.MethodName)) ∈ lw_tbl := lw_at lw_m7 87 rfl
theorem q1715 : (Jvm.Cond.instanceMethod ({ cls := "RescueHouseModel", name := "readRest", desc := "()V" } : Jvm.MethodName)) ∈ lw_all := lw_g (lw_at lw_m7 88 rfl) rfl
theorem q1716 : (Jvm.Cond.code ({ cls := "RescueHouseModel", name := "readRest", desc := "()V" } : Jvm.MethodName) prog_14_method_28_code (2 : Nat) (Option.none : Option Jvm.ClassFile.FieldType)) ∈ lw_all := lw_g (lw_at lw_m7 89 rfl) rfl
theorem q1717 : (Jvm.Cond.methodLink "RescueHouseModel" (196 : Nat) ({ cls := "RescueHouseModel", name := "readTree", desc := "()V" } : Jvm.MethodName)) ∈ lw_all := lw_g (lw_at lw_m7 90 rfl) rfl
theorem q1718 : (Jvm.Cond.privateMethod ({ cls := "RescueHouseModel", name := "readTree", desc := "()V" } : Jvm.MethodName)) ∈ lw_tbl := lw_at lw_m7 91 rfl
theorem q1719 : (Jvm.Cond.instanceMethod ({ cls := "RescueHouseModel", name := "readTree", desc := "()V" } : Jvm.MethodName)) ∈ lw_all := lw_g (lw_at lw_m7 92 rfl) rfl
theorem q1720 : (Jvm.Cond.code ({ cls := "RescueHouseModel", name := "readTree", desc := "()V" } : Jvm.MethodName) prog_14_method_23_code (6 : Nat) (Option.none : Option Jvm.ClassFile.FieldType)) ∈ lw_all := lw_g (lw_at lw_m7 93 rfl) rfl
theorem q1721 : (Jvm.Cond.methodLink "RescueHouseModel" (181 : Nat) ({ cls := "RescueHouseModel", name := "addNode", desc := "(I)V" } : Jvm.MethodName)) ∈ lw_all := lw_g (lw_at lw_m7 94 rfl) rfl
theorem q1722 : (Jvm.Cond.privateMethod ({ cls := "RescueHouseModel", name := "addNode", desc := "(I)V" } : Jvm.MethodName)) ∈ lw_tbl := lw_at lw_m7 95 rfl
theorem q1723 : (Jvm.Cond.instanceMethod ({ cls := "RescueHouseModel", name := "addNode", desc := "(I)V" } : Jvm.MethodName)) ∈ lw_all := lw_g (lw_at lw_m7 96 rfl) rfl
theorem q1724 : (Jvm.Cond.code ({ cls := "RescueHouseModel", name := "addNode", desc := "(I)V" } : Jvm.MethodName) prog_14_method_22_code (2 : Nat) (Option.none : Option Jvm.ClassFile.FieldType)) ∈ lw_all := lw_g (lw_at lw_m7 97 rfl) rfl
theorem q1725 : (Jvm.Cond.methodLink "RescueHouseModel" (199 : Nat) ({ cls := "RescueHouseModel", name := "readAnswers", desc := "()V" } : Jvm.MethodName)) ∈ lw_all := lw_g (lw_at lw_m7 98 rfl) rfl
theorem q1726 : (Jvm.Cond.privateMethod ({ cls := "RescueHouseModel", name := "readAnswers", desc := "()V" } : Jvm.MethodName)) ∈ lw_tbl := lw_at lw_m7 99 rfl
theorem q1727 : (Jvm.Cond.instanceMethod ({ cls := "RescueHouseModel", name := "readAnswers", desc := "()V" } : Jvm.MethodName)) ∈ lw_all := lw_g (lw_at lw_m7 100 rfl) rfl
theorem q1728 : (Jvm.Cond.code ({ cls := "RescueHouseModel", name := "readAnswers", desc := "()V" } : Jvm.MethodName) prog_14_method_24_code (1 : Nat) (Option.none : Option Jvm.ClassFile.FieldType)) ∈ lw_all := lw_g (lw_at lw_m7 101 rfl) rfl
theorem q1729 : (Jvm.Cond.methodLink "RescueHouseModel" (187 : Nat) ({ cls := "RescueHouseModel", name := "takeLetter", desc := "()V" } : Jvm.MethodName)) ∈ lw_all := lw_g (lw_at lw_m7 102 rfl) rfl
theorem q1730 : (Jvm.Cond.privateMethod ({ cls := "RescueHouseModel", name := "takeLetter", desc := "()V" } : Jvm.MethodName)) ∈ lw_tbl := lw_at lw_m7 103 rfl
theorem q1731 : (Jvm.Cond.instanceMethod ({ cls := "RescueHouseModel", name := "takeLetter", desc := "()V" } : Jvm.MethodName)) ∈ lw_all := lw_g (lw_at lw_m7 104 rfl) rfl
theorem q1732 : (Jvm.Cond.code ({ cls := "RescueHouseModel", name := "takeLetter", desc := "()V" } : Jvm.MethodName) prog_14_method_25_code (1 : Nat) (Option.none : Option Jvm.ClassFile.FieldType)) ∈ lw_all := lw_g (lw_at lw_m7 105 rfl) rfl
theorem q1733 : (Jvm.Cond.methodLink "RescueHouseModel" (202 : Nat) ({ cls := "RescueHouseModel", name := "readArgument", desc := "()V" } : Jvm.MethodName)) ∈ lw_all := lw_g (lw_at lw_m7 106 rfl) rfl
theorem q1734 : (Jvm.Cond.privateMethod ({ cls := "RescueHouseModel", name := "readArgument", desc := "()V" } : Jvm.MethodName)) ∈ lw_tbl := lw_at lw_m7 107 rfl
theorem q1735 : (Jvm.Cond.instanceMethod ({ cls := "RescueHouseModel", name := "readArgument", desc := "()V" } : Jvm.MethodName)) ∈ lw_all := lw_g (lw_at lw_m7 108 rfl) rfl
theorem q1736 : (Jvm.Cond.code ({ cls := "RescueHouseModel", name := "readArgument", desc := "()V" } : Jvm.MethodName) prog_14_method_27_code (3 : Nat) (Option.none : Option Jvm.ClassFile.FieldType)) ∈ lw_all := lw_g (lw_at lw_m7 109 rfl) rfl
theorem q1737 : (Jvm.Cond.methodLink "RescueHouseModel" (205 : Nat) ({ cls := "RescueHouseModel", name := "readWord", desc := "()V" } : Jvm.MethodName)) ∈ lw_all := lw_g (lw_at lw_m7 110 rfl) rfl
theorem q1738 : (Jvm.Cond.privateMethod ({ cls := "RescueHouseModel", name := "readWord", desc := "()V" } : Jvm.MethodName)) ∈ lw_tbl := lw_at lw_m7 111 rfl
theorem q1739 : (Jvm.Cond.instanceMethod ({ cls := "RescueHouseModel", name := "readWord", desc := "()V" } : Jvm.MethodName)) ∈ lw_all := lw_g (lw_at lw_m7 112 rfl) rfl
theorem q1740 : (Jvm.Cond.code ({ cls := "RescueHouseModel", name := "readWord", desc := "()V" } : Jvm.MethodName) prog_14_method_26_code (1 : Nat) (Option.none : Option Jvm.ClassFile.FieldType)) ∈ lw_all := lw_g (lw_at lw_m7 113 rfl) rfl
theorem q1741 : (Jvm.Cond.methodLink "RescueHouseModel" (208 : Nat) ({ cls := "RescueHouseModel", name := "readLine", desc := "()V" } : Jvm.MethodName)) ∈ lw_all := lw_g (lw_at lw_m7 114 rfl) rfl
theorem q1742 : (Jvm.Cond.privateMethod ({ cls := "RescueHouseModel", name := "readLine", desc := "()V" } : Jvm.MethodName)) ∈ lw_tbl := lw_at lw_m7 115 rfl
theorem q1743 : (Jvm.Cond.instanceMethod ({ cls := "RescueHouseModel", name := "readLine", desc := "()V" } : Jvm.MethodName)) ∈ lw_all := lw_g (lw_at lw_m7 116 rfl) rfl
theorem q1744 : (Jvm.Cond.code ({ cls := "RescueHouseModel", name := "readLine", desc := "()V" } : Jvm.MethodName) prog_14_method_20_code (2 : Nat) (Option.none : Option Jvm.ClassFile.FieldType)) ∈ lw_all := lw_g (lw_at lw_m7 117 rfl) rfl
theorem q1745 : (Jvm.Cond.methodLink "RescueHouseModel" (172 : Nat) ({ cls := "RescueHouseModel", name := "readOne", desc := "()V" } : Jvm.MethodName)) ∈ lw_all := lw_g (lw_at lw_m7 118 rfl) rfl
theorem q1746 : (Jvm.Cond.privateMethod ({ cls := "RescueHouseModel", name := "readOne", desc := "()V" } : Jvm.MethodName)) ∈ lw_tbl := lw_at lw_m7 119 rfl
theorem q1747 : (Jvm.Cond.instanceMethod ({ cls := "RescueHouseModel", name := "readOne", desc := "()V" } : Jvm.MethodName)) ∈ lw_all := lw_g (lw_at lw_m7 120 rfl) rfl
theorem q1748 : (Jvm.Cond.code ({ cls := "RescueHouseModel", name := "readOne", desc := "()V" } : Jvm.MethodName) prog_14_method_21_code (1 : Nat) (Option.none : Option Jvm.ClassFile.FieldType)) ∈ lw_all := lw_g (lw_at lw_m7 121 rfl) rfl
theorem q1749 : (Jvm.Cond.methodLink "RescueHouseModel" (370 : Nat) ({ cls := "RescueHouseModel", name := "say", desc := "(I)V" } : Jvm.MethodName)) ∈ lw_all := lw_g (lw_at lw_m7 122 rfl) rfl
theorem q1750 : (Jvm.Cond.privateMethod ({ cls := "RescueHouseModel", name := "say", desc := "(I)V" } : Jvm.MethodName)) ∈ lw_tbl := lw_at lw_m7 123 rfl
theorem q1751 : (Jvm.Cond.instanceMethod ({ cls := "RescueHouseModel", name := "say", desc := "(I)V" } : Jvm.MethodName)) ∈ lw_all := lw_g (lw_at lw_m7 124 rfl) rfl
theorem q1752 : (Jvm.Cond.code ({ cls := "RescueHouseModel", name := "say", desc := "(I)V" } : Jvm.MethodName) prog_14_method_13_code (4 : Nat) (Option.none : Option Jvm.ClassFile.FieldType)) ∈ lw_all := lw_g (lw_at lw_m7 125 rfl) rfl
theorem q1753 : (Jvm.Cond.methodLink "RescueHouseModel" (142 : Nat) ({ cls := "RescueHouseModel", name := "put", desc := "(I)V" } : Jvm.MethodName)) ∈ lw_all := lw_g (lw_at lw_m7 126 rfl) rfl
theorem q1754 : (Jvm.Cond.privateMethod ({ cls := "RescueHouseModel", name := "put", desc := "(I)V" } : Jvm.MethodName)) ∈ lw_tbl := lw_at lw_m7 127 rfl
theorem q1755 : (Jvm.Cond.instanceMethod ({ cls := "RescueHouseModel", name := "put", desc := "(I)V" } : Jvm.MethodName)) ∈ lw_all := lw_g (lw_at lw_m7 128 rfl) rfl
theorem q1756 : (Jvm.Cond.code ({ cls := "RescueHouseModel", name := "put", desc := "(I)V" } : Jvm.MethodName) prog_14_method_12_code (2 : Nat) (Option.none : Option Jvm.ClassFile.FieldType)) ∈ lw_all := lw_g (lw_at lw_m7 129 rfl) rfl
theorem q1757 : (Jvm.Cond.methodLink "RescueHouseModel" (373 : Nat) ({ cls := "RescueHouseModel", name := "number", desc := "(I)V" } : Jvm.MethodName)) ∈ lw_all := lw_g (lw_at lw_m7 130 rfl) rfl
theorem q1758 : (Jvm.Cond.privateMethod ({ cls := "RescueHouseModel", name := "number", desc := "(I)V" } : Jvm.MethodName)) ∈ lw_tbl := lw_at lw_m7 131 rfl
theorem q1759 : (Jvm.Cond.instanceMethod ({ cls := "RescueHouseModel", name := "number", desc := "(I)V" } : Jvm.MethodName)) ∈ lw_all := lw_g (lw_at lw_m7 132 rfl) rfl
theorem q1760 : (Jvm.Cond.code ({ cls := "RescueHouseModel", name := "number", desc := "(I)V" } : Jvm.MethodName) prog_14_method_14_code (4 : Nat) (Option.none : Option Jvm.ClassFile.FieldType)) ∈ lw_all := lw_g (lw_at lw_m7 133 rfl) rfl
theorem q1761 : (Jvm.Cond.methodLink "RescueHouseModel" (486 : Nat) ({ cls := "RescueHouseModel", name := "refusal", desc := "()I" } : Jvm.MethodName)) ∈ lw_all := lw_g (lw_at lw_m7 134 rfl) rfl
theorem q1762 : (Jvm.Cond.privateMethod ({ cls := "RescueHouseModel", name := "refusal", desc := "()I" } : Jvm.MethodName)) ∈ lw_tbl := lw_at lw_m7 135 rfl
theorem q1763 : (Jvm.Cond.instanceMethod ({ cls := "RescueHouseModel", name := "refusal", desc := "()I" } : Jvm.MethodName)) ∈ lw_all := lw_g (lw_at lw_m7 136 rfl) rfl
theorem q1764 : (Jvm.Cond.code ({ cls := "RescueHouseModel", name := "refusal", desc := "()I" } : Jvm.MethodName) prog_14_method_54_code (4 : Nat) (Option.some Jvm.ClassFile.FieldType.int)) ∈ lw_all := lw_g (lw_at lw_m7 137 rfl) rfl
theorem q1765 : (Jvm.Cond.methodLink "RescueHouseModel" (297 : Nat) ({ cls := "RescueHouseModel", name := "isPlace", desc := "(I)Z" } : Jvm.MethodName)) ∈ lw_all := lw_g (lw_at lw_m7 138 rfl) rfl
theorem q1766 : (Jvm.Cond.privateMethod ({ cls := "RescueHouseModel", name := "isPlace", desc := "(I)Z" } : Jvm.MethodName)) ∈ lw_tbl := lw_at lw_m7 139 rfl
theorem q1767 : (Jvm.Cond.instanceMethod ({ cls := "RescueHouseModel", name := "isPlace", desc := "(I)Z" } : Jvm.MethodName)) ∈ lw_all := lw_g (lw_at lw_m7 140 rfl) rfl
theorem q1768 : (Jvm.Cond.code ({ cls := "RescueHouseModel", name := "isPlace", desc := "(I)Z" } : Jvm.MethodName) prog_14_method_9_code (2 : Nat) (Option.some Jvm.ClassFile.FieldType.boolean)) ∈ lw_all := lw_g (lw_at lw_m7 141 rfl) rfl
theorem q1769 : (Jvm.Cond.methodLink "RescueHouseModel" (217 : Nat) ({ cls := "RescueHouseModel", name := "street", desc := "(II)I" } : Jvm.MethodName)) ∈ lw_all := lw_g (lw_at lw_m7 142 rfl) rfl
theorem q1770 : (Jvm.Cond.privateMethod ({ cls := "RescueHouseModel", name := "street", desc := "(II)I" } : Jvm.MethodName)) ∈ lw_tbl := lw_at lw_m7 143 rfl
theorem q1771 : (Jvm.Cond.instanceMethod ({ cls := "RescueHouseModel", name := "street", desc := "(II)I" } : Jvm.MethodName)) ∈ lw_all := lw_g (lw_at lw_m7 144 rfl) rfl
theorem q1772 : (Jvm.Cond.code ({ cls := "RescueHouseModel", name := "street", desc := "(II)I" } : Jvm.MethodName) prog_14_method_4_code (3 : Nat) (Option.some Jvm.ClassFile.FieldType.int)) ∈ lw_all := lw_g (lw_at lw_m7 145 rfl) rfl
theorem q1773 : (Jvm.Cond.methodLink "RescueHouseModel" (300 : Nat) ({ cls := "RescueHouseModel", name := "isUnit", desc := "(I)Z" } : Jvm.MethodName)) ∈ lw_all := lw_g (lw_at lw_m7 146 rfl) rfl
theorem q1774 : (Jvm.Cond.privateMethod ({ cls := "RescueHouseModel", name := "isUnit", desc := "(I)Z" } : Jvm.MethodName)) ∈ lw_tbl := lw_at lw_m7 147 rfl
theorem q1775 : (Jvm.Cond.instanceMethod ({ cls := "RescueHouseModel", name := "isUnit", desc := "(I)Z" } : Jvm.MethodName)) ∈ lw_all := lw_g (lw_at lw_m7 148 rfl) rfl
theorem q1776 : (Jvm.Cond.code ({ cls := "RescueHouseModel", name := "isUnit", desc := "(I)Z" } : Jvm.MethodName) prog_14_method_10_code (2 : Nat) (Option.some Jvm.ClassFile.FieldType.boolean)) ∈ lw_all := lw_g (lw_at lw_m7 149 rfl) rfl
theorem q1777 : (Jvm.Cond.methodLink "RescueHouseModel" (231 : Nat) ({ cls := "RescueHouseModel", name := "unit", desc := "(II)I" } : Jvm.MethodName)) ∈ lw_all := lw_g (lw_at lw_m7 150 rfl) rfl
theorem q1778 : (Jvm.Cond.privateMethod ({ cls := "RescueHouseModel", name := "unit", desc := "(II)I" } : Jvm.MethodName)) ∈ lw_tbl := lw_at lw_m7 151 rfl
theorem q1779 : (Jvm.Cond.instanceMethod ({ cls := "RescueHouseModel", name := "unit", desc := "(II)I" } : Jvm.MethodName)) ∈ lw_all := lw_g (lw_at lw_m7 152 rfl) rfl
theorem q1780 : (Jvm.Cond.code ({ cls := "RescueHouseModel", name := "unit", desc := "(II)I" } : Jvm.MethodName) prog_14_method_5_code (3 : Nat) (Option.some Jvm.ClassFile.FieldType.int)) ∈ lw_all := lw_g (lw_at lw_m7 153 rfl) rfl
theorem q1781 : (Jvm.Cond.methodLink "RescueHouseModel" (303 : Nat) ({ cls := "RescueHouseModel", name := "joins", desc := "(II)I" } : Jvm.MethodName)) ∈ lw_all := lw_g (lw_at lw_m7 154 rfl) rfl
theorem q1782 : (Jvm.Cond.privateMethod ({ cls := "RescueHouseModel", name := "joins", desc := "(II)I" } : Jvm.MethodName)) ∈ lw_tbl := lw_at lw_m7 155 rfl
theorem q1783 : (Jvm.Cond.instanceMethod ({ cls := "RescueHouseModel", name := "joins", desc := "(II)I" } : Jvm.MethodName)) ∈ lw_all := lw_g (lw_at lw_m7 156 rfl) rfl
theorem q1784 : (Jvm.Cond.code ({ cls := "RescueHouseModel", name := "joins", desc := "(II)I" } : Jvm.MethodName) prog_14_method_52_code (4 : Nat) (Option.some Jvm.ClassFile.FieldType.int)) ∈ lw_all := lw_g (lw_at lw_m7 157 rfl) rfl
theorem q1785 : (Jvm.Cond.methodLink "RescueHouseModel" (135 : Nat) ({ cls := "RescueHouseModel", name := "call", desc := "(II)I" } : Jvm.MethodName)) ∈ lw_all := lw_g (lw_at lw_m7 158 rfl) rfl
theorem q1786 : (Jvm.Cond.privateMethod ({ cls := "RescueHouseModel", name := "call", desc := "(II)I" } : Jvm.MethodName)) ∈ lw_tbl := lw_at lw_m7 159 rfl
theorem q1787 : (Jvm.Cond.instanceMethod ({ cls := "RescueHouseModel", name := "call", desc := "(II)I" } : Jvm.MethodName)) ∈ lw_all := lw_g (lw_at lw_m7 160 rfl) rfl
theorem q1788 : (Jvm.Cond.code ({ cls := "RescueHouseModel", name := "call", desc := "(II)I" } : Jvm.MethodName) prog_14_method_7_code (3 : Nat) (Option.some Jvm.ClassFile.FieldType.int)) ∈ lw_all := lw_g (lw_at lw_m7 161 rfl) rfl
theorem q1789 : (Jvm.Cond.methodLink "RescueHouseModel" (306 : Nat) ({ cls := "RescueHouseModel", name := "openCalls", desc := "()I" } : Jvm.MethodName)) ∈ lw_all := lw_g (lw_at lw_m7 162 rfl) rfl
theorem q1790 : (Jvm.Cond.privateMethod ({ cls := "RescueHouseModel", name := "openCalls", desc := "()I" } : Jvm.MethodName)) ∈ lw_tbl := lw_at lw_m7 163 rfl
theorem q1791 : (Jvm.Cond.instanceMethod ({ cls := "RescueHouseModel", name := "openCalls", desc := "()I" } : Jvm.MethodName)) ∈ lw_all := lw_g (lw_at lw_m7 164 rfl) rfl
theorem q1792 : (Jvm.Cond.code ({ cls := "RescueHouseModel", name := "openCalls", desc := "()I" } : Jvm.MethodName) prog_14_method_53_code (3 : Nat) (Option.some Jvm.ClassFile.FieldType.int)) ∈ lw_all := lw_g (lw_at lw_m7 165 rfl) rfl
theorem q1793 : (Jvm.Cond.methodLink "RescueHouseModel" (309 : Nat) ({ cls := "RescueHouseModel", name := "refusalOfReport", desc := "(II)I" } : Jvm.MethodName)) ∈ lw_all := lw_g (lw_at lw_m7 166 rfl) rfl
theorem q1794 : (Jvm.Cond.privateMethod ({ cls := "RescueHouseModel", name := "refusalOfReport", desc := "(II)I" } : Jvm.MethodName)) ∈ lw_tbl := lw_at lw_m7 167 rfl
theorem q1795 : (Jvm.Cond.instanceMethod ({ cls := "RescueHouseModel", name := "refusalOfReport", desc := "(II)I" } : Jvm.MethodName)) ∈ lw_all := lw_g (lw_at lw_m7 168 rfl) rfl
theorem q1796 : (Jvm.Cond.code ({ cls := "RescueHouseModel", name := "refusalOfReport", desc := "(II)I" } : Jvm.MethodName) prog_14_method_57_code (3 : Nat) (Option.some Jvm.ClassFile.FieldType.int)) ∈ lw_all := lw_g (lw_at lw_m7 169 rfl) rfl
theorem q1797 : (Jvm.Cond.methodLink "RescueHouseModel" (333 : Nat) ({ cls := "RescueHouseModel", name := "lead", desc := "(I)V" } : Jvm.MethodName)) ∈ lw_all := lw_g (lw_at lw_m7 170 rfl) rfl
theorem q1798 : (Jvm.Cond.privateMethod ({ cls := "RescueHouseModel", name := "lead", desc := "(I)V" } : Jvm.MethodName)) ∈ lw_tbl := lw_at lw_m7 171 rfl
theorem q1799 : (Jvm.Cond.instanceMethod ({ cls := "RescueHouseModel", name := "lead", desc := "(I)V" } : Jvm.MethodName)) ∈ lw_all := lw_g (lw_at lw_m7 172 rfl) rfl
theorem q1800 : (Jvm.Cond.code ({ cls := "RescueHouseModel", name := "lead", desc := "(I)V" } : Jvm.MethodName) prog_14_method_56_code (6 : Nat) (Option.none : Option Jvm.ClassFile.FieldType)) ∈ lw_all := lw_g (lw_at lw_m7 173 rfl) rfl
theorem q1801 : (Jvm.Cond.methodLink "RescueHouseModel" (321 : Nat) ({ cls := "RescueHouseModel", name := "behindTree", desc := "(II)I" } : Jvm.MethodName)) ∈ lw_all := lw_g (lw_at lw_m7 174 rfl) rfl
theorem q1802 : (Jvm.Cond.privateMethod ({ cls := "RescueHouseModel", name := "behindTree", desc := "(II)I" } : Jvm.MethodName)) ∈ lw_tbl := lw_at lw_m7 175 rfl
theorem q1803 : (Jvm.Cond.instanceMethod ({ cls := "RescueHouseModel", name := "behindTree", desc := "(II)I" } : Jvm.MethodName)) ∈ lw_all := lw_g (lw_at lw_m7 176 rfl) rfl
theorem q1804 : (Jvm.Cond.code ({ cls := "RescueHouseModel", name := "behindTree", desc := "(II)I" } : Jvm.MethodName) prog_14_method_55_code (5 : Nat) (Option.some Jvm.ClassFile.FieldType.int)) ∈ lw_all := lw_g (lw_at lw_m7 177 rfl) rfl
theorem q1805 : (Jvm.Cond.methodLink "RescueHouseModel" (312 : Nat) ({ cls := "RescueHouseModel", name := "isTaken", desc := "(I)Z" } : Jvm.MethodName)) ∈ lw_all := lw_g (lw_at lw_m7 178 rfl) rfl
theorem q1806 : (Jvm.Cond.privateMethod ({ cls := "RescueHouseModel", name := "isTaken", desc := "(I)Z" } : Jvm.MethodName)) ∈ lw_tbl := lw_at lw_m7 179 rfl
theorem q1807 : (Jvm.Cond.instanceMethod ({ cls := "RescueHouseModel", name := "isTaken", desc := "(I)Z" } : Jvm.MethodName)) ∈ lw_all := lw_g (lw_at lw_m7 180 rfl) rfl
theorem q1808 : (Jvm.Cond.code ({ cls := "RescueHouseModel", name := "isTaken", desc := "(I)Z" } : Jvm.MethodName) prog_14_method_58_code (6 : Nat) (Option.some Jvm.ClassFile.FieldType.boolean)) ∈ lw_all := lw_g (lw_at lw_m7 181 rfl) rfl
theorem q1809 : (Jvm.Cond.methodLink "RescueHouseModel" (315 : Nat) ({ cls := "RescueHouseModel", name := "refusalOfGo", desc := "(II)I" } : Jvm.MethodName)) ∈ lw_all := lw_g (lw_at lw_m7 182 rfl) rfl
theorem q1810 : (Jvm.Cond.privateMethod ({ cls := "RescueHouseModel", name := "refusalOfGo", desc := "(II)I" } : Jvm.MethodName)) ∈ lw_tbl := lw_at lw_m7 183 rfl
theorem q1811 : (Jvm.Cond.instanceMethod ({ cls := "RescueHouseModel", name := "refusalOfGo", desc := "(II)I" } : Jvm.MethodName)) ∈ lw_all := lw_g (lw_at lw_m7 184 rfl) rfl
theorem q1812 : (Jvm.Cond.code ({ cls := "RescueHouseModel", name := "refusalOfGo", desc := "(II)I" } : Jvm.MethodName) prog_14_method_59_code (3 : Nat) (Option.some Jvm.ClassFile.FieldType.int)) ∈ lw_all := lw_g (lw_at lw_m7 185 rfl) rfl
theorem q1813 : (Jvm.Cond.methodLink "RescueHouseModel" (318 : Nat) ({ cls := "RescueHouseModel", name := "isOpenCall", desc := "(I)Z" } : Jvm.MethodName)) ∈ lw_all := lw_g (lw_at lw_m7 186 rfl) rfl
theorem q1814 : (Jvm.Cond.privateMethod ({ cls := "RescueHouseModel", name := "isOpenCall", desc := "(I)Z" } : Jvm.MethodName)) ∈ lw_tbl := lw_at lw_m7 187 rfl
theorem q1815 : (Jvm.Cond.instanceMethod ({ cls := "RescueHouseModel", name := "isOpenCall", desc := "(I)Z" } : Jvm.MethodName)) ∈ lw_all := lw_g (lw_at lw_m7 188 rfl) rfl
theorem q1816 : (Jvm.Cond.code ({ cls := "RescueHouseModel", name := "isOpenCall", desc := "(I)Z" } : Jvm.MethodName) prog_14_method_11_code (2 : Nat) (Option.some Jvm.ClassFile.FieldType.boolean)) ∈ lw_all := lw_g (lw_at lw_m7 189 rfl) rfl
theorem q1817 : (Jvm.Cond.methodLink "RescueHouseModel" (259 : Nat) ({ cls := "RescueHouseModel", name := "isFree", desc := "(I)Z" } : Jvm.MethodName)) ∈ lw_all := lw_g (lw_at lw_m7 190 rfl) rfl
theorem q1818 : (Jvm.Cond.privateMethod ({ cls := "RescueHouseModel", name := "isFree", desc := "(I)Z" } : Jvm.MethodName)) ∈ lw_tbl := lw_at lw_m7 191 rfl
theorem q1819 : (Jvm.Cond.instanceMethod ({ cls := "RescueHouseModel", name := "isFree", desc := "(I)Z" } : Jvm.MethodName)) ∈ lw_all := lw_g (lw_at lw_m7 192 rfl) rfl
theorem q1820 : (Jvm.Cond.code ({ cls := "RescueHouseModel", name := "isFree", desc := "(I)Z" } : Jvm.MethodName) prog_14_method_37_code (2 : Nat) (Option.some Jvm.ClassFile.FieldType.boolean)) ∈ lw_all := lw_g (lw_at lw_m7 193 rfl) rfl
theorem q1821 : (Jvm.Cond.methodLink "RescueHouseModel" (234 : Nat) ({ cls := "RescueHouseModel", name := "isAway", desc := "(I)Z" } : Jvm.MethodName)) ∈ lw_all := lw_g (lw_at lw_m7 194 rfl) rfl
theorem q1822 : (Jvm.Cond.privateMethod ({ cls := "RescueHouseModel", name := "isAway", desc := "(I)Z" } : Jvm.MethodName)) ∈ lw_tbl := lw_at lw_m7 195 rfl
theorem q1823 : (Jvm.Cond.instanceMethod ({ cls := "RescueHouseModel", name := "isAway", desc := "(I)Z" } : Jvm.MethodName)) ∈ lw_all := lw_g (lw_at lw_m7 196 rfl) rfl
theorem q1824 : (Jvm.Cond.code ({ cls := "RescueHouseModel", name := "isAway", desc := "(I)Z" } : Jvm.MethodName) prog_14_method_36_code (2 : Nat) (Option.some Jvm.ClassFile.FieldType.boolean)) ∈ lw_all := lw_g (lw_at lw_m7 197 rfl) rfl
theorem q1825 : (Jvm.Cond.methodLink "RescueHouseModel" (256 : Nat) ({ cls := "RescueHouseModel", name := "isWaiting", desc := "(I)Z" } : Jvm.MethodName)) ∈ lw_all := lw_g (lw_at lw_m7 198 rfl) rfl
theorem q1826 : (Jvm.Cond.privateMethod ({ cls := "RescueHouseModel", name := "isWaiting", desc := "(I)Z" } : Jvm.MethodName)) ∈ lw_tbl := lw_at lw_m7 199 rfl
theorem q1827 : (Jvm.Cond.instanceMethod ({ cls := "RescueHouseModel", name := "isWaiting", desc := "(I)Z" } : Jvm.MethodName)) ∈ lw_all := lw_g (lw_at lw_m7 200 rfl) rfl
theorem q1828 : (Jvm.Cond.code ({ cls := "RescueHouseModel", name := "isWaiting", desc := "(I)Z" } : Jvm.MethodName) prog_14_method_39_code (2 : Nat) (Option.some Jvm.ClassFile.FieldType.boolean)) ∈ lw_all := lw_g (lw_at lw_m7 201 rfl) rfl
theorem q1829 : (Jvm.Cond.methodLink "RescueHouseModel" (237 : Nat) ({ cls := "RescueHouseModel", name := "unitOf", desc := "(I)I" } : Jvm.MethodName)) ∈ lw_all := lw_g (lw_at lw_m7 202 rfl) rfl
theorem q1830 : (Jvm.Cond.privateMethod ({ cls := "RescueHouseModel", name := "unitOf", desc := "(I)I" } : Jvm.MethodName)) ∈ lw_tbl := lw_at lw_m7 203 rfl
theorem q1831 : (Jvm.Cond.instanceMethod ({ cls := "RescueHouseModel", name := "unitOf", desc := "(I)I" } : Jvm.MethodName)) ∈ lw_all := lw_g (lw_at lw_m7 204 rfl) rfl
theorem q1832 : (Jvm.Cond.code ({ cls := "RescueHouseModel", name := "unitOf", desc := "(I)I" } : Jvm.MethodName) prog_14_method_38_code (4 : Nat) (Option.some Jvm.ClassFile.FieldType.int)) ∈ lw_all := lw_g (lw_at lw_m7 205 rfl) rfl
theorem q1833 : (Jvm.Cond.methodLink "RescueHouseModel" (262 : Nat) ({ cls := "RescueHouseModel", name := "hasSkill", desc := "(II)Z" } : Jvm.MethodName)) ∈ lw_all := lw_g (lw_at lw_m7 206 rfl) rfl
theorem q1834 : (Jvm.Cond.privateMethod ({ cls := "RescueHouseModel", name := "hasSkill", desc := "(II)Z" } : Jvm.MethodName)) ∈ lw_tbl := lw_at lw_m7 207 rfl
theorem q1835 : (Jvm.Cond.instanceMethod ({ cls := "RescueHouseModel", name := "hasSkill", desc := "(II)Z" } : Jvm.MethodName)) ∈ lw_all := lw_g (lw_at lw_m7 208 rfl) rfl
theorem q1836 : (Jvm.Cond.code ({ cls := "RescueHouseModel", name := "hasSkill", desc := "(II)Z" } : Jvm.MethodName) prog_14_method_43_code (3 : Nat) (Option.some Jvm.ClassFile.FieldType.boolean)) ∈ lw_all := lw_g (lw_at lw_m7 209 rfl) rfl
theorem q1837 : (Jvm.Cond.methodLink "RescueHouseModel" (247 : Nat) ({ cls := "RescueHouseModel", name := "findDistances", desc := "()V" } : Jvm.MethodName)) ∈ lw_all := lw_g (lw_at lw_m7 210 rfl) rfl
theorem q1838 : (Jvm.Cond.privateMethod ({ cls := "RescueHouseModel", name := "findDistances", desc := "()V" } : Jvm.MethodName)) ∈ lw_tbl := lw_at lw_m7 211 rfl
theorem q1839 : (Jvm.Cond.instanceMethod ({ cls := "RescueHouseModel", name := "findDistances", desc := "()V" } : Jvm.MethodName)) ∈ lw_all := lw_g (lw_at lw_m7 212 rfl) rfl
theorem q1840 : (Jvm.Cond.code ({ cls := "RescueHouseModel", name := "findDistances", desc := "()V" } : Jvm.MethodName) prog_14_method_33_code (3 : Nat) (Option.none : Option Jvm.ClassFile.FieldType)) ∈ lw_all := lw_g (lw_at lw_m7 213 rfl) rfl
theorem q1841 : (Jvm.Cond.methodLink "RescueHouseModel" (224 : Nat) ({ cls := "RescueHouseModel", name := "goesFrom", desc := "(II)Z" } : Jvm.MethodName)) ∈ lw_all := lw_g (lw_at lw_m7 214 rfl) rfl
theorem q1842 : (Jvm.Cond.privateMethod ({ cls := "RescueHouseModel", name := "goesFrom", desc := "(II)Z" } : Jvm.MethodName)) ∈ lw_tbl := lw_at lw_m7 215 rfl
theorem q1843 : (Jvm.Cond.instanceMethod ({ cls := "RescueHouseModel", name := "goesFrom", desc := "(II)Z" } : Jvm.MethodName)) ∈ lw_all := lw_g (lw_at lw_m7 216 rfl) rfl
theorem q1844 : (Jvm.Cond.code ({ cls := "RescueHouseModel", name := "goesFrom", desc := "(II)Z" } : Jvm.MethodName) prog_14_method_31_code (3 : Nat) (Option.some Jvm.ClassFile.FieldType.boolean)) ∈ lw_all := lw_g (lw_at lw_m7 217 rfl) rfl
theorem q1845 : (Jvm.Cond.methodLink "RescueHouseModel" (220 : Nat) ({ cls := "RescueHouseModel", name := "isOpenNow", desc := "(I)Z" } : Jvm.MethodName)) ∈ lw_all := lw_g (lw_at lw_m7 218 rfl) rfl
theorem q1846 : (Jvm.Cond.privateMethod ({ cls := "RescueHouseModel", name := "isOpenNow", desc := "(I)Z" } : Jvm.MethodName)) ∈ lw_tbl := lw_at lw_m7 219 rfl
theorem q1847 : (Jvm.Cond.instanceMethod ({ cls := "RescueHouseModel", name := "isOpenNow", desc := "(I)Z" } : Jvm.MethodName)) ∈ lw_all := lw_g (lw_at lw_m7 220 rfl) rfl
theorem q1848 : (Jvm.Cond.code ({ cls := "RescueHouseModel", name := "isOpenNow", desc := "(I)Z" } : Jvm.MethodName) prog_14_method_30_code (6 : Nat) (Option.some Jvm.ClassFile.FieldType.boolean)) ∈ lw_all := lw_g (lw_at lw_m7 221 rfl) rfl
theorem q1849 : (Jvm.Cond.methodLink "RescueHouseModel" (228 : Nat) ({ cls := "RescueHouseModel", name := "shortens", desc := "(III)Z" } : Jvm.MethodName)) ∈ lw_all := lw_g (lw_at lw_m7 222 rfl) rfl
theorem q1850 : (Jvm.Cond.privateMethod ({ cls := "RescueHouseModel", name := "shortens", desc := "(III)Z" } : Jvm.MethodName)) ∈ lw_tbl := lw_at lw_m7 223 rfl
theorem q1851 : (Jvm.Cond.instanceMethod ({ cls := "RescueHouseModel", name := "shortens", desc := "(III)Z" } : Jvm.MethodName)) ∈ lw_all := lw_g (lw_at lw_m7 224 rfl) rfl
theorem q1852 : (Jvm.Cond.code ({ cls := "RescueHouseModel", name := "shortens", desc := "(III)Z" } : Jvm.MethodName) prog_14_method_34_code (7 : Nat) (Option.some Jvm.ClassFile.FieldType.boolean)) ∈ lw_all := lw_g (lw_at lw_m7 225 rfl) rfl
theorem q1853 : (Jvm.Cond.methodLink "RescueHouseModel" (244 : Nat) ({ cls := "RescueHouseModel", name := "wayOf", desc := "(II)I" } : Jvm.MethodName)) ∈ lw_all := lw_g (lw_at lw_m7 226 rfl) rfl
theorem q1854 : (Jvm.Cond.privateMethod ({ cls := "RescueHouseModel", name := "wayOf", desc := "(II)I" } : Jvm.MethodName)) ∈ lw_tbl := lw_at lw_m7 227 rfl
theorem q1855 : (Jvm.Cond.instanceMethod ({ cls := "RescueHouseModel", name := "wayOf", desc := "(II)I" } : Jvm.MethodName)) ∈ lw_all := lw_g (lw_at lw_m7 228 rfl) rfl
theorem q1856 : (Jvm.Cond.code ({ cls := "RescueHouseModel", name := "wayOf", desc := "(II)I" } : Jvm.MethodName) prog_14_method_35_code (4 : Nat) (Option.some Jvm.ClassFile.FieldType.int)) ∈ lw_all := lw_g (lw_at lw_m7 229 rfl) rfl
theorem q1857 : (Jvm.Cond.constant "RescueHouseModel" (281 : Nat) (1000000 : Int32)) ∈ lw_all := lw_g (lw_at lw_m7 230 rfl) rfl
theorem q1858 : (Jvm.Cond.methodLink "RescueHouseModel" (492 : Nat) ({ cls := "RescueHouseModel", name := "hasRoom", desc := "()Z" } : Jvm.MethodName)) ∈ lw_all := lw_g (lw_at lw_m7 231 rfl) rfl
theorem q1859 : (Jvm.Cond.privateMethod ({ cls := "RescueHouseModel", name := "hasRoom", desc := "()Z" } : Jvm.MethodName)) ∈ lw_tbl := lw_at lw_m7 232 rfl
theorem q1860 : (Jvm.Cond.instanceMethod ({ cls := "RescueHouseModel", name := "hasRoom", desc := "()Z" } : Jvm.MethodName)) ∈ lw_all := lw_g (lw_at lw_m7 233 rfl) rfl
theorem q1861 : (Jvm.Cond.code ({ cls := "RescueHouseModel", name := "hasRoom", desc := "()Z" } : Jvm.MethodName) prog_14_method_110_code (1 : Nat) (Option.some Jvm.ClassFile.FieldType.boolean)) ∈ lw_all := lw_g (lw_at lw_m7 234 rfl) rfl
theorem q1862 : (Jvm.Cond.methodLink "RescueHouseModel" (495 : Nat) ({ cls := "RescueHouseModel", name := "write", desc := "()V" } : Jvm.MethodName)) ∈ lw_all := lw_g (lw_at lw_m7 235 rfl) rfl
theorem q1863 : (Jvm.Cond.privateMethod ({ cls := "RescueHouseModel", name := "write", desc := "()V" } : Jvm.MethodName)) ∈ lw_tbl := lw_at lw_m7 236 rfl
theorem q1864 : (Jvm.Cond.instanceMethod ({ cls := "RescueHouseModel", name := "write", desc := "()V" } : Jvm.MethodName)) ∈ lw_all := lw_g (lw_at lw_m7 237 rfl) rfl
theorem q1865 : (Jvm.Cond.code ({ cls := "RescueHouseModel", name := "write", desc := "()V" } : Jvm.MethodName) prog_14_method_111_code (2 : Nat) (Option.none : Option Jvm.ClassFile.FieldType)) ∈ lw_all := lw_g (lw_at lw_m7 238 rfl) rfl
theorem q1866 : (Jvm.Cond.methodLink "RescueHouseModel" (471 : Nat) ({ cls := "RescueHouseModel", name := "clearFrom", desc := "(I)V" } : Jvm.MethodName)) ∈ lw_all := lw_g (lw_at lw_m7 239 rfl) rfl
theorem q1867 : (Jvm.Cond.privateMethod ({ cls := "RescueHouseModel", name := "clearFrom", desc := "(I)V" } : Jvm.MethodName)) ∈ lw_tbl := lw_at lw_m8 0 rfl
theorem q1868 : (Jvm.Cond.instanceMethod ({ cls := "RescueHouseModel", name := "clearFrom", desc := "(I)V" } : Jvm.MethodName)) ∈ lw_all := lw_g (lw_at lw_m8 1 rfl) rfl
theorem q1869 : (Jvm.Cond.code ({ cls := "RescueHouseModel", name := "clearFrom", desc := "(I)V" } : Jvm.MethodName) prog_14_method_112_code (3 : Nat) (Option.none : Option Jvm.ClassFile.FieldType)) ∈ lw_all := lw_g (lw_at lw_m8 2 rfl) rfl
theorem q1870 : (Jvm.Cond.methodLink "RescueHouseModel" (477 : Nat) ({ cls := "RescueHouseModel", name := "sumOfRequest", desc := "()I" } : Jvm.MethodName)) ∈ lw_all := lw_g (lw_at lw_m8 3 rfl) rfl
theorem q1871 : (Jvm.Cond.privateMethod ({ cls := "RescueHouseModel", name := "sumOfRequest", desc := "()I" } : Jvm.MethodName)) ∈ lw_tbl := lw_at lw_m8 4 rfl
theorem q1872 : (Jvm.Cond.instanceMethod ({ cls := "RescueHouseModel", name := "sumOfRequest", desc := "()I" } : Jvm.MethodName)) ∈ lw_all := lw_g (lw_at lw_m8 5 rfl) rfl
theorem q1873 : (Jvm.Cond.code ({ cls := "RescueHouseModel", name := "sumOfRequest", desc := "()I" } : Jvm.MethodName) prog_14_method_109_code (3 : Nat) (Option.some Jvm.ClassFile.FieldType.int)) ∈ lw_all := lw_g (lw_at lw_m8 6 rfl) rfl
theorem q1874 : (Jvm.Cond.methodLink "RescueHouseModel" (489 : Nat) ({ cls := "RescueHouseModel", name := "tell", desc := "()V" } : Jvm.MethodName)) ∈ lw_all := lw_g (lw_at lw_m8 7 rfl) rfl
theorem q1875 : (Jvm.Cond.privateMethod ({ cls := "RescueHouseModel", name := "tell", desc := "()V" } : Jvm.MethodName)) ∈ lw_tbl := lw_at lw_m8 8 rfl
theorem q1876 : (Jvm.Cond.instanceMethod ({ cls := "RescueHouseModel", name := "tell", desc := "()V" } : Jvm.MethodName)) ∈ lw_all := lw_g (lw_at lw_m8 9 rfl) rfl
theorem q1877 : (Jvm.Cond.code ({ cls := "RescueHouseModel", name := "tell", desc := "()V" } : Jvm.MethodName) prog_14_method_61_code (5 : Nat) (Option.none : Option Jvm.ClassFile.FieldType)) ∈ lw_all := lw_g (lw_at lw_m8 10 rfl) rfl
theorem q1878 : (Jvm.Cond.methodLink "RescueHouseModel" (336 : Nat) ({ cls := "RescueHouseModel", name := "keepStep", desc := "()V" } : Jvm.MethodName)) ∈ lw_all := lw_g (lw_at lw_m8 11 rfl) rfl
theorem q1879 : (Jvm.Cond.privateMethod ({ cls := "RescueHouseModel", name := "keepStep", desc := "()V" } : Jvm.MethodName)) ∈ lw_tbl := lw_at lw_m8 12 rfl
theorem q1880 : (Jvm.Cond.instanceMethod ({ cls := "RescueHouseModel", name := "keepStep", desc := "()V" } : Jvm.MethodName)) ∈ lw_all := lw_g (lw_at lw_m8 13 rfl) rfl
theorem q1881 : (Jvm.Cond.code ({ cls := "RescueHouseModel", name := "keepStep", desc := "()V" } : Jvm.MethodName) prog_14_method_60_code (2 : Nat) (Option.none : Option Jvm.ClassFile.FieldType)) ∈ lw_all := lw_g (lw_at lw_m8 14 rfl) rfl
theorem q1882 : (Jvm.Cond.methodLink "RescueHouseModel" (339 : Nat) ({ cls := "RescueHouseModel", name := "addStreet", desc := "()V" } : Jvm.MethodName)) ∈ lw_all := lw_g (lw_at lw_m8 15 rfl) rfl
theorem q1883 : (Jvm.Cond.privateMethod ({ cls := "RescueHouseModel", name := "addStreet", desc := "()V" } : Jvm.MethodName)) ∈ lw_tbl := lw_at lw_m8 16 rfl
theorem q1884 : (Jvm.Cond.instanceMethod ({ cls := "RescueHouseModel", name := "addStreet", desc := "()V" } : Jvm.MethodName)) ∈ lw_all := lw_g (lw_at lw_m8 17 rfl) rfl
theorem q1885 : (Jvm.Cond.code ({ cls := "RescueHouseModel", name := "addStreet", desc := "()V" } : Jvm.MethodName) prog_14_method_65_code (2 : Nat) (Option.none : Option Jvm.ClassFile.FieldType)) ∈ lw_all := lw_g (lw_at lw_m8 18 rfl) rfl
theorem q1886 : (Jvm.Cond.methodLink "RescueHouseModel" (342 : Nat) ({ cls := "RescueHouseModel", name := "addUnit", desc := "(II)V" } : Jvm.MethodName)) ∈ lw_all := lw_g (lw_at lw_m8 19 rfl) rfl
theorem q1887 : (Jvm.Cond.privateMethod ({ cls := "RescueHouseModel", name := "addUnit", desc := "(II)V" } : Jvm.MethodName)) ∈ lw_tbl := lw_at lw_m8 20 rfl
theorem q1888 : (Jvm.Cond.instanceMethod ({ cls := "RescueHouseModel", name := "addUnit", desc := "(II)V" } : Jvm.MethodName)) ∈ lw_all := lw_g (lw_at lw_m8 21 rfl) rfl
theorem q1889 : (Jvm.Cond.code ({ cls := "RescueHouseModel", name := "addUnit", desc := "(II)V" } : Jvm.MethodName) prog_14_method_66_code (5 : Nat) (Option.none : Option Jvm.ClassFile.FieldType)) ∈ lw_all := lw_g (lw_at lw_m8 22 rfl) rfl
theorem q1890 : (Jvm.Cond.methodLink "RescueHouseModel" (240 : Nat) ({ cls := "RescueHouseModel", name := "setUnit", desc := "(III)V" } : Jvm.MethodName)) ∈ lw_all := lw_g (lw_at lw_m8 23 rfl) rfl
theorem q1891 : (Jvm.Cond.privateMethod ({ cls := "RescueHouseModel", name := "setUnit", desc := "(III)V" } : Jvm.MethodName)) ∈ lw_tbl := lw_at lw_m8 24 rfl
theorem q1892 : (Jvm.Cond.instanceMethod ({ cls := "RescueHouseModel", name := "setUnit", desc := "(III)V" } : Jvm.MethodName)) ∈ lw_all := lw_g (lw_at lw_m8 25 rfl) rfl
theorem q1893 : (Jvm.Cond.code ({ cls := "RescueHouseModel", name := "setUnit", desc := "(III)V" } : Jvm.MethodName) prog_14_method_6_code (4 : Nat) (Option.none : Option Jvm.ClassFile.FieldType)) ∈ lw_all := lw_g (lw_at lw_m8 26 rfl) rfl
theorem q1894 : (Jvm.Cond.methodLink "RescueHouseModel" (346 : Nat) ({ cls := "RescueHouseModel", name := "letGo", desc := "(I)V" } : Jvm.MethodName)) ∈ lw_all := lw_g (lw_at lw_m8 27 rfl) rfl
theorem q1895 : (Jvm.Cond.privateMethod ({ cls := "RescueHouseModel", name := "letGo", desc := "(I)V" } : Jvm.MethodName)) ∈ lw_tbl := lw_at lw_m8 28 rfl
theorem q1896 : (Jvm.Cond.instanceMethod ({ cls := "RescueHouseModel", name := "letGo", desc := "(I)V" } : Jvm.MethodName)) ∈ lw_all := lw_g (lw_at lw_m8 29 rfl) rfl
theorem q1897 : (Jvm.Cond.code ({ cls := "RescueHouseModel", name := "letGo", desc := "(I)V" } : Jvm.MethodName) prog_14_method_40_code (3 : Nat) (Option.none : Option Jvm.ClassFile.FieldType)) ∈ lw_all := lw_g (lw_at lw_m8 30 rfl) rfl
theorem q1898 : (Jvm.Cond.methodLink "RescueHouseModel" (349 : Nat) ({ cls := "RescueHouseModel", name := "addCall", desc := "(III)V" } : Jvm.MethodName)) ∈ lw_all := lw_g (lw_at lw_m8 31 rfl) rfl
theorem q1899 : (Jvm.Cond.privateMethod ({ cls := "RescueHouseModel", name := "addCall", desc := "(III)V" } : Jvm.MethodName)) ∈ lw_tbl := lw_at lw_m8 32 rfl
theorem q1900 : (Jvm.Cond.instanceMethod ({ cls := "RescueHouseModel", name := "addCall", desc := "(III)V" } : Jvm.MethodName)) ∈ lw_all := lw_g (lw_at lw_m8 33 rfl) rfl
theorem q1901 : (Jvm.Cond.code ({ cls := "RescueHouseModel", name := "addCall", desc := "(III)V" } : Jvm.MethodName) prog_14_method_67_code (6 : Nat) (Option.none : Option Jvm.ClassFile.FieldType)) ∈ lw_all := lw_g (lw_at lw_m8 34 rfl) rfl
theorem q1902 : (Jvm.Cond.methodLink "RescueHouseModel" (288 : Nat) ({ cls := "RescueHouseModel", name := "setCall", desc := "(III)V" } : Jvm.MethodName)) ∈ lw_all := lw_g (lw_at lw_m8 35 rfl) rfl
theorem q1903 : (Jvm.Cond.privateMethod ({ cls := "RescueHouseModel", name := "setCall", desc := "(III)V" } : Jvm.MethodName)) ∈ lw_tbl := lw_at lw_m8 36 rfl
theorem q1904 : (Jvm.Cond.instanceMethod ({ cls := "RescueHouseModel", name := "setCall", desc := "(III)V" } : Jvm.MethodName)) ∈ lw_all := lw_g (lw_at lw_m8 37 rfl) rfl
theorem q1905 : (Jvm.Cond.code ({ cls := "RescueHouseModel", name := "setCall", desc := "(III)V" } : Jvm.MethodName) prog_14_method_8_code (4 : Nat) (Option.none : Option Jvm.ClassFile.FieldType)) ∈ lw_all := lw_g (lw_at lw_m8 38 rfl) rfl
theorem q1906 : (Jvm.Cond.methodLink "RescueHouseModel" (352 : Nat) ({ cls := "RescueHouseModel", name := "sendAll", desc := "()V" } : Jvm.MethodName)) ∈ lw_all := lw_g (lw_at lw_m8 39 rfl) rfl
theorem q1907 : (Jvm.Cond.privateMethod ({ cls := "RescueHouseModel", name := "sendAll", desc := "()V" } : Jvm.MethodName)) ∈ lw_tbl := lw_at lw_m8 40 rfl
theorem q1908 : (Jvm.Cond.instanceMethod ({ cls := "RescueHouseModel", name := "sendAll", desc := "()V" } : Jvm.MethodName)) ∈ lw_all := lw_g (lw_at lw_m8 41 rfl) rfl
theorem q1909 : (Jvm.Cond.code ({ cls := "RescueHouseModel", name := "sendAll", desc := "()V" } : Jvm.MethodName) prog_14_method_68_code (2 : Nat) (Option.none : Option Jvm.ClassFile.FieldType)) ∈ lw_all := lw_g (lw_at lw_m8 42 rfl) rfl
theorem q1910 : (Jvm.Cond.methodLink "RescueHouseModel" (376 : Nat) ({ cls := "RescueHouseModel", name := "findBoth", desc := "()V" } : Jvm.MethodName)) ∈ lw_all := lw_g (lw_at lw_m8 43 rfl) rfl
theorem q1911 : (Jvm.Cond.privateMethod ({ cls := "RescueHouseModel", name := "findBoth", desc := "()V" } : Jvm.MethodName)) ∈ lw_tbl := lw_at lw_m8 44 rfl
theorem q1912 : (Jvm.Cond.instanceMethod ({ cls := "RescueHouseModel", name := "findBoth", desc := "()V" } : Jvm.MethodName)) ∈ lw_all := lw_g (lw_at lw_m8 45 rfl) rfl
theorem q1913 : (Jvm.Cond.code ({ cls := "RescueHouseModel", name := "findBoth", desc := "()V" } : Jvm.MethodName) prog_14_method_42_code (2 : Nat) (Option.none : Option Jvm.ClassFile.FieldType)) ∈ lw_all := lw_g (lw_at lw_m8 46 rfl) rfl
theorem q1914 : (Jvm.Cond.methodLink "RescueHouseModel" (278 : Nat) ({ cls := "RescueHouseModel", name := "findPlan", desc := "(I)V" } : Jvm.MethodName)) ∈ lw_all := lw_g (lw_at lw_m8 47 rfl) rfl
theorem q1915 : (Jvm.Cond.privateMethod ({ cls := "RescueHouseModel", name := "findPlan", desc := "(I)V" } : Jvm.MethodName)) ∈ lw_tbl := lw_at lw_m8 48 rfl
theorem q1916 : (Jvm.Cond.instanceMethod ({ cls := "RescueHouseModel", name := "findPlan", desc := "(I)V" } : Jvm.MethodName)) ∈ lw_all := lw_g (lw_at lw_m8 49 rfl) rfl
theorem q1917 : (Jvm.Cond.code ({ cls := "RescueHouseModel", name := "findPlan", desc := "(I)V" } : Jvm.MethodName) prog_14_method_46_code (6 : Nat) (Option.none : Option Jvm.ClassFile.FieldType)) ∈ lw_all := lw_g (lw_at lw_m8 50 rfl) rfl
theorem q1918 : (Jvm.Cond.methodLink "RescueHouseModel" (271 : Nat) ({ cls := "RescueHouseModel", name := "sumOf", desc := "(Z)I" } : Jvm.MethodName)) ∈ lw_all := lw_g (lw_at lw_m8 51 rfl) rfl
theorem q1919 : (Jvm.Cond.privateMethod ({ cls := "RescueHouseModel", name := "sumOf", desc := "(Z)I" } : Jvm.MethodName)) ∈ lw_tbl := lw_at lw_m8 52 rfl
theorem q1920 : (Jvm.Cond.instanceMethod ({ cls := "RescueHouseModel", name := "sumOf", desc := "(Z)I" } : Jvm.MethodName)) ∈ lw_all := lw_g (lw_at lw_m8 53 rfl) rfl
theorem q1921 : (Jvm.Cond.code ({ cls := "RescueHouseModel", name := "sumOf", desc := "(Z)I" } : Jvm.MethodName) prog_14_method_45_code (4 : Nat) (Option.some Jvm.ClassFile.FieldType.int)) ∈ lw_all := lw_g (lw_at lw_m8 54 rfl) rfl
theorem q1922 : (Jvm.Cond.methodLink "RescueHouseModel" (275 : Nat) ({ cls := "RescueHouseModel", name := "may", desc := "(II)Z" } : Jvm.MethodName)) ∈ lw_all := lw_g (lw_at lw_m8 55 rfl) rfl
theorem q1923 : (Jvm.Cond.privateMethod ({ cls := "RescueHouseModel", name := "may", desc := "(II)Z" } : Jvm.MethodName)) ∈ lw_tbl := lw_at lw_m8 56 rfl
theorem q1924 : (Jvm.Cond.instanceMethod ({ cls := "RescueHouseModel", name := "may", desc := "(II)Z" } : Jvm.MethodName)) ∈ lw_all := lw_g (lw_at lw_m8 57 rfl) rfl
theorem q1925 : (Jvm.Cond.code ({ cls := "RescueHouseModel", name := "may", desc := "(II)Z" } : Jvm.MethodName) prog_14_method_44_code (5 : Nat) (Option.some Jvm.ClassFile.FieldType.boolean)) ∈ lw_all := lw_g (lw_at lw_m8 58 rfl) rfl
theorem q1926 : (Jvm.Cond.methodLink "RescueHouseModel" (379 : Nat) ({ cls := "RescueHouseModel", name := "tellPlan", desc := "()V" } : Jvm.MethodName)) ∈ lw_all := lw_g (lw_at lw_m8 59 rfl) rfl
theorem q1927 : (Jvm.Cond.privateMethod ({ cls := "RescueHouseModel", name := "tellPlan", desc := "()V" } : Jvm.MethodName)) ∈ lw_tbl := lw_at lw_m8 60 rfl
theorem q1928 : (Jvm.Cond.instanceMethod ({ cls := "RescueHouseModel", name := "tellPlan", desc := "()V" } : Jvm.MethodName)) ∈ lw_all := lw_g (lw_at lw_m8 61 rfl) rfl
theorem q1929 : (Jvm.Cond.code ({ cls := "RescueHouseModel", name := "tellPlan", desc := "()V" } : Jvm.MethodName) prog_14_method_70_code (2 : Nat) (Option.none : Option Jvm.ClassFile.FieldType)) ∈ lw_all := lw_g (lw_at lw_m8 62 rfl) rfl
theorem q1930 : (Jvm.Cond.methodLink "RescueHouseModel" (355 : Nat) ({ cls := "RescueHouseModel", name := "sendTo", desc := "(II)V" } : Jvm.MethodName)) ∈ lw_all := lw_g (lw_at lw_m8 63 rfl) rfl
theorem q1931 : (Jvm.Cond.privateMethod ({ cls := "RescueHouseModel", name := "sendTo", desc := "(II)V" } : Jvm.MethodName)) ∈ lw_tbl := lw_at lw_m8 64 rfl
theorem q1932 : (Jvm.Cond.instanceMethod ({ cls := "RescueHouseModel", name := "sendTo", desc := "(II)V" } : Jvm.MethodName)) ∈ lw_all := lw_g (lw_at lw_m8 65 rfl) rfl
theorem q1933 : (Jvm.Cond.code ({ cls := "RescueHouseModel", name := "sendTo", desc := "(II)V" } : Jvm.MethodName) prog_14_method_41_code (3 : Nat) (Option.none : Option Jvm.ClassFile.FieldType)) ∈ lw_all := lw_g (lw_at lw_m8 66 rfl) rfl
theorem q1934 : (Jvm.Cond.methodLink "RescueHouseModel" (358 : Nat) ({ cls := "RescueHouseModel", name := "tick", desc := "(I)V" } : Jvm.MethodName)) ∈ lw_all := lw_g (lw_at lw_m8 67 rfl) rfl
theorem q1935 : (Jvm.Cond.privateMethod ({ cls := "RescueHouseModel", name := "tick", desc := "(I)V" } : Jvm.MethodName)) ∈ lw_tbl := lw_at lw_m8 68 rfl
theorem q1936 : (Jvm.Cond.instanceMethod ({ cls := "RescueHouseModel", name := "tick", desc := "(I)V" } : Jvm.MethodName)) ∈ lw_all := lw_g (lw_at lw_m8 69 rfl) rfl
theorem q1937 : (Jvm.Cond.code ({ cls := "RescueHouseModel", name := "tick", desc := "(I)V" } : Jvm.MethodName) prog_14_method_51_code (5 : Nat) (Option.none : Option Jvm.ClassFile.FieldType)) ∈ lw_all := lw_g (lw_at lw_m8 70 rfl) rfl
theorem q1938 : (Jvm.Cond.methodLink "RescueHouseModel" (294 : Nat) ({ cls := "RescueHouseModel", name := "second", desc := "(I)V" } : Jvm.MethodName)) ∈ lw_all := lw_g (lw_at lw_m8 71 rfl) rfl
theorem q1939 : (Jvm.Cond.privateMethod ({ cls := "RescueHouseModel", name := "second", desc := "(I)V" } : Jvm.MethodName)) ∈ lw_tbl := lw_at lw_m8 72 rfl
theorem q1940 : (Jvm.Cond.instanceMethod ({ cls := "RescueHouseModel", name := "second", desc := "(I)V" } : Jvm.MethodName)) ∈ lw_all := lw_g (lw_at lw_m8 73 rfl) rfl
theorem q1941 : (Jvm.Cond.code ({ cls := "RescueHouseModel", name := "second", desc := "(I)V" } : Jvm.MethodName) prog_14_method_50_code (4 : Nat) (Option.none : Option Jvm.ClassFile.FieldType)) ∈ lw_all := lw_g (lw_at lw_m8 74 rfl) rfl
theorem q1942 : (Jvm.Cond.methodLink "RescueHouseModel" (291 : Nat) ({ cls := "RescueHouseModel", name := "takesStep", desc := "(I)Z" } : Jvm.MethodName)) ∈ lw_all := lw_g (lw_at lw_m8 75 rfl) rfl
theorem q1943 : (Jvm.Cond.privateMethod ({ cls := "RescueHouseModel", name := "takesStep", desc := "(I)Z" } : Jvm.MethodName)) ∈ lw_tbl := lw_at lw_m8 76 rfl
theorem q1944 : (Jvm.Cond.instanceMethod ({ cls := "RescueHouseModel", name := "takesStep", desc := "(I)Z" } : Jvm.MethodName)) ∈ lw_all := lw_g (lw_at lw_m8 77 rfl) rfl
theorem q1945 : (Jvm.Cond.code ({ cls := "RescueHouseModel", name := "takesStep", desc := "(I)Z" } : Jvm.MethodName) prog_14_method_49_code (11 : Nat) (Option.some Jvm.ClassFile.FieldType.boolean)) ∈ lw_all := lw_g (lw_at lw_m8 78 rfl) rfl
theorem q1946 : (Jvm.Cond.methodLink "RescueHouseModel" (282 : Nat) ({ cls := "RescueHouseModel", name := "targetOf", desc := "(I)I" } : Jvm.MethodName)) ∈ lw_all := lw_g (lw_at lw_m8 79 rfl) rfl
theorem q1947 : (Jvm.Cond.privateMethod ({ cls := "RescueHouseModel", name := "targetOf", desc := "(I)I" } : Jvm.MethodName)) ∈ lw_tbl := lw_at lw_m8 80 rfl
theorem q1948 : (Jvm.Cond.instanceMethod ({ cls := "RescueHouseModel", name := "targetOf", desc := "(I)I" } : Jvm.MethodName)) ∈ lw_all := lw_g (lw_at lw_m8 81 rfl) rfl
theorem q1949 : (Jvm.Cond.code ({ cls := "RescueHouseModel", name := "targetOf", desc := "(I)I" } : Jvm.MethodName) prog_14_method_48_code (2 : Nat) (Option.some Jvm.ClassFile.FieldType.int)) ∈ lw_all := lw_g (lw_at lw_m8 82 rfl) rfl
theorem q1950 : (Jvm.Cond.methodLink "RescueHouseModel" (285 : Nat) ({ cls := "RescueHouseModel", name := "otherEnd", desc := "(II)I" } : Jvm.MethodName)) ∈ lw_all := lw_g (lw_at lw_m8 83 rfl) rfl
theorem q1951 : (Jvm.Cond.privateMethod ({ cls := "RescueHouseModel", name := "otherEnd", desc := "(II)I" } : Jvm.MethodName)) ∈ lw_tbl := lw_at lw_m8 84 rfl
theorem q1952 : (Jvm.Cond.instanceMethod ({ cls := "RescueHouseModel", name := "otherEnd", desc := "(II)I" } : Jvm.MethodName)) ∈ lw_all := lw_g (lw_at lw_m8 85 rfl) rfl
theorem q1953 : (Jvm.Cond.code ({ cls := "RescueHouseModel", name := "otherEnd", desc := "(II)I" } : Jvm.MethodName) prog_14_method_32_code (3 : Nat) (Option.some Jvm.ClassFile.FieldType.int)) ∈ lw_all := lw_g (lw_at lw_m8 86 rfl) rfl
theorem q1954 : (Jvm.Cond.methodLink "RescueHouseModel" (361 : Nat) ({ cls := "RescueHouseModel", name := "addKind", desc := "()V" } : Jvm.MethodName)) ∈ lw_all := lw_g (lw_at lw_m8 87 rfl) rfl
theorem q1955 : (Jvm.Cond.privateMethod ({ cls := "RescueHouseModel", name := "addKind", desc := "()V" } : Jvm.MethodName)) ∈ lw_tbl := lw_at lw_m8 88 rfl
theorem q1956 : (Jvm.Cond.instanceMethod ({ cls := "RescueHouseModel", name := "addKind", desc := "()V" } : Jvm.MethodName)) ∈ lw_all := lw_g (lw_at lw_m8 89 rfl) rfl
theorem q1957 : (Jvm.Cond.code ({ cls := "RescueHouseModel", name := "addKind", desc := "()V" } : Jvm.MethodName) prog_14_method_62_code (3 : Nat) (Option.none : Option Jvm.ClassFile.FieldType)) ∈ lw_all := lw_g (lw_at lw_m8 90 rfl) rfl
theorem q1958 : (Jvm.Cond.methodLink "RescueHouseModel" (364 : Nat) ({ cls := "RescueHouseModel", name := "tellMore", desc := "(II)V" } : Jvm.MethodName)) ∈ lw_all := lw_g (lw_at lw_m8 91 rfl) rfl
theorem q1959 : (Jvm.Cond.privateMethod ({ cls := "RescueHouseModel", name := "tellMore", desc := "(II)V" } : Jvm.MethodName)) ∈ lw_tbl := lw_at lw_m8 92 rfl
theorem q1960 : (Jvm.Cond.instanceMethod ({ cls := "RescueHouseModel", name := "tellMore", desc := "(II)V" } : Jvm.MethodName)) ∈ lw_all := lw_g (lw_at lw_m8 93 rfl) rfl
theorem q1961 : (Jvm.Cond.code ({ cls := "RescueHouseModel", name := "tellMore", desc := "(II)V" } : Jvm.MethodName) prog_14_method_63_code (4 : Nat) (Option.none : Option Jvm.ClassFile.FieldType)) ∈ lw_all := lw_g (lw_at lw_m8 94 rfl) rfl
theorem q1962 : (Jvm.Cond.methodLink "RescueHouseModel" (367 : Nat) ({ cls := "RescueHouseModel", name := "turnBack", desc := "()V" } : Jvm.MethodName)) ∈ lw_all := lw_g (lw_at lw_m8 95 rfl) rfl
theorem q1963 : (Jvm.Cond.privateMethod ({ cls := "RescueHouseModel", name := "turnBack", desc := "()V" } : Jvm.MethodName)) ∈ lw_tbl := lw_at lw_m8 96 rfl
theorem q1964 : (Jvm.Cond.instanceMethod ({ cls := "RescueHouseModel", name := "turnBack", desc := "()V" } : Jvm.MethodName)) ∈ lw_all := lw_g (lw_at lw_m8 97 rfl) rfl
theorem q1965 : (Jvm.Cond.code ({ cls := "RescueHouseModel", name := "turnBack", desc := "()V" } : Jvm.MethodName) prog_14_method_64_code (2 : Nat) (Option.none : Option Jvm.ClassFile.FieldType)) ∈ lw_all := lw_g (lw_at lw_m8 98 rfl) rfl
theorem q1966 : (Jvm.Cond.methodLink "RescueHouseModel" (498 : Nat) ({ cls := "RescueHouseModel", name := "askIt", desc := "()V" } : Jvm.MethodName)) ∈ lw_all := lw_g (lw_at lw_m8 99 rfl) rfl
theorem q1967 : (Jvm.Cond.privateMethod ({ cls := "RescueHouseModel", name := "askIt", desc := "()V" } : Jvm.MethodName)) ∈ lw_tbl := lw_at lw_m8 100 rfl
theorem q1968 : (Jvm.Cond.instanceMethod ({ cls := "RescueHouseModel", name := "askIt", desc := "()V" } : Jvm.MethodName)) ∈ lw_all := lw_g (lw_at lw_m8 101 rfl) rfl
theorem q1969 : (Jvm.Cond.code ({ cls := "RescueHouseModel", name := "askIt", desc := "()V" } : Jvm.MethodName) prog_14_method_117_code (2 : Nat) (Option.none : Option Jvm.ClassFile.FieldType)) ∈ lw_all := lw_g (lw_at lw_m8 102 rfl) rfl
theorem q1970 : (Jvm.Cond.methodLink "RescueHouseModel" (501 : Nat) ({ cls := "RescueHouseModel", name := "tellWays", desc := "(I)V" } : Jvm.MethodName)) ∈ lw_all := lw_g (lw_at lw_m8 103 rfl) rfl
theorem q1971 : (Jvm.Cond.privateMethod ({ cls := "RescueHouseModel", name := "tellWays", desc := "(I)V" } : Jvm.MethodName)) ∈ lw_tbl := lw_at lw_m8 104 rfl
theorem q1972 : (Jvm.Cond.instanceMethod ({ cls := "RescueHouseModel", name := "tellWays", desc := "(I)V" } : Jvm.MethodName)) ∈ lw_all := lw_g (lw_at lw_m8 105 rfl) rfl
theorem q1973 : (Jvm.Cond.code ({ cls := "RescueHouseModel", name := "tellWays", desc := "(I)V" } : Jvm.MethodName) prog_14_method_69_code (4 : Nat) (Option.none : Option Jvm.ClassFile.FieldType)) ∈ lw_all := lw_g (lw_at lw_m8 106 rfl) rfl
theorem q1974 : (Jvm.Cond.methodLink "RescueHouseModel" (504 : Nat) ({ cls := "RescueHouseModel", name := "tellProof", desc := "()V" } : Jvm.MethodName)) ∈ lw_all := lw_g (lw_at lw_m8 107 rfl) rfl
theorem q1975 : (Jvm.Cond.privateMethod ({ cls := "RescueHouseModel", name := "tellProof", desc := "()V" } : Jvm.MethodName)) ∈ lw_tbl := lw_at lw_m8 108 rfl
theorem q1976 : (Jvm.Cond.instanceMethod ({ cls := "RescueHouseModel", name := "tellProof", desc := "()V" } : Jvm.MethodName)) ∈ lw_all := lw_g (lw_at lw_m8 109 rfl) rfl
theorem q1977 : (Jvm.Cond.code ({ cls := "RescueHouseModel", name := "tellProof", desc := "()V" } : Jvm.MethodName) prog_14_method_71_code (5 : Nat) (Option.none : Option Jvm.ClassFile.FieldType)) ∈ lw_all := lw_g (lw_at lw_m8 110 rfl) rfl
theorem q1978 : (Jvm.Cond.methodLink "RescueHouseModel" (382 : Nat) ({ cls := "RescueHouseModel", name := "worthOfPlan", desc := "(I)I" } : Jvm.MethodName)) ∈ lw_all := lw_g (lw_at lw_m8 111 rfl) rfl
theorem q1979 : (Jvm.Cond.privateMethod ({ cls := "RescueHouseModel", name := "worthOfPlan", desc := "(I)I" } : Jvm.MethodName)) ∈ lw_tbl := lw_at lw_m8 112 rfl
theorem q1980 : (Jvm.Cond.instanceMethod ({ cls := "RescueHouseModel", name := "worthOfPlan", desc := "(I)I" } : Jvm.MethodName)) ∈ lw_all := lw_g (lw_at lw_m8 113 rfl) rfl
theorem q1981 : (Jvm.Cond.code ({ cls := "RescueHouseModel", name := "worthOfPlan", desc := "(I)I" } : Jvm.MethodName) prog_14_method_47_code (2 : Nat) (Option.some Jvm.ClassFile.FieldType.int)) ∈ lw_all := lw_g (lw_at lw_m8 114 rfl) rfl
theorem q1982 : (Jvm.Cond.methodLink "RescueHouseModel" (507 : Nat) ({ cls := "RescueHouseModel", name := "check", desc := "()V" } : Jvm.MethodName)) ∈ lw_all := lw_g (lw_at lw_m8 115 rfl) rfl
theorem q1983 : (Jvm.Cond.privateMethod ({ cls := "RescueHouseModel", name := "check", desc := "()V" } : Jvm.MethodName)) ∈ lw_tbl := lw_at lw_m8 116 rfl
theorem q1984 : (Jvm.Cond.instanceMethod ({ cls := "RescueHouseModel", name := "check", desc := "()V" } : Jvm.MethodName)) ∈ lw_all := lw_g (lw_at lw_m8 117 rfl) rfl
theorem q1985 : (Jvm.Cond.code ({ cls := "RescueHouseModel", name := "check", desc := "()V" } : Jvm.MethodName) prog_14_method_108_code (7 : Nat) (Option.none : Option Jvm.ClassFile.FieldType)) ∈ lw_all := lw_g (lw_at lw_m8 118 rfl) rfl
theorem q1986 : (Jvm.Cond.methodLink "RescueHouseModel" (453 : Nat) ({ cls := "RescueHouseModel", name := "takeLine", desc := "()I" } : Jvm.MethodName)) ∈ lw_all := lw_g (lw_at lw_m8 119 rfl) rfl
theorem q1987 : (Jvm.Cond.privateMethod ({ cls := "RescueHouseModel", name := "takeLine", desc := "()I" } : Jvm.MethodName)) ∈ lw_tbl := lw_at lw_m8 120 rfl
theorem q1988 : (Jvm.Cond.instanceMethod ({ cls := "RescueHouseModel", name := "takeLine", desc := "()I" } : Jvm.MethodName)) ∈ lw_all := lw_g (lw_at lw_m8 121 rfl) rfl
theorem q1989 : (Jvm.Cond.code ({ cls := "RescueHouseModel", name := "takeLine", desc := "()I" } : Jvm.MethodName) prog_14_method_102_code (4 : Nat) (Option.some Jvm.ClassFile.FieldType.int)) ∈ lw_all := lw_g (lw_at lw_m8 122 rfl) rfl
theorem q1990 : (Jvm.Cond.methodLink "RescueHouseModel" (456 : Nat) ({ cls := "RescueHouseModel", name := "isRightWays", desc := "()Z" } : Jvm.MethodName)) ∈ lw_all := lw_g (lw_at lw_m8 123 rfl) rfl
theorem q1991 : (Jvm.Cond.privateMethod ({ cls := "RescueHouseModel", name := "isRightWays", desc := "()Z" } : Jvm.MethodName)) ∈ lw_tbl := lw_at lw_m8 124 rfl
theorem q1992 : (Jvm.Cond.instanceMethod ({ cls := "RescueHouseModel", name := "isRightWays", desc := "()Z" } : Jvm.MethodName)) ∈ lw_all := lw_g (lw_at lw_m8 125 rfl) rfl
theorem q1993 : (Jvm.Cond.code ({ cls := "RescueHouseModel", name := "isRightWays", desc := "()Z" } : Jvm.MethodName) prog_14_method_103_code (7 : Nat) (Option.some Jvm.ClassFile.FieldType.boolean)) ∈ lw_all := lw_g (lw_at lw_m8 126 rfl) rfl
theorem q1994 : (Jvm.Cond.methodLink "RescueHouseModel" (459 : Nat) ({ cls := "RescueHouseModel", name := "isRightPair", desc := "()Z" } : Jvm.MethodName)) ∈ lw_all := lw_g (lw_at lw_m8 127 rfl) rfl
theorem q1995 : (Jvm.Cond.privateMethod ({ cls := "RescueHouseModel", name := "isRightPair", desc := "()Z" } : Jvm.MethodName)) ∈ lw_tbl := lw_at lw_m8 128 rfl
theorem q1996 : (Jvm.Cond.instanceMethod ({ cls := "RescueHouseModel", name := "isRightPair", desc := "()Z" } : Jvm.MethodName)) ∈ lw_all := lw_g (lw_at lw_m8 129 rfl) rfl
theorem q1997 : (Jvm.Cond.code ({ cls := "RescueHouseModel", name := "isRightPair", desc := "()Z" } : Jvm.MethodName) prog_14_method_105_code (4 : Nat) (Option.some Jvm.ClassFile.FieldType.boolean)) ∈ lw_all := lw_g (lw_at lw_m8 130 rfl) rfl
theorem q1998 : (Jvm.Cond.methodLink "RescueHouseModel" (444 : Nat) ({ cls := "RescueHouseModel", name := "worthBy", desc := "(II)I" } : Jvm.MethodName)) ∈ lw_all := lw_g (lw_at lw_m8 131 rfl) rfl
theorem q1999 : (Jvm.Cond.privateMethod ({ cls := "RescueHouseModel", name := "worthBy", desc := "(II)I" } : Jvm.MethodName)) ∈ lw_tbl := lw_at lw_m8 132 rfl
theorem q2000 : (Jvm.Cond.instanceMethod ({ cls := "RescueHouseModel", name := "worthBy", desc := "(II)I" } : Jvm.MethodName)) ∈ lw_all := lw_g (lw_at lw_m8 133 rfl) rfl
theorem q2001 : (Jvm.Cond.code ({ cls := "RescueHouseModel", name := "worthBy", desc := "(II)I" } : Jvm.MethodName) prog_14_method_104_code (4 : Nat) (Option.some Jvm.ClassFile.FieldType.int)) ∈ lw_all := lw_g (lw_at lw_m8 134 rfl) rfl
theorem q2002 : (Jvm.Cond.methodLink "RescueHouseModel" (462 : Nat) ({ cls := "RescueHouseModel", name := "isRightUnits", desc := "()Z" } : Jvm.MethodName)) ∈ lw_all := lw_g (lw_at lw_m8 135 rfl) rfl
theorem q2003 : (Jvm.Cond.privateMethod ({ cls := "RescueHouseModel", name := "isRightUnits", desc := "()Z" } : Jvm.MethodName)) ∈ lw_tbl := lw_at lw_m8 136 rfl
theorem q2004 : (Jvm.Cond.instanceMethod ({ cls := "RescueHouseModel", name := "isRightUnits", desc := "()Z" } : Jvm.MethodName)) ∈ lw_all := lw_g (lw_at lw_m8 137 rfl) rfl
theorem q2005 : (Jvm.Cond.code ({ cls := "RescueHouseModel", name := "isRightUnits", desc := "()Z" } : Jvm.MethodName) prog_14_method_106_code (3 : Nat) (Option.some Jvm.ClassFile.FieldType.boolean)) ∈ lw_all := lw_g (lw_at lw_m8 138 rfl) rfl
theorem q2006 : (Jvm.Cond.methodLink "RescueHouseModel" (465 : Nat) ({ cls := "RescueHouseModel", name := "isRightCalls", desc := "()Z" } : Jvm.MethodName)) ∈ lw_all := lw_g (lw_at lw_m8 139 rfl) rfl
theorem q2007 : (Jvm.Cond.privateMethod ({ cls := "RescueHouseModel", name := "isRightCalls", desc := "()Z" } : Jvm.MethodName)) ∈ lw_tbl := lw_at lw_m8 140 rfl
theorem q2008 : (Jvm.Cond.instanceMethod ({ cls := "RescueHouseModel", name := "isRightCalls", desc := "()Z" } : Jvm.MethodName)) ∈ lw_all := lw_g (lw_at lw_m8 141 rfl) rfl
theorem q2009 : (Jvm.Cond.code ({ cls := "RescueHouseModel", name := "isRightCalls", desc := "()Z" } : Jvm.MethodName) prog_14_method_107_code (5 : Nat) (Option.some Jvm.ClassFile.FieldType.boolean)) ∈ lw_all := lw_g (lw_at lw_m8 142 rfl) rfl
theorem q2010 : (Jvm.Cond.methodLink "RescueHouseModel" (435 : Nat) ({ cls := "RescueHouseModel", name := "tellCover", desc := "()V" } : Jvm.MethodName)) ∈ lw_all := lw_g (lw_at lw_m8 143 rfl) rfl
theorem q2011 : (Jvm.Cond.privateMethod ({ cls := "RescueHouseModel", name := "tellCover", desc := "()V" } : Jvm.MethodName)) ∈ lw_tbl := lw_at lw_m8 144 rfl
theorem q2012 : (Jvm.Cond.instanceMethod ({ cls := "RescueHouseModel", name := "tellCover", desc := "()V" } : Jvm.MethodName)) ∈ lw_all := lw_g (lw_at lw_m8 145 rfl) rfl
theorem q2013 : (Jvm.Cond.code ({ cls := "RescueHouseModel", name := "tellCover", desc := "()V" } : Jvm.MethodName) prog_14_method_73_code (2 : Nat) (Option.none : Option Jvm.ClassFile.FieldType)) ∈ lw_all := lw_g (lw_at lw_m8 146 rfl) rfl
theorem q2014 : (Jvm.Cond.methodLink "RescueHouseModel" (388 : Nat) ({ cls := "RescueHouseModel", name := "coverWith", desc := "(II)I" } : Jvm.MethodName)) ∈ lw_all := lw_g (lw_at lw_m8 147 rfl) rfl
theorem q2015 : (Jvm.Cond.privateMethod ({ cls := "RescueHouseModel", name := "coverWith", desc := "(II)I" } : Jvm.MethodName)) ∈ lw_tbl := lw_at lw_m8 148 rfl
theorem q2016 : (Jvm.Cond.instanceMethod ({ cls := "RescueHouseModel", name := "coverWith", desc := "(II)I" } : Jvm.MethodName)) ∈ lw_all := lw_g (lw_at lw_m8 149 rfl) rfl
theorem q2017 : (Jvm.Cond.code ({ cls := "RescueHouseModel", name := "coverWith", desc := "(II)I" } : Jvm.MethodName) prog_14_method_72_code (8 : Nat) (Option.some Jvm.ClassFile.FieldType.int)) ∈ lw_all := lw_g (lw_at lw_m8 150 rfl) rfl
theorem q2018 : (Jvm.Cond.methodLink "RescueHouseModel" (510 : Nat) ({ cls := "RescueHouseModel", name := "tellMove", desc := "()V" } : Jvm.MethodName)) ∈ lw_all := lw_g (lw_at lw_m8 151 rfl) rfl
theorem q2019 : (Jvm.Cond.privateMethod ({ cls := "RescueHouseModel", name := "tellMove", desc := "()V" } : Jvm.MethodName)) ∈ lw_tbl := lw_at lw_m8 152 rfl
theorem q2020 : (Jvm.Cond.instanceMethod ({ cls := "RescueHouseModel", name := "tellMove", desc := "()V" } : Jvm.MethodName)) ∈ lw_all := lw_g (lw_at lw_m8 153 rfl) rfl
theorem q2021 : (Jvm.Cond.code ({ cls := "RescueHouseModel", name := "tellMove", desc := "()V" } : Jvm.MethodName) prog_14_method_74_code (8 : Nat) (Option.none : Option Jvm.ClassFile.FieldType)) ∈ lw_all := lw_g (lw_at lw_m8 154 rfl) rfl
theorem q2022 : (Jvm.Cond.methodLink "RescueHouseModel" (513 : Nat) ({ cls := "RescueHouseModel", name := "tellUnits", desc := "()V" } : Jvm.MethodName)) ∈ lw_all := lw_g (lw_at lw_m8 155 rfl) rfl
theorem q2023 : (Jvm.Cond.privateMethod ({ cls := "RescueHouseModel", name := "tellUnits", desc := "()V" } : Jvm.MethodName)) ∈ lw_tbl := lw_at lw_m8 156 rfl
theorem q2024 : (Jvm.Cond.instanceMethod ({ cls := "RescueHouseModel", name := "tellUnits", desc := "()V" } : Jvm.MethodName)) ∈ lw_all := lw_g (lw_at lw_m8 157 rfl) rfl
theorem q2025 : (Jvm.Cond.code ({ cls := "RescueHouseModel", name := "tellUnits", desc := "()V" } : Jvm.MethodName) prog_14_method_75_code (3 : Nat) (Option.none : Option Jvm.ClassFile.FieldType)) ∈ lw_all := lw_g (lw_at lw_m8 158 rfl) rfl
theorem q2026 : (Jvm.Cond.methodLink "RescueHouseModel" (516 : Nat) ({ cls := "RescueHouseModel", name := "tellCalls", desc := "()V" } : Jvm.MethodName)) ∈ lw_all := lw_g (lw_at lw_m8 159 rfl) rfl
theorem q2027 : (Jvm.Cond.privateMethod ({ cls := "RescueHouseModel", name := "tellCalls", desc := "()V" } : Jvm.MethodName)) ∈ lw_tbl := lw_at lw_m8 160 rfl
theorem q2028 : (Jvm.Cond.instanceMethod ({ cls := "RescueHouseModel", name := "tellCalls", desc := "()V" } : Jvm.MethodName)) ∈ lw_all := lw_g (lw_at lw_m8 161 rfl) rfl
theorem q2029 : (Jvm.Cond.code ({ cls := "RescueHouseModel", name := "tellCalls", desc := "()V" } : Jvm.MethodName) prog_14_method_76_code (3 : Nat) (Option.none : Option Jvm.ClassFile.FieldType)) ∈ lw_all := lw_g (lw_at lw_m8 162 rfl) rfl
theorem q2030 : (Jvm.Cond.methodLink "RescueHouseModel" (519 : Nat) ({ cls := "RescueHouseModel", name := "tellBill", desc := "(I)V" } : Jvm.MethodName)) ∈ lw_all := lw_g (lw_at lw_m8 163 rfl) rfl
theorem q2031 : (Jvm.Cond.privateMethod ({ cls := "RescueHouseModel", name := "tellBill", desc := "(I)V" } : Jvm.MethodName)) ∈ lw_tbl := lw_at lw_m8 164 rfl
theorem q2032 : (Jvm.Cond.instanceMethod ({ cls := "RescueHouseModel", name := "tellBill", desc := "(I)V" } : Jvm.MethodName)) ∈ lw_all := lw_g (lw_at lw_m8 165 rfl) rfl
theorem q2033 : (Jvm.Cond.code ({ cls := "RescueHouseModel", name := "tellBill", desc := "(I)V" } : Jvm.MethodName) prog_14_method_120_code (2 : Nat) (Option.none : Option Jvm.ClassFile.FieldType)) ∈ lw_all := lw_g (lw_at lw_m8 166 rfl) rfl
theorem q2034 : (Jvm.Cond.methodLink "RescueHouseModel" (522 : Nat) ({ cls := "RescueHouseModel", name := "tellBooks", desc := "()V" } : Jvm.MethodName)) ∈ lw_all := lw_g (lw_at lw_m8 167 rfl) rfl
theorem q2035 : (Jvm.Cond.privateMethod ({ cls := "RescueHouseModel", name := "tellBooks", desc := "()V" } : Jvm.MethodName)) ∈ lw_tbl := lw_at lw_m8 168 rfl
theorem q2036 : (Jvm.Cond.instanceMethod ({ cls := "RescueHouseModel", name := "tellBooks", desc := "()V" } : Jvm.MethodName)) ∈ lw_all := lw_g (lw_at lw_m8 169 rfl) rfl
theorem q2037 : (Jvm.Cond.code ({ cls := "RescueHouseModel", name := "tellBooks", desc := "()V" } : Jvm.MethodName) prog_14_method_77_code (1 : Nat) (Option.none : Option Jvm.ClassFile.FieldType)) ∈ lw_all := lw_g (lw_at lw_m8 170 rfl) rfl
theorem q2038 : (Jvm.Cond.methodLink "RescueHouseModel" (525 : Nat) ({ cls := "RescueHouseModel", name := "askMore", desc := "(II)V" } : Jvm.MethodName)) ∈ lw_all := lw_g (lw_at lw_m8 171 rfl) rfl
theorem q2039 : (Jvm.Cond.privateMethod ({ cls := "RescueHouseModel", name := "askMore", desc := "(II)V" } : Jvm.MethodName)) ∈ lw_tbl := lw_at lw_m8 172 rfl
theorem q2040 : (Jvm.Cond.instanceMethod ({ cls := "RescueHouseModel", name := "askMore", desc := "(II)V" } : Jvm.MethodName)) ∈ lw_all := lw_g (lw_at lw_m8 173 rfl) rfl
theorem q2041 : (Jvm.Cond.code ({ cls := "RescueHouseModel", name := "askMore", desc := "(II)V" } : Jvm.MethodName) prog_14_method_118_code (3 : Nat) (Option.none : Option Jvm.ClassFile.FieldType)) ∈ lw_all := lw_g (lw_at lw_m8 174 rfl) rfl
theorem q2042 : (Jvm.Cond.methodLink "RescueHouseModel" (534 : Nat) ({ cls := "RescueHouseModel", name := "tellWhere", desc := "()V" } : Jvm.MethodName)) ∈ lw_all := lw_g (lw_at lw_m8 175 rfl) rfl
theorem q2043 : (Jvm.Cond.privateMethod ({ cls := "RescueHouseModel", name := "tellWhere", desc := "()V" } : Jvm.MethodName)) ∈ lw_tbl := lw_at lw_m8 176 rfl
theorem q2044 : (Jvm.Cond.instanceMethod ({ cls := "RescueHouseModel", name := "tellWhere", desc := "()V" } : Jvm.MethodName)) ∈ lw_all := lw_g (lw_at lw_m8 177 rfl) rfl
theorem q2045 : (Jvm.Cond.code ({ cls := "RescueHouseModel", name := "tellWhere", desc := "()V" } : Jvm.MethodName) prog_14_method_79_code (5 : Nat) (Option.none : Option Jvm.ClassFile.FieldType)) ∈ lw_all := lw_g (lw_at lw_m8 178 rfl) rfl
theorem q2046 : (Jvm.Cond.methodLink "RescueHouseModel" (391 : Nat) ({ cls := "RescueHouseModel", name := "edits", desc := "(I)I" } : Jvm.MethodName)) ∈ lw_all := lw_g (lw_at lw_m8 179 rfl) rfl
theorem q2047 : (Jvm.Cond.privateMethod ({ cls := "RescueHouseModel", name := "edits", desc := "(I)I" } : Jvm.MethodName)) ∈ lw_tbl := lw_at lw_m8 180 rfl
theorem q2048 : (Jvm.Cond.instanceMethod ({ cls := "RescueHouseModel", name := "edits", desc := "(I)I" } : Jvm.MethodName)) ∈ lw_all := lw_g (lw_at lw_m8 181 rfl) rfl
theorem q2049 : (Jvm.Cond.code ({ cls := "RescueHouseModel", name := "edits", desc := "(I)I" } : Jvm.MethodName) prog_14_method_78_code (7 : Nat) (Option.some Jvm.ClassFile.FieldType.int)) ∈ lw_all := lw_g (lw_at lw_m8 182 rfl) rfl
theorem q2050 : (Jvm.Cond.methodLink "RescueHouseModel" (537 : Nat) ({ cls := "RescueHouseModel", name := "tellPath", desc := "(II)V" } : Jvm.MethodName)) ∈ lw_all := lw_g (lw_at lw_m8 183 rfl) rfl
theorem q2051 : (Jvm.Cond.privateMethod ({ cls := "RescueHouseModel", name := "tellPath", desc := "(II)V" } : Jvm.MethodName)) ∈ lw_tbl := lw_at lw_m8 184 rfl
theorem q2052 : (Jvm.Cond.instanceMethod ({ cls := "RescueHouseModel", name := "tellPath", desc := "(II)V" } : Jvm.MethodName)) ∈ lw_all := lw_g (lw_at lw_m8 185 rfl) rfl
theorem q2053 : (Jvm.Cond.code ({ cls := "RescueHouseModel", name := "tellPath", desc := "(II)V" } : Jvm.MethodName) prog_14_method_81_code (5 : Nat) (Option.none : Option Jvm.ClassFile.FieldType)) ∈ lw_all := lw_g (lw_at lw_m8 186 rfl) rfl
theorem q2054 : (Jvm.Cond.methodLink "RescueHouseModel" (394 : Nat) ({ cls := "RescueHouseModel", name := "nextPlace", desc := "(II)I" } : Jvm.MethodName)) ∈ lw_all := lw_g (lw_at lw_m8 187 rfl) rfl
theorem q2055 : (Jvm.Cond.privateMethod ({ cls := "RescueHouseModel", name := "nextPlace", desc := "(II)I" } : Jvm.MethodName)) ∈ lw_tbl := lw_at lw_m8 188 rfl
theorem q2056 : (Jvm.Cond.instanceMethod ({ cls := "RescueHouseModel", name := "nextPlace", desc := "(II)I" } : Jvm.MethodName)) ∈ lw_all := lw_g (lw_at lw_m8 189 rfl) rfl
theorem q2057 : (Jvm.Cond.code ({ cls := "RescueHouseModel", name := "nextPlace", desc := "(II)I" } : Jvm.MethodName) prog_14_method_80_code (7 : Nat) (Option.some Jvm.ClassFile.FieldType.int)) ∈ lw_all := lw_g (lw_at lw_m8 190 rfl) rfl
theorem q2058 : (Jvm.Cond.methodLink "RescueHouseModel" (540 : Nat) ({ cls := "RescueHouseModel", name := "tellRadio", desc := "(I)V" } : Jvm.MethodName)) ∈ lw_all := lw_g (lw_at lw_m8 191 rfl) rfl
theorem q2059 : (Jvm.Cond.privateMethod ({ cls := "RescueHouseModel", name := "tellRadio", desc := "(I)V" } : Jvm.MethodName)) ∈ lw_tbl := lw_at lw_m8 192 rfl
theorem q2060 : (Jvm.Cond.instanceMethod ({ cls := "RescueHouseModel", name := "tellRadio", desc := "(I)V" } : Jvm.MethodName)) ∈ lw_all := lw_g (lw_at lw_m8 193 rfl) rfl
theorem q2061 : (Jvm.Cond.code ({ cls := "RescueHouseModel", name := "tellRadio", desc := "(I)V" } : Jvm.MethodName) prog_14_method_84_code (4 : Nat) (Option.none : Option Jvm.ClassFile.FieldType)) ∈ lw_all := lw_g (lw_at lw_m8 194 rfl) rfl
theorem q2062 : (Jvm.Cond.methodLink "RescueHouseModel" (400 : Nat) ({ cls := "RescueHouseModel", name := "colours", desc := "(IIII)Z" } : Jvm.MethodName)) ∈ lw_all := lw_g (lw_at lw_m8 195 rfl) rfl
theorem q2063 : (Jvm.Cond.privateMethod ({ cls := "RescueHouseModel", name := "colours", desc := "(IIII)Z" } : Jvm.MethodName)) ∈ lw_tbl := lw_at lw_m8 196 rfl
theorem q2064 : (Jvm.Cond.instanceMethod ({ cls := "RescueHouseModel", name := "colours", desc := "(IIII)Z" } : Jvm.MethodName)) ∈ lw_all := lw_g (lw_at lw_m8 197 rfl) rfl
theorem q2065 : (Jvm.Cond.code ({ cls := "RescueHouseModel", name := "colours", desc := "(IIII)Z" } : Jvm.MethodName) prog_14_method_83_code (8 : Nat) (Option.some Jvm.ClassFile.FieldType.boolean)) ∈ lw_all := lw_g (lw_at lw_m8 198 rfl) rfl
theorem q2066 : (Jvm.Cond.methodLink "RescueHouseModel" (397 : Nat) ({ cls := "RescueHouseModel", name := "areClose", desc := "(III)Z" } : Jvm.MethodName)) ∈ lw_all := lw_g (lw_at lw_m8 199 rfl) rfl
theorem q2067 : (Jvm.Cond.privateMethod ({ cls := "RescueHouseModel", name := "areClose", desc := "(III)Z" } : Jvm.MethodName)) ∈ lw_tbl := lw_at lw_m8 200 rfl
theorem q2068 : (Jvm.Cond.instanceMethod ({ cls := "RescueHouseModel", name := "areClose", desc := "(III)Z" } : Jvm.MethodName)) ∈ lw_all := lw_g (lw_at lw_m8 201 rfl) rfl
theorem q2069 : (Jvm.Cond.code ({ cls := "RescueHouseModel", name := "areClose", desc := "(III)Z" } : Jvm.MethodName) prog_14_method_82_code (6 : Nat) (Option.some Jvm.ClassFile.FieldType.boolean)) ∈ lw_all := lw_g (lw_at lw_m8 202 rfl) rfl
theorem q2070 : (Jvm.Cond.methodLink "RescueHouseModel" (543 : Nat) ({ cls := "RescueHouseModel", name := "areApart", desc := "(II)Z" } : Jvm.MethodName)) ∈ lw_all := lw_g (lw_at lw_m8 203 rfl) rfl
theorem q2071 : (Jvm.Cond.privateMethod ({ cls := "RescueHouseModel", name := "areApart", desc := "(II)Z" } : Jvm.MethodName)) ∈ lw_tbl := lw_at lw_m8 204 rfl
theorem q2072 : (Jvm.Cond.instanceMethod ({ cls := "RescueHouseModel", name := "areApart", desc := "(II)Z" } : Jvm.MethodName)) ∈ lw_all := lw_g (lw_at lw_m8 205 rfl) rfl
theorem q2073 : (Jvm.Cond.code ({ cls := "RescueHouseModel", name := "areApart", desc := "(II)Z" } : Jvm.MethodName) prog_14_method_91_code (3 : Nat) (Option.some Jvm.ClassFile.FieldType.boolean)) ∈ lw_all := lw_g (lw_at lw_m8 206 rfl) rfl
theorem q2074 : (Jvm.Cond.methodLink "RescueHouseModel" (546 : Nat) ({ cls := "RescueHouseModel", name := "askFlow", desc := "(II)V" } : Jvm.MethodName)) ∈ lw_all := lw_g (lw_at lw_m8 207 rfl) rfl
theorem q2075 : (Jvm.Cond.privateMethod ({ cls := "RescueHouseModel", name := "askFlow", desc := "(II)V" } : Jvm.MethodName)) ∈ lw_tbl := lw_at lw_m8 208 rfl
theorem q2076 : (Jvm.Cond.instanceMethod ({ cls := "RescueHouseModel", name := "askFlow", desc := "(II)V" } : Jvm.MethodName)) ∈ lw_all := lw_g (lw_at lw_m8 209 rfl) rfl
theorem q2077 : (Jvm.Cond.code ({ cls := "RescueHouseModel", name := "askFlow", desc := "(II)V" } : Jvm.MethodName) prog_14_method_119_code (3 : Nat) (Option.none : Option Jvm.ClassFile.FieldType)) ∈ lw_all := lw_g (lw_at lw_m8 210 rfl) rfl
theorem q2078 : (Jvm.Cond.methodLink "RescueHouseModel" (561 : Nat) ({ cls := "RescueHouseModel", name := "tellDam", desc := "(II)V" } : Jvm.MethodName)) ∈ lw_all := lw_g (lw_at lw_m8 211 rfl) rfl
theorem q2079 : (Jvm.Cond.privateMethod ({ cls := "RescueHouseModel", name := "tellDam", desc := "(II)V" } : Jvm.MethodName)) ∈ lw_tbl := lw_at lw_m8 212 rfl
theorem q2080 : (Jvm.Cond.instanceMethod ({ cls := "RescueHouseModel", name := "tellDam", desc := "(II)V" } : Jvm.MethodName)) ∈ lw_all := lw_g (lw_at lw_m8 213 rfl) rfl
theorem q2081 : (Jvm.Cond.code ({ cls := "RescueHouseModel", name := "tellDam", desc := "(II)V" } : Jvm.MethodName) prog_14_method_92_code (5 : Nat) (Option.none : Option Jvm.ClassFile.FieldType)) ∈ lw_all := lw_g (lw_at lw_m8 214 rfl) rfl
theorem q2082 : (Jvm.Cond.methodLink "RescueHouseModel" (420 : Nat) ({ cls := "RescueHouseModel", name := "findFlow", desc := "(II)V" } : Jvm.MethodName)) ∈ lw_all := lw_g (lw_at lw_m8 215 rfl) rfl
theorem q2083 : (Jvm.Cond.privateMethod ({ cls := "RescueHouseModel", name := "findFlow", desc := "(II)V" } : Jvm.MethodName)) ∈ lw_tbl := lw_at lw_m8 216 rfl
theorem q2084 : (Jvm.Cond.instanceMethod ({ cls := "RescueHouseModel", name := "findFlow", desc := "(II)V" } : Jvm.MethodName)) ∈ lw_all := lw_g (lw_at lw_m8 217 rfl) rfl
theorem q2085 : (Jvm.Cond.code ({ cls := "RescueHouseModel", name := "findFlow", desc := "(II)V" } : Jvm.MethodName) prog_14_method_89_code (9 : Nat) (Option.none : Option Jvm.ClassFile.FieldType)) ∈ lw_all := lw_g (lw_at lw_m8 218 rfl) rfl
theorem q2086 : (Jvm.Cond.methodLink "RescueHouseModel" (413 : Nat) ({ cls := "RescueHouseModel", name := "findFar", desc := "(I)V" } : Jvm.MethodName)) ∈ lw_all := lw_g (lw_at lw_m8 219 rfl) rfl
theorem q2087 : (Jvm.Cond.privateMethod ({ cls := "RescueHouseModel", name := "findFar", desc := "(I)V" } : Jvm.MethodName)) ∈ lw_tbl := lw_at lw_m8 220 rfl
theorem q2088 : (Jvm.Cond.instanceMethod ({ cls := "RescueHouseModel", name := "findFar", desc := "(I)V" } : Jvm.MethodName)) ∈ lw_all := lw_g (lw_at lw_m8 221 rfl) rfl
theorem q2089 : (Jvm.Cond.code ({ cls := "RescueHouseModel", name := "findFar", desc := "(I)V" } : Jvm.MethodName) prog_14_method_87_code (6 : Nat) (Option.none : Option Jvm.ClassFile.FieldType)) ∈ lw_all := lw_g (lw_at lw_m8 222 rfl) rfl
theorem q2090 : (Jvm.Cond.methodLink "RescueHouseModel" (410 : Nat) ({ cls := "RescueHouseModel", name := "room", desc := "(II)I" } : Jvm.MethodName)) ∈ lw_all := lw_g (lw_at lw_m8 223 rfl) rfl
theorem q2091 : (Jvm.Cond.privateMethod ({ cls := "RescueHouseModel", name := "room", desc := "(II)I" } : Jvm.MethodName)) ∈ lw_tbl := lw_at lw_m8 224 rfl
theorem q2092 : (Jvm.Cond.instanceMethod ({ cls := "RescueHouseModel", name := "room", desc := "(II)I" } : Jvm.MethodName)) ∈ lw_all := lw_g (lw_at lw_m8 225 rfl) rfl
theorem q2093 : (Jvm.Cond.code ({ cls := "RescueHouseModel", name := "room", desc := "(II)I" } : Jvm.MethodName) prog_14_method_86_code (3 : Nat) (Option.some Jvm.ClassFile.FieldType.int)) ∈ lw_all := lw_g (lw_at lw_m8 226 rfl) rfl
theorem q2094 : (Jvm.Cond.methodLink "RescueHouseModel" (407 : Nat) ({ cls := "RescueHouseModel", name := "capacity", desc := "(I)I" } : Jvm.MethodName)) ∈ lw_all := lw_g (lw_at lw_m8 227 rfl) rfl
theorem q2095 : (Jvm.Cond.privateMethod ({ cls := "RescueHouseModel", name := "capacity", desc := "(I)I" } : Jvm.MethodName)) ∈ lw_tbl := lw_at lw_m8 228 rfl
theorem q2096 : (Jvm.Cond.instanceMethod ({ cls := "RescueHouseModel", name := "capacity", desc := "(I)I" } : Jvm.MethodName)) ∈ lw_all := lw_g (lw_at lw_m8 229 rfl) rfl
theorem q2097 : (Jvm.Cond.code ({ cls := "RescueHouseModel", name := "capacity", desc := "(I)I" } : Jvm.MethodName) prog_14_method_85_code (2 : Nat) (Option.some Jvm.ClassFile.FieldType.int)) ∈ lw_all := lw_g (lw_at lw_m8 230 rfl) rfl
theorem q2098 : (Jvm.Cond.constant "RescueHouseModel" (416 : Nat) (100000 : Int32)) ∈ lw_all := lw_g (lw_at lw_m8 231 rfl) rfl
theorem q2099 : (Jvm.Cond.methodLink "RescueHouseModel" (417 : Nat) ({ cls := "RescueHouseModel", name := "streetFrom", desc := "(I)I" } : Jvm.MethodName)) ∈ lw_all := lw_g (lw_at lw_m8 232 rfl) rfl
theorem q2100 : (Jvm.Cond.privateMethod ({ cls := "RescueHouseModel", name := "streetFrom", desc := "(I)I" } : Jvm.MethodName)) ∈ lw_tbl := lw_at lw_m8 233 rfl
theorem q2101 : (Jvm.Cond.instanceMethod ({ cls := "RescueHouseModel", name := "streetFrom", desc := "(I)I" } : Jvm.MethodName)) ∈ lw_all := lw_g (lw_at lw_m8 234 rfl) rfl
theorem q2102 : (Jvm.Cond.code ({ cls := "RescueHouseModel", name := "streetFrom", desc := "(I)I" } : Jvm.MethodName) prog_14_method_88_code (3 : Nat) (Option.some Jvm.ClassFile.FieldType.int)) ∈ lw_all := lw_g (lw_at lw_m8 235 rfl) rfl
theorem q2103 : (Jvm.Cond.methodLink "RescueHouseModel" (564 : Nat) ({ cls := "RescueHouseModel", name := "judge", desc := "(II)V" } : Jvm.MethodName)) ∈ lw_all := lw_g (lw_at lw_m8 236 rfl) rfl
theorem q2104 : (Jvm.Cond.privateMethod ({ cls := "RescueHouseModel", name := "judge", desc := "(II)V" } : Jvm.MethodName)) ∈ lw_tbl := lw_at lw_m8 237 rfl
theorem q2105 : (Jvm.Cond.instanceMethod ({ cls := "RescueHouseModel", name := "judge", desc := "(II)V" } : Jvm.MethodName)) ∈ lw_all := lw_g (lw_at lw_m8 238 rfl) rfl
theorem q2106 : (Jvm.Cond.code ({ cls := "RescueHouseModel", name := "judge", desc := "(II)V" } : Jvm.MethodName) prog_14_method_95_code (8 : Nat) (Option.none : Option Jvm.ClassFile.FieldType)) ∈ lw_all := lw_g (lw_at lw_m8 239 rfl) rfl
theorem q2107 : (Jvm.Cond.methodLink "RescueHouseModel" (423 : Nat) ({ cls := "RescueHouseModel", name := "canBe", desc := "(I)Z" } : Jvm.MethodName)) ∈ lw_all := lw_g (lw_at lw_m9 0 rfl) rfl
theorem q2108 : (Jvm.Cond.privateMethod ({ cls := "RescueHouseModel", name := "canBe", desc := "(I)Z" } : Jvm.MethodName)) ∈ lw_tbl := lw_at lw_m9 1 rfl
theorem q2109 : (Jvm.Cond.instanceMethod ({ cls := "RescueHouseModel", name := "canBe", desc := "(I)Z" } : Jvm.MethodName)) ∈ lw_all := lw_g (lw_at lw_m9 2 rfl) rfl
theorem q2110 : (Jvm.Cond.code ({ cls := "RescueHouseModel", name := "canBe", desc := "(I)Z" } : Jvm.MethodName) prog_14_method_93_code (4 : Nat) (Option.some Jvm.ClassFile.FieldType.boolean)) ∈ lw_all := lw_g (lw_at lw_m9 3 rfl) rfl
theorem q2111 : (Jvm.Cond.methodLink "RescueHouseModel" (426 : Nat) ({ cls := "RescueHouseModel", name := "out", desc := "(IZ)I" } : Jvm.MethodName)) ∈ lw_all := lw_g (lw_at lw_m9 4 rfl) rfl
theorem q2112 : (Jvm.Cond.privateMethod ({ cls := "RescueHouseModel", name := "out", desc := "(IZ)I" } : Jvm.MethodName)) ∈ lw_tbl := lw_at lw_m9 5 rfl
theorem q2113 : (Jvm.Cond.instanceMethod ({ cls := "RescueHouseModel", name := "out", desc := "(IZ)I" } : Jvm.MethodName)) ∈ lw_all := lw_g (lw_at lw_m9 6 rfl) rfl
theorem q2114 : (Jvm.Cond.code ({ cls := "RescueHouseModel", name := "out", desc := "(IZ)I" } : Jvm.MethodName) prog_14_method_90_code (6 : Nat) (Option.some Jvm.ClassFile.FieldType.int)) ∈ lw_all := lw_g (lw_at lw_m9 7 rfl) rfl
theorem q2115 : (Jvm.Cond.methodLink "RescueHouseModel" (429 : Nat) ({ cls := "RescueHouseModel", name := "isInCut", desc := "(I)Z" } : Jvm.MethodName)) ∈ lw_all := lw_g (lw_at lw_m9 8 rfl) rfl
theorem q2116 : (Jvm.Cond.privateMethod ({ cls := "RescueHouseModel", name := "isInCut", desc := "(I)Z" } : Jvm.MethodName)) ∈ lw_tbl := lw_at lw_m9 9 rfl
theorem q2117 : (Jvm.Cond.instanceMethod ({ cls := "RescueHouseModel", name := "isInCut", desc := "(I)Z" } : Jvm.MethodName)) ∈ lw_all := lw_g (lw_at lw_m9 10 rfl) rfl
theorem q2118 : (Jvm.Cond.code ({ cls := "RescueHouseModel", name := "isInCut", desc := "(I)Z" } : Jvm.MethodName) prog_14_method_94_code (4 : Nat) (Option.some Jvm.ClassFile.FieldType.boolean)) ∈ lw_all := lw_g (lw_at lw_m9 11 rfl) rfl
theorem q2119 : (Jvm.Cond.methodLink "RescueHouseModel" (549 : Nat) ({ cls := "RescueHouseModel", name := "tellCounts", desc := "()V" } : Jvm.MethodName)) ∈ lw_all := lw_g (lw_at lw_m9 12 rfl) rfl
theorem q2120 : (Jvm.Cond.privateMethod ({ cls := "RescueHouseModel", name := "tellCounts", desc := "()V" } : Jvm.MethodName)) ∈ lw_tbl := lw_at lw_m9 13 rfl
theorem q2121 : (Jvm.Cond.instanceMethod ({ cls := "RescueHouseModel", name := "tellCounts", desc := "()V" } : Jvm.MethodName)) ∈ lw_all := lw_g (lw_at lw_m9 14 rfl) rfl
theorem q2122 : (Jvm.Cond.code ({ cls := "RescueHouseModel", name := "tellCounts", desc := "()V" } : Jvm.MethodName) prog_14_method_97_code (5 : Nat) (Option.none : Option Jvm.ClassFile.FieldType)) ∈ lw_all := lw_g (lw_at lw_m9 15 rfl) rfl
theorem q2123 : (Jvm.Cond.methodLink "RescueHouseModel" (432 : Nat) ({ cls := "RescueHouseModel", name := "callsOf", desc := "(I)I" } : Jvm.MethodName)) ∈ lw_all := lw_g (lw_at lw_m9 16 rfl) rfl
theorem q2124 : (Jvm.Cond.privateMethod ({ cls := "RescueHouseModel", name := "callsOf", desc := "(I)I" } : Jvm.MethodName)) ∈ lw_tbl := lw_at lw_m9 17 rfl
theorem q2125 : (Jvm.Cond.instanceMethod ({ cls := "RescueHouseModel", name := "callsOf", desc := "(I)I" } : Jvm.MethodName)) ∈ lw_all := lw_g (lw_at lw_m9 18 rfl) rfl
theorem q2126 : (Jvm.Cond.code ({ cls := "RescueHouseModel", name := "callsOf", desc := "(I)I" } : Jvm.MethodName) prog_14_method_96_code (4 : Nat) (Option.some Jvm.ClassFile.FieldType.int)) ∈ lw_all := lw_g (lw_at lw_m9 19 rfl) rfl
theorem q2127 : (Jvm.Cond.methodLink "RescueHouseModel" (552 : Nat) ({ cls := "RescueHouseModel", name := "tellAhead", desc := "(I)V" } : Jvm.MethodName)) ∈ lw_all := lw_g (lw_at lw_m9 20 rfl) rfl
theorem q2128 : (Jvm.Cond.privateMethod ({ cls := "RescueHouseModel", name := "tellAhead", desc := "(I)V" } : Jvm.MethodName)) ∈ lw_tbl := lw_at lw_m9 21 rfl
theorem q2129 : (Jvm.Cond.instanceMethod ({ cls := "RescueHouseModel", name := "tellAhead", desc := "(I)V" } : Jvm.MethodName)) ∈ lw_all := lw_g (lw_at lw_m9 22 rfl) rfl
theorem q2130 : (Jvm.Cond.code ({ cls := "RescueHouseModel", name := "tellAhead", desc := "(I)V" } : Jvm.MethodName) prog_14_method_98_code (3 : Nat) (Option.none : Option Jvm.ClassFile.FieldType)) ∈ lw_all := lw_g (lw_at lw_m9 23 rfl) rfl
theorem q2131 : (Jvm.Cond.methodLink "RescueHouseModel" (555 : Nat) ({ cls := "RescueHouseModel", name := "tellShifts", desc := "()V" } : Jvm.MethodName)) ∈ lw_all := lw_g (lw_at lw_m9 24 rfl) rfl
theorem q2132 : (Jvm.Cond.privateMethod ({ cls := "RescueHouseModel", name := "tellShifts", desc := "()V" } : Jvm.MethodName)) ∈ lw_tbl := lw_at lw_m9 25 rfl
theorem q2133 : (Jvm.Cond.instanceMethod ({ cls := "RescueHouseModel", name := "tellShifts", desc := "()V" } : Jvm.MethodName)) ∈ lw_all := lw_g (lw_at lw_m9 26 rfl) rfl
theorem q2134 : (Jvm.Cond.code ({ cls := "RescueHouseModel", name := "tellShifts", desc := "()V" } : Jvm.MethodName) prog_14_method_99_code (3 : Nat) (Option.none : Option Jvm.ClassFile.FieldType)) ∈ lw_all := lw_g (lw_at lw_m9 27 rfl) rfl
theorem q2135 : (Jvm.Cond.methodLink "RescueHouseModel" (558 : Nat) ({ cls := "RescueHouseModel", name := "audit", desc := "()V" } : Jvm.MethodName)) ∈ lw_all := lw_g (lw_at lw_m9 28 rfl) rfl
theorem q2136 : (Jvm.Cond.privateMethod ({ cls := "RescueHouseModel", name := "audit", desc := "()V" } : Jvm.MethodName)) ∈ lw_tbl := lw_at lw_m9 29 rfl
theorem q2137 : (Jvm.Cond.instanceMethod ({ cls := "RescueHouseModel", name := "audit", desc := "()V" } : Jvm.MethodName)) ∈ lw_all := lw_g (lw_at lw_m9 30 rfl) rfl
theorem q2138 : (Jvm.Cond.code ({ cls := "RescueHouseModel", name := "audit", desc := "()V" } : Jvm.MethodName) prog_14_method_101_code (5 : Nat) (Option.none : Option Jvm.ClassFile.FieldType)) ∈ lw_all := lw_g (lw_at lw_m9 31 rfl) rfl
theorem q2139 : (Jvm.Cond.methodLink "RescueHouseModel" (438 : Nat) ({ cls := "RescueHouseModel", name := "isUnitSound", desc := "(I)Z" } : Jvm.MethodName)) ∈ lw_all := lw_g (lw_at lw_m9 32 rfl) rfl
theorem q2140 : (Jvm.Cond.privateMethod ({ cls := "RescueHouseModel", name := "isUnitSound", desc := "(I)Z" } : Jvm.MethodName)) ∈ lw_tbl := lw_at lw_m9 33 rfl
theorem q2141 : (Jvm.Cond.instanceMethod ({ cls := "RescueHouseModel", name := "isUnitSound", desc := "(I)Z" } : Jvm.MethodName)) ∈ lw_all := lw_g (lw_at lw_m9 34 rfl) rfl
theorem q2142 : (Jvm.Cond.code ({ cls := "RescueHouseModel", name := "isUnitSound", desc := "(I)Z" } : Jvm.MethodName) prog_14_method_100_code (5 : Nat) (Option.some Jvm.ClassFile.FieldType.boolean)) ∈ lw_all := lw_g (lw_at lw_m9 35 rfl) rfl
theorem q2143 : (Jvm.Cond.methodLink "RescueHouseModel" (528 : Nat) ({ cls := "RescueHouseModel", name := "cut", desc := "(I)V" } : Jvm.MethodName)) ∈ lw_all := lw_g (lw_at lw_m9 36 rfl) rfl
theorem q2144 : (Jvm.Cond.privateMethod ({ cls := "RescueHouseModel", name := "cut", desc := "(I)V" } : Jvm.MethodName)) ∈ lw_tbl := lw_at lw_m9 37 rfl
theorem q2145 : (Jvm.Cond.instanceMethod ({ cls := "RescueHouseModel", name := "cut", desc := "(I)V" } : Jvm.MethodName)) ∈ lw_all := lw_g (lw_at lw_m9 38 rfl) rfl
theorem q2146 : (Jvm.Cond.code ({ cls := "RescueHouseModel", name := "cut", desc := "(I)V" } : Jvm.MethodName) prog_14_method_113_code (3 : Nat) (Option.none : Option Jvm.ClassFile.FieldType)) ∈ lw_all := lw_g (lw_at lw_m9 39 rfl) rfl
theorem q2147 : (Jvm.Cond.methodLink "RescueHouseModel" (531 : Nat) ({ cls := "RescueHouseModel", name := "mend", desc := "()V" } : Jvm.MethodName)) ∈ lw_all := lw_g (lw_at lw_m9 40 rfl) rfl
theorem q2148 : (Jvm.Cond.privateMethod ({ cls := "RescueHouseModel", name := "mend", desc := "()V" } : Jvm.MethodName)) ∈ lw_tbl := lw_at lw_m9 41 rfl
theorem q2149 : (Jvm.Cond.instanceMethod ({ cls := "RescueHouseModel", name := "mend", desc := "()V" } : Jvm.MethodName)) ∈ lw_all := lw_g (lw_at lw_m9 42 rfl) rfl
theorem q2150 : (Jvm.Cond.code ({ cls := "RescueHouseModel", name := "mend", desc := "()V" } : Jvm.MethodName) prog_14_method_115_code (4 : Nat) (Option.none : Option Jvm.ClassFile.FieldType)) ∈ lw_all := lw_g (lw_at lw_m9 43 rfl) rfl
theorem q2151 : (Jvm.Cond.methodLink "RescueHouseModel" (480 : Nat) ({ cls := "RescueHouseModel", name := "takeRecord", desc := "(I)Z" } : Jvm.MethodName)) ∈ lw_all := lw_g (lw_at lw_m9 44 rfl) rfl
theorem q2152 : (Jvm.Cond.privateMethod ({ cls := "RescueHouseModel", name := "takeRecord", desc := "(I)Z" } : Jvm.MethodName)) ∈ lw_tbl := lw_at lw_m9 45 rfl
theorem q2153 : (Jvm.Cond.instanceMethod ({ cls := "RescueHouseModel", name := "takeRecord", desc := "(I)Z" } : Jvm.MethodName)) ∈ lw_all := lw_g (lw_at lw_m9 46 rfl) rfl
theorem q2154 : (Jvm.Cond.code ({ cls := "RescueHouseModel", name := "takeRecord", desc := "(I)Z" } : Jvm.MethodName) prog_14_method_114_code (4 : Nat) (Option.some Jvm.ClassFile.FieldType.boolean)) ∈ lw_all := lw_g (lw_at lw_m9 47 rfl) rfl
theorem q2156 : (Jvm.Cond.instanceMethod ({ cls := "RescueHouseModel", name := "answer", desc := "(I)I" } : Jvm.MethodName)) ∈ lw_all := lw_g (lw_at lw_m9 49 rfl) rfl
theorem q2157 : (Jvm.Cond.selects "RescueHouseModel" ({ cls := "RescueHouseModel", name := "answer", desc := "(I)I" } : Jvm.MethodName) ({ cls := "RescueHouseModel", name := "answer", desc := "(I)I" } : Jvm.MethodName)) ∈ lw_all := lw_g (lw_at lw_m9 50 rfl) rfl
theorem q2158 : (Jvm.Cond.code ({ cls := "RescueHouseModel", name := "answer", desc := "(I)I" } : Jvm.MethodName) prog_14_method_123_code (2 : Nat) (Option.some Jvm.ClassFile.FieldType.int)) ∈ lw_all := lw_g (lw_at lw_m9 51 rfl) rfl
theorem q2160 : (Jvm.Cond.instanceMethod ({ cls := "RescueHouseModel", name := "checkAnswer", desc := "()I" } : Jvm.MethodName)) ∈ lw_all := lw_g (lw_at lw_m9 53 rfl) rfl
theorem q2161 : (Jvm.Cond.selects "RescueHouseModel" ({ cls := "RescueHouseModel", name := "checkAnswer", desc := "()I" } : Jvm.MethodName) ({ cls := "RescueHouseModel", name := "checkAnswer", desc := "()I" } : Jvm.MethodName)) ∈ lw_all := lw_g (lw_at lw_m9 54 rfl) rfl
theorem q2162 : (Jvm.Cond.code ({ cls := "RescueHouseModel", name := "checkAnswer", desc := "()I" } : Jvm.MethodName) prog_14_method_124_code (2 : Nat) (Option.some Jvm.ClassFile.FieldType.int)) ∈ lw_all := lw_g (lw_at lw_m9 55 rfl) rfl
theorem q2164 : (Jvm.Cond.instanceMethod ({ cls := "RescueHouseModel", name := "state", desc := "(I)I" } : Jvm.MethodName)) ∈ lw_all := lw_g (lw_at lw_m9 57 rfl) rfl
theorem q2165 : (Jvm.Cond.selects "RescueHouseModel" ({ cls := "RescueHouseModel", name := "state", desc := "(I)I" } : Jvm.MethodName) ({ cls := "RescueHouseModel", name := "state", desc := "(I)I" } : Jvm.MethodName)) ∈ lw_all := lw_g (lw_at lw_m9 58 rfl) rfl
theorem q2166 : (Jvm.Cond.code ({ cls := "RescueHouseModel", name := "state", desc := "(I)I" } : Jvm.MethodName) prog_14_method_125_code (4 : Nat) (Option.some Jvm.ClassFile.FieldType.int)) ∈ lw_all := lw_g (lw_at lw_m9 59 rfl) rfl
theorem q2168 : (Jvm.Cond.instanceMethod ({ cls := "RescueHouseModel", name := "byteAt", desc := "(I)I" } : Jvm.MethodName)) ∈ lw_all := lw_g (lw_at lw_m9 61 rfl) rfl
theorem q2169 : (Jvm.Cond.selects "RescueHouseModel" ({ cls := "RescueHouseModel", name := "byteAt", desc := "(I)I" } : Jvm.MethodName) ({ cls := "RescueHouseModel", name := "byteAt", desc := "(I)I" } : Jvm.MethodName)) ∈ lw_all := lw_g (lw_at lw_m9 62 rfl) rfl
theorem q2170 : (Jvm.Cond.code ({ cls := "RescueHouseModel", name := "byteAt", desc := "(I)I" } : Jvm.MethodName) prog_14_method_126_code (2 : Nat) (Option.some Jvm.ClassFile.FieldType.int)) ∈ lw_all := lw_g (lw_at lw_m9 63 rfl) rfl
theorem q2172 : (Jvm.Cond.instanceMethod ({ cls := "RescueHouseModel", name := "poke", desc := "(II)Z" } : Jvm.MethodName)) ∈ lw_all := lw_g (lw_at lw_m9 65 rfl) rfl
theorem q2173 : (Jvm.Cond.selects "RescueHouseModel" ({ cls := "RescueHouseModel", name := "poke", desc := "(II)Z" } : Jvm.MethodName) ({ cls := "RescueHouseModel", name := "poke", desc := "(II)Z" } : Jvm.MethodName)) ∈ lw_all := lw_g (lw_at lw_m9 66 rfl) rfl
theorem q2174 : (Jvm.Cond.code ({ cls := "RescueHouseModel", name := "poke", desc := "(II)Z" } : Jvm.MethodName) prog_14_method_127_code (3 : Nat) (Option.some Jvm.ClassFile.FieldType.boolean)) ∈ lw_all := lw_g (lw_at lw_m9 67 rfl) rfl
theorem in_X12 : ∀ w ∈ wsX120, w ∈ lw_all := lw_in wsX120 [1547, 1549, 1551, 1553, 1555, 1557, 1559, 1561, 1563, 1565, 1567, 1569, 1571, 1573, 1575, 1577, 1579, 1581, 1583, 1585, 1587, 1589, 1591, 1593, 1595, 1597, 1599, 1601, 1603, 1605, 1607, 1609, 1611, 1613, 1615, 1617, 1619, 1621, 1623, 1625, 1627, 1629, 1631, 1633, 1635, 1637, 1639, 1641, 1643, 1645, 1647, 1649, 1651, 1653, 1655, 1657, 1659, 1661, 1663, 1665, 1667, 1669, 1671] (by decide +kernel) (by decide +kernel)

/-! java/lang/String -/
set_option maxRecDepth 100000
def RJ0 : String := "java/lang/String"
abbrev cJ0_length : ByteArray := prog_16_method_54_code
def yJ0_length : MethodName := ⟨RJ0, "length", "()I"⟩
abbrev cJ0_coder : ByteArray := prog_16_method_152_code
def yJ0_coder : MethodName := ⟨RJ0, "coder", "()B"⟩
abbrev cJ0_charAt : ByteArray := prog_16_method_56_code
def yJ0_charAt : MethodName := ⟨RJ0, "charAt", "(I)C"⟩
abbrev cJ0_isLatin1 : ByteArray := prog_16_method_154_code
def yJ0_isLatin1 : MethodName := ⟨RJ0, "isLatin1", "()Z"⟩
abbrev cJ0_checkIndex : ByteArray := prog_16_method_155_code
def yJ0_checkIndex : MethodName := ⟨RJ0, "checkIndex", "(II)V"⟩
abbrev cJ0_equals : ByteArray := prog_16_method_66_code
def yJ0_equals : MethodName := ⟨RJ0, "equals", "(Ljava/lang/Object;)Z"⟩
theorem q201 : (Jvm.Cond.initialized "java/lang/String") ∈ lw_all := lw_g (lw_at lw_m1 14 rfl) rfl
theorem q760 : (Jvm.Cond.instanceMethod ({ cls := "java/lang/String", name := "length", desc := "()I" } : Jvm.MethodName)) ∈ lw_all := lw_g (lw_at lw_m3 93 rfl) rfl
theorem q761 : (Jvm.Cond.selects "java/lang/String" ({ cls := "java/lang/String", name := "length", desc := "()I" } : Jvm.MethodName) ({ cls := "java/lang/String", name := "length", desc := "()I" } : Jvm.MethodName)) ∈ lw_all := lw_g (lw_at lw_m3 94 rfl) rfl
theorem q762 : (Jvm.Cond.code ({ cls := "java/lang/String", name := "length", desc := "()I" } : Jvm.MethodName) prog_16_method_54_code (1 : Nat) (Option.some Jvm.ClassFile.FieldType.int)) ∈ lw_all := lw_g (lw_at lw_m3 95 rfl) rfl
theorem q763 : (Jvm.Cond.methodLink "java/lang/String" (335 : Nat) ({ cls := "java/lang/String", name := "coder", desc := "()B" } : Jvm.MethodName)) ∈ lw_all := lw_g (lw_at lw_m3 96 rfl) rfl
theorem q764 : (Jvm.Cond.instanceMethod ({ cls := "java/lang/String", name := "coder", desc := "()B" } : Jvm.MethodName)) ∈ lw_all := lw_g (lw_at lw_m3 97 rfl) rfl
theorem q765 : (Jvm.Cond.selects "java/lang/String" ({ cls := "java/lang/String", name := "coder", desc := "()B" } : Jvm.MethodName) ({ cls := "java/lang/String", name := "coder", desc := "()B" } : Jvm.MethodName)) ∈ lw_all := lw_g (lw_at lw_m3 98 rfl) rfl
theorem q766 : (Jvm.Cond.code ({ cls := "java/lang/String", name := "coder", desc := "()B" } : Jvm.MethodName) prog_16_method_152_code (1 : Nat) (Option.some Jvm.ClassFile.FieldType.byte)) ∈ lw_all := lw_g (lw_at lw_m3 99 rfl) rfl
theorem q767 : (Jvm.Cond.fieldLink "java/lang/String" (38 : Nat) "java/lang/String" "COMPACT_STRINGS" "Z") ∈ lw_all := lw_g (lw_at lw_m3 100 rfl) rfl
theorem q768 : (Jvm.Cond.laysStatic "java/lang/String" "COMPACT_STRINGS" "Z") ∈ lw_tbl := lw_at lw_m3 101 rfl
theorem q770 : (Jvm.Cond.instanceMethod ({ cls := "java/lang/String", name := "charAt", desc := "(I)C" } : Jvm.MethodName)) ∈ lw_all := lw_g (lw_at lw_m3 103 rfl) rfl
theorem q771 : (Jvm.Cond.selects "java/lang/String" ({ cls := "java/lang/String", name := "charAt", desc := "(I)C" } : Jvm.MethodName) ({ cls := "java/lang/String", name := "charAt", desc := "(I)C" } : Jvm.MethodName)) ∈ lw_all := lw_g (lw_at lw_m3 104 rfl) rfl
theorem q772 : (Jvm.Cond.code ({ cls := "java/lang/String", name := "charAt", desc := "(I)C" } : Jvm.MethodName) prog_16_method_56_code (2 : Nat) (Option.some Jvm.ClassFile.FieldType.char)) ∈ lw_all := lw_g (lw_at lw_m3 105 rfl) rfl
theorem q773 : (Jvm.Cond.methodLink "java/lang/String" (492 : Nat) ({ cls := "java/lang/String", name := "isLatin1", desc := "()Z" } : Jvm.MethodName)) ∈ lw_all := lw_g (lw_at lw_m3 106 rfl) rfl
theorem q774 : (Jvm.Cond.instanceMethod ({ cls := "java/lang/String", name := "isLatin1", desc := "()Z" } : Jvm.MethodName)) ∈ lw_all := lw_g (lw_at lw_m3 107 rfl) rfl
theorem q775 : (Jvm.Cond.selects "java/lang/String" ({ cls := "java/lang/String", name := "isLatin1", desc := "()Z" } : Jvm.MethodName) ({ cls := "java/lang/String", name := "isLatin1", desc := "()Z" } : Jvm.MethodName)) ∈ lw_all := lw_g (lw_at lw_m3 108 rfl) rfl
theorem q776 : (Jvm.Cond.code ({ cls := "java/lang/String", name := "isLatin1", desc := "()Z" } : Jvm.MethodName) prog_16_method_154_code (1 : Nat) (Option.some Jvm.ClassFile.FieldType.boolean)) ∈ lw_all := lw_g (lw_at lw_m3 109 rfl) rfl
theorem q777 : (Jvm.Cond.methodLink "java/lang/String" (495 : Nat) ({ cls := "java/lang/StringLatin1", name := "charAt", desc := "([BI)C" } : Jvm.MethodName)) ∈ lw_all := lw_g (lw_at lw_m3 110 rfl) rfl
theorem q781 : (Jvm.Cond.static ({ cls := "java/lang/String", name := "checkIndex", desc := "(II)V" } : Jvm.MethodName)) ∈ lw_all := lw_g (lw_at lw_m3 114 rfl) rfl
theorem q782 : (Jvm.Cond.code ({ cls := "java/lang/String", name := "checkIndex", desc := "(II)V" } : Jvm.MethodName) prog_16_method_155_code (2 : Nat) (Option.none : Option Jvm.ClassFile.FieldType)) ∈ lw_all := lw_g (lw_at lw_m3 115 rfl) rfl
theorem q783 : (Jvm.Cond.fieldLink "java/lang/String" (1053 : Nat) "jdk/internal/util/Preconditions" "SIOOBE_FORMATTER" "Ljava/util/function/BiFunction;") ∈ lw_all := lw_g (lw_at lw_m3 116 rfl) rfl
theorem q785 : (Jvm.Cond.methodLink "java/lang/String" (1059 : Nat) ({ cls := "jdk/internal/util/Preconditions", name := "checkIndex", desc := "(IILjava/util/function/BiFunction;)I" } : Jvm.MethodName)) ∈ lw_all := lw_g (lw_at lw_m3 118 rfl) rfl
theorem q788 : (Jvm.Cond.methodLink "java/lang/String" (498 : Nat) ({ cls := "java/lang/StringUTF16", name := "charAt", desc := "([BI)C" } : Jvm.MethodName)) ∈ lw_all := lw_g (lw_at lw_m3 121 rfl) rfl
theorem q1022 : (Jvm.Cond.instanceMethod ({ cls := "java/lang/String", name := "equals", desc := "(Ljava/lang/Object;)Z" } : Jvm.MethodName)) ∈ lw_all := lw_g (lw_at lw_m4 115 rfl) rfl
theorem q1023 : (Jvm.Cond.selects "java/lang/String" ({ cls := "java/lang/String", name := "equals", desc := "(Ljava/lang/Object;)Z" } : Jvm.MethodName) ({ cls := "java/lang/String", name := "equals", desc := "(Ljava/lang/Object;)Z" } : Jvm.MethodName)) ∈ lw_all := lw_g (lw_at lw_m4 116 rfl) rfl
theorem q1024 : (Jvm.Cond.code ({ cls := "java/lang/String", name := "equals", desc := "(Ljava/lang/Object;)Z" } : Jvm.MethodName) prog_16_method_66_code (3 : Nat) (Option.some Jvm.ClassFile.FieldType.boolean)) ∈ lw_all := lw_g (lw_at lw_m4 117 rfl) rfl
theorem q1025 : (Jvm.Cond.classLink "java/lang/String" (10 : Nat) "java/lang/String") ∈ lw_all := lw_g (lw_at lw_m4 118 rfl) rfl
theorem q1026 : (Jvm.Cond.methodLink "java/lang/String" (541 : Nat) ({ cls := "java/lang/StringLatin1", name := "equals", desc := "([B[B)Z" } : Jvm.MethodName)) ∈ lw_all := lw_g (lw_at lw_m4 119 rfl) rfl
theorem q2175 : (Jvm.Cond.fieldLink "java/lang/String" (9 : Nat) "java/lang/String" "value" "[B") ∈ lw_all := lw_g (lw_at lw_m9 68 rfl) rfl
theorem q2176 : (Jvm.Cond.fieldLink "java/lang/String" (15 : Nat) "java/lang/String" "coder" "B") ∈ lw_all := lw_g (lw_at lw_m9 69 rfl) rfl

/-! java/lang/StringLatin1 -/
set_option maxRecDepth 100000
def RJ1 : String := "java/lang/StringLatin1"
abbrev cJ1_charAt : ByteArray := prog_17_method_2_code
def yJ1_charAt : MethodName := ⟨RJ1, "charAt", "([BI)C"⟩
abbrev cJ1_equals : ByteArray := prog_17_method_13_code
def yJ1_equals : MethodName := ⟨RJ1, "equals", "([B[B)Z"⟩
theorem q202 : (Jvm.Cond.initialized "java/lang/StringLatin1") ∈ lw_all := lw_g (lw_at lw_m1 15 rfl) rfl
theorem q778 : (Jvm.Cond.static ({ cls := "java/lang/StringLatin1", name := "charAt", desc := "([BI)C" } : Jvm.MethodName)) ∈ lw_all := lw_g (lw_at lw_m3 111 rfl) rfl
theorem q779 : (Jvm.Cond.code ({ cls := "java/lang/StringLatin1", name := "charAt", desc := "([BI)C" } : Jvm.MethodName) prog_17_method_2_code (2 : Nat) (Option.some Jvm.ClassFile.FieldType.char)) ∈ lw_all := lw_g (lw_at lw_m3 112 rfl) rfl
theorem q780 : (Jvm.Cond.methodLink "java/lang/StringLatin1" (9 : Nat) ({ cls := "java/lang/String", name := "checkIndex", desc := "(II)V" } : Jvm.MethodName)) ∈ lw_all := lw_g (lw_at lw_m3 113 rfl) rfl
theorem q1027 : (Jvm.Cond.static ({ cls := "java/lang/StringLatin1", name := "equals", desc := "([B[B)Z" } : Jvm.MethodName)) ∈ lw_all := lw_g (lw_at lw_m4 120 rfl) rfl
theorem q1028 : (Jvm.Cond.code ({ cls := "java/lang/StringLatin1", name := "equals", desc := "([B[B)Z" } : Jvm.MethodName) prog_17_method_13_code (3 : Nat) (Option.some Jvm.ClassFile.FieldType.boolean)) ∈ lw_all := lw_g (lw_at lw_m4 121 rfl) rfl

/-! jdk/internal/util/Preconditions -/
set_option maxRecDepth 100000
def RJ2 : String := "jdk/internal/util/Preconditions"
abbrev cJ2_checkIndex : ByteArray := prog_19_method_11_code
def yJ2_checkIndex : MethodName := ⟨RJ2, "checkIndex", "(IILjava/util/function/BiFunction;)I"⟩
theorem q203 : (Jvm.Cond.initialized "jdk/internal/util/Preconditions") ∈ lw_all := lw_g (lw_at lw_m1 16 rfl) rfl
theorem q784 : (Jvm.Cond.laysStatic "jdk/internal/util/Preconditions" "SIOOBE_FORMATTER" "Ljava/util/function/BiFunction;") ∈ lw_tbl := lw_at lw_m3 117 rfl
theorem q786 : (Jvm.Cond.static ({ cls := "jdk/internal/util/Preconditions", name := "checkIndex", desc := "(IILjava/util/function/BiFunction;)I" } : Jvm.MethodName)) ∈ lw_all := lw_g (lw_at lw_m3 119 rfl) rfl
theorem q787 : (Jvm.Cond.code ({ cls := "jdk/internal/util/Preconditions", name := "checkIndex", desc := "(IILjava/util/function/BiFunction;)I" } : Jvm.MethodName) prog_19_method_11_code (3 : Nat) (Option.some Jvm.ClassFile.FieldType.int)) ∈ lw_all := lw_g (lw_at lw_m3 120 rfl) rfl

/-! java/lang/StringUTF16 -/
set_option maxRecDepth 100000
def RJ3 : String := "java/lang/StringUTF16"
abbrev cJ3_charAt : ByteArray := prog_18_method_83_code
def yJ3_charAt : MethodName := ⟨RJ3, "charAt", "([BI)C"⟩
abbrev cJ3_checkIndex : ByteArray := prog_18_method_91_code
def yJ3_checkIndex : MethodName := ⟨RJ3, "checkIndex", "(I[B)V"⟩
abbrev cJ3_length : ByteArray := prog_18_method_6_code
def yJ3_length : MethodName := ⟨RJ3, "length", "([B)I"⟩
abbrev cJ3_getChar : ByteArray := prog_18_method_5_code
def yJ3_getChar : MethodName := ⟨RJ3, "getChar", "([BI)C"⟩
theorem q204 : (Jvm.Cond.initialized "java/lang/StringUTF16") ∈ lw_all := lw_g (lw_at lw_m1 17 rfl) rfl
theorem q789 : (Jvm.Cond.static ({ cls := "java/lang/StringUTF16", name := "charAt", desc := "([BI)C" } : Jvm.MethodName)) ∈ lw_all := lw_g (lw_at lw_m3 122 rfl) rfl
theorem q790 : (Jvm.Cond.code ({ cls := "java/lang/StringUTF16", name := "charAt", desc := "([BI)C" } : Jvm.MethodName) prog_18_method_83_code (2 : Nat) (Option.some Jvm.ClassFile.FieldType.char)) ∈ lw_all := lw_g (lw_at lw_m3 123 rfl) rfl
theorem q791 : (Jvm.Cond.methodLink "java/lang/StringUTF16" (67 : Nat) ({ cls := "java/lang/StringUTF16", name := "checkIndex", desc := "(I[B)V" } : Jvm.MethodName)) ∈ lw_all := lw_g (lw_at lw_m3 124 rfl) rfl
theorem q792 : (Jvm.Cond.static ({ cls := "java/lang/StringUTF16", name := "checkIndex", desc := "(I[B)V" } : Jvm.MethodName)) ∈ lw_all := lw_g (lw_at lw_m3 125 rfl) rfl
theorem q793 : (Jvm.Cond.code ({ cls := "java/lang/StringUTF16", name := "checkIndex", desc := "(I[B)V" } : Jvm.MethodName) prog_18_method_91_code (2 : Nat) (Option.none : Option Jvm.ClassFile.FieldType)) ∈ lw_all := lw_g (lw_at lw_m3 126 rfl) rfl
theorem q794 : (Jvm.Cond.methodLink "java/lang/StringUTF16" (48 : Nat) ({ cls := "java/lang/StringUTF16", name := "length", desc := "([B)I" } : Jvm.MethodName)) ∈ lw_all := lw_g (lw_at lw_m3 127 rfl) rfl
theorem q795 : (Jvm.Cond.static ({ cls := "java/lang/StringUTF16", name := "length", desc := "([B)I" } : Jvm.MethodName)) ∈ lw_all := lw_g (lw_at lw_m3 128 rfl) rfl
theorem q796 : (Jvm.Cond.code ({ cls := "java/lang/StringUTF16", name := "length", desc := "([B)I" } : Jvm.MethodName) prog_18_method_6_code (1 : Nat) (Option.some Jvm.ClassFile.FieldType.int)) ∈ lw_all := lw_g (lw_at lw_m3 129 rfl) rfl
theorem q797 : (Jvm.Cond.methodLink "java/lang/StringUTF16" (414 : Nat) ({ cls := "java/lang/String", name := "checkIndex", desc := "(II)V" } : Jvm.MethodName)) ∈ lw_all := lw_g (lw_at lw_m3 130 rfl) rfl
theorem q798 : (Jvm.Cond.methodLink "java/lang/StringUTF16" (71 : Nat) ({ cls := "java/lang/StringUTF16", name := "getChar", desc := "([BI)C" } : Jvm.MethodName)) ∈ lw_all := lw_g (lw_at lw_m3 131 rfl) rfl
theorem q799 : (Jvm.Cond.static ({ cls := "java/lang/StringUTF16", name := "getChar", desc := "([BI)C" } : Jvm.MethodName)) ∈ lw_all := lw_g (lw_at lw_m3 132 rfl) rfl
theorem q800 : (Jvm.Cond.code ({ cls := "java/lang/StringUTF16", name := "getChar", desc := "([BI)C" } : Jvm.MethodName) prog_18_method_5_code (2 : Nat) (Option.some Jvm.ClassFile.FieldType.char)) ∈ lw_all := lw_g (lw_at lw_m3 133 rfl) rfl
theorem q801 : (Jvm.Cond.fieldLink "java/lang/StringUTF16" (44 : Nat) "java/lang/StringUTF16" "$assertionsDisabled" "Z") ∈ lw_all := lw_g (lw_at lw_m3 134 rfl) rfl
theorem q802 : (Jvm.Cond.laysStatic "java/lang/StringUTF16" "$assertionsDisabled" "Z") ∈ lw_tbl := lw_at lw_m3 135 rfl
theorem q803 : (Jvm.Cond.fieldLink "java/lang/StringUTF16" (59 : Nat) "java/lang/StringUTF16" "HI_BYTE_SHIFT" "I") ∈ lw_all := lw_g (lw_at lw_m3 136 rfl) rfl
theorem q804 : (Jvm.Cond.laysStatic "java/lang/StringUTF16" "HI_BYTE_SHIFT" "I") ∈ lw_tbl := lw_at lw_m3 137 rfl
theorem q805 : (Jvm.Cond.fieldLink "java/lang/StringUTF16" (63 : Nat) "java/lang/StringUTF16" "LO_BYTE_SHIFT" "I") ∈ lw_all := lw_g (lw_at lw_m3 138 rfl) rfl
theorem q806 : (Jvm.Cond.laysStatic "java/lang/StringUTF16" "LO_BYTE_SHIFT" "I") ∈ lw_tbl := lw_at lw_m3 139 rfl

/-! java/lang/Math -/
set_option maxRecDepth 100000
def RJ4 : String := "java/lang/Math"
abbrev cJ4_max : ByteArray := prog_15_method_65_code
def yJ4_max : MethodName := ⟨RJ4, "max", "(II)I"⟩
abbrev cJ4_min : ByteArray := prog_15_method_69_code
def yJ4_min : MethodName := ⟨RJ4, "min", "(II)I"⟩
theorem q205 : (Jvm.Cond.initialized "java/lang/Math") ∈ lw_all := lw_g (lw_at lw_m1 18 rfl) rfl
theorem q851 : (Jvm.Cond.static ({ cls := "java/lang/Math", name := "max", desc := "(II)I" } : Jvm.MethodName)) ∈ lw_all := lw_g (lw_at lw_m3 184 rfl) rfl
theorem q852 : (Jvm.Cond.code ({ cls := "java/lang/Math", name := "max", desc := "(II)I" } : Jvm.MethodName) prog_15_method_65_code (2 : Nat) (Option.some Jvm.ClassFile.FieldType.int)) ∈ lw_all := lw_g (lw_at lw_m3 185 rfl) rfl
theorem q983 : (Jvm.Cond.static ({ cls := "java/lang/Math", name := "min", desc := "(II)I" } : Jvm.MethodName)) ∈ lw_all := lw_g (lw_at lw_m4 76 rfl) rfl
theorem q984 : (Jvm.Cond.code ({ cls := "java/lang/Math", name := "min", desc := "(II)I" } : Jvm.MethodName) prog_15_method_69_code (2 : Nat) (Option.some Jvm.ClassFile.FieldType.int)) ∈ lw_all := lw_g (lw_at lw_m4 77 rfl) rfl

/-! java/lang/Object -/
set_option maxRecDepth 100000
def RJ5 : String := "java/lang/Object"
abbrev cJ5_init : ByteArray := object_method_1_code
def yJ5_init : MethodName := ⟨RJ5, "<init>", "()V"⟩
theorem q212 : (Jvm.Cond.instanceMethod ({ cls := "java/lang/Object", name := "<init>", desc := "()V" } : Jvm.MethodName)) ∈ lw_all := lw_g (lw_at lw_m1 25 rfl) rfl
theorem q213 : (Jvm.Cond.code ({ cls := "java/lang/Object", name := "<init>", desc := "()V" } : Jvm.MethodName) object_method_1_code (1 : Nat) (Option.none : Option Jvm.ClassFile.FieldType)) ∈ lw_all := lw_g (lw_at lw_m1 26 rfl) rfl

/-! the law's own entry -/
set_option maxRecDepth 100000
abbrev cL_law : ByteArray := code

theorem q187 : (Jvm.Cond.initialized "RescueHouseLaw") ∈ lw_all := lw_g (lw_at lw_m1 0 rfl) rfl
set_option maxRecDepth 100000
theorem q206 : (Jvm.Cond.classLink "RescueHouseLaw" (7 : Nat) "RescueHouse") ∈ lw_all := lw_g (lw_at lw_m1 19 rfl) rfl
theorem q208 : (Jvm.Cond.methodLink "RescueHouseLaw" (9 : Nat) ({ cls := "RescueHouse", name := "<init>", desc := "()V" } : Jvm.MethodName)) ∈ lw_all := lw_g (lw_at lw_m1 21 rfl) rfl
theorem q734 : (Jvm.Cond.methodLink "RescueHouseLaw" (13 : Nat) ({ cls := "RescueHouse", name := "feed", desc := "(IIIII)I" } : Jvm.MethodName)) ∈ lw_all := lw_g (lw_at lw_m3 67 rfl) rfl
theorem q738 : (Jvm.Cond.methodLink "RescueHouseLaw" (18 : Nat) ({ cls := "RescueHouse", name := "ask", desc := "(I)I" } : Jvm.MethodName)) ∈ lw_all := lw_g (lw_at lw_m3 71 rfl) rfl
theorem q1449 : (Jvm.Cond.methodLink "RescueHouseLaw" (23 : Nat) ({ cls := "RescueHouse", name := "answer", desc := "(I)I" } : Jvm.MethodName)) ∈ lw_all := lw_g (lw_at lw_m6 62 rfl) rfl
theorem q1457 : (Jvm.Cond.methodLink "RescueHouseLaw" (27 : Nat) ({ cls := "RescueHouse", name := "checkAnswer", desc := "()I" } : Jvm.MethodName)) ∈ lw_all := lw_g (lw_at lw_m6 70 rfl) rfl
theorem q1462 : (Jvm.Cond.methodLink "RescueHouseLaw" (32 : Nat) ({ cls := "RescueHouse", name := "state", desc := "(I)I" } : Jvm.MethodName)) ∈ lw_all := lw_g (lw_at lw_m6 75 rfl) rfl
theorem q1466 : (Jvm.Cond.methodLink "RescueHouseLaw" (36 : Nat) ({ cls := "RescueHouse", name := "byteAt", desc := "(I)I" } : Jvm.MethodName)) ∈ lw_all := lw_g (lw_at lw_m6 79 rfl) rfl
theorem q1470 : (Jvm.Cond.methodLink "RescueHouseLaw" (40 : Nat) ({ cls := "RescueHouse", name := "poke", desc := "(II)Z" } : Jvm.MethodName)) ∈ lw_all := lw_g (lw_at lw_m6 83 rfl) rfl
theorem q1474 : (Jvm.Cond.classLink "RescueHouseLaw" (10 : Nat) "RescueHouseModel") ∈ lw_all := lw_g (lw_at lw_m6 87 rfl) rfl
theorem q1476 : (Jvm.Cond.methodLink "RescueHouseLaw" (12 : Nat) ({ cls := "RescueHouseModel", name := "<init>", desc := "()V" } : Jvm.MethodName)) ∈ lw_all := lw_g (lw_at lw_m6 89 rfl) rfl
theorem q1674 : (Jvm.Cond.methodLink "RescueHouseLaw" (17 : Nat) ({ cls := "RescueHouseModel", name := "feed", desc := "(IIIII)I" } : Jvm.MethodName)) ∈ lw_all := lw_g (lw_at lw_m7 47 rfl) rfl
theorem q1678 : (Jvm.Cond.methodLink "RescueHouseLaw" (22 : Nat) ({ cls := "RescueHouseModel", name := "ask", desc := "(I)I" } : Jvm.MethodName)) ∈ lw_all := lw_g (lw_at lw_m7 51 rfl) rfl
theorem q2155 : (Jvm.Cond.methodLink "RescueHouseLaw" (26 : Nat) ({ cls := "RescueHouseModel", name := "answer", desc := "(I)I" } : Jvm.MethodName)) ∈ lw_all := lw_g (lw_at lw_m9 48 rfl) rfl
theorem q2159 : (Jvm.Cond.methodLink "RescueHouseLaw" (31 : Nat) ({ cls := "RescueHouseModel", name := "checkAnswer", desc := "()I" } : Jvm.MethodName)) ∈ lw_all := lw_g (lw_at lw_m9 52 rfl) rfl
theorem q2163 : (Jvm.Cond.methodLink "RescueHouseLaw" (35 : Nat) ({ cls := "RescueHouseModel", name := "state", desc := "(I)I" } : Jvm.MethodName)) ∈ lw_all := lw_g (lw_at lw_m9 56 rfl) rfl
theorem q2167 : (Jvm.Cond.methodLink "RescueHouseLaw" (39 : Nat) ({ cls := "RescueHouseModel", name := "byteAt", desc := "(I)I" } : Jvm.MethodName)) ∈ lw_all := lw_g (lw_at lw_m9 60 rfl) rfl
theorem q2171 : (Jvm.Cond.methodLink "RescueHouseLaw" (44 : Nat) ({ cls := "RescueHouseModel", name := "poke", desc := "(II)Z" } : Jvm.MethodName)) ∈ lw_all := lw_g (lw_at lw_m9 64 rfl) rfl

theorem q229 : (Jvm.Cond.arrayClass Jvm.ClassFile.FieldType.byte) ∈ lw_all := lw_g (lw_at lw_m1 42 rfl) rfl
set_option maxRecDepth 100000
theorem q302 : (Jvm.Cond.arrayClass Jvm.ClassFile.FieldType.int) ∈ lw_all := lw_g (lw_at lw_m1 115 rfl) rfl
theorem q481 : (Jvm.Cond.arrayClass Jvm.ClassFile.FieldType.boolean) ∈ lw_all := lw_g (lw_at lw_m2 54 rfl) rfl
theorem q563 : (Jvm.Cond.arrayOver (Jvm.ClassFile.FieldType.object "RescueHouse$House")) ∈ lw_tbl := lw_at lw_m2 136 rfl

