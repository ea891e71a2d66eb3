/-! the JDK's own methods: length, charAt, equals of a String constant -/
set_option maxRecDepth 100000
section
variable {V : Ev} {x : Cx} {M : Mt} {pc : Nat} {lv : List (Nat × Value)} {st : List Value} {σ : St} {β : Type} {G : Option β} {P : β → Prop}
theorem j_sval (X : Ok V x M) {idx i : Nat} (hi : i < strL.length) (hl : Cond.fieldLink M.2.2 idx "java/lang/String" "value" "[B" ∈ lw_all) (hd : decode M.1 pc = .ok (.getfield idx, 3)) (K : JB V x M (pc + 3) lv (.ref (eB V i) :: st) σ G P) : JB V x M pc lv (.ref (eK V i) :: st) σ G P := by
  intro b hb hP H locs ls h1 h2 h3
  exact vk_getf X.1 X.2.1 (X.2.2.2.2.2.1.2.2.2.1 i hi).2.2.1 h2 X.2.2.2.1 (X.2.2.2.2.1 _ hl) (fun _ h => h) hd (K b hb hP H locs ls h1 h2 h3)
theorem j_scod (X : Ok V x M) {idx i : Nat} (hi : i < strL.length) (hl : Cond.fieldLink M.2.2 idx "java/lang/String" "coder" "B" ∈ lw_all) (hd : decode M.1 pc = .ok (.getfield idx, 3)) (K : JB V x M (pc + 3) lv (.int 0 :: st) σ G P) : JB V x M pc lv (.ref (eK V i) :: st) σ G P := by
  intro b hb hP H locs ls h1 h2 h3
  exact vk_getf X.1 X.2.1 (X.2.2.2.2.2.1.2.2.2.1 i hi).2.1 h2 X.2.2.2.1 (X.2.2.2.2.1 _ hl) (fun _ h => h) hd (K b hb hP H locs ls h1 h2 h3)
theorem j_comp (X : Ok V x M) {idx : Nat} (hl : Cond.fieldLink M.2.2 idx "java/lang/String" "COMPACT_STRINGS" "Z" ∈ lw_all) (hd : decode M.1 pc = .ok (.getstatic idx, 3)) (K : JB V x M (pc + 3) lv (.int 1 :: st) σ G P) : JB V x M pc lv st σ G P := by
  intro b hb hP H locs ls h1 h2 h3
  exact va_gets X.1 X.2.1 X.2.2.2.2.2.1.2.2.2.2.1.1 h2 X.2.2.2.1 (X.2.2.2.2.1 _ hl) (fun _ h => h) hd (K b hb hP H locs ls h1 h2 h3)
theorem j_form (X : Ok V x M) {idx : Nat} (hl : Cond.fieldLink M.2.2 idx "jdk/internal/util/Preconditions" "SIOOBE_FORMATTER" "Ljava/util/function/BiFunction;" ∈ lw_all) (hd : decode M.1 pc = .ok (.getstatic idx, 3)) (K : ∀ v : Value, v.category = 1 → JB V x M (pc + 3) lv (v :: st) σ G P) : JB V x M pc lv st σ G P := by
  intro b hb hP H locs ls h1 h2 h3
  rcases X.2.2.2.2.2.1.2.2.2.2.1.2 with hz | ⟨t, hz⟩
  · exact va_gets X.1 X.2.1 hz h2 X.2.2.2.1 (X.2.2.2.2.1 _ hl) (fun _ h => h) hd (K _ rfl b hb hP H locs ls h1 h2 h3)
  · exact va_gets X.1 X.2.1 hz h2 X.2.2.2.1 (X.2.2.2.2.1 _ hl) (fun _ h => h) hd (K _ rfl b hb hP H locs ls h1 h2 h3)
theorem j_slen (X : Ok V x M) {i : Nat} (hi : i < strL.length) (hd : decode M.1 pc = .ok (.arraylength, 1)) (K : JB V x M (pc + 1) lv (.int (Int32.ofNat (slen i)) :: st) σ G P) : JB V x M pc lv (.ref (eB V i) :: st) σ G P := by
  intro b hb hP H locs ls h1 h2 h3
  exact va_tlen X.1 X.2.1 (X.2.2.2.2.2.1.2.2.2.1 i hi).2.2.2 h2 rfl hd (K b hb hP H locs ls h1 h2 h3)
theorem j_sbal (X : Ok V x M) {i : Nat} {k : Int32} (hi : i < strL.length) (hk : vp_in k (slen i)) (hd : decode M.1 pc = .ok (.baload, 1)) (K : JB V x M (pc + 1) lv (.int (sbyt i k.toNatClampNeg) :: st) σ G P) : JB V x M pc lv (.int k :: .ref (eB V i) :: st) σ G P := by
  intro b hb hP H locs ls h1 h2 h3
  exact va_tb X.1 X.2.1 (X.2.2.2.2.2.1.2.2.2.1 i hi).2.2.2 h2 hk rfl hd (K b hb hP H locs ls h1 h2 h3)
/-- a return of another small type -/
theorem j_nret (X : Ok V x M) {ty : FieldType} {d : Nat} (Y : Rt V x (some ty) 1 d) {r : Int32} {b : β} (h : P b → xq_ x = (r, σ)) (hn : narrow ty (.int r) = .int r) (hd : decode M.1 pc = .ok (.ireturn, 1)) : JB V x M pc lv [.int r] σ (some b) P := by
  intro b' hb hP H locs ls h1 h2 h3
  cases hb
  have hq := h hP
  obtain ⟨hQ, hr, -⟩ := Y
  unfold Wx
  rw [hQ]
  exact W.zret X.1 X.2.1 hr hn (fun t ht _ => ⟨by rw [hq]; rfl, by rw [ht, hq]; exact h1, h2.F ht⟩) h2.2.2 hd X.2.2.2.2.2.2.1
end
theorem dJ0_length_0 : decode cJ0_length 0 = .ok (.aload_n 0, 1) := by decide +kernel
theorem dJ0_length_1 : decode cJ0_length 1 = .ok (.getfield 9, 3) := by decide +kernel
theorem dJ0_length_4 : decode cJ0_length 4 = .ok (.arraylength, 1) := by decide +kernel
theorem dJ0_length_5 : decode cJ0_length 5 = .ok (.aload_n 0, 1) := by decide +kernel
theorem dJ0_length_6 : decode cJ0_length 6 = .ok (.invokevirtual 335, 3) := by decide +kernel
theorem dJ0_length_9 : decode cJ0_length 9 = .ok (.ishr, 1) := by decide +kernel
theorem dJ0_length_10 : decode cJ0_length 10 = .ok (.ireturn, 1) := by decide +kernel
theorem dJ0_coder_0 : decode cJ0_coder 0 = .ok (.getstatic 38, 3) := by decide +kernel
theorem dJ0_coder_3 : decode cJ0_coder 3 = .ok (.ifCond .eq 10, 3) := by decide +kernel
theorem dJ0_coder_6 : decode cJ0_coder 6 = .ok (.aload_n 0, 1) := by decide +kernel
theorem dJ0_coder_7 : decode cJ0_coder 7 = .ok (.getfield 15, 3) := by decide +kernel
theorem dJ0_coder_10 : decode cJ0_coder 10 = .ok (.goto 4, 3) := by decide +kernel
theorem dJ0_coder_13 : decode cJ0_coder 13 = .ok (.iconst 1, 1) := by decide +kernel
theorem dJ0_coder_14 : decode cJ0_coder 14 = .ok (.ireturn, 1) := by decide +kernel
theorem dJ0_charAt_0 : decode cJ0_charAt 0 = .ok (.aload_n 0, 1) := by decide +kernel
theorem dJ0_charAt_1 : decode cJ0_charAt 1 = .ok (.invokevirtual 492, 3) := by decide +kernel
theorem dJ0_charAt_4 : decode cJ0_charAt 4 = .ok (.ifCond .eq 12, 3) := by decide +kernel
theorem dJ0_charAt_7 : decode cJ0_charAt 7 = .ok (.aload_n 0, 1) := by decide +kernel
theorem dJ0_charAt_8 : decode cJ0_charAt 8 = .ok (.getfield 9, 3) := by decide +kernel
theorem dJ0_charAt_11 : decode cJ0_charAt 11 = .ok (.iload_n 1, 1) := by decide +kernel
theorem dJ0_charAt_12 : decode cJ0_charAt 12 = .ok (.invokestatic 495, 3) := by decide +kernel
theorem dJ0_charAt_15 : decode cJ0_charAt 15 = .ok (.ireturn, 1) := by decide +kernel
theorem dJ0_charAt_16 : decode cJ0_charAt 16 = .ok (.aload_n 0, 1) := by decide +kernel
theorem dJ0_charAt_17 : decode cJ0_charAt 17 = .ok (.getfield 9, 3) := by decide +kernel
theorem dJ0_charAt_20 : decode cJ0_charAt 20 = .ok (.iload_n 1, 1) := by decide +kernel
theorem dJ0_charAt_21 : decode cJ0_charAt 21 = .ok (.invokestatic 498, 3) := by decide +kernel
theorem dJ0_charAt_24 : decode cJ0_charAt 24 = .ok (.ireturn, 1) := by decide +kernel
theorem dJ0_isLatin1_0 : decode cJ0_isLatin1 0 = .ok (.getstatic 38, 3) := by decide +kernel
theorem dJ0_isLatin1_3 : decode cJ0_isLatin1 3 = .ok (.ifCond .eq 14, 3) := by decide +kernel
theorem dJ0_isLatin1_6 : decode cJ0_isLatin1 6 = .ok (.aload_n 0, 1) := by decide +kernel
theorem dJ0_isLatin1_7 : decode cJ0_isLatin1 7 = .ok (.getfield 15, 3) := by decide +kernel
theorem dJ0_isLatin1_10 : decode cJ0_isLatin1 10 = .ok (.ifCond .ne 7, 3) := by decide +kernel
theorem dJ0_isLatin1_13 : decode cJ0_isLatin1 13 = .ok (.iconst 1, 1) := by decide +kernel
theorem dJ0_isLatin1_14 : decode cJ0_isLatin1 14 = .ok (.goto 4, 3) := by decide +kernel
theorem dJ0_isLatin1_17 : decode cJ0_isLatin1 17 = .ok (.iconst 0, 1) := by decide +kernel
theorem dJ0_isLatin1_18 : decode cJ0_isLatin1 18 = .ok (.ireturn, 1) := by decide +kernel
theorem dJ0_checkIndex_0 : decode cJ0_checkIndex 0 = .ok (.iload_n 0, 1) := by decide +kernel
theorem dJ0_checkIndex_1 : decode cJ0_checkIndex 1 = .ok (.iload_n 1, 1) := by decide +kernel
theorem dJ0_checkIndex_2 : decode cJ0_checkIndex 2 = .ok (.getstatic 1053, 3) := by decide +kernel
theorem dJ0_checkIndex_5 : decode cJ0_checkIndex 5 = .ok (.invokestatic 1059, 3) := by decide +kernel
theorem dJ0_checkIndex_8 : decode cJ0_checkIndex 8 = .ok (.pop, 1) := by decide +kernel
theorem dJ0_checkIndex_9 : decode cJ0_checkIndex 9 = .ok (.return_, 1) := by decide +kernel
theorem dJ0_equals_0 : decode cJ0_equals 0 = .ok (.aload_n 0, 1) := by decide +kernel
theorem dJ0_equals_1 : decode cJ0_equals 1 = .ok (.aload_n 1, 1) := by decide +kernel
theorem dJ0_equals_2 : decode cJ0_equals 2 = .ok (.if_acmp .ne 5, 3) := by decide +kernel
theorem dJ0_equals_5 : decode cJ0_equals 5 = .ok (.iconst 1, 1) := by decide +kernel
theorem dJ0_equals_6 : decode cJ0_equals 6 = .ok (.ireturn, 1) := by decide +kernel
theorem dJ0_equals_7 : decode cJ0_equals 7 = .ok (.aload_n 1, 1) := by decide +kernel
theorem dJ0_equals_8 : decode cJ0_equals 8 = .ok (.instanceof 10, 3) := by decide +kernel
theorem dJ0_equals_11 : decode cJ0_equals 11 = .ok (.ifCond .eq 43, 3) := by decide +kernel
theorem dJ0_equals_14 : decode cJ0_equals 14 = .ok (.aload_n 1, 1) := by decide +kernel
theorem dJ0_equals_15 : decode cJ0_equals 15 = .ok (.checkcast 10, 3) := by decide +kernel
theorem dJ0_equals_18 : decode cJ0_equals 18 = .ok (.astore_n 2, 1) := by decide +kernel
theorem dJ0_equals_19 : decode cJ0_equals 19 = .ok (.getstatic 38, 3) := by decide +kernel
theorem dJ0_equals_22 : decode cJ0_equals 22 = .ok (.ifCond .eq 14, 3) := by decide +kernel
theorem dJ0_equals_25 : decode cJ0_equals 25 = .ok (.aload_n 0, 1) := by decide +kernel
theorem dJ0_equals_26 : decode cJ0_equals 26 = .ok (.getfield 15, 3) := by decide +kernel
theorem dJ0_equals_29 : decode cJ0_equals 29 = .ok (.aload_n 2, 1) := by decide +kernel
theorem dJ0_equals_30 : decode cJ0_equals 30 = .ok (.getfield 15, 3) := by decide +kernel
theorem dJ0_equals_33 : decode cJ0_equals 33 = .ok (.if_icmp .ne 21, 3) := by decide +kernel
theorem dJ0_equals_36 : decode cJ0_equals 36 = .ok (.aload_n 0, 1) := by decide +kernel
theorem dJ0_equals_37 : decode cJ0_equals 37 = .ok (.getfield 9, 3) := by decide +kernel
theorem dJ0_equals_40 : decode cJ0_equals 40 = .ok (.aload_n 2, 1) := by decide +kernel
theorem dJ0_equals_41 : decode cJ0_equals 41 = .ok (.getfield 9, 3) := by decide +kernel
theorem dJ0_equals_44 : decode cJ0_equals 44 = .ok (.invokestatic 541, 3) := by decide +kernel
theorem dJ0_equals_47 : decode cJ0_equals 47 = .ok (.ifCond .eq 7, 3) := by decide +kernel
theorem dJ0_equals_50 : decode cJ0_equals 50 = .ok (.iconst 1, 1) := by decide +kernel
theorem dJ0_equals_51 : decode cJ0_equals 51 = .ok (.goto 4, 3) := by decide +kernel
theorem dJ0_equals_54 : decode cJ0_equals 54 = .ok (.iconst 0, 1) := by decide +kernel
theorem dJ0_equals_55 : decode cJ0_equals 55 = .ok (.ireturn, 1) := by decide +kernel
theorem dJ1_charAt_0 : decode cJ1_charAt 0 = .ok (.iload_n 1, 1) := by decide +kernel
theorem dJ1_charAt_1 : decode cJ1_charAt 1 = .ok (.aload_n 0, 1) := by decide +kernel
theorem dJ1_charAt_2 : decode cJ1_charAt 2 = .ok (.arraylength, 1) := by decide +kernel
theorem dJ1_charAt_3 : decode cJ1_charAt 3 = .ok (.invokestatic 9, 3) := by decide +kernel
theorem dJ1_charAt_6 : decode cJ1_charAt 6 = .ok (.aload_n 0, 1) := by decide +kernel
theorem dJ1_charAt_7 : decode cJ1_charAt 7 = .ok (.iload_n 1, 1) := by decide +kernel
theorem dJ1_charAt_8 : decode cJ1_charAt 8 = .ok (.baload, 1) := by decide +kernel
theorem dJ1_charAt_9 : decode cJ1_charAt 9 = .ok (.sipush 255, 3) := by decide +kernel
theorem dJ1_charAt_12 : decode cJ1_charAt 12 = .ok (.iand, 1) := by decide +kernel
theorem dJ1_charAt_13 : decode cJ1_charAt 13 = .ok (.i2c, 1) := by decide +kernel
theorem dJ1_charAt_14 : decode cJ1_charAt 14 = .ok (.ireturn, 1) := by decide +kernel
theorem dJ1_equals_0 : decode cJ1_equals 0 = .ok (.aload_n 0, 1) := by decide +kernel
theorem dJ1_equals_1 : decode cJ1_equals 1 = .ok (.arraylength, 1) := by decide +kernel
theorem dJ1_equals_2 : decode cJ1_equals 2 = .ok (.aload_n 1, 1) := by decide +kernel
theorem dJ1_equals_3 : decode cJ1_equals 3 = .ok (.arraylength, 1) := by decide +kernel
theorem dJ1_equals_4 : decode cJ1_equals 4 = .ok (.if_icmp .ne 30, 3) := by decide +kernel
theorem dJ1_equals_7 : decode cJ1_equals 7 = .ok (.iconst 0, 1) := by decide +kernel
theorem dJ1_equals_8 : decode cJ1_equals 8 = .ok (.istore_n 2, 1) := by decide +kernel
theorem dJ1_equals_9 : decode cJ1_equals 9 = .ok (.iload_n 2, 1) := by decide +kernel
theorem dJ1_equals_10 : decode cJ1_equals 10 = .ok (.aload_n 0, 1) := by decide +kernel
theorem dJ1_equals_11 : decode cJ1_equals 11 = .ok (.arraylength, 1) := by decide +kernel
theorem dJ1_equals_12 : decode cJ1_equals 12 = .ok (.if_icmp .ge 20, 3) := by decide +kernel
theorem dJ1_equals_15 : decode cJ1_equals 15 = .ok (.aload_n 0, 1) := by decide +kernel
theorem dJ1_equals_16 : decode cJ1_equals 16 = .ok (.iload_n 2, 1) := by decide +kernel
theorem dJ1_equals_17 : decode cJ1_equals 17 = .ok (.baload, 1) := by decide +kernel
theorem dJ1_equals_18 : decode cJ1_equals 18 = .ok (.aload_n 1, 1) := by decide +kernel
theorem dJ1_equals_19 : decode cJ1_equals 19 = .ok (.iload_n 2, 1) := by decide +kernel
theorem dJ1_equals_20 : decode cJ1_equals 20 = .ok (.baload, 1) := by decide +kernel
theorem dJ1_equals_21 : decode cJ1_equals 21 = .ok (.if_icmp .eq 5, 3) := by decide +kernel
theorem dJ1_equals_24 : decode cJ1_equals 24 = .ok (.iconst 0, 1) := by decide +kernel
theorem dJ1_equals_25 : decode cJ1_equals 25 = .ok (.ireturn, 1) := by decide +kernel
theorem dJ1_equals_26 : decode cJ1_equals 26 = .ok (.iinc 2 1, 3) := by decide +kernel
theorem dJ1_equals_29 : decode cJ1_equals 29 = .ok (.goto (-20), 3) := by decide +kernel
theorem dJ1_equals_32 : decode cJ1_equals 32 = .ok (.iconst 1, 1) := by decide +kernel
theorem dJ1_equals_33 : decode cJ1_equals 33 = .ok (.ireturn, 1) := by decide +kernel
theorem dJ1_equals_34 : decode cJ1_equals 34 = .ok (.iconst 0, 1) := by decide +kernel
theorem dJ1_equals_35 : decode cJ1_equals 35 = .ok (.ireturn, 1) := by decide +kernel
theorem dJ2_checkIndex_0 : decode cJ2_checkIndex 0 = .ok (.iload_n 0, 1) := by decide +kernel
theorem dJ2_checkIndex_1 : decode cJ2_checkIndex 1 = .ok (.ifCond .lt 8, 3) := by decide +kernel
theorem dJ2_checkIndex_4 : decode cJ2_checkIndex 4 = .ok (.iload_n 0, 1) := by decide +kernel
theorem dJ2_checkIndex_5 : decode cJ2_checkIndex 5 = .ok (.iload_n 1, 1) := by decide +kernel
theorem dJ2_checkIndex_6 : decode cJ2_checkIndex 6 = .ok (.if_icmp .lt 10, 3) := by decide +kernel
theorem dJ2_checkIndex_9 : decode cJ2_checkIndex 9 = .ok (.aload_n 2, 1) := by decide +kernel
theorem dJ2_checkIndex_10 : decode cJ2_checkIndex 10 = .ok (.iload_n 0, 1) := by decide +kernel
theorem dJ2_checkIndex_11 : decode cJ2_checkIndex 11 = .ok (.iload_n 1, 1) := by decide +kernel
theorem dJ2_checkIndex_12 : decode cJ2_checkIndex 12 = .ok (.invokestatic 95, 3) := by decide +kernel
theorem dJ2_checkIndex_15 : decode cJ2_checkIndex 15 = .ok (.athrow, 1) := by decide +kernel
theorem dJ2_checkIndex_16 : decode cJ2_checkIndex 16 = .ok (.iload_n 0, 1) := by decide +kernel
theorem dJ2_checkIndex_17 : decode cJ2_checkIndex 17 = .ok (.ireturn, 1) := by decide +kernel
abbrev mJ_length : Mt := (cJ0_length, 1, RJ0)
abbrev mJ_charAt : Mt := (cJ0_charAt, 2, RJ0)
abbrev mJ_equals : Mt := (cJ0_equals, 3, RJ0)
abbrev mJ_coder : Mt := (cJ0_coder, 1, RJ0)
abbrev mJ_isLatin1 : Mt := (cJ0_isLatin1, 1, RJ0)
abbrev mJ_checkIndex : Mt := (cJ0_checkIndex, 2, RJ0)
abbrev mJ1_charAt : Mt := (cJ1_charAt, 2, RJ1)
abbrev mJ1_equals : Mt := (cJ1_equals, 3, RJ1)
abbrev mJ2_checkIndex : Mt := (cJ2_checkIndex, 3, RJ2)
theorem calJ_length : Cal yJ0_length mJ_length (some .int) 0 := ⟨⟨q760, q761⟩, q201, q762, by decide +kernel, by decide⟩
theorem calJ_charAt : Cal yJ0_charAt mJ_charAt (some .char) 1 := ⟨⟨q770, q771⟩, q201, q772, by decide +kernel, by decide⟩
theorem calJ_equals : Cal yJ0_equals mJ_equals (some .boolean) 1 := ⟨⟨q1022, q1023⟩, q201, q1024, by decide +kernel, by decide⟩
theorem calJ_coder : Cal yJ0_coder mJ_coder (some .byte) 0 := ⟨⟨q764, q765⟩, q201, q766, by decide +kernel, by decide⟩
theorem calJ_isLatin1 : Cal yJ0_isLatin1 mJ_isLatin1 (some .boolean) 0 := ⟨⟨q774, q775⟩, q201, q776, by decide +kernel, by decide⟩
theorem calJ_checkIndex : CalS yJ0_checkIndex mJ_checkIndex none 2 := ⟨q781, q201, q782, by decide +kernel, by decide⟩
theorem calJ1_charAt : CalS yJ1_charAt mJ1_charAt (some .char) 2 := ⟨q778, q202, q779, by decide +kernel, by decide⟩
theorem calJ1_equals : CalS yJ1_equals mJ1_equals (some .boolean) 2 := ⟨q1027, q202, q1028, by decide +kernel, by decide⟩
theorem calJ2_checkIndex : CalS yJ2_checkIndex mJ2_checkIndex (some .int) 3 := ⟨q786, q203, q787, by decide +kernel, by decide⟩
theorem ctJ_coder (V : Ev) (l : Launch) (i : Nat) (hi : i < strL.length) (s : St) : Ct V l yJ0_coder mJ_coder (some .byte) 1 1 [.ref (eK V i)] s (mkP s (some 0)) := by
  refine Ct.of (by decide) rfl (Nat.le_of_ble_eq_true rfl) (fun x hl X Y => jb_mkP ?_)
  show JB V x mJ_coder 0 [(0, .ref (eK V i))] [] s (if (1 : Int32) = 0 then none else some 0) _
  refine j_comp (pc := 0) X q767 dJ0_coder_0 ?_
  refine j_ifeq (pc := 3) X 13 dJ0_coder_3 rfl (fun b hb => by cases hb) ?_
  refine j_aload_n (pc := 6) X 0 dJ0_coder_6 rfl ?_
  refine j_scod (pc := 7) X hi q2176 dJ0_coder_7 ?_
  refine j_goto (pc := 10) X 14 dJ0_coder_10 rfl ?_
  exact j_nret (pc := 14) X Y (fun h => h) (by decide) dJ0_coder_14
theorem ctJ_isLatin1 (V : Ev) (l : Launch) (i : Nat) (hi : i < strL.length) (s : St) : Ct V l yJ0_isLatin1 mJ_isLatin1 (some .boolean) 1 1 [.ref (eK V i)] s (mkP s (some 1)) := by
  refine Ct.of (by decide) rfl (Nat.le_of_ble_eq_true rfl) (fun x hl X Y => jb_mkP ?_)
  show JB V x mJ_isLatin1 0 [(0, .ref (eK V i))] [] s (if (1 : Int32) = 0 then none else if (0 : Int32) = 0 then some 1 else none) _
  refine j_comp (pc := 0) X q767 dJ0_isLatin1_0 ?_
  refine j_ifeq (pc := 3) X 17 dJ0_isLatin1_3 rfl (fun b hb => by cases hb) ?_
  refine j_aload_n (pc := 6) X 0 dJ0_isLatin1_6 rfl ?_
  refine j_scod (pc := 7) X hi q2176 dJ0_isLatin1_7 ?_
  refine j_ifne (pc := 10) X 17 dJ0_isLatin1_10 rfl (fun b hb => by cases hb) ?_
  refine j_iconst (pc := 13) X 1 dJ0_isLatin1_13 rfl ?_
  refine j_goto (pc := 14) X 18 dJ0_isLatin1_14 rfl ?_
  exact j_nret (pc := 18) X Y (fun h => h) (by decide) dJ0_isLatin1_18
theorem ctJ_length (V : Ev) (l : Launch) (i : Nat) (hi : i < strL.length) (s : St) : Ct V l yJ0_length mJ_length (some .int) 1 2 [.ref (eK V i)] s (mkP s (strLen i)) := by
  refine Ct.of (by decide) rfl (Nat.le_of_ble_eq_true rfl) (fun x hl X Y => jb_mkP ?_)
  show JB V x mJ_length 0 [(0, .ref (eK V i))] [] s (some (Int32.ofNat (slen i))) _
  refine j_aload_n (pc := 0) X 0 dJ0_length_0 rfl ?_
  refine j_sval (pc := 1) X hi q2175 dJ0_length_1 ?_
  refine j_slen (pc := 4) X hi dJ0_length_4 ?_
  refine j_aload_n (pc := 5) X 0 dJ0_length_5 rfl ?_
  intro b hb hP
  refine c_T (pc := 6) (As := []) (rest := [.int (Int32.ofNat (slen i))]) X hi (ctJ_coder V x.2.1 i hi s) (q := (0, s)) rfl calJ_coder rfl q763 (Rm.of Y (by decide)) rfl (Nat.le_of_ble_eq_true rfl) dJ0_length_6 rfl ?_
  refine (show JB V x mJ_length 9 [(0, .ref (eK V i))] [.int 0, .int (Int32.ofNat (slen i))] s (some (Int32.ofNat (slen i))) (fun r => xq_ x = (r, s)) from ?_) b hb hP
  refine j_ishr (pc := 9) X dJ0_length_9 ?_
  rw [sb_shr0]
  exact j_iret (pc := 10) X Y (fun h => h) dJ0_length_10
theorem ctJ2_checkIndex (V : Ev) (l : Launch) (k n : Int32) (v : Value) (hv : v.category = 1) (hk : ¬ k < 0) (hn : k < n) (s : St) : Ct V l yJ2_checkIndex mJ2_checkIndex (some .int) 1 1 [.int k, .int n, v] s (mkP s (some k)) := by
  have hlv : lv_args 0 [.int k, .int n, v] = [(0, .int k), (1, .int n), (2, v)] := by
    cases v <;> rfl
  have hsl : (lg_sl [.int k, .int n, v]).length = 3 := by
    cases v <;> first | rfl | (simp [Value.category] at hv)
  refine Ct.of (by decide) rfl (by rw [hsl]; exact Nat.le_refl 3) (fun x hl X Y => jb_mkP ?_)
  rw [hlv]
  have e : (some k : Option Int32) = (if k < 0 then none else if k < n then some k else none) := by rw [if_neg hk, if_pos hn]
  rw [e]
  refine j_iload_n (pc := 0) X 0 dJ2_checkIndex_0 rfl ?_
  refine j_iflt (pc := 1) X 9 dJ2_checkIndex_1 rfl (fun b hb => by cases hb) ?_
  refine j_iload_n (pc := 4) X 0 dJ2_checkIndex_4 rfl ?_
  refine j_iload_n (pc := 5) X 1 dJ2_checkIndex_5 rfl ?_
  refine j_icmplt (pc := 6) X 16 dJ2_checkIndex_6 rfl ?_ (fun b hb => by cases hb)
  refine j_iload_n (pc := 16) X 0 dJ2_checkIndex_16 rfl ?_
  exact j_iret (pc := 17) X Y (fun h => h) dJ2_checkIndex_17
theorem ctJ_checkIndex (V : Ev) (l : Launch) (k n : Int32) (hk : ¬ k < 0) (hn : k < n) (s : St) : Ct V l yJ0_checkIndex mJ_checkIndex none 0 2 [.int k, .int n] s (mkV (some s)) := by
  refine Ct.of (by decide) rfl (Nat.le_of_ble_eq_true rfl) (fun x hl X Y => jb_mkV ?_)
  show JB V x mJ_checkIndex 0 [(0, .int k), (1, .int n)] [] s (some s) _
  refine j_iload_n (pc := 0) X 0 dJ0_checkIndex_0 rfl ?_
  refine j_iload_n (pc := 1) X 1 dJ0_checkIndex_1 rfl ?_
  refine j_form (pc := 2) X q783 dJ0_checkIndex_2 (fun v hv => ?_)
  intro b hb hP
  refine c_S (pc := 5) (As := [.int k, .int n, v]) (rest := []) X (ctJ2_checkIndex V x.2.1 k n v hv hk hn s) (q := (k, s)) rfl calJ2_checkIndex (Or.inl q785) (Rm.of Y (by decide)) rfl (Nat.le_of_ble_eq_true rfl) dJ0_checkIndex_5 rfl ?_
  refine (show JB V x mJ_checkIndex 8 [(0, .int k), (1, .int n)] [.int k] s (some s) (fun r => xq_ x = ((0 : Int32), r)) from ?_) b hb hP
  refine j_pop (pc := 8) X dJ0_checkIndex_8 rfl ?_
  exact j_vret (pc := 9) X Y (r := 0) (fun h => h) dJ0_checkIndex_9
theorem getD_lt {l : List Int32} {k : Nat} (h : k < l.length) : l.getD k 0 = l[k] := by
  rw [List.getD_eq_getElem?_getD, List.getElem?_eq_getElem h]
  rfl
theorem slen_small : ∀ i, i < strL.length → slen i < 2 ^ 31 := by decide +kernel
theorem sbyt_char : ∀ i, i < strL.length → ∀ b ∈ strB.getD i [], ((b &&& 255).toUInt32 % 65536).toInt32 = b ∧ narrow .char (.int b) = .int b := by decide +kernel
theorem sbyt_ch {i k : Nat} (hi : i < strL.length) (hk : k < slen i) : ((sbyt i k &&& 255).toUInt32 % 65536).toInt32 = sbyt i k ∧ narrow .char (.int (sbyt i k)) = .int (sbyt i k) := by
  refine sbyt_char i hi _ ?_
  unfold sbyt
  rw [getD_lt hk]
  exact List.getElem_mem hk
theorem vp_cmp {k : Int32} {n : Nat} (h : vp_in k n) (hn : n < 2 ^ 31) : ¬ k < 0 ∧ k < Int32.ofNat n := by
  obtain ⟨j, hj, rfl⟩ := vp_in_of h hn
  exact ⟨nI_pos (by omega), nI_lt hj hn⟩
theorem ctJ1_charAt (V : Ev) (l : Launch) (i : Nat) (hi : i < strL.length) (k : Int32) (hk : vp_in k (slen i)) (s : St) : Ct V l yJ1_charAt mJ1_charAt (some .char) 1 3 [.ref (eB V i), .int k] s (mkP s (some (sbyt i k.toNatClampNeg))) := by
  have hlt : k.toNatClampNeg < slen i := Nat.not_le.mp fun z => hk (Or.inr z)
  obtain ⟨h0, h1⟩ := vp_cmp hk (slen_small i hi)
  obtain ⟨hc1, hc2⟩ := sbyt_ch hi hlt
  refine Ct.of (by decide) rfl (Nat.le_of_ble_eq_true rfl) (fun x hl X Y => jb_mkP ?_)
  show JB V x mJ1_charAt 0 [(0, .ref (eB V i)), (1, .int k)] [] s (some (sbyt i k.toNatClampNeg)) _
  refine j_iload_n (pc := 0) X 1 dJ1_charAt_0 rfl ?_
  refine j_aload_n (pc := 1) X 0 dJ1_charAt_1 rfl ?_
  refine j_slen (pc := 2) X hi dJ1_charAt_2 ?_
  intro b hb hP
  refine c_S (pc := 3) (As := [.int k, .int (Int32.ofNat (slen i))]) (rest := []) X (ctJ_checkIndex V x.2.1 k _ h0 h1 s) (q := (0, s)) rfl calJ_checkIndex (Or.inl q780) (Rm.of Y (by decide)) rfl (Nat.le_of_ble_eq_true rfl) dJ1_charAt_3 rfl ?_
  refine (show JB V x mJ1_charAt 6 [(0, .ref (eB V i)), (1, .int k)] [] s (some (sbyt i k.toNatClampNeg)) (fun r => xq_ x = (r, s)) from ?_) b hb hP
  refine j_aload_n (pc := 6) X 0 dJ1_charAt_6 rfl ?_
  refine j_iload_n (pc := 7) X 1 dJ1_charAt_7 rfl ?_
  refine j_sbal (pc := 8) X hi hk dJ1_charAt_8 ?_
  refine j_sipush (pc := 9) X 255 dJ1_charAt_9 rfl ?_
  refine j_iand (pc := 12) X dJ1_charAt_12 ?_
  refine j_i2c (pc := 13) X dJ1_charAt_13 ?_
  rw [hc1]
  exact j_nret (pc := 14) X Y (fun h => h) hc2 dJ1_charAt_14
theorem ctJ_charAt (V : Ev) (l : Launch) (i : Nat) (hi : i < strL.length) (k : Int32) (s : St) : Ct V l yJ0_charAt mJ_charAt (some .char) 1 5 [.ref (eK V i), .int k] s (mkP s (strChr i k)) := by
  refine Ct.of (by decide) rfl (Nat.le_of_ble_eq_true rfl) (fun x hl X Y => jb_mkP ?_)
  show JB V x mJ_charAt 0 [(0, .ref (eK V i)), (1, .int k)] [] s (strChr i k) _
  intro b hb hP
  unfold strChr at hb
  by_cases hk : inb k (slen i) = true
  · rw [if_pos hk] at hb
    have hk := inb_vp hk
    have hlt : k.toNatClampNeg < slen i := Nat.not_le.mp fun z => hk (Or.inr z)
    have hc := sbyt_ch hi hlt
    refine (show JB V x mJ_charAt 0 [(0, .ref (eK V i)), (1, .int k)] [] s (some (sbyt i k.toNatClampNeg)) (fun r => xq_ x = (r, s)) from ?_) b hb hP
    refine j_aload_n (pc := 0) X 0 dJ0_charAt_0 rfl ?_
    intro b hb hP
    refine c_T (pc := 1) (As := []) (rest := []) X hi (ctJ_isLatin1 V x.2.1 i hi s) (q := (1, s)) rfl calJ_isLatin1 rfl q773 (Rm.of Y (by decide)) rfl (Nat.le_of_ble_eq_true rfl) dJ0_charAt_1 rfl ?_
    refine (show JB V x mJ_charAt 4 [(0, .ref (eK V i)), (1, .int k)] [.int 1] s (if (1 : Int32) = 0 then none else some (sbyt i k.toNatClampNeg)) (fun r => xq_ x = (r, s)) from ?_) b hb hP
    refine j_ifeq (pc := 4) X 16 dJ0_charAt_4 rfl (fun b hb => by cases hb) ?_
    refine j_aload_n (pc := 7) X 0 dJ0_charAt_7 rfl ?_
    refine j_sval (pc := 8) X hi q2175 dJ0_charAt_8 ?_
    refine j_iload_n (pc := 11) X 1 dJ0_charAt_11 rfl ?_
    intro b hb hP
    refine c_S (pc := 12) (As := [.ref (eB V i), .int k]) (rest := []) X (ctJ1_charAt V x.2.1 i hi k hk s) (q := (sbyt i k.toNatClampNeg, s)) rfl calJ1_charAt (Or.inl q777) (Rm.of Y (by decide)) rfl (Nat.le_of_ble_eq_true rfl) dJ0_charAt_12 rfl ?_
    refine (show JB V x mJ_charAt 15 [(0, .ref (eK V i)), (1, .int k)] [.int (sbyt i k.toNatClampNeg)] s (some (sbyt i k.toNatClampNeg)) (fun r => xq_ x = (r, s)) from ?_) b hb hP
    exact j_nret (pc := 15) X Y (fun h => h) hc.2 dJ0_charAt_15
  · rw [if_neg hk] at hb
    cases hb
theorem str_same {V : Ev} {x : Cx} {M : Mt} (X : Ok V x M) {i j : Nat} (hi : i < strL.length) (hj : j < strL.length) (e : eK V i = eK V j) : strB.getD i [] = strB.getD j [] := by
  obtain ⟨-, -, ⟨c1, k1, f1, fd1, cell1, a1, a2, a3, a4, a5, a6⟩, ⟨t1, b1, b2, b3, b4, b5, b6, b7⟩⟩ := X.2.2.2.2.2.1.2.2.2.1 i hi
  obtain ⟨-, -, ⟨c2, k2, f2, fd2, cell2, d1, d2, d3, d4, d5, d6⟩, ⟨t2, g1, g2, g3, g4, g5, g6, g7⟩⟩ := X.2.2.2.2.2.1.2.2.2.1 j hj
  have e1 := a1.symm.trans d1
  simp only [Option.some.injEq, Prod.mk.injEq] at e1
  obtain ⟨-, -, -, rfl⟩ := e1
  rw [e, d3] at a3
  cases a3
  have e2 : eB V i = eB V j := by
    have h := a5.symm.trans d5
    simp only [Option.some.injEq, Value.ref.injEq] at h
    exact h
  rw [e2, g1] at b1
  cases b1
  have e3 : Int32.ofNat (slen i) = Int32.ofNat (slen j) := b5.symm.trans g5
  have e4 : slen i = slen j := (nI_eq (slen_small i hi) (slen_small j hj)).mp e3
  apply List.ext_getElem?
  intro k
  by_cases hk : k < slen i
  · have h1 := b6 k hk
    have h2 := g6 k (by omega)
    have h3 := h1.symm.trans h2
    simp only [Option.some.injEq, Value.int.injEq] at h3
    have hk2 : k < slen j := by omega
    unfold sbyt at h3
    unfold slen at hk hk2
    rw [List.getElem?_eq_getElem hk, List.getElem?_eq_getElem hk2]
    rw [getD_lt hk, getD_lt hk2] at h3
    exact congrArg some h3
  · have hk2 : ¬ k < slen j := by omega
    unfold slen at hk hk2
    rw [List.getElem?_eq_none (by omega), List.getElem?_eq_none (by omega)]
theorem drop_cons {l : List Int32} {k : Nat} (h : k < l.length) : l.drop k = l.getD k 0 :: l.drop (k + 1) := by
  rw [List.drop_eq_getElem_cons h, List.getD_eq_getElem?_getD, List.getElem?_eq_getElem h]
  rfl
theorem ctJ1_eqLoop {V : Ev} {x : Cx} (X : Ok V x mJ1_equals) (Y : Rt V x (some .boolean) 1 1) {i j : Nat} (hi : i < strL.length) (hj : j < strL.length) (hl : slen i = slen j) (s : St) : ∀ n k, k + n = slen i → JB V x mJ1_equals 9 [(0, .ref (eB V i)), (1, .ref (eB V j)), (2, .int (nI k))] [] s (some (if (strB.getD i []).drop k = (strB.getD j []).drop k then 1 else 0)) (fun r => xq_ x = (r, s)) := by
  have hsi := slen_small i hi
  have hsj := slen_small j hj
  intro n
  induction n with
  | zero =>
    intro k hk
    have e : (if (strB.getD i []).drop k = (strB.getD j []).drop k then (1 : Int32) else 0) = 1 := by
      rw [if_pos]
      rw [List.drop_eq_nil_of_le (by unfold slen at hk; omega), List.drop_eq_nil_of_le (by unfold slen at hk hl; omega)]
    rw [e]
    have e2 : (some (1 : Int32)) = (if nI k < Int32.ofNat (slen i) then none else some 1) := by
      have hnl : ¬ nI k < Int32.ofNat (slen i) := nI_nlt (a := k) (b := slen i) (by omega) (by omega)
      rw [if_neg hnl]
    rw [e2]
    refine j_iload_n (pc := 9) X 2 dJ1_equals_9 rfl ?_
    refine j_aload_n (pc := 10) X 0 dJ1_equals_10 rfl ?_
    refine j_slen (pc := 11) X hi dJ1_equals_11 ?_
    refine j_icmpge (pc := 12) X 32 dJ1_equals_12 rfl ?_ (fun b hb => by cases hb)
    refine j_iconst (pc := 32) X 1 dJ1_equals_32 rfl ?_
    exact j_zret (pc := 33) X Y (fun h => h) (by decide) dJ1_equals_33
  | succ n ih =>
    intro k hk
    have hki : k < slen i := by omega
    have hkj : k < slen j := by omega
    have di : (strB.getD i []).drop k = sbyt i k :: (strB.getD i []).drop (k + 1) := by
      exact drop_cons hki
    have dj : (strB.getD j []).drop k = sbyt j k :: (strB.getD j []).drop (k + 1) := by
      exact drop_cons hkj
    have e : (some (if (strB.getD i []).drop k = (strB.getD j []).drop k then (1 : Int32) else 0)) = (if nI k < Int32.ofNat (slen i) then (if sbyt i k = sbyt j k then some (if (strB.getD i []).drop (k + 1) = (strB.getD j []).drop (k + 1) then (1 : Int32) else 0) else some 0) else none) := by
      have hlt : nI k < Int32.ofNat (slen i) := nI_lt (a := k) (b := slen i) hki (by omega)
      rw [if_pos hlt, di, dj]
      by_cases hb : sbyt i k = sbyt j k
      · rw [if_pos hb, hb]
        congr 1
        by_cases hd : (strB.getD i []).drop (k + 1) = (strB.getD j []).drop (k + 1)
        · rw [if_pos hd, if_pos (by rw [hd])]
        · rw [if_neg hd, if_neg (fun z => hd (List.cons.inj z).2)]
      · rw [if_neg hb, if_neg (fun z => hb (List.cons.inj z).1)]
    rw [e]
    have hc : (nI k).toNatClampNeg = k := nI_clamp (by omega)
    refine j_iload_n (pc := 9) X 2 dJ1_equals_9 rfl ?_
    refine j_aload_n (pc := 10) X 0 dJ1_equals_10 rfl ?_
    refine j_slen (pc := 11) X hi dJ1_equals_11 ?_
    refine j_icmpge (pc := 12) X 32 dJ1_equals_12 rfl (fun b hb => by cases hb) ?_
    refine j_aload_n (pc := 15) X 0 dJ1_equals_15 rfl ?_
    refine j_iload_n (pc := 16) X 2 dJ1_equals_16 rfl ?_
    refine j_sbal (pc := 17) X hi (vp_in_nI hki (by omega)) dJ1_equals_17 ?_
    refine j_aload_n (pc := 18) X 1 dJ1_equals_18 rfl ?_
    refine j_iload_n (pc := 19) X 2 dJ1_equals_19 rfl ?_
    refine j_sbal (pc := 20) X hj (vp_in_nI hkj (by omega)) dJ1_equals_20 ?_
    rw [hc]
    refine j_icmpeq (pc := 21) X 26 dJ1_equals_21 rfl ?_ ?_
    · refine j_iinc (pc := 26) X 2 1 [(2, .int (nI k + 1)), (0, .ref (eB V i)), (1, .ref (eB V j))] dJ1_equals_26 rfl rfl (Nat.le_of_ble_eq_true rfl) rfl ?_
      refine j_goto (pc := 29) X 9 dJ1_equals_29 rfl ?_
      rw [nI_1]
      refine j_sub [1, 2, 0] [(0, .ref (eB V i)), (1, .ref (eB V j)), (2, .int (nI (k + 1)))] rfl ?_
      exact ih (k + 1) (by omega)
    · refine j_iconst (pc := 24) X 0 dJ1_equals_24 rfl ?_
      exact j_zret (pc := 25) X Y (fun h => h) (by decide) dJ1_equals_25
theorem ctJ1_equals (V : Ev) (l : Launch) (i : Nat) (hi : i < strL.length) (j : Nat) (hj : j < strL.length) (s : St) : Ct V l yJ1_equals mJ1_equals (some .boolean) 1 1 [.ref (eB V i), .ref (eB V j)] s (mkP s (strEq i j)) := by
  refine Ct.of (by decide) rfl (Nat.le_of_ble_eq_true rfl) (fun x hl X Y => jb_mkP ?_)
  show JB V x mJ1_equals 0 [(0, .ref (eB V i)), (1, .ref (eB V j))] [] s (strEq i j) _
  have hne : ∀ h : ¬ Int32.ofNat (slen i) = Int32.ofNat (slen j), strEq i j = some 0 := by
    intro h
    unfold strEq
    rw [if_neg (fun z => h (by unfold slen; rw [z]))]
  by_cases hlen : slen i = slen j
  · have e : strEq i j = (if Int32.ofNat (slen i) = Int32.ofNat (slen j) then strEq i j else none) := by rw [if_pos (by rw [hlen])]
    rw [e]
    refine j_aload_n (pc := 0) X 0 dJ1_equals_0 rfl ?_
    refine j_slen (pc := 1) X hi dJ1_equals_1 ?_
    refine j_aload_n (pc := 2) X 1 dJ1_equals_2 rfl ?_
    refine j_slen (pc := 3) X hj dJ1_equals_3 ?_
    refine j_icmpne (pc := 4) X 34 dJ1_equals_4 rfl (fun b hb => by cases hb) ?_
    refine j_iconst (pc := 7) X 0 dJ1_equals_7 rfl ?_
    refine j_istore_n (pc := 8) X [(2, .int 0), (0, .ref (eB V i)), (1, .ref (eB V j))] dJ1_equals_8 (Nat.le_of_ble_eq_true rfl) rfl ?_
    refine j_sub [1, 2, 0] [(0, .ref (eB V i)), (1, .ref (eB V j)), (2, .int (nI 0))] rfl ?_
    exact ctJ1_eqLoop X Y hi hj hlen s (slen i) 0 (by omega)
  · have hn : ¬ Int32.ofNat (slen i) = Int32.ofNat (slen j) := fun z => hlen ((nI_eq (slen_small i hi) (slen_small j hj)).mp z)
    have e : strEq i j = (if Int32.ofNat (slen i) = Int32.ofNat (slen j) then none else some 0) := by rw [if_neg hn]; exact hne hn
    rw [e]
    refine j_aload_n (pc := 0) X 0 dJ1_equals_0 rfl ?_
    refine j_slen (pc := 1) X hi dJ1_equals_1 ?_
    refine j_aload_n (pc := 2) X 1 dJ1_equals_2 rfl ?_
    refine j_slen (pc := 3) X hj dJ1_equals_3 ?_
    refine j_icmpne (pc := 4) X 34 dJ1_equals_4 rfl ?_ (fun b hb => by cases hb)
    refine j_iconst (pc := 34) X 0 dJ1_equals_34 rfl ?_
    exact j_zret (pc := 35) X Y (fun h => h) (by decide) dJ1_equals_35
theorem ctJ_equals (V : Ev) (l : Launch) (i : Nat) (hi : i < strL.length) (j : Nat) (hj : j < strL.length) (s : St) : Ct V l yJ0_equals mJ_equals (some .boolean) 1 3 [.ref (eK V i), .ref (eK V j)] s (mkP s (strEq i j)) := by
  refine Ct.of (by decide) rfl (Nat.le_of_ble_eq_true rfl) (fun x hl X Y => jb_mkP ?_)
  show JB V x mJ_equals 0 [(0, .ref (eK V i)), (1, .ref (eK V j))] [] s (strEq i j) _
  refine j_aload_n (pc := 0) X 0 dJ0_equals_0 rfl ?_
  refine j_aload_n (pc := 1) X 1 dJ0_equals_1 rfl ?_
  intro b hb hP H locs ls h1 h2 h3
  refine lv_acmp_ne (rx := some (eK V i)) (ry := some (eK V j)) (tgt := 7) X.1 X.2.1 dJ0_equals_2 rfl (fun hne => ?_) (fun heq => ?_)
  · refine (show JB V x mJ_equals 7 [(0, .ref (eK V i)), (1, .ref (eK V j))] [] s (strEq i j) (fun r => xq_ x = (r, s)) from ?_) b hb hP H locs ls h1 h2 h3
    refine j_aload_n (pc := 7) X 1 dJ0_equals_7 rfl ?_
    intro b hb hP H locs ls h1 h2 h3
    have hrecv : ∃ cell : Cell, H[eK V j]? = some cell ∧ cell.vm.isStatics = false ∧ (xs_ x).vm.findClass "java/lang/String" = some cell.cls := by
      obtain ⟨cell, a1, a2, a3, -⟩ := (X.2.2.2.2.2.1.2.2.2.1 j hj).1.kept h2.2.1
      exact ⟨cell, a1, a2, a3⟩
    refine va_instE X.1 X.2.1 X.2.2.2.1 (X.2.2.2.2.1 _ q1025) hrecv dJ0_equals_8 ?_
    refine (show JB V x mJ_equals 11 [(0, .ref (eK V i)), (1, .ref (eK V j))] [.int 1] s (if (1 : Int32) = 0 then none else strEq i j) (fun r => xq_ x = (r, s)) from ?_) b hb hP H locs ls h1 h2 h3
    refine j_ifeq (pc := 11) X 54 dJ0_equals_11 rfl (fun b hb => by cases hb) ?_
    refine j_aload_n (pc := 14) X 1 dJ0_equals_14 rfl ?_
    intro b hb hP H locs ls h1 h2 h3
    have hrecv : ∃ cell : Cell, H[eK V j]? = some cell ∧ cell.vm.isStatics = false ∧ (xs_ x).vm.findClass "java/lang/String" = some cell.cls := by
      obtain ⟨cell, a1, a2, a3, -⟩ := (X.2.2.2.2.2.1.2.2.2.1 j hj).1.kept h2.2.1
      exact ⟨cell, a1, a2, a3⟩
    refine va_castE X.1 X.2.1 X.2.2.2.1 (X.2.2.2.2.1 _ q1025) hrecv dJ0_equals_15 ?_
    refine (show JB V x mJ_equals 18 [(0, .ref (eK V i)), (1, .ref (eK V j))] [.ref (eK V j)] s (if (1 : Int32) = 0 then none else if (0 : Int32) = 0 then strEq i j else none) (fun r => xq_ x = (r, s)) from ?_) b hb hP H locs ls h1 h2 h3
    refine j_astore_n (pc := 18) X [(2, .ref (eK V j)), (0, .ref (eK V i)), (1, .ref (eK V j))] dJ0_equals_18 (Nat.le_of_ble_eq_true rfl) rfl ?_
    refine j_comp (pc := 19) X q767 dJ0_equals_19 ?_
    refine j_ifeq (pc := 22) X 36 dJ0_equals_22 rfl (fun b hb => by cases hb) ?_
    refine j_aload_n (pc := 25) X 1 dJ0_equals_25 rfl ?_
    refine j_scod (pc := 26) X hi q2176 dJ0_equals_26 ?_
    refine j_aload_n (pc := 29) X 0 dJ0_equals_29 rfl ?_
    refine j_scod (pc := 30) X hj q2176 dJ0_equals_30 ?_
    refine j_icmpne (pc := 33) X 54 dJ0_equals_33 rfl (fun b hb => by cases hb) ?_
    refine j_aload_n (pc := 36) X 1 dJ0_equals_36 rfl ?_
    refine j_sval (pc := 37) X hi q2175 dJ0_equals_37 ?_
    refine j_aload_n (pc := 40) X 0 dJ0_equals_40 rfl ?_
    refine j_sval (pc := 41) X hj q2175 dJ0_equals_41 ?_
    intro b hb hP
    refine c_S (pc := 44) (As := [.ref (eB V i), .ref (eB V j)]) (rest := []) X (ctJ1_equals V x.2.1 i hi j hj s) (q := (if strB.getD i [] = strB.getD j [] then 1 else 0, s)) rfl calJ1_equals (Or.inl q1026) (Rm.of Y (by decide)) rfl (Nat.le_of_ble_eq_true rfl) dJ0_equals_44 rfl ?_
    refine (show JB V x mJ_equals 47 [(2, .ref (eK V j)), (0, .ref (eK V i)), (1, .ref (eK V j))] [.int (if strB.getD i [] = strB.getD j [] then 1 else 0)] s (strEq i j) (fun r => xq_ x = (r, s)) from ?_) b hb hP
    unfold strEq
    by_cases hs : strB.getD i [] = strB.getD j []
    · rw [if_pos hs]
      show JB V x mJ_equals 47 _ _ s (if (1 : Int32) = 0 then none else some 1) _
      refine j_ifeq (pc := 47) X 54 dJ0_equals_47 rfl (fun b hb => by cases hb) ?_
      refine j_iconst (pc := 50) X 1 dJ0_equals_50 rfl ?_
      refine j_goto (pc := 51) X 55 dJ0_equals_51 rfl ?_
      exact j_zret (pc := 55) X Y (fun h => h) (by decide) dJ0_equals_55
    · rw [if_neg hs]
      show JB V x mJ_equals 47 _ _ s (if (0 : Int32) = 0 then some 0 else none) _
      refine j_ifeq (pc := 47) X 54 dJ0_equals_47 rfl ?_ (fun b hb => by cases hb)
      refine j_iconst (pc := 54) X 0 dJ0_equals_54 rfl ?_
      exact j_zret (pc := 55) X Y (fun h => h) (by decide) dJ0_equals_55
  · have e := str_same X hi hj (Option.some.inj heq)
    have e2 : strEq i j = some 1 := by unfold strEq; rw [if_pos e]
    rw [e2] at hb
    refine (show JB V x mJ_equals 5 [(0, .ref (eK V i)), (1, .ref (eK V j))] [] s (some 1) (fun r => xq_ x = (r, s)) from ?_) b hb hP H locs ls h1 h2 h3
    refine j_iconst (pc := 5) X 1 dJ0_equals_5 rfl ?_
    exact j_zret (pc := 6) X Y (fun h => h) (by decide) dJ0_equals_6
