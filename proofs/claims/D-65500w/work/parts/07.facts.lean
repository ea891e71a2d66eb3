/-! facts of fields, links, groups -/
set_option maxRecDepth 100000
theorem fv_0 {V : Ev} (hV : FullV V) : cgv V 0 = 0 := hV.c 0
theorem fv_1 {V : Ev} (hV : FullV V) : cgv V 1 = 1 := hV.c 1
theorem fv_2 {V : Ev} (hV : FullV V) : cgv V 2 = 2 := hV.c 2
theorem fv_3 {V : Ev} (hV : FullV V) : cgv V 3 = 3 := hV.c 3
theorem fv_4 {V : Ev} (hV : FullV V) : cgv V 4 = 3 := hV.c 4
theorem fv_5 {V : Ev} (hV : FullV V) : cgv V 5 = 3 := hV.c 5
theorem fv_6 {V : Ev} (hV : FullV V) : cgv V 6 = 4 := hV.c 6
theorem fv_7 {V : Ev} (hV : FullV V) : cgv V 7 = 5 := hV.c 7
theorem fv_8 {V : Ev} (hV : FullV V) : cgv V 8 = 6 := hV.c 8
theorem fv_9 {V : Ev} (hV : FullV V) : cgv V 9 = 7 := hV.c 9
theorem fv_10 {V : Ev} (hV : FullV V) : cgv V 10 = 8 := hV.c 10
theorem fv_11 {V : Ev} (hV : FullV V) : cgv V 11 = 9 := hV.c 11
theorem fv_12 {V : Ev} (hV : FullV V) : cgv V 12 = 10 := hV.c 12
theorem fv_13 {V : Ev} (hV : FullV V) : cgv V 13 = 11 := hV.c 13
theorem fv_14 {V : Ev} (hV : FullV V) : cgv V 14 = 3 := hV.c 14
theorem fv_15 {V : Ev} (hV : FullV V) : cgv V 15 = 3 := hV.c 15
theorem fv_16 {V : Ev} (hV : FullV V) : cgv V 16 = 3 := hV.c 16
theorem fv_17 {V : Ev} (hV : FullV V) : cgv V 17 = 3 := hV.c 17
theorem fv_18 {V : Ev} (hV : FullV V) : cgv V 18 = 3 := hV.c 18
theorem fv_19 {V : Ev} (hV : FullV V) : cgv V 19 = 3 := hV.c 19
theorem fv_20 {V : Ev} (hV : FullV V) : cgv V 20 = 12 := hV.c 20
theorem isB_1 : isB 1 := by unfold isB; decide
theorem isB_2 : isB 2 := by unfold isB; decide
theorem isB_3 : isB 3 := by unfold isB; decide
theorem kX0_0 : fk 0 0 = (2, 3200) := by decide +kernel
theorem kX0_1 : fk 0 1 = (2, 200) := by decide +kernel
theorem kX0_2 : fk 0 2 = (2, 4006) := by decide +kernel
theorem kX0_3 : fk 0 3 = (5, 1) := by decide +kernel
theorem kX0_4 : fk 0 4 = (5, 2) := by decide +kernel
theorem kX0_5 : fk 0 5 = (5, 3) := by decide +kernel
theorem kX0_6 : fk 0 6 = (5, 4) := by decide +kernel
theorem kX0_7 : fk 0 7 = (5, 5) := by decide +kernel
theorem kX0_8 : fk 0 8 = (5, 6) := by decide +kernel
theorem kX0_9 : fk 0 9 = (5, 7) := by decide +kernel
theorem kX0_10 : fk 0 10 = (5, 8) := by decide +kernel
theorem kX0_11 : fk 0 11 = (5, 9) := by decide +kernel
theorem kX0_12 : fk 0 12 = (4, 6) := by decide +kernel
theorem kX0_13 : fk 0 13 = (5, 10) := by decide +kernel
theorem kX0_14 : fk 0 14 = (5, 11) := by decide +kernel
theorem kX0_15 : fk 0 15 = (5, 12) := by decide +kernel
theorem kX0_16 : fk 0 16 = (5, 13) := by decide +kernel
theorem kX0_17 : fk 0 17 = (0, 0) := by decide +kernel
theorem kX0_18 : fk 0 18 = (0, 0) := by decide +kernel
theorem kX0_19 : fk 0 19 = (0, 0) := by decide +kernel
theorem kX0_20 : fk 0 20 = (0, 0) := by decide +kernel
theorem kX0_21 : fk 0 21 = (1, 10) := by decide +kernel
theorem kX1_0 : fk 1 0 = (2, 4000) := by decide +kernel
theorem kX1_1 : fk 1 1 = (0, 0) := by decide +kernel
theorem kX2_0 : fk 2 0 = (1, 3) := by decide +kernel
theorem kX2_1 : fk 2 1 = (1, 3200) := by decide +kernel
theorem kX2_2 : fk 2 2 = (1, 3200) := by decide +kernel
theorem kX2_3 : fk 2 3 = (1, 3200) := by decide +kernel
theorem kX2_4 : fk 2 4 = (1, 3200) := by decide +kernel
theorem kX2_5 : fk 2 5 = (1, 3201) := by decide +kernel
theorem kX2_6 : fk 2 6 = (6, 0) := by decide +kernel
theorem kX2_7 : fk 2 7 = (0, 0) := by decide +kernel
theorem kX2_8 : fk 2 8 = (0, 0) := by decide +kernel
theorem kX2_9 : fk 2 9 = (0, 0) := by decide +kernel
theorem kX2_10 : fk 2 10 = (0, 0) := by decide +kernel
theorem kX2_11 : fk 2 11 = (0, 0) := by decide +kernel
theorem kX2_12 : fk 2 12 = (0, 0) := by decide +kernel
theorem kX2_13 : fk 2 13 = (0, 0) := by decide +kernel
theorem kX2_14 : fk 2 14 = (0, 0) := by decide +kernel
theorem kX2_15 : fk 2 15 = (0, 0) := by decide +kernel
theorem kX2_16 : fk 2 16 = (0, 0) := by decide +kernel
theorem kX3_0 : fk 3 0 = (1, 20) := by decide +kernel
theorem kX3_1 : fk 3 1 = (1, 20) := by decide +kernel
theorem kX3_2 : fk 3 2 = (1, 20) := by decide +kernel
theorem kX3_3 : fk 3 3 = (3, 20) := by decide +kernel
theorem kX3_4 : fk 3 4 = (3, 20) := by decide +kernel
theorem kX3_5 : fk 3 5 = (1, 20) := by decide +kernel
theorem kX3_6 : fk 3 6 = (1, 20) := by decide +kernel
theorem kX3_7 : fk 3 7 = (1, 6) := by decide +kernel
theorem kX3_8 : fk 3 8 = (1, 6) := by decide +kernel
theorem kX3_9 : fk 3 9 = (2, 1600) := by decide +kernel
theorem kX3_10 : fk 3 10 = (2, 96) := by decide +kernel
theorem kX3_11 : fk 3 11 = (1, 8) := by decide +kernel
theorem kX3_12 : fk 3 12 = (1, 8) := by decide +kernel
theorem kX3_13 : fk 3 13 = (1, 12) := by decide +kernel
theorem kX3_14 : fk 3 14 = (1, 6) := by decide +kernel
theorem kX3_15 : fk 3 15 = (1, 6) := by decide +kernel
theorem kX3_16 : fk 3 16 = (1, 6) := by decide +kernel
theorem kX3_17 : fk 3 17 = (1, 6) := by decide +kernel
theorem kX3_18 : fk 3 18 = (1, 6) := by decide +kernel
theorem kX3_19 : fk 3 19 = (1, 6) := by decide +kernel
theorem kX3_20 : fk 3 20 = (1, 6) := by decide +kernel
theorem kX3_21 : fk 3 21 = (1, 30) := by decide +kernel
theorem kX3_22 : fk 3 22 = (1, 30) := by decide +kernel
theorem kX3_23 : fk 3 23 = (1, 30) := by decide +kernel
theorem kX3_24 : fk 3 24 = (1, 30) := by decide +kernel
theorem kX3_25 : fk 3 25 = (1, 30) := by decide +kernel
theorem kX3_26 : fk 3 26 = (3, 30) := by decide +kernel
theorem kX3_27 : fk 3 27 = (1, 64) := by decide +kernel
theorem kX3_28 : fk 3 28 = (0, 0) := by decide +kernel
theorem kX3_29 : fk 3 29 = (0, 0) := by decide +kernel
theorem kX3_30 : fk 3 30 = (0, 0) := by decide +kernel
theorem kX3_31 : fk 3 31 = (0, 0) := by decide +kernel
theorem kX3_32 : fk 3 32 = (0, 0) := by decide +kernel
theorem kX3_33 : fk 3 33 = (0, 0) := by decide +kernel
theorem kX3_34 : fk 3 34 = (0, 0) := by decide +kernel
theorem kX3_35 : fk 3 35 = (0, 0) := by decide +kernel
theorem kX3_36 : fk 3 36 = (0, 0) := by decide +kernel
theorem kX3_37 : fk 3 37 = (0, 0) := by decide +kernel
theorem kX4_0 : fk 4 0 = (0, 0) := by decide +kernel
theorem kX4_1 : fk 4 1 = (0, 0) := by decide +kernel
theorem kX4_2 : fk 4 2 = (0, 0) := by decide +kernel
theorem kX4_3 : fk 4 3 = (0, 0) := by decide +kernel
theorem kX5_0 : fk 5 0 = (1, 13) := by decide +kernel
theorem kX5_1 : fk 5 1 = (1, 13) := by decide +kernel
theorem kX6_0 : fk 6 0 = (1, 6) := by decide +kernel
theorem kX6_1 : fk 6 1 = (1, 6) := by decide +kernel
theorem kX6_2 : fk 6 2 = (1, 6) := by decide +kernel
theorem kX6_3 : fk 6 3 = (3, 36) := by decide +kernel
theorem kX6_4 : fk 6 4 = (0, 0) := by decide +kernel
theorem kX6_5 : fk 6 5 = (0, 0) := by decide +kernel
theorem kX7_0 : fk 7 0 = (1, 20) := by decide +kernel
theorem kX7_1 : fk 7 1 = (1, 8) := by decide +kernel
theorem kX7_2 : fk 7 2 = (1, 8) := by decide +kernel
theorem kX7_3 : fk 7 3 = (0, 0) := by decide +kernel
theorem kX8_0 : fk 8 0 = (1, 6) := by decide +kernel
theorem kX8_1 : fk 8 1 = (1, 6) := by decide +kernel
theorem kX8_2 : fk 8 2 = (1, 36) := by decide +kernel
theorem kX8_3 : fk 8 3 = (1, 448) := by decide +kernel
theorem kX8_4 : fk 8 4 = (1, 6) := by decide +kernel
theorem kX8_5 : fk 8 5 = (1, 6) := by decide +kernel
theorem kX8_6 : fk 8 6 = (0, 0) := by decide +kernel
theorem kX8_7 : fk 8 7 = (0, 0) := by decide +kernel
theorem kX8_8 : fk 8 8 = (0, 0) := by decide +kernel
theorem kX8_9 : fk 8 9 = (0, 0) := by decide +kernel
theorem kX9_0 : fk 9 0 = (1, 6) := by decide +kernel
theorem kX9_1 : fk 9 1 = (1, 30) := by decide +kernel
theorem kX9_2 : fk 9 2 = (3, 6) := by decide +kernel
theorem kX9_3 : fk 9 3 = (0, 0) := by decide +kernel
theorem kX9_4 : fk 9 4 = (0, 0) := by decide +kernel
theorem kX9_5 : fk 9 5 = (0, 0) := by decide +kernel
theorem kX9_6 : fk 9 6 = (7, 0) := by decide +kernel
theorem kX9_7 : fk 9 7 = (7, 0) := by decide +kernel
theorem kX10_0 : fk 10 0 = (0, 0) := by decide +kernel
theorem kX10_1 : fk 10 1 = (0, 0) := by decide +kernel
theorem kX11_0 : fk 11 0 = (2, 2048) := by decide +kernel
theorem kX11_1 : fk 11 1 = (0, 0) := by decide +kernel
theorem kX11_2 : fk 11 2 = (0, 0) := by decide +kernel
theorem kX11_3 : fk 11 3 = (0, 0) := by decide +kernel
theorem kX12_0 : fk 12 0 = (1, 1532) := by decide +kernel
theorem kX12_1 : fk 12 1 = (1, 9192) := by decide +kernel
theorem kX12_2 : fk 12 2 = (0, 0) := by decide +kernel
theorem kX12_3 : fk 12 3 = (1, 1532) := by decide +kernel
theorem kX12_4 : fk 12 4 = (1, 1532) := by decide +kernel
theorem kX12_5 : fk 12 5 = (0, 0) := by decide +kernel
theorem kX12_6 : fk 12 6 = (1, 2048) := by decide +kernel
theorem kX12_7 : fk 12 7 = (0, 0) := by decide +kernel
theorem kX12_8 : fk 12 8 = (0, 0) := by decide +kernel
theorem kX12_9 : fk 12 9 = (0, 0) := by decide +kernel
theorem kX12_10 : fk 12 10 = (1, 3200) := by decide +kernel
theorem kX12_11 : fk 12 11 = (0, 0) := by decide +kernel
theorem kX12_12 : fk 12 12 = (1, 6600) := by decide +kernel
theorem kX12_13 : fk 12 13 = (0, 0) := by decide +kernel
theorem kX12_14 : fk 12 14 = (1, 3200) := by decide +kernel
theorem kX12_15 : fk 12 15 = (0, 0) := by decide +kernel
theorem kX12_16 : fk 12 16 = (1, 240) := by decide +kernel
theorem kX12_17 : fk 12 17 = (1, 45) := by decide +kernel
theorem kX12_18 : fk 12 18 = (1, 329) := by decide +kernel
theorem kX12_19 : fk 12 19 = (0, 0) := by decide +kernel
theorem kX12_20 : fk 12 20 = (0, 0) := by decide +kernel
theorem kX12_21 : fk 12 21 = (0, 0) := by decide +kernel
theorem kX12_22 : fk 12 22 = (1, 3) := by decide +kernel
theorem kX12_23 : fk 12 23 = (1, 127) := by decide +kernel
theorem kX12_24 : fk 12 24 = (0, 0) := by decide +kernel
theorem kX12_25 : fk 12 25 = (0, 0) := by decide +kernel
theorem kX12_26 : fk 12 26 = (1, 3300) := by decide +kernel
theorem kX12_27 : fk 12 27 = (1, 3300) := by decide +kernel
theorem kX12_28 : fk 12 28 = (0, 0) := by decide +kernel
theorem kX12_29 : fk 12 29 = (1, 1700) := by decide +kernel
theorem kX12_30 : fk 12 30 = (0, 0) := by decide +kernel
theorem kX12_31 : fk 12 31 = (1, 1700) := by decide +kernel
theorem kX12_32 : fk 12 32 = (0, 0) := by decide +kernel
theorem kX12_33 : fk 12 33 = (1, 64) := by decide +kernel
theorem kX12_34 : fk 12 34 = (0, 0) := by decide +kernel
theorem kX12_35 : fk 12 35 = (1, 6) := by decide +kernel
theorem kX12_36 : fk 12 36 = (0, 0) := by decide +kernel
theorem kX12_37 : fk 12 37 = (1, 6) := by decide +kernel
theorem kX12_38 : fk 12 38 = (1, 6) := by decide +kernel
theorem kX12_39 : fk 12 39 = (1, 6) := by decide +kernel
theorem kX12_40 : fk 12 40 = (0, 0) := by decide +kernel
theorem kX12_41 : fk 12 41 = (0, 0) := by decide +kernel
theorem kX12_42 : fk 12 42 = (0, 0) := by decide +kernel
theorem kX12_43 : fk 12 43 = (0, 0) := by decide +kernel
theorem kX12_44 : fk 12 44 = (0, 0) := by decide +kernel
theorem kX12_45 : fk 12 45 = (1, 6) := by decide +kernel
theorem kX12_46 : fk 12 46 = (1, 6) := by decide +kernel
theorem kX12_47 : fk 12 47 = (0, 0) := by decide +kernel
theorem kX12_48 : fk 12 48 = (1, 14) := by decide +kernel
theorem kX12_49 : fk 12 49 = (1, 6) := by decide +kernel
theorem kX12_50 : fk 12 50 = (0, 0) := by decide +kernel
theorem kX12_51 : fk 12 51 = (1, 20) := by decide +kernel
theorem kX12_52 : fk 12 52 = (1, 8) := by decide +kernel
theorem kX12_53 : fk 12 53 = (1, 9) := by decide +kernel
theorem kX12_54 : fk 12 54 = (3, 6) := by decide +kernel
theorem kX12_55 : fk 12 55 = (1, 48) := by decide +kernel
theorem kX12_56 : fk 12 56 = (0, 0) := by decide +kernel
theorem kX12_57 : fk 12 57 = (1, 6) := by decide +kernel
theorem kX12_58 : fk 12 58 = (1, 6) := by decide +kernel
theorem kX12_59 : fk 12 59 = (0, 0) := by decide +kernel
theorem kX12_60 : fk 12 60 = (1, 1700) := by decide +kernel
theorem kX12_61 : fk 12 61 = (1, 6) := by decide +kernel
theorem kX12_62 : fk 12 62 = (0, 0) := by decide +kernel
theorem gfX0_9 : GF RX0 9 0 0 := ⟨_, _, _, _, clX0, by decide, by decide +kernel, (Or.inl q667), by decide⟩
theorem gfX0_13 : GF RX0 13 0 1 := ⟨_, _, _, _, clX0, by decide, by decide +kernel, (Or.inl q668), by decide⟩
theorem gfX0_16 : GF RX0 16 0 2 := ⟨_, _, _, _, clX0, by decide, by decide +kernel, (Or.inl q669), by decide⟩
theorem gfX0_22 : GF RX0 22 0 3 := ⟨_, _, _, _, clX0, by decide, by decide +kernel, (Or.inl q670), by decide⟩
theorem gfX0_29 : GF RX0 29 0 4 := ⟨_, _, _, _, clX0, by decide, by decide +kernel, (Or.inl q671), by decide⟩
theorem gfX0_36 : GF RX0 36 0 5 := ⟨_, _, _, _, clX0, by decide, by decide +kernel, (Or.inl q672), by decide⟩
theorem gfX0_40 : GF RX0 40 0 6 := ⟨_, _, _, _, clX0, by decide, by decide +kernel, (Or.inl q673), by decide⟩
theorem gfX0_43 : GF RX0 43 0 7 := ⟨_, _, _, _, clX0, by decide, by decide +kernel, (Or.inl q674), by decide⟩
theorem gfX0_49 : GF RX0 49 0 8 := ⟨_, _, _, _, clX0, by decide, by decide +kernel, (Or.inl q675), by decide⟩
theorem gfX0_56 : GF RX0 56 0 9 := ⟨_, _, _, _, clX0, by decide, by decide +kernel, (Or.inl q676), by decide⟩
theorem gfX0_63 : GF RX0 63 0 10 := ⟨_, _, _, _, clX0, by decide, by decide +kernel, (Or.inl q677), by decide⟩
theorem gfX0_70 : GF RX0 70 0 11 := ⟨_, _, _, _, clX0, by decide, by decide +kernel, (Or.inl q678), by decide⟩
theorem gfX0_74 : GF RX0 74 0 12 := ⟨_, _, _, _, clX0, by decide, by decide +kernel, (Or.inl q679), by decide⟩
theorem gfX0_81 : GF RX0 81 0 13 := ⟨_, _, _, _, clX0, by decide, by decide +kernel, (Or.inl q680), by decide⟩
theorem gfX0_88 : GF RX0 88 0 14 := ⟨_, _, _, _, clX0, by decide, by decide +kernel, (Or.inl q681), by decide⟩
theorem gfX0_95 : GF RX0 95 0 15 := ⟨_, _, _, _, clX0, by decide, by decide +kernel, (Or.inl q682), by decide⟩
theorem gfX0_102 : GF RX0 102 0 16 := ⟨_, _, _, _, clX0, by decide, by decide +kernel, (Or.inl q683), by decide⟩
theorem gfX0_106 : GF RX0 106 0 21 := ⟨_, _, _, _, clX0, by decide, by decide +kernel, (Or.inl q688), by decide⟩
theorem gfX0_110 : GF RX0 110 0 18 := ⟨_, _, _, _, clX0, by decide, by decide +kernel, (Or.inl q685), by decide⟩
theorem pfX0_110 : PF RX0 110 0 18 .int := ⟨_, _, _, _, clX0, by decide, by decide +kernel, (Or.inl q685), by decide, rfl, rfl⟩
theorem gfX0_114 : GF RX0 114 0 19 := ⟨_, _, _, _, clX0, by decide, by decide +kernel, (Or.inl q686), by decide⟩
theorem pfX0_114 : PF RX0 114 0 19 .int := ⟨_, _, _, _, clX0, by decide, by decide +kernel, (Or.inl q686), by decide, rfl, rfl⟩
theorem gfX0_143 : GF RX0 143 3 29 := ⟨_, _, _, _, clX3, by decide, by decide +kernel, (Or.inr ⟨_, q382⟩), by decide⟩
theorem gfX0_150 : GF RX0 150 3 4 := ⟨_, _, _, _, clX3, by decide, by decide +kernel, (Or.inr ⟨_, q323⟩), by decide⟩
theorem gfX0_158 : GF RX0 158 3 30 := ⟨_, _, _, _, clX3, by decide, by decide +kernel, (Or.inr ⟨_, q386⟩), by decide⟩
theorem gfX0_166 : GF RX0 166 3 19 := ⟨_, _, _, _, clX3, by decide, by decide +kernel, (Or.inr ⟨_, q354⟩), by decide⟩
theorem gfX0_173 : GF RX0 173 3 14 := ⟨_, _, _, _, clX3, by decide, by decide +kernel, (Or.inr ⟨_, q341⟩), by decide⟩
theorem gfX0_195 : GF RX0 195 3 32 := ⟨_, _, _, _, clX3, by decide, by decide +kernel, (Or.inr ⟨_, q394⟩), by decide⟩
theorem gfX0_200 : GF RX0 200 0 20 := ⟨_, _, _, _, clX0, by decide, by decide +kernel, (Or.inl q687), by decide⟩
theorem pfX0_200 : PF RX0 200 0 20 .boolean := ⟨_, _, _, _, clX0, by decide, by decide +kernel, (Or.inl q687), by decide, rfl, rfl⟩
theorem gfX0_215 : GF RX0 215 3 31 := ⟨_, _, _, _, clX3, by decide, by decide +kernel, (Or.inr ⟨_, q392⟩), by decide⟩
theorem gfX0_218 : GF RX0 218 3 35 := ⟨_, _, _, _, clX3, by decide, by decide +kernel, (Or.inr ⟨_, q400⟩), by decide⟩
theorem gfX0_223 : GF RX0 223 2 6 := ⟨_, _, _, _, clX2, by decide, by decide +kernel, (Or.inr ⟨_, q249⟩), by decide⟩
theorem gfX0_226 : GF RX0 226 2 13 := ⟨_, _, _, _, clX2, by decide, by decide +kernel, (Or.inr ⟨_, q259⟩), by decide⟩
theorem gfX0_229 : GF RX0 229 2 14 := ⟨_, _, _, _, clX2, by decide, by decide +kernel, (Or.inr ⟨_, q261⟩), by decide⟩
theorem gfX0_236 : GF RX0 236 4 1 := ⟨_, _, _, _, clX4, by decide, by decide +kernel, (Or.inr ⟨_, q491⟩), by decide⟩
theorem gfX0_239 : GF RX0 239 4 3 := ⟨_, _, _, _, clX4, by decide, by decide +kernel, (Or.inr ⟨_, q495⟩), by decide⟩
theorem gfX0_248 : GF RX0 248 3 28 := ⟨_, _, _, _, clX3, by decide, by decide +kernel, (Or.inr ⟨_, q378⟩), by decide⟩
theorem gfX0_257 : GF RX0 257 2 15 := ⟨_, _, _, _, clX2, by decide, by decide +kernel, (Or.inr ⟨_, q263⟩), by decide⟩
theorem gfX0_285 : GF RX0 285 3 21 := ⟨_, _, _, _, clX3, by decide, by decide +kernel, (Or.inr ⟨_, q360⟩), by decide⟩
theorem gfX0_293 : GF RX0 293 3 23 := ⟨_, _, _, _, clX3, by decide, by decide +kernel, (Or.inr ⟨_, q366⟩), by decide⟩
theorem gfX0_365 : GF RX0 365 4 2 := ⟨_, _, _, _, clX4, by decide, by decide +kernel, (Or.inr ⟨_, q493⟩), by decide⟩
theorem gfX0_375 : GF RX0 375 3 7 := ⟨_, _, _, _, clX3, by decide, by decide +kernel, (Or.inr ⟨_, q327⟩), by decide⟩
theorem gfX0_378 : GF RX0 378 3 8 := ⟨_, _, _, _, clX3, by decide, by decide +kernel, (Or.inr ⟨_, q329⟩), by decide⟩
theorem gfX0_394 : GF RX0 394 2 0 := ⟨_, _, _, _, clX2, by decide, by decide +kernel, (Or.inr ⟨_, q237⟩), by decide⟩
theorem gfX0_397 : GF RX0 397 2 10 := ⟨_, _, _, _, clX2, by decide, by decide +kernel, (Or.inr ⟨_, q253⟩), by decide⟩
theorem gfX0_416 : GF RX0 416 4 0 := ⟨_, _, _, _, clX4, by decide, by decide +kernel, (Or.inr ⟨_, q489⟩), by decide⟩
theorem gfX0_432 : GF RX0 432 11 1 := ⟨_, _, _, _, clX11, by decide, by decide +kernel, (Or.inr ⟨_, q654⟩), by decide⟩
theorem pfX0_432 : PF RX0 432 11 1 .int := ⟨_, _, _, _, clX11, by decide, by decide +kernel, (Or.inr ⟨_, q654⟩), by decide, rfl, rfl⟩
theorem gfX0_438 : GF RX0 438 11 0 := ⟨_, _, _, _, clX11, by decide, by decide +kernel, (Or.inr ⟨_, q652⟩), by decide⟩
theorem gfX0_458 : GF RX0 458 3 16 := ⟨_, _, _, _, clX3, by decide, by decide +kernel, (Or.inr ⟨_, q346⟩), by decide⟩
theorem gfX0_461 : GF RX0 461 3 17 := ⟨_, _, _, _, clX3, by decide, by decide +kernel, (Or.inr ⟨_, q349⟩), by decide⟩
theorem gfX0_464 : GF RX0 464 3 18 := ⟨_, _, _, _, clX3, by decide, by decide +kernel, (Or.inr ⟨_, q351⟩), by decide⟩
theorem gfX0_469 : GF RX0 469 3 22 := ⟨_, _, _, _, clX3, by decide, by decide +kernel, (Or.inr ⟨_, q362⟩), by decide⟩
theorem gfX0_475 : GF RX0 475 3 24 := ⟨_, _, _, _, clX3, by decide, by decide +kernel, (Or.inr ⟨_, q368⟩), by decide⟩
theorem gfX0_478 : GF RX0 478 3 25 := ⟨_, _, _, _, clX3, by decide, by decide +kernel, (Or.inr ⟨_, q370⟩), by decide⟩
theorem gfX0_481 : GF RX0 481 3 12 := ⟨_, _, _, _, clX3, by decide, by decide +kernel, (Or.inr ⟨_, q337⟩), by decide⟩
theorem gfX0_494 : GF RX0 494 3 36 := ⟨_, _, _, _, clX3, by decide, by decide +kernel, (Or.inr ⟨_, q402⟩), by decide⟩
theorem gfX0_497 : GF RX0 497 3 13 := ⟨_, _, _, _, clX3, by decide, by decide +kernel, (Or.inr ⟨_, q339⟩), by decide⟩
theorem gfX0_516 : GF RX0 516 7 3 := ⟨_, _, _, _, clX7, by decide, by decide +kernel, (Or.inr ⟨_, q553⟩), by decide⟩
theorem gfX0_566 : GF RX0 566 3 33 := ⟨_, _, _, _, clX3, by decide, by decide +kernel, (Or.inr ⟨_, q396⟩), by decide⟩
theorem gfX0_569 : GF RX0 569 3 34 := ⟨_, _, _, _, clX3, by decide, by decide +kernel, (Or.inr ⟨_, q398⟩), by decide⟩
theorem gfX0_582 : GF RX0 582 11 3 := ⟨_, _, _, _, clX11, by decide, by decide +kernel, (Or.inr ⟨_, q657⟩), by decide⟩
theorem pfX0_582 : PF RX0 582 11 3 .boolean := ⟨_, _, _, _, clX11, by decide, by decide +kernel, (Or.inr ⟨_, q657⟩), by decide, rfl, rfl⟩
theorem gfX0_591 : GF RX0 591 1 1 := ⟨_, _, _, _, clX1, by decide, by decide +kernel, (Or.inr ⟨_, q223⟩), by decide⟩
theorem gfX0_594 : GF RX0 594 0 17 := ⟨_, _, _, _, clX0, by decide, by decide +kernel, (Or.inl q684), by decide⟩
theorem pfX0_594 : PF RX0 594 0 17 .int := ⟨_, _, _, _, clX0, by decide, by decide +kernel, (Or.inl q684), by decide, rfl, rfl⟩
theorem gfX0_605 : GF RX0 605 1 0 := ⟨_, _, _, _, clX1, by decide, by decide +kernel, (Or.inr ⟨_, q221⟩), by decide⟩
theorem gfX1_9 : GF RX1 9 1 0 := ⟨_, _, _, _, clX1, by decide, by decide +kernel, (Or.inl q220), by decide⟩
theorem gfX1_15 : GF RX1 15 1 1 := ⟨_, _, _, _, clX1, by decide, by decide +kernel, (Or.inl q222), by decide⟩
theorem pfX1_15 : PF RX1 15 1 1 .int := ⟨_, _, _, _, clX1, by decide, by decide +kernel, (Or.inl q222), by decide, rfl, rfl⟩
theorem gfX2_9 : GF RX2 9 2 0 := ⟨_, _, _, _, clX2, by decide, by decide +kernel, (Or.inl q236), by decide⟩
theorem gfX2_15 : GF RX2 15 2 1 := ⟨_, _, _, _, clX2, by decide, by decide +kernel, (Or.inl q238), by decide⟩
theorem gfX2_18 : GF RX2 18 2 2 := ⟨_, _, _, _, clX2, by decide, by decide +kernel, (Or.inl q240), by decide⟩
theorem gfX2_21 : GF RX2 21 2 3 := ⟨_, _, _, _, clX2, by decide, by decide +kernel, (Or.inl q242), by decide⟩
theorem gfX2_24 : GF RX2 24 2 4 := ⟨_, _, _, _, clX2, by decide, by decide +kernel, (Or.inl q244), by decide⟩
theorem gfX2_27 : GF RX2 27 2 5 := ⟨_, _, _, _, clX2, by decide, by decide +kernel, (Or.inl q247), by decide⟩
theorem gfX2_30 : GF RX2 30 2 8 := ⟨_, _, _, _, clX2, by decide, by decide +kernel, (Or.inl q251), by decide⟩
theorem pfX2_30 : PF RX2 30 2 8 .int := ⟨_, _, _, _, clX2, by decide, by decide +kernel, (Or.inl q251), by decide, rfl, rfl⟩
theorem gfX2_34 : GF RX2 34 2 7 := ⟨_, _, _, _, clX2, by decide, by decide +kernel, (Or.inl q250), by decide⟩
theorem pfX2_34 : PF RX2 34 2 7 .int := ⟨_, _, _, _, clX2, by decide, by decide +kernel, (Or.inl q250), by decide, rfl, rfl⟩
theorem gfX2_37 : GF RX2 37 2 6 := ⟨_, _, _, _, clX2, by decide, by decide +kernel, (Or.inl q248), by decide⟩
theorem pfX2_37 : PF RX2 37 2 6 (.array .byte) := ⟨_, _, _, _, clX2, by decide, by decide +kernel, (Or.inl q248), by decide, rfl, rfl⟩
theorem gfX2_41 : GF RX2 41 2 9 := ⟨_, _, _, _, clX2, by decide, by decide +kernel, (Or.inl q252), by decide⟩
theorem pfX2_41 : PF RX2 41 2 9 .int := ⟨_, _, _, _, clX2, by decide, by decide +kernel, (Or.inl q252), by decide, rfl, rfl⟩
theorem gfX2_66 : GF RX2 66 2 12 := ⟨_, _, _, _, clX2, by decide, by decide +kernel, (Or.inl q257), by decide⟩
theorem pfX2_66 : PF RX2 66 2 12 .int := ⟨_, _, _, _, clX2, by decide, by decide +kernel, (Or.inl q257), by decide, rfl, rfl⟩
theorem gfX2_69 : GF RX2 69 2 11 := ⟨_, _, _, _, clX2, by decide, by decide +kernel, (Or.inl q255), by decide⟩
theorem pfX2_69 : PF RX2 69 2 11 .int := ⟨_, _, _, _, clX2, by decide, by decide +kernel, (Or.inl q255), by decide, rfl, rfl⟩
theorem pfX2_72 : PF RX2 72 2 13 .int := ⟨_, _, _, _, clX2, by decide, by decide +kernel, (Or.inl q260), by decide, rfl, rfl⟩
theorem gfX2_75 : GF RX2 75 2 15 := ⟨_, _, _, _, clX2, by decide, by decide +kernel, (Or.inl q264), by decide⟩
theorem pfX2_75 : PF RX2 75 2 15 .int := ⟨_, _, _, _, clX2, by decide, by decide +kernel, (Or.inl q264), by decide, rfl, rfl⟩
theorem pfX2_92 : PF RX2 92 2 14 .int := ⟨_, _, _, _, clX2, by decide, by decide +kernel, (Or.inl q262), by decide, rfl, rfl⟩
theorem pfX2_99 : PF RX2 99 2 16 .int := ⟨_, _, _, _, clX2, by decide, by decide +kernel, (Or.inl q266), by decide, rfl, rfl⟩
theorem gfX2_120 : GF RX2 120 2 10 := ⟨_, _, _, _, clX2, by decide, by decide +kernel, (Or.inl q254), by decide⟩
theorem pfX2_120 : PF RX2 120 2 10 .int := ⟨_, _, _, _, clX2, by decide, by decide +kernel, (Or.inl q254), by decide, rfl, rfl⟩
theorem gfX3_9 : GF RX3 9 3 0 := ⟨_, _, _, _, clX3, by decide, by decide +kernel, (Or.inl q313), by decide⟩
theorem gfX3_15 : GF RX3 15 3 1 := ⟨_, _, _, _, clX3, by decide, by decide +kernel, (Or.inl q315), by decide⟩
theorem gfX3_18 : GF RX3 18 3 2 := ⟨_, _, _, _, clX3, by decide, by decide +kernel, (Or.inl q317), by decide⟩
theorem gfX3_21 : GF RX3 21 3 3 := ⟨_, _, _, _, clX3, by decide, by decide +kernel, (Or.inl q320), by decide⟩
theorem gfX3_25 : GF RX3 25 3 4 := ⟨_, _, _, _, clX3, by decide, by decide +kernel, (Or.inl q322), by decide⟩
theorem gfX3_28 : GF RX3 28 3 5 := ⟨_, _, _, _, clX3, by decide, by decide +kernel, (Or.inl q324), by decide⟩
theorem gfX3_31 : GF RX3 31 3 6 := ⟨_, _, _, _, clX3, by decide, by decide +kernel, (Or.inl q325), by decide⟩
theorem gfX3_34 : GF RX3 34 3 7 := ⟨_, _, _, _, clX3, by decide, by decide +kernel, (Or.inl q326), by decide⟩
theorem gfX3_37 : GF RX3 37 3 8 := ⟨_, _, _, _, clX3, by decide, by decide +kernel, (Or.inl q328), by decide⟩
theorem gfX3_40 : GF RX3 40 3 9 := ⟨_, _, _, _, clX3, by decide, by decide +kernel, (Or.inl q330), by decide⟩
theorem gfX3_44 : GF RX3 44 3 10 := ⟨_, _, _, _, clX3, by decide, by decide +kernel, (Or.inl q332), by decide⟩
theorem gfX3_47 : GF RX3 47 3 11 := ⟨_, _, _, _, clX3, by decide, by decide +kernel, (Or.inl q334), by decide⟩
theorem gfX3_50 : GF RX3 50 3 12 := ⟨_, _, _, _, clX3, by decide, by decide +kernel, (Or.inl q335), by decide⟩
theorem gfX3_53 : GF RX3 53 3 13 := ⟨_, _, _, _, clX3, by decide, by decide +kernel, (Or.inl q338), by decide⟩
theorem gfX3_56 : GF RX3 56 3 14 := ⟨_, _, _, _, clX3, by decide, by decide +kernel, (Or.inl q340), by decide⟩
theorem gfX3_59 : GF RX3 59 3 15 := ⟨_, _, _, _, clX3, by decide, by decide +kernel, (Or.inl q342), by decide⟩
theorem gfX3_62 : GF RX3 62 3 16 := ⟨_, _, _, _, clX3, by decide, by decide +kernel, (Or.inl q343), by decide⟩
theorem gfX3_65 : GF RX3 65 3 17 := ⟨_, _, _, _, clX3, by decide, by decide +kernel, (Or.inl q347), by decide⟩
theorem gfX3_68 : GF RX3 68 3 18 := ⟨_, _, _, _, clX3, by decide, by decide +kernel, (Or.inl q350), by decide⟩
theorem gfX3_71 : GF RX3 71 3 19 := ⟨_, _, _, _, clX3, by decide, by decide +kernel, (Or.inl q352), by decide⟩
theorem gfX3_74 : GF RX3 74 3 20 := ⟨_, _, _, _, clX3, by decide, by decide +kernel, (Or.inl q355), by decide⟩
theorem gfX3_77 : GF RX3 77 3 21 := ⟨_, _, _, _, clX3, by decide, by decide +kernel, (Or.inl q356), by decide⟩
theorem gfX3_80 : GF RX3 80 3 22 := ⟨_, _, _, _, clX3, by decide, by decide +kernel, (Or.inl q361), by decide⟩
theorem gfX3_83 : GF RX3 83 3 23 := ⟨_, _, _, _, clX3, by decide, by decide +kernel, (Or.inl q363), by decide⟩
theorem gfX3_86 : GF RX3 86 3 24 := ⟨_, _, _, _, clX3, by decide, by decide +kernel, (Or.inl q367), by decide⟩
theorem gfX3_89 : GF RX3 89 3 25 := ⟨_, _, _, _, clX3, by decide, by decide +kernel, (Or.inl q369), by decide⟩
theorem gfX3_92 : GF RX3 92 3 26 := ⟨_, _, _, _, clX3, by decide, by decide +kernel, (Or.inl q371), by decide⟩
theorem gfX3_95 : GF RX3 95 3 27 := ⟨_, _, _, _, clX3, by decide, by decide +kernel, (Or.inl q372), by decide⟩
theorem gfX3_102 : GF RX3 102 3 28 := ⟨_, _, _, _, clX3, by decide, by decide +kernel, (Or.inl q373), by decide⟩
theorem pfX3_102 : PF RX3 102 3 28 .int := ⟨_, _, _, _, clX3, by decide, by decide +kernel, (Or.inl q373), by decide, rfl, rfl⟩
theorem gfX3_106 : GF RX3 106 3 29 := ⟨_, _, _, _, clX3, by decide, by decide +kernel, (Or.inl q379), by decide⟩
theorem pfX3_106 : PF RX3 106 3 29 .int := ⟨_, _, _, _, clX3, by decide, by decide +kernel, (Or.inl q379), by decide, rfl, rfl⟩
theorem gfX3_109 : GF RX3 109 3 30 := ⟨_, _, _, _, clX3, by decide, by decide +kernel, (Or.inl q383), by decide⟩
theorem pfX3_109 : PF RX3 109 3 30 .int := ⟨_, _, _, _, clX3, by decide, by decide +kernel, (Or.inl q383), by decide, rfl, rfl⟩
theorem gfX3_112 : GF RX3 112 3 31 := ⟨_, _, _, _, clX3, by decide, by decide +kernel, (Or.inl q388), by decide⟩
theorem pfX3_112 : PF RX3 112 3 31 .int := ⟨_, _, _, _, clX3, by decide, by decide +kernel, (Or.inl q388), by decide, rfl, rfl⟩
theorem gfX3_115 : GF RX3 115 3 32 := ⟨_, _, _, _, clX3, by decide, by decide +kernel, (Or.inl q393), by decide⟩
theorem pfX3_115 : PF RX3 115 3 32 .int := ⟨_, _, _, _, clX3, by decide, by decide +kernel, (Or.inl q393), by decide, rfl, rfl⟩
theorem gfX3_118 : GF RX3 118 3 33 := ⟨_, _, _, _, clX3, by decide, by decide +kernel, (Or.inl q395), by decide⟩
theorem pfX3_118 : PF RX3 118 3 33 .int := ⟨_, _, _, _, clX3, by decide, by decide +kernel, (Or.inl q395), by decide, rfl, rfl⟩
theorem gfX3_121 : GF RX3 121 3 34 := ⟨_, _, _, _, clX3, by decide, by decide +kernel, (Or.inl q397), by decide⟩
theorem pfX3_121 : PF RX3 121 3 34 .int := ⟨_, _, _, _, clX3, by decide, by decide +kernel, (Or.inl q397), by decide, rfl, rfl⟩
theorem gfX3_124 : GF RX3 124 3 35 := ⟨_, _, _, _, clX3, by decide, by decide +kernel, (Or.inl q399), by decide⟩
theorem pfX3_124 : PF RX3 124 3 35 .int := ⟨_, _, _, _, clX3, by decide, by decide +kernel, (Or.inl q399), by decide, rfl, rfl⟩
theorem gfX3_127 : GF RX3 127 3 36 := ⟨_, _, _, _, clX3, by decide, by decide +kernel, (Or.inl q401), by decide⟩
theorem pfX3_127 : PF RX3 127 3 36 .int := ⟨_, _, _, _, clX3, by decide, by decide +kernel, (Or.inl q401), by decide, rfl, rfl⟩
theorem gfX3_130 : GF RX3 130 3 37 := ⟨_, _, _, _, clX3, by decide, by decide +kernel, (Or.inl q403), by decide⟩
theorem pfX3_130 : PF RX3 130 3 37 .boolean := ⟨_, _, _, _, clX3, by decide, by decide +kernel, (Or.inl q403), by decide, rfl, rfl⟩
theorem gfX4_9 : GF RX4 9 3 9 := ⟨_, _, _, _, clX3, by decide, by decide +kernel, (Or.inr ⟨_, q331⟩), by decide⟩
theorem gfX4_15 : GF RX4 15 4 0 := ⟨_, _, _, _, clX4, by decide, by decide +kernel, (Or.inl q488), by decide⟩
theorem pfX4_15 : PF RX4 15 4 0 .int := ⟨_, _, _, _, clX4, by decide, by decide +kernel, (Or.inl q488), by decide, rfl, rfl⟩
theorem gfX4_21 : GF RX4 21 4 3 := ⟨_, _, _, _, clX4, by decide, by decide +kernel, (Or.inl q494), by decide⟩
theorem pfX4_21 : PF RX4 21 4 3 .boolean := ⟨_, _, _, _, clX4, by decide, by decide +kernel, (Or.inl q494), by decide, rfl, rfl⟩
theorem pfX4_29 : PF RX4 29 4 1 .int := ⟨_, _, _, _, clX4, by decide, by decide +kernel, (Or.inl q490), by decide, rfl, rfl⟩
theorem pfX4_32 : PF RX4 32 4 2 .int := ⟨_, _, _, _, clX4, by decide, by decide +kernel, (Or.inl q492), by decide, rfl, rfl⟩
theorem gfX5_9 : GF RX5 9 5 0 := ⟨_, _, _, _, clX5, by decide, by decide +kernel, (Or.inl q511), by decide⟩
theorem gfX5_15 : GF RX5 15 5 1 := ⟨_, _, _, _, clX5, by decide, by decide +kernel, (Or.inl q512), by decide⟩
theorem gfX5_18 : GF RX5 18 3 12 := ⟨_, _, _, _, clX3, by decide, by decide +kernel, (Or.inr ⟨_, q336⟩), by decide⟩
theorem gfX5_23 : GF RX5 23 3 10 := ⟨_, _, _, _, clX3, by decide, by decide +kernel, (Or.inr ⟨_, q333⟩), by decide⟩
theorem gfX6_9 : GF RX6 9 6 0 := ⟨_, _, _, _, clX6, by decide, by decide +kernel, (Or.inl q524), by decide⟩
theorem gfX6_15 : GF RX6 15 6 1 := ⟨_, _, _, _, clX6, by decide, by decide +kernel, (Or.inl q525), by decide⟩
theorem gfX6_18 : GF RX6 18 6 2 := ⟨_, _, _, _, clX6, by decide, by decide +kernel, (Or.inl q526), by decide⟩
theorem gfX6_21 : GF RX6 21 6 3 := ⟨_, _, _, _, clX6, by decide, by decide +kernel, (Or.inl q527), by decide⟩
theorem gfX6_25 : GF RX6 25 6 5 := ⟨_, _, _, _, clX6, by decide, by decide +kernel, (Or.inl q529), by decide⟩
theorem pfX6_25 : PF RX6 25 6 5 .int := ⟨_, _, _, _, clX6, by decide, by decide +kernel, (Or.inl q529), by decide, rfl, rfl⟩
theorem gfX6_29 : GF RX6 29 6 4 := ⟨_, _, _, _, clX6, by decide, by decide +kernel, (Or.inl q528), by decide⟩
theorem pfX6_29 : PF RX6 29 6 4 .int := ⟨_, _, _, _, clX6, by decide, by decide +kernel, (Or.inl q528), by decide, rfl, rfl⟩
theorem gfX6_42 : GF RX6 42 3 31 := ⟨_, _, _, _, clX3, by decide, by decide +kernel, (Or.inr ⟨_, q390⟩), by decide⟩
theorem gfX6_51 : GF RX6 51 3 21 := ⟨_, _, _, _, clX3, by decide, by decide +kernel, (Or.inr ⟨_, q358⟩), by decide⟩
theorem gfX7_9 : GF RX7 9 7 0 := ⟨_, _, _, _, clX7, by decide, by decide +kernel, (Or.inl q549), by decide⟩
theorem gfX7_15 : GF RX7 15 7 1 := ⟨_, _, _, _, clX7, by decide, by decide +kernel, (Or.inl q550), by decide⟩
theorem gfX7_18 : GF RX7 18 7 2 := ⟨_, _, _, _, clX7, by decide, by decide +kernel, (Or.inl q551), by decide⟩
theorem gfX7_21 : GF RX7 21 3 2 := ⟨_, _, _, _, clX3, by decide, by decide +kernel, (Or.inr ⟨_, q318⟩), by decide⟩
theorem gfX7_30 : GF RX7 30 3 0 := ⟨_, _, _, _, clX3, by decide, by decide +kernel, (Or.inr ⟨_, q314⟩), by decide⟩
theorem gfX7_37 : GF RX7 37 3 1 := ⟨_, _, _, _, clX3, by decide, by decide +kernel, (Or.inr ⟨_, q316⟩), by decide⟩
theorem gfX7_40 : GF RX7 40 3 3 := ⟨_, _, _, _, clX3, by decide, by decide +kernel, (Or.inr ⟨_, q321⟩), by decide⟩
theorem gfX7_44 : GF RX7 44 3 28 := ⟨_, _, _, _, clX3, by decide, by decide +kernel, (Or.inr ⟨_, q376⟩), by decide⟩
theorem gfX7_49 : GF RX7 49 3 29 := ⟨_, _, _, _, clX3, by decide, by decide +kernel, (Or.inr ⟨_, q381⟩), by decide⟩
theorem gfX7_59 : GF RX7 59 7 3 := ⟨_, _, _, _, clX7, by decide, by decide +kernel, (Or.inl q552), by decide⟩
theorem pfX7_59 : PF RX7 59 7 3 .int := ⟨_, _, _, _, clX7, by decide, by decide +kernel, (Or.inl q552), by decide, rfl, rfl⟩
theorem gfX7_101 : GF RX7 101 2 4 := ⟨_, _, _, _, clX2, by decide, by decide +kernel, (Or.inr ⟨_, q246⟩), by decide⟩
theorem gfX7_109 : GF RX7 109 2 16 := ⟨_, _, _, _, clX2, by decide, by decide +kernel, (Or.inr ⟨_, q265⟩), by decide⟩
theorem gfX7_112 : GF RX7 112 2 12 := ⟨_, _, _, _, clX2, by decide, by decide +kernel, (Or.inr ⟨_, q258⟩), by decide⟩
theorem gfX8_9 : GF RX8 9 8 0 := ⟨_, _, _, _, clX8, by decide, by decide +kernel, (Or.inl q570), by decide⟩
theorem gfX8_15 : GF RX8 15 8 1 := ⟨_, _, _, _, clX8, by decide, by decide +kernel, (Or.inl q571), by decide⟩
theorem gfX8_18 : GF RX8 18 8 2 := ⟨_, _, _, _, clX8, by decide, by decide +kernel, (Or.inl q572), by decide⟩
theorem gfX8_21 : GF RX8 21 8 3 := ⟨_, _, _, _, clX8, by decide, by decide +kernel, (Or.inl q573), by decide⟩
theorem gfX8_24 : GF RX8 24 8 4 := ⟨_, _, _, _, clX8, by decide, by decide +kernel, (Or.inl q574), by decide⟩
theorem gfX8_27 : GF RX8 27 8 5 := ⟨_, _, _, _, clX8, by decide, by decide +kernel, (Or.inl q575), by decide⟩
theorem gfX8_30 : GF RX8 30 8 6 := ⟨_, _, _, _, clX8, by decide, by decide +kernel, (Or.inl q576), by decide⟩
theorem pfX8_30 : PF RX8 30 8 6 .int := ⟨_, _, _, _, clX8, by decide, by decide +kernel, (Or.inl q576), by decide, rfl, rfl⟩
theorem gfX8_34 : GF RX8 34 8 7 := ⟨_, _, _, _, clX8, by decide, by decide +kernel, (Or.inl q577), by decide⟩
theorem pfX8_34 : PF RX8 34 8 7 .int := ⟨_, _, _, _, clX8, by decide, by decide +kernel, (Or.inl q577), by decide, rfl, rfl⟩
theorem gfX8_37 : GF RX8 37 3 30 := ⟨_, _, _, _, clX3, by decide, by decide +kernel, (Or.inr ⟨_, q384⟩), by decide⟩
theorem gfX8_44 : GF RX8 44 3 31 := ⟨_, _, _, _, clX3, by decide, by decide +kernel, (Or.inr ⟨_, q389⟩), by decide⟩
theorem gfX8_48 : GF RX8 48 3 21 := ⟨_, _, _, _, clX3, by decide, by decide +kernel, (Or.inr ⟨_, q357⟩), by decide⟩
theorem gfX8_60 : GF RX8 60 3 23 := ⟨_, _, _, _, clX3, by decide, by decide +kernel, (Or.inr ⟨_, q364⟩), by decide⟩
theorem gfX8_76 : GF RX8 76 8 8 := ⟨_, _, _, _, clX8, by decide, by decide +kernel, (Or.inl q578), by decide⟩
theorem pfX8_76 : PF RX8 76 8 8 .int := ⟨_, _, _, _, clX8, by decide, by decide +kernel, (Or.inl q578), by decide, rfl, rfl⟩
theorem gfX8_79 : GF RX8 79 8 9 := ⟨_, _, _, _, clX8, by decide, by decide +kernel, (Or.inl q579), by decide⟩
theorem pfX8_79 : PF RX8 79 8 9 .int := ⟨_, _, _, _, clX8, by decide, by decide +kernel, (Or.inl q579), by decide, rfl, rfl⟩
theorem gfX8_111 : GF RX8 111 3 28 := ⟨_, _, _, _, clX3, by decide, by decide +kernel, (Or.inr ⟨_, q377⟩), by decide⟩
theorem gfX9_9 : GF RX9 9 9 0 := ⟨_, _, _, _, clX9, by decide, by decide +kernel, (Or.inl q607), by decide⟩
theorem gfX9_15 : GF RX9 15 9 1 := ⟨_, _, _, _, clX9, by decide, by decide +kernel, (Or.inl q608), by decide⟩
theorem gfX9_18 : GF RX9 18 9 2 := ⟨_, _, _, _, clX9, by decide, by decide +kernel, (Or.inl q609), by decide⟩
theorem gfX9_22 : GF RX9 22 9 6 := ⟨_, _, _, _, clX9, by decide, by decide +kernel, (Or.inl q613), by decide⟩
theorem pfX9_22 : PF RX9 22 9 6 (.object "RescueHouse$Reader") := ⟨_, _, _, _, clX9, by decide, by decide +kernel, (Or.inl q613), by decide, rfl, rfl⟩
theorem gfX9_26 : GF RX9 26 2 4 := ⟨_, _, _, _, clX2, by decide, by decide +kernel, (Or.inr ⟨_, q245⟩), by decide⟩
theorem gfX9_31 : GF RX9 31 2 2 := ⟨_, _, _, _, clX2, by decide, by decide +kernel, (Or.inr ⟨_, q241⟩), by decide⟩
theorem gfX9_38 : GF RX9 38 9 7 := ⟨_, _, _, _, clX9, by decide, by decide +kernel, (Or.inl q614), by decide⟩
theorem pfX9_38 : PF RX9 38 9 7 (.object "RescueHouse$House") := ⟨_, _, _, _, clX9, by decide, by decide +kernel, (Or.inl q614), by decide, rfl, rfl⟩
theorem gfX9_42 : GF RX9 42 3 28 := ⟨_, _, _, _, clX3, by decide, by decide +kernel, (Or.inr ⟨_, q375⟩), by decide⟩
theorem gfX9_48 : GF RX9 48 3 29 := ⟨_, _, _, _, clX3, by decide, by decide +kernel, (Or.inr ⟨_, q380⟩), by decide⟩
theorem gfX9_56 : GF RX9 56 3 2 := ⟨_, _, _, _, clX3, by decide, by decide +kernel, (Or.inr ⟨_, q319⟩), by decide⟩
theorem gfX9_66 : GF RX9 66 2 3 := ⟨_, _, _, _, clX2, by decide, by decide +kernel, (Or.inr ⟨_, q243⟩), by decide⟩
theorem gfX9_69 : GF RX9 69 3 16 := ⟨_, _, _, _, clX3, by decide, by decide +kernel, (Or.inr ⟨_, q345⟩), by decide⟩
theorem gfX9_72 : GF RX9 72 3 17 := ⟨_, _, _, _, clX3, by decide, by decide +kernel, (Or.inr ⟨_, q348⟩), by decide⟩
theorem gfX9_82 : GF RX9 82 3 21 := ⟨_, _, _, _, clX3, by decide, by decide +kernel, (Or.inr ⟨_, q359⟩), by decide⟩
theorem gfX9_88 : GF RX9 88 3 31 := ⟨_, _, _, _, clX3, by decide, by decide +kernel, (Or.inr ⟨_, q391⟩), by decide⟩
theorem gfX9_101 : GF RX9 101 9 4 := ⟨_, _, _, _, clX9, by decide, by decide +kernel, (Or.inl q611), by decide⟩
theorem pfX9_101 : PF RX9 101 9 4 .int := ⟨_, _, _, _, clX9, by decide, by decide +kernel, (Or.inl q611), by decide, rfl, rfl⟩
theorem gfX9_104 : GF RX9 104 3 23 := ⟨_, _, _, _, clX3, by decide, by decide +kernel, (Or.inr ⟨_, q365⟩), by decide⟩
theorem gfX9_107 : GF RX9 107 9 5 := ⟨_, _, _, _, clX9, by decide, by decide +kernel, (Or.inl q612), by decide⟩
theorem pfX9_107 : PF RX9 107 9 5 .int := ⟨_, _, _, _, clX9, by decide, by decide +kernel, (Or.inl q612), by decide, rfl, rfl⟩
theorem gfX9_109 : GF RX9 109 3 30 := ⟨_, _, _, _, clX3, by decide, by decide +kernel, (Or.inr ⟨_, q387⟩), by decide⟩
theorem gfX9_112 : GF RX9 112 9 3 := ⟨_, _, _, _, clX9, by decide, by decide +kernel, (Or.inl q610), by decide⟩
theorem pfX9_112 : PF RX9 112 9 3 .int := ⟨_, _, _, _, clX9, by decide, by decide +kernel, (Or.inl q610), by decide, rfl, rfl⟩
theorem gfX9_120 : GF RX9 120 2 1 := ⟨_, _, _, _, clX2, by decide, by decide +kernel, (Or.inr ⟨_, q239⟩), by decide⟩
theorem gfX9_135 : GF RX9 135 2 11 := ⟨_, _, _, _, clX2, by decide, by decide +kernel, (Or.inr ⟨_, q256⟩), by decide⟩
theorem gfX10_9 : GF RX10 9 10 0 := ⟨_, _, _, _, clX10, by decide, by decide +kernel, (Or.inl q638), by decide⟩
theorem pfX10_9 : PF RX10 9 10 0 .int := ⟨_, _, _, _, clX10, by decide, by decide +kernel, (Or.inl q638), by decide, rfl, rfl⟩
theorem gfX10_15 : GF RX10 15 10 1 := ⟨_, _, _, _, clX10, by decide, by decide +kernel, (Or.inl q639), by decide⟩
theorem pfX10_15 : PF RX10 15 10 1 .int := ⟨_, _, _, _, clX10, by decide, by decide +kernel, (Or.inl q639), by decide, rfl, rfl⟩
theorem gfX10_18 : GF RX10 18 3 28 := ⟨_, _, _, _, clX3, by decide, by decide +kernel, (Or.inr ⟨_, q374⟩), by decide⟩
theorem gfX10_24 : GF RX10 24 3 30 := ⟨_, _, _, _, clX3, by decide, by decide +kernel, (Or.inr ⟨_, q385⟩), by decide⟩
theorem gfX10_63 : GF RX10 63 3 19 := ⟨_, _, _, _, clX3, by decide, by decide +kernel, (Or.inr ⟨_, q353⟩), by decide⟩
theorem gfX10_67 : GF RX10 67 3 16 := ⟨_, _, _, _, clX3, by decide, by decide +kernel, (Or.inr ⟨_, q344⟩), by decide⟩
theorem gfX11_9 : GF RX11 9 11 0 := ⟨_, _, _, _, clX11, by decide, by decide +kernel, (Or.inl q651), by decide⟩
theorem gfX11_15 : GF RX11 15 11 2 := ⟨_, _, _, _, clX11, by decide, by decide +kernel, (Or.inl q655), by decide⟩
theorem pfX11_15 : PF RX11 15 11 2 .int := ⟨_, _, _, _, clX11, by decide, by decide +kernel, (Or.inl q655), by decide, rfl, rfl⟩
theorem pfX11_19 : PF RX11 19 11 3 .boolean := ⟨_, _, _, _, clX11, by decide, by decide +kernel, (Or.inl q656), by decide, rfl, rfl⟩
theorem gfX11_23 : GF RX11 23 11 1 := ⟨_, _, _, _, clX11, by decide, by decide +kernel, (Or.inl q653), by decide⟩
theorem pfX11_23 : PF RX11 23 11 1 .int := ⟨_, _, _, _, clX11, by decide, by decide +kernel, (Or.inl q653), by decide, rfl, rfl⟩
theorem gfX12_7 : GF RX12 7 12 0 := ⟨_, _, _, _, clX12, by decide, by decide +kernel, (Or.inl q1484), by decide⟩
theorem gfX12_13 : GF RX12 13 12 1 := ⟨_, _, _, _, clX12, by decide, by decide +kernel, (Or.inl q1485), by decide⟩
theorem gfX12_16 : GF RX12 16 12 3 := ⟨_, _, _, _, clX12, by decide, by decide +kernel, (Or.inl q1487), by decide⟩
theorem gfX12_19 : GF RX12 19 12 4 := ⟨_, _, _, _, clX12, by decide, by decide +kernel, (Or.inl q1488), by decide⟩
theorem gfX12_22 : GF RX12 22 12 6 := ⟨_, _, _, _, clX12, by decide, by decide +kernel, (Or.inl q1490), by decide⟩
theorem gfX12_25 : GF RX12 25 12 9 := ⟨_, _, _, _, clX12, by decide, by decide +kernel, (Or.inl q1493), by decide⟩
theorem pfX12_25 : PF RX12 25 12 9 .int := ⟨_, _, _, _, clX12, by decide, by decide +kernel, (Or.inl q1493), by decide, rfl, rfl⟩
theorem gfX12_29 : GF RX12 29 12 10 := ⟨_, _, _, _, clX12, by decide, by decide +kernel, (Or.inl q1494), by decide⟩
theorem gfX12_32 : GF RX12 32 12 12 := ⟨_, _, _, _, clX12, by decide, by decide +kernel, (Or.inl q1496), by decide⟩
theorem gfX12_35 : GF RX12 35 12 14 := ⟨_, _, _, _, clX12, by decide, by decide +kernel, (Or.inl q1498), by decide⟩
theorem gfX12_38 : GF RX12 38 12 16 := ⟨_, _, _, _, clX12, by decide, by decide +kernel, (Or.inl q1500), by decide⟩
theorem gfX12_41 : GF RX12 41 12 17 := ⟨_, _, _, _, clX12, by decide, by decide +kernel, (Or.inl q1501), by decide⟩
theorem gfX12_44 : GF RX12 44 12 18 := ⟨_, _, _, _, clX12, by decide, by decide +kernel, (Or.inl q1502), by decide⟩
theorem gfX12_47 : GF RX12 47 12 22 := ⟨_, _, _, _, clX12, by decide, by decide +kernel, (Or.inl q1506), by decide⟩
theorem gfX12_50 : GF RX12 50 12 23 := ⟨_, _, _, _, clX12, by decide, by decide +kernel, (Or.inl q1507), by decide⟩
theorem gfX12_53 : GF RX12 53 12 26 := ⟨_, _, _, _, clX12, by decide, by decide +kernel, (Or.inl q1510), by decide⟩
theorem gfX12_56 : GF RX12 56 12 27 := ⟨_, _, _, _, clX12, by decide, by decide +kernel, (Or.inl q1511), by decide⟩
theorem gfX12_59 : GF RX12 59 12 29 := ⟨_, _, _, _, clX12, by decide, by decide +kernel, (Or.inl q1513), by decide⟩
theorem gfX12_62 : GF RX12 62 12 31 := ⟨_, _, _, _, clX12, by decide, by decide +kernel, (Or.inl q1515), by decide⟩
theorem gfX12_65 : GF RX12 65 12 33 := ⟨_, _, _, _, clX12, by decide, by decide +kernel, (Or.inl q1517), by decide⟩
theorem gfX12_68 : GF RX12 68 12 35 := ⟨_, _, _, _, clX12, by decide, by decide +kernel, (Or.inl q1519), by decide⟩
theorem gfX12_71 : GF RX12 71 12 37 := ⟨_, _, _, _, clX12, by decide, by decide +kernel, (Or.inl q1521), by decide⟩
theorem gfX12_74 : GF RX12 74 12 38 := ⟨_, _, _, _, clX12, by decide, by decide +kernel, (Or.inl q1522), by decide⟩
theorem gfX12_77 : GF RX12 77 12 39 := ⟨_, _, _, _, clX12, by decide, by decide +kernel, (Or.inl q1523), by decide⟩
theorem gfX12_80 : GF RX12 80 12 45 := ⟨_, _, _, _, clX12, by decide, by decide +kernel, (Or.inl q1529), by decide⟩
theorem gfX12_83 : GF RX12 83 12 46 := ⟨_, _, _, _, clX12, by decide, by decide +kernel, (Or.inl q1530), by decide⟩
theorem gfX12_86 : GF RX12 86 12 48 := ⟨_, _, _, _, clX12, by decide, by decide +kernel, (Or.inl q1532), by decide⟩
theorem gfX12_89 : GF RX12 89 12 49 := ⟨_, _, _, _, clX12, by decide, by decide +kernel, (Or.inl q1533), by decide⟩
theorem gfX12_92 : GF RX12 92 12 51 := ⟨_, _, _, _, clX12, by decide, by decide +kernel, (Or.inl q1535), by decide⟩
theorem gfX12_95 : GF RX12 95 12 52 := ⟨_, _, _, _, clX12, by decide, by decide +kernel, (Or.inl q1536), by decide⟩
theorem gfX12_98 : GF RX12 98 12 53 := ⟨_, _, _, _, clX12, by decide, by decide +kernel, (Or.inl q1537), by decide⟩
theorem gfX12_101 : GF RX12 101 12 54 := ⟨_, _, _, _, clX12, by decide, by decide +kernel, (Or.inl q1538), by decide⟩
theorem gfX12_105 : GF RX12 105 12 55 := ⟨_, _, _, _, clX12, by decide, by decide +kernel, (Or.inl q1539), by decide⟩
theorem gfX12_108 : GF RX12 108 12 57 := ⟨_, _, _, _, clX12, by decide, by decide +kernel, (Or.inl q1541), by decide⟩
theorem gfX12_111 : GF RX12 111 12 58 := ⟨_, _, _, _, clX12, by decide, by decide +kernel, (Or.inl q1542), by decide⟩
theorem gfX12_114 : GF RX12 114 12 60 := ⟨_, _, _, _, clX12, by decide, by decide +kernel, (Or.inl q1544), by decide⟩
theorem gfX12_117 : GF RX12 117 12 61 := ⟨_, _, _, _, clX12, by decide, by decide +kernel, (Or.inl q1545), by decide⟩
theorem gfX12_124 : GF RX12 124 12 2 := ⟨_, _, _, _, clX12, by decide, by decide +kernel, (Or.inl q1486), by decide⟩
theorem pfX12_124 : PF RX12 124 12 2 .int := ⟨_, _, _, _, clX12, by decide, by decide +kernel, (Or.inl q1486), by decide, rfl, rfl⟩
theorem gfX12_127 : GF RX12 127 12 5 := ⟨_, _, _, _, clX12, by decide, by decide +kernel, (Or.inl q1489), by decide⟩
theorem pfX12_127 : PF RX12 127 12 5 .boolean := ⟨_, _, _, _, clX12, by decide, by decide +kernel, (Or.inl q1489), by decide, rfl, rfl⟩
theorem gfX12_139 : GF RX12 139 12 15 := ⟨_, _, _, _, clX12, by decide, by decide +kernel, (Or.inl q1499), by decide⟩
theorem pfX12_139 : PF RX12 139 12 15 .int := ⟨_, _, _, _, clX12, by decide, by decide +kernel, (Or.inl q1499), by decide, rfl, rfl⟩
theorem gfX12_145 : GF RX12 145 12 21 := ⟨_, _, _, _, clX12, by decide, by decide +kernel, (Or.inl q1505), by decide⟩
theorem pfX12_145 : PF RX12 145 12 21 .int := ⟨_, _, _, _, clX12, by decide, by decide +kernel, (Or.inl q1505), by decide, rfl, rfl⟩
theorem gfX12_148 : GF RX12 148 12 13 := ⟨_, _, _, _, clX12, by decide, by decide +kernel, (Or.inl q1497), by decide⟩
theorem pfX12_148 : PF RX12 148 12 13 .int := ⟨_, _, _, _, clX12, by decide, by decide +kernel, (Or.inl q1497), by decide, rfl, rfl⟩
theorem gfX12_151 : GF RX12 151 12 19 := ⟨_, _, _, _, clX12, by decide, by decide +kernel, (Or.inl q1503), by decide⟩
theorem pfX12_151 : PF RX12 151 12 19 .int := ⟨_, _, _, _, clX12, by decide, by decide +kernel, (Or.inl q1503), by decide, rfl, rfl⟩
theorem gfX12_162 : GF RX12 162 12 20 := ⟨_, _, _, _, clX12, by decide, by decide +kernel, (Or.inl q1504), by decide⟩
theorem pfX12_162 : PF RX12 162 12 20 .int := ⟨_, _, _, _, clX12, by decide, by decide +kernel, (Or.inl q1504), by decide, rfl, rfl⟩
theorem gfX12_175 : GF RX12 175 12 24 := ⟨_, _, _, _, clX12, by decide, by decide +kernel, (Or.inl q1508), by decide⟩
theorem pfX12_175 : PF RX12 175 12 24 .int := ⟨_, _, _, _, clX12, by decide, by decide +kernel, (Or.inl q1508), by decide, rfl, rfl⟩
theorem gfX12_178 : GF RX12 178 12 25 := ⟨_, _, _, _, clX12, by decide, by decide +kernel, (Or.inl q1509), by decide⟩
theorem pfX12_178 : PF RX12 178 12 25 .int := ⟨_, _, _, _, clX12, by decide, by decide +kernel, (Or.inl q1509), by decide, rfl, rfl⟩
theorem gfX12_184 : GF RX12 184 12 28 := ⟨_, _, _, _, clX12, by decide, by decide +kernel, (Or.inl q1512), by decide⟩
theorem pfX12_184 : PF RX12 184 12 28 .int := ⟨_, _, _, _, clX12, by decide, by decide +kernel, (Or.inl q1512), by decide, rfl, rfl⟩
theorem gfX12_190 : GF RX12 190 12 30 := ⟨_, _, _, _, clX12, by decide, by decide +kernel, (Or.inl q1514), by decide⟩
theorem pfX12_190 : PF RX12 190 12 30 .int := ⟨_, _, _, _, clX12, by decide, by decide +kernel, (Or.inl q1514), by decide, rfl, rfl⟩
theorem gfX12_193 : GF RX12 193 12 32 := ⟨_, _, _, _, clX12, by decide, by decide +kernel, (Or.inl q1516), by decide⟩
theorem pfX12_193 : PF RX12 193 12 32 .int := ⟨_, _, _, _, clX12, by decide, by decide +kernel, (Or.inl q1516), by decide, rfl, rfl⟩
theorem gfX12_250 : GF RX12 250 12 34 := ⟨_, _, _, _, clX12, by decide, by decide +kernel, (Or.inl q1518), by decide⟩
theorem pfX12_250 : PF RX12 250 12 34 .int := ⟨_, _, _, _, clX12, by decide, by decide +kernel, (Or.inl q1518), by decide, rfl, rfl⟩
theorem gfX12_253 : GF RX12 253 12 36 := ⟨_, _, _, _, clX12, by decide, by decide +kernel, (Or.inl q1520), by decide⟩
theorem pfX12_253 : PF RX12 253 12 36 .int := ⟨_, _, _, _, clX12, by decide, by decide +kernel, (Or.inl q1520), by decide, rfl, rfl⟩
theorem gfX12_265 : GF RX12 265 12 40 := ⟨_, _, _, _, clX12, by decide, by decide +kernel, (Or.inl q1524), by decide⟩
theorem pfX12_265 : PF RX12 265 12 40 .int := ⟨_, _, _, _, clX12, by decide, by decide +kernel, (Or.inl q1524), by decide, rfl, rfl⟩
theorem gfX12_268 : GF RX12 268 12 41 := ⟨_, _, _, _, clX12, by decide, by decide +kernel, (Or.inl q1525), by decide⟩
theorem pfX12_268 : PF RX12 268 12 41 .int := ⟨_, _, _, _, clX12, by decide, by decide +kernel, (Or.inl q1525), by decide, rfl, rfl⟩
theorem gfX12_324 : GF RX12 324 12 42 := ⟨_, _, _, _, clX12, by decide, by decide +kernel, (Or.inl q1526), by decide⟩
theorem pfX12_324 : PF RX12 324 12 42 .int := ⟨_, _, _, _, clX12, by decide, by decide +kernel, (Or.inl q1526), by decide, rfl, rfl⟩
theorem gfX12_327 : GF RX12 327 12 44 := ⟨_, _, _, _, clX12, by decide, by decide +kernel, (Or.inl q1528), by decide⟩
theorem pfX12_327 : PF RX12 327 12 44 .boolean := ⟨_, _, _, _, clX12, by decide, by decide +kernel, (Or.inl q1528), by decide, rfl, rfl⟩
theorem gfX12_330 : GF RX12 330 12 43 := ⟨_, _, _, _, clX12, by decide, by decide +kernel, (Or.inl q1527), by decide⟩
theorem pfX12_330 : PF RX12 330 12 43 .int := ⟨_, _, _, _, clX12, by decide, by decide +kernel, (Or.inl q1527), by decide, rfl, rfl⟩
theorem gfX12_385 : GF RX12 385 12 47 := ⟨_, _, _, _, clX12, by decide, by decide +kernel, (Or.inl q1531), by decide⟩
theorem pfX12_385 : PF RX12 385 12 47 .int := ⟨_, _, _, _, clX12, by decide, by decide +kernel, (Or.inl q1531), by decide, rfl, rfl⟩
theorem gfX12_404 : GF RX12 404 12 50 := ⟨_, _, _, _, clX12, by decide, by decide +kernel, (Or.inl q1534), by decide⟩
theorem pfX12_404 : PF RX12 404 12 50 .int := ⟨_, _, _, _, clX12, by decide, by decide +kernel, (Or.inl q1534), by decide, rfl, rfl⟩
theorem gfX12_441 : GF RX12 441 12 59 := ⟨_, _, _, _, clX12, by decide, by decide +kernel, (Or.inl q1543), by decide⟩
theorem pfX12_441 : PF RX12 441 12 59 .int := ⟨_, _, _, _, clX12, by decide, by decide +kernel, (Or.inl q1543), by decide, rfl, rfl⟩
theorem gfX12_447 : GF RX12 447 12 56 := ⟨_, _, _, _, clX12, by decide, by decide +kernel, (Or.inl q1540), by decide⟩
theorem pfX12_447 : PF RX12 447 12 56 .int := ⟨_, _, _, _, clX12, by decide, by decide +kernel, (Or.inl q1540), by decide, rfl, rfl⟩
theorem gfX12_450 : GF RX12 450 12 62 := ⟨_, _, _, _, clX12, by decide, by decide +kernel, (Or.inl q1546), by decide⟩
theorem pfX12_450 : PF RX12 450 12 62 .boolean := ⟨_, _, _, _, clX12, by decide, by decide +kernel, (Or.inl q1546), by decide, rfl, rfl⟩
theorem gfX12_468 : GF RX12 468 12 7 := ⟨_, _, _, _, clX12, by decide, by decide +kernel, (Or.inl q1491), by decide⟩
theorem pfX12_468 : PF RX12 468 12 7 .int := ⟨_, _, _, _, clX12, by decide, by decide +kernel, (Or.inl q1491), by decide, rfl, rfl⟩
theorem gfX12_474 : GF RX12 474 12 8 := ⟨_, _, _, _, clX12, by decide, by decide +kernel, (Or.inl q1492), by decide⟩
theorem pfX12_474 : PF RX12 474 12 8 .boolean := ⟨_, _, _, _, clX12, by decide, by decide +kernel, (Or.inl q1492), by decide, rfl, rfl⟩
theorem gfX12_567 : GF RX12 567 12 11 := ⟨_, _, _, _, clX12, by decide, by decide +kernel, (Or.inl q1495), by decide⟩
theorem pfX12_567 : PF RX12 567 12 11 .int := ⟨_, _, _, _, clX12, by decide, by decide +kernel, (Or.inl q1495), by decide, rfl, rfl⟩
theorem lmX0_117 : LinkM RX0 117 yX3_take := Or.inl q1054
theorem lmX0_127 : LinkM RX0 127 yX0_in := Or.inl q897
theorem lmX0_135 : LinkM RX0 135 yX3_isPlace := Or.inl q900
theorem lmX0_161 : LinkM RX0 161 yX3_isUnit := Or.inl q911
theorem lmX0_178 : LinkM RX0 178 yX0_refusedCall := Or.inl q919
theorem lmX0_182 : LinkM RX0 182 yX0_refusedGo := Or.inl q947
theorem lmX0_185 : LinkM RX0 185 yX0_refusedMore := Or.inl q987
theorem lmX0_189 : LinkM RX0 189 yX3_isOpen := Or.inl q951
theorem lmX0_208 : LinkM RX0 208 yX3_alike := Or.inl q923
theorem lmX0_211 : LinkM RX0 211 yX3_many := Or.inl q931
theorem lmX0_232 : LinkM RX0 232 yX4_goes := Or.inl q997
theorem lmX0_251 : LinkM RX0 251 yX3_isNamed := Or.inl q1011
theorem lmX0_262 : LinkM RX0 262 yX0_refusedReport := Or.inl q992
theorem lmX0_265 : LinkM RX0 265 yX0_refusedName := Or.inl q1006
theorem lmX0_271 : LinkM RX0 271 yX3_isFree := Or.inl q953
theorem lmX0_276 : LinkM RX0 276 yX3_waits := Or.inl q955
theorem lmX0_281 : LinkM RX0 281 yX3_has := Or.inl q957
theorem lmX0_288 : LinkM RX0 288 yX3_way := Or.inl q961
theorem lmX0_301 : LinkM RX0 301 yX1_say := Or.inl q874
theorem lmX0_305 : LinkM RX0 305 yX1_number := Or.inl q884
theorem lmX0_311 : LinkM RX0 311 yX3_addCall := Or.inl q1095
theorem lmX0_315 : LinkM RX0 315 yX3_letGo := Or.inl q1084
theorem lmX0_318 : LinkM RX0 318 yX0_keep := Or.inl q1050
theorem lmX0_321 : LinkM RX0 321 yX0_forget := Or.inl q1063
theorem lmX0_324 : LinkM RX0 324 yX3_begin := Or.inl q1067
theorem lmX0_326 : LinkM RX0 326 yX3_addStreet := Or.inl q1068
theorem lmX0_330 : LinkM RX0 330 yX3_shut := Or.inl q1072
theorem lmX0_334 : LinkM RX0 334 yX3_addUnit := Or.inl q1076
theorem lmX0_338 : LinkM RX0 338 yX0_post := Or.inl q1080
theorem lmX0_341 : LinkM RX0 341 yX0_call := Or.inl q1088
theorem lmX0_345 : LinkM RX0 345 yX8_plan := Or.inl q1099
theorem lmX0_349 : LinkM RX0 349 yX8_tell := Or.inl q1121
theorem lmX0_353 : LinkM RX0 353 yX8_send := Or.inl q1132
theorem lmX0_356 : LinkM RX0 356 yX3_sends := Or.inl q1140
theorem lmX0_361 : LinkM RX0 361 yX3_addKind := Or.inl q1142
theorem lmX0_368 : LinkM RX0 368 yX3_setName := Or.inl q1146
theorem lmX0_372 : LinkM RX0 372 yX3_keepHours := Or.inl q1150
theorem lmX0_381 : LinkM RX0 381 yX3_shift := Or.inl q1154
theorem lmX0_384 : LinkM RX0 384 yX3_end := Or.inl q1158
theorem lmX0_386 : LinkM RX0 386 yX3_second := Or.inl q1163
theorem lmX0_389 : LinkM RX0 389 yX0_undo := Or.inl q1180
theorem lmX0_400 : LinkM RX0 400 yX0_refusal := Or.inl q893
theorem lmX0_413 : LinkM RX0 413 yX1_add := Or.inl q1029
theorem lmX0_419 : LinkM RX0 419 yX11_begin := Or.inl q1030
theorem lmX0_421 : LinkM RX0 421 yX11_holds := Or.inl q1034
theorem lmX0_424 : LinkM RX0 424 yX11_write := Or.inl q1038
theorem lmX0_428 : LinkM RX0 428 yX0_perform := Or.inl q1046
theorem lmX0_435 : LinkM RX0 435 yX11_next := Or.inl q1441
theorem lmX0_439 : LinkM RX0 439 yX2_read := Or.inl q750
theorem lmX0_443 : LinkM RX0 443 yX1_clear := Or.inl q746
theorem lmX0_446 : LinkM RX0 446 yX11_reopen := Or.inl q1445
theorem lmX0_449 : LinkM RX0 449 yX1_told := Or.inl q1338
theorem lmX0_467 : LinkM RX0 467 yX1_numbers := Or.inl q1203
theorem lmX0_472 : LinkM RX0 472 yX3_serves := Or.inl q1427
theorem lmX0_484 : LinkM RX0 484 yX5_edits := Or.inl q1197
theorem lmX0_490 : LinkM RX0 490 yX3_nextPlace := Or.inl q1208
theorem lmX0_493 : LinkM RX0 493 yX10_tell := Or.inl q1307
theorem lmX0_500 : LinkM RX0 500 yX0_where := Or.inl q1193
theorem lmX0_503 : LinkM RX0 503 yX0_path := Or.inl q1204
theorem lmX0_506 : LinkM RX0 506 yX6_tell := Or.inl q1209
theorem lmX0_509 : LinkM RX0 509 yX0_flows := Or.inl q1224
theorem lmX0_512 : LinkM RX0 512 yX7_find := Or.inl q1228
theorem lmX0_519 : LinkM RX0 519 yX7_dam := Or.inl q1257
theorem lmX0_523 : LinkM RX0 523 yX7_judge := Or.inl q1270
theorem lmX0_527 : LinkM RX0 527 yX0_counts := Or.inl q1299
theorem lmX0_530 : LinkM RX0 530 yX0_ahead := Or.inl q1303
theorem lmX0_533 : LinkM RX0 533 yX0_shifts := Or.inl q1324
theorem lmX0_535 : LinkM RX0 535 yX3_isSound := Or.inl q1328
theorem lmX0_543 : LinkM RX0 543 yX0_askedMore := Or.inl q1189
theorem lmX0_546 : LinkM RX0 546 yX0_ways := Or.inl q1334
theorem lmX0_549 : LinkM RX0 549 yX8_prove := Or.inl q1342
theorem lmX0_552 : LinkM RX0 552 yX9_check := Or.inl q1356
theorem lmX0_556 : LinkM RX0 556 yX10_move := Or.inl q1411
theorem lmX0_559 : LinkM RX0 559 yX0_units := Or.inl q1417
theorem lmX0_561 : LinkM RX0 561 yX0_calls := Or.inl q1423
theorem lmX0_563 : LinkM RX0 563 yX0_bill := Or.inl q1428
theorem lmX0_572 : LinkM RX0 572 yX11_cut := Or.inl q1432
theorem lmX0_577 : LinkM RX0 577 yX0_mend := Or.inl q1437
theorem lmX0_586 : LinkM RX0 586 yX0_told := Or.inl q889
theorem lmX0_588 : LinkM RX0 588 yX0_asked := Or.inl q1185
theorem lmX0_597 : LinkM RX0 597 yX0_request := Or.inl q742
theorem lmX0_600 : LinkM RX0 600 yX1_at := Or.inl q1453
theorem lmX1_29 : LinkM RX1 29 yX1_add := Or.inl q880
theorem lmX1_33 : LinkM RX1 33 yX1_number := Or.inl q1131
theorem lmX2_56 : LinkM RX2 56 yX2_here := Or.inl q807
theorem lmX2_59 : LinkM RX2 59 yX2_fail := Or.inl q819
theorem lmX2_62 : LinkM RX2 62 yX0_in := Or.inr ⟨_, q839⟩
theorem lmX2_84 : LinkM RX2 84 yX2_take := Or.inl q853
theorem lmX2_88 : LinkM RX2 88 yX2_digit := Or.inl q857
theorem lmX2_95 : LinkM RX2 95 yX2_number := Or.inl q835
theorem lmX2_102 : LinkM RX2 102 yX2_blank := Or.inl q823
theorem lmX2_105 : LinkM RX2 105 yX2_keep := Or.inl q831
theorem lmX2_108 : LinkM RX2 108 yX2_tree := Or.inl q846
theorem lmX2_111 : LinkM RX2 111 yX2_answers := Or.inl q861
theorem lmX2_114 : LinkM RX2 114 yX2_letters := Or.inl q865
theorem lmX2_117 : LinkM RX2 117 yX2_argument := Or.inl q869
theorem lmX2_123 : LinkM RX2 123 yX2_word := Or.inl q754
theorem lmX2_126 : LinkM RX2 126 yX2_takes := Or.inl q811
theorem lmX2_129 : LinkM RX2 129 yX2_goesOn := Or.inl q815
theorem lmX2_133 : LinkM RX2 133 yX2_line := Or.inl q827
theorem lmX2_136 : LinkM RX2 136 yX2_special := Or.inl q842
theorem lmX3_134 : LinkM RX3 134 yX3_takeWords := Or.inl q1058
theorem lmX3_138 : LinkM RX3 138 yX0_in := Or.inr ⟨_, q904⟩
theorem lmX3_142 : LinkM RX3 142 yX3_isOpenStreet := Or.inl q978
theorem lmX3_147 : LinkM RX3 147 yX3_leads := Or.inl q974
theorem lmX3_157 : LinkM RX3 157 yX3_measure := Or.inl q970
theorem lmX3_160 : LinkM RX3 160 yX3_far := Or.inl q966
theorem lmX3_163 : LinkM RX3 163 yX3_isOpen := Or.inl q927
theorem lmX3_166 : LinkM RX3 166 yX3_serves := Or.inl q939
theorem lmX3_170 : LinkM RX3 170 yX3_waits := Or.inl q935
theorem lmX3_173 : LinkM RX3 173 yX3_isFree := Or.inl q943
theorem lmX3_176 : LinkM RX3 176 yX3_letGo := Or.inl q1162
theorem lmX3_179 : LinkM RX3 179 yX3_nextPlace := Or.inl q1176
theorem lmX3_182 : LinkM RX3 182 yX3_steps := Or.inl q1172
theorem lmX3_189 : LinkM RX3 189 yX3_moves := Or.inl q1168
theorem lmX4_25 : LinkM RX4 25 yX4_behind := Or.inl q1001
theorem lmX6_38 : LinkM RX6 38 yX6_search := Or.inl q1217
theorem lmX6_47 : LinkM RX6 47 yX3_isOpen := Or.inl q1213
theorem lmX6_54 : LinkM RX6 54 yX3_far := Or.inl q1214
theorem lmX6_61 : LinkM RX6 61 yX1_numbers := Or.inl q1221
theorem lmX6_67 : LinkM RX6 67 yX1_add := Or.inl q1222
theorem lmX6_71 : LinkM RX6 71 yX1_number := Or.inl q1223
theorem lmX7_26 : LinkM RX7 26 yX3_isOpenStreet := Or.inl q1244
theorem lmX7_33 : LinkM RX7 33 yX7_capacity := Or.inl q1245
theorem lmX7_52 : LinkM RX7 52 yX7_other := Or.inl q1237
theorem lmX7_56 : LinkM RX7 56 yX7_room := Or.inl q1240
theorem lmX7_62 : LinkM RX7 62 yX7_measure := Or.inl q1232
theorem lmX7_66 : LinkM RX7 66 yX7_next := Or.inl q1248
theorem lmX7_75 : LinkM RX7 75 yX7_push := Or.inl q1253
theorem lmX7_79 : LinkM RX7 79 yX7_find := Or.inl q1261
theorem lmX7_83 : LinkM RX7 83 yX1_add := Or.inl q1262
theorem lmX7_89 : LinkM RX7 89 yX1_number := Or.inl q1263
theorem lmX7_94 : LinkM RX7 94 yX1_say := Or.inl q1265
theorem lmX7_98 : LinkM RX7 98 yX7_reach := Or.inl q1266
theorem lmX7_106 : LinkM RX7 106 yX7_out := Or.inl q1283
theorem lmX7_115 : LinkM RX7 115 yX3_isPlace := Or.inl q1292
theorem lmX7_120 : LinkM RX7 120 yX7_badStreet := Or.inl q1275
theorem lmX7_124 : LinkM RX7 124 yX7_badPlace := Or.inl q1279
theorem lmX7_131 : LinkM RX7 131 yX7_inside := Or.inl q1289
theorem lmX7_137 : LinkM RX7 137 yX7_across := Or.inl q1294
theorem lmX8_40 : LinkM RX8 40 yX3_isFree := Or.inl q1107
theorem lmX8_45 : LinkM RX8 45 yX3_waits := Or.inl q1108
theorem lmX8_51 : LinkM RX8 51 yX3_way := Or.inl q1109
theorem lmX8_55 : LinkM RX8 55 yX3_has := Or.inl q1110
theorem lmX8_68 : LinkM RX8 68 yX8_look := Or.inl q1103
theorem lmX8_72 : LinkM RX8 72 yX8_fill := Or.inl q1112
theorem lmX8_82 : LinkM RX8 82 yX8_choose := Or.inl q1117
theorem lmX8_85 : LinkM RX8 85 yX1_number := Or.inl q1125
theorem lmX8_91 : LinkM RX8 91 yX1_add := Or.inl q1126
theorem lmX8_94 : LinkM RX8 94 yX1_numbers := Or.inl q1127
theorem lmX8_98 : LinkM RX8 98 yX3_sends := Or.inl q1136
theorem lmX8_101 : LinkM RX8 101 yX8_plan := Or.inl q1346
theorem lmX8_107 : LinkM RX8 107 yX1_say := Or.inl q1348
theorem lmX8_114 : LinkM RX8 114 yX1_told := Or.inl q1349
theorem lmX8_119 : LinkM RX8 119 yX8_dualOf := Or.inl q1351
theorem lmX9_34 : LinkM RX9 34 yX9_value := Or.inl q1368
theorem lmX9_51 : LinkM RX9 51 yX3_leads := Or.inl q1378
theorem lmX9_59 : LinkM RX9 59 yX3_isUnit := Or.inl q1372
theorem lmX9_63 : LinkM RX9 63 yX3_isFree := Or.inl q1373
theorem lmX9_75 : LinkM RX9 75 yX9_isEnd := Or.inl q1374
theorem lmX9_79 : LinkM RX9 79 yX3_has := Or.inl q1390
theorem lmX9_85 : LinkM RX9 85 yX9_way := Or.inl q1391
theorem lmX9_91 : LinkM RX9 91 yX0_in := Or.inr ⟨_, q1384⟩
theorem lmX9_95 : LinkM RX9 95 yX3_waits := Or.inl q1385
theorem lmX9_98 : LinkM RX9 98 yX9_can := Or.inl q1386
theorem lmX9_115 : LinkM RX9 115 yX3_many := Or.inl q1403
theorem lmX9_123 : LinkM RX9 123 yX9_isRightWays := Or.inl q1364
theorem lmX9_126 : LinkM RX9 126 yX9_isRightPair := Or.inl q1380
theorem lmX9_129 : LinkM RX9 129 yX9_isRightUnits := Or.inl q1395
theorem lmX9_132 : LinkM RX9 132 yX9_isRightCalls := Or.inl q1399
theorem lmX9_138 : LinkM RX9 138 yX9_isRight := Or.inl q1360
theorem lmX9_143 : LinkM RX9 143 yX1_say := Or.inl q1406
theorem lmX9_149 : LinkM RX9 149 yX1_number := Or.inl q1407
theorem lmX9_157 : LinkM RX9 157 yX1_numbers := Or.inl q1410
theorem lmX10_27 : LinkM RX10 27 yX3_isFree := Or.inl q1316
theorem lmX10_31 : LinkM RX10 31 yX3_far := Or.inl q1317
theorem lmX10_35 : LinkM RX10 35 yX3_way := Or.inl q1318
theorem lmX10_43 : LinkM RX10 43 yX10_look := Or.inl q1311
theorem lmX10_47 : LinkM RX10 47 yX1_numbers := Or.inl q1320
theorem lmX10_55 : LinkM RX10 55 yX1_say := Or.inl q1322
theorem lmX10_59 : LinkM RX10 59 yX1_number := Or.inl q1323
theorem lmX10_71 : LinkM RX10 71 yX1_add := Or.inl q1416
theorem lmX11_26 : LinkM RX11 26 yX11_sum := Or.inl q1042
theorem lmX12_120 : LinkM RX12 120 yX12_begin := Or.inl q1480
theorem lmX12_131 : LinkM RX12 131 yX12_in := Or.inl q1710
theorem lmX12_135 : LinkM RX12 135 yX12_call := Or.inl q1785
theorem lmX12_142 : LinkM RX12 142 yX12_put := Or.inl q1753
theorem lmX12_154 : LinkM RX12 154 yX12_byteHere := Or.inl q1698
theorem lmX12_158 : LinkM RX12 158 yX12_isDigit := Or.inl q1706
theorem lmX12_165 : LinkM RX12 165 yX12_expect := Or.inl q1694
theorem lmX12_168 : LinkM RX12 168 yX12_readNumber := Or.inl q1702
theorem lmX12_172 : LinkM RX12 172 yX12_readOne := Or.inl q1745
theorem lmX12_181 : LinkM RX12 181 yX12_addNode := Or.inl q1721
theorem lmX12_187 : LinkM RX12 187 yX12_takeLetter := Or.inl q1729
theorem lmX12_196 : LinkM RX12 196 yX12_readTree := Or.inl q1717
theorem lmX12_199 : LinkM RX12 199 yX12_readAnswers := Or.inl q1725
theorem lmX12_202 : LinkM RX12 202 yX12_readArgument := Or.inl q1733
theorem lmX12_205 : LinkM RX12 205 yX12_readWord := Or.inl q1737
theorem lmX12_208 : LinkM RX12 208 yX12_readLine := Or.inl q1741
theorem lmX12_211 : LinkM RX12 211 yX12_findWord := Or.inl q1690
theorem lmX12_214 : LinkM RX12 214 yX12_readRest := Or.inl q1713
theorem lmX12_217 : LinkM RX12 217 yX12_street := Or.inl q1769
theorem lmX12_220 : LinkM RX12 220 yX12_isOpenNow := Or.inl q1845
theorem lmX12_224 : LinkM RX12 224 yX12_goesFrom := Or.inl q1841
theorem lmX12_228 : LinkM RX12 228 yX12_shortens := Or.inl q1849
theorem lmX12_231 : LinkM RX12 231 yX12_unit := Or.inl q1777
theorem lmX12_234 : LinkM RX12 234 yX12_isAway := Or.inl q1821
theorem lmX12_237 : LinkM RX12 237 yX12_unitOf := Or.inl q1829
theorem lmX12_240 : LinkM RX12 240 yX12_setUnit := Or.inl q1890
theorem lmX12_244 : LinkM RX12 244 yX12_wayOf := Or.inl q1853
theorem lmX12_247 : LinkM RX12 247 yX12_findDistances := Or.inl q1837
theorem lmX12_256 : LinkM RX12 256 yX12_isWaiting := Or.inl q1825
theorem lmX12_259 : LinkM RX12 259 yX12_isFree := Or.inl q1817
theorem lmX12_262 : LinkM RX12 262 yX12_hasSkill := Or.inl q1833
theorem lmX12_271 : LinkM RX12 271 yX12_sumOf := Or.inl q1918
theorem lmX12_275 : LinkM RX12 275 yX12_may := Or.inl q1922
theorem lmX12_278 : LinkM RX12 278 yX12_findPlan := Or.inl q1914
theorem lmX12_282 : LinkM RX12 282 yX12_targetOf := Or.inl q1946
theorem lmX12_285 : LinkM RX12 285 yX12_otherEnd := Or.inl q1950
theorem lmX12_288 : LinkM RX12 288 yX12_setCall := Or.inl q1902
theorem lmX12_291 : LinkM RX12 291 yX12_takesStep := Or.inl q1942
theorem lmX12_294 : LinkM RX12 294 yX12_second := Or.inl q1938
theorem lmX12_297 : LinkM RX12 297 yX12_isPlace := Or.inl q1765
theorem lmX12_300 : LinkM RX12 300 yX12_isUnit := Or.inl q1773
theorem lmX12_303 : LinkM RX12 303 yX12_joins := Or.inl q1781
theorem lmX12_306 : LinkM RX12 306 yX12_openCalls := Or.inl q1789
theorem lmX12_309 : LinkM RX12 309 yX12_refusalOfReport := Or.inl q1793
theorem lmX12_312 : LinkM RX12 312 yX12_isTaken := Or.inl q1805
theorem lmX12_315 : LinkM RX12 315 yX12_refusalOfGo := Or.inl q1809
theorem lmX12_318 : LinkM RX12 318 yX12_isOpenCall := Or.inl q1813
theorem lmX12_321 : LinkM RX12 321 yX12_behindTree := Or.inl q1801
theorem lmX12_333 : LinkM RX12 333 yX12_lead := Or.inl q1797
theorem lmX12_336 : LinkM RX12 336 yX12_keepStep := Or.inl q1878
theorem lmX12_339 : LinkM RX12 339 yX12_addStreet := Or.inl q1882
theorem lmX12_342 : LinkM RX12 342 yX12_addUnit := Or.inl q1886
theorem lmX12_346 : LinkM RX12 346 yX12_letGo := Or.inl q1894
theorem lmX12_349 : LinkM RX12 349 yX12_addCall := Or.inl q1898
theorem lmX12_352 : LinkM RX12 352 yX12_sendAll := Or.inl q1906
theorem lmX12_355 : LinkM RX12 355 yX12_sendTo := Or.inl q1930
theorem lmX12_358 : LinkM RX12 358 yX12_tick := Or.inl q1934
theorem lmX12_361 : LinkM RX12 361 yX12_addKind := Or.inl q1954
theorem lmX12_364 : LinkM RX12 364 yX12_tellMore := Or.inl q1958
theorem lmX12_367 : LinkM RX12 367 yX12_turnBack := Or.inl q1962
theorem lmX12_370 : LinkM RX12 370 yX12_say := Or.inl q1749
theorem lmX12_373 : LinkM RX12 373 yX12_number := Or.inl q1757
theorem lmX12_376 : LinkM RX12 376 yX12_findBoth := Or.inl q1910
theorem lmX12_379 : LinkM RX12 379 yX12_tellPlan := Or.inl q1926
theorem lmX12_382 : LinkM RX12 382 yX12_worthOfPlan := Or.inl q1978
theorem lmX12_388 : LinkM RX12 388 yX12_coverWith := Or.inl q2014
theorem lmX12_391 : LinkM RX12 391 yX12_edits := Or.inl q2046
theorem lmX12_394 : LinkM RX12 394 yX12_nextPlace := Or.inl q2054
theorem lmX12_397 : LinkM RX12 397 yX12_areClose := Or.inl q2066
theorem lmX12_400 : LinkM RX12 400 yX12_colours := Or.inl q2062
theorem lmX12_407 : LinkM RX12 407 yX12_capacity := Or.inl q2094
theorem lmX12_410 : LinkM RX12 410 yX12_room := Or.inl q2090
theorem lmX12_413 : LinkM RX12 413 yX12_findFar := Or.inl q2086
theorem lmX12_417 : LinkM RX12 417 yX12_streetFrom := Or.inl q2099
theorem lmX12_420 : LinkM RX12 420 yX12_findFlow := Or.inl q2082
theorem lmX12_423 : LinkM RX12 423 yX12_canBe := Or.inl q2107
theorem lmX12_426 : LinkM RX12 426 yX12_out := Or.inl q2111
theorem lmX12_429 : LinkM RX12 429 yX12_isInCut := Or.inl q2115
theorem lmX12_432 : LinkM RX12 432 yX12_callsOf := Or.inl q2123
theorem lmX12_435 : LinkM RX12 435 yX12_tellCover := Or.inl q2010
theorem lmX12_438 : LinkM RX12 438 yX12_isUnitSound := Or.inl q2139
theorem lmX12_444 : LinkM RX12 444 yX12_worthBy := Or.inl q1998
theorem lmX12_453 : LinkM RX12 453 yX12_takeLine := Or.inl q1986
theorem lmX12_456 : LinkM RX12 456 yX12_isRightWays := Or.inl q1990
theorem lmX12_459 : LinkM RX12 459 yX12_isRightPair := Or.inl q1994
theorem lmX12_462 : LinkM RX12 462 yX12_isRightUnits := Or.inl q2002
theorem lmX12_465 : LinkM RX12 465 yX12_isRightCalls := Or.inl q2006
theorem lmX12_471 : LinkM RX12 471 yX12_clearFrom := Or.inl q1866
theorem lmX12_477 : LinkM RX12 477 yX12_sumOfRequest := Or.inl q1870
theorem lmX12_480 : LinkM RX12 480 yX12_takeRecord := Or.inl q2151
theorem lmX12_483 : LinkM RX12 483 yX12_read := Or.inl q1686
theorem lmX12_486 : LinkM RX12 486 yX12_refusal := Or.inl q1761
theorem lmX12_489 : LinkM RX12 489 yX12_tell := Or.inl q1874
theorem lmX12_492 : LinkM RX12 492 yX12_hasRoom := Or.inl q1858
theorem lmX12_495 : LinkM RX12 495 yX12_write := Or.inl q1862
theorem lmX12_498 : LinkM RX12 498 yX12_askIt := Or.inl q1966
theorem lmX12_501 : LinkM RX12 501 yX12_tellWays := Or.inl q1970
theorem lmX12_504 : LinkM RX12 504 yX12_tellProof := Or.inl q1974
theorem lmX12_507 : LinkM RX12 507 yX12_check := Or.inl q1982
theorem lmX12_510 : LinkM RX12 510 yX12_tellMove := Or.inl q2018
theorem lmX12_513 : LinkM RX12 513 yX12_tellUnits := Or.inl q2022
theorem lmX12_516 : LinkM RX12 516 yX12_tellCalls := Or.inl q2026
theorem lmX12_519 : LinkM RX12 519 yX12_tellBill := Or.inl q2030
theorem lmX12_522 : LinkM RX12 522 yX12_tellBooks := Or.inl q2034
theorem lmX12_525 : LinkM RX12 525 yX12_askMore := Or.inl q2038
theorem lmX12_528 : LinkM RX12 528 yX12_cut := Or.inl q2143
theorem lmX12_531 : LinkM RX12 531 yX12_mend := Or.inl q2147
theorem lmX12_534 : LinkM RX12 534 yX12_tellWhere := Or.inl q2042
theorem lmX12_537 : LinkM RX12 537 yX12_tellPath := Or.inl q2050
theorem lmX12_540 : LinkM RX12 540 yX12_tellRadio := Or.inl q2058
theorem lmX12_543 : LinkM RX12 543 yX12_areApart := Or.inl q2070
theorem lmX12_546 : LinkM RX12 546 yX12_askFlow := Or.inl q2074
theorem lmX12_549 : LinkM RX12 549 yX12_tellCounts := Or.inl q2119
theorem lmX12_552 : LinkM RX12 552 yX12_tellAhead := Or.inl q2127
theorem lmX12_555 : LinkM RX12 555 yX12_tellShifts := Or.inl q2131
theorem lmX12_558 : LinkM RX12 558 yX12_audit := Or.inl q2135
theorem lmX12_561 : LinkM RX12 561 yX12_tellDam := Or.inl q2078
theorem lmX12_564 : LinkM RX12 564 yX12_judge := Or.inl q2103
theorem lmX12_570 : LinkM RX12 570 yX12_answerIt := Or.inl q1682
