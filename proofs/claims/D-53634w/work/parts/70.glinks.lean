/-! links of fields, classes and methods, printed by gen.py -/
set_option maxRecDepth 100000
theorem xC_0 : xCls 0 RX0 TX0 4 tyX0 := ⟨rfl, in_X0, tyX0_ok, nmX0⟩
theorem xC_1 : xCls 1 RX1 TX1 9 tyX1 := ⟨rfl, in_X1, tyX1_ok, nmX1⟩
theorem xC_2 : xCls 2 RX2 TX2 1 tyX2 := ⟨rfl, in_X2, tyX2_ok, nmX2⟩
theorem xC_3 : xCls 3 RX3 TX3 12 tyX3 := ⟨rfl, in_X3, tyX3_ok, nmX3⟩
theorem xC_4 : xCls 4 RX4 TX4 13 tyX4 := ⟨rfl, in_X4, tyX4_ok, nmX4⟩
theorem xC_5 : xCls 5 RX5 TX5 9 tyX5 := ⟨rfl, in_X5, tyX5_ok, nmX5⟩
theorem xC_6 : xCls 6 RX6 TX6 5 tyX6 := ⟨rfl, in_X6, tyX6_ok, nmX6⟩
theorem xC_7 : xCls 7 RX7 TX7 9 tyX7 := ⟨rfl, in_X7, tyX7_ok, nmX7⟩
theorem xC_8 : xCls 8 RX9 TX9 4 tyX9 := ⟨rfl, in_X9, tyX9_ok, nmX9⟩
theorem xC_9 : xCls 9 RX10 TX10 3 tyX10 := ⟨rfl, in_X10, tyX10_ok, nmX10⟩
theorem xC_10 : xCls 10 RX11 TX11 5 tyX11 := ⟨rfl, in_X11, tyX11_ok, nmX11⟩
theorem xC_12 : xCls 12 RJ2 TJ2 3 tyJ2 := ⟨rfl, in_J2, tyJ2_ok, nmJ2⟩
theorem xC_13 : xCls 13 RJ4 TJ4 4 tyJ4 := ⟨rfl, in_J4, tyJ4_ok, nmJ4⟩
theorem xC_14 : xCls 14 RJ5 TJ5 3 tyJ5 := ⟨rfl, in_J5, tyJ5_ok, nmJ5⟩
theorem xC_15 : xCls 15 RJ7 TJ7 4 tyJ7 := ⟨rfl, in_J7, tyJ7_ok, nmJ7⟩
theorem xC_16 : xCls 16 RJ10 TJ10 4 tyJ10 := ⟨rfl, in_J10, tyJ10_ok, nmJ10⟩
theorem xC_17 : xCls 17 RJ13 TJ13 5 tyJ13 := ⟨rfl, in_J13, tyJ13_ok, nmJ13⟩
theorem xC_18 : xCls 18 RJ24 TJ24 3 tyJ24 := ⟨rfl, in_J24, tyJ24_ok, nmJ24⟩
theorem xC_19 : xCls 19 RJ26 TJ26 6 tyJ26 := ⟨rfl, in_J26, tyJ26_ok, nmJ26⟩
theorem xn_X0_19 : xLn "PayMatch" 19 1 [.null, .null, .null, .null, .double 0, .int 0, .int 0, .int 0, .int 0] := ⟨_, _, _, _, xC_1, q125, q126, q75, rfl, by decide +kernel⟩
theorem xn_X1_9 : xLn "PayMatch$State" 9 2 [.null] := ⟨_, _, _, _, xC_2, q131, q132, q76, rfl, by decide +kernel⟩
theorem xn_X2_7 : xLn "PayMatch$Book" 7 12 [.int 0, .null, .int 0] := ⟨_, _, _, _, xC_12, q137, q138, q79, rfl, by decide +kernel⟩
theorem xl_J1_7_12 : xLk "java/util/AbstractList" 7 12 0 (tyJ2 0) (TJ2 0).2.2.2 := xLk.link xC_12 (by decide) q155 (by decide +kernel)
theorem xl_J2_9_12 : xLk "java/util/ArrayList" 9 12 1 (tyJ2 1) (TJ2 1).2.2.2 := xLk.link xC_12 (by decide) q151 (by decide +kernel)
theorem xl_X2_10_2 : xLk "PayMatch$Book" 10 2 0 (tyX2 0) (TX2 0).2.2.2 := xLk.link xC_2 (by decide) q170 (by decide +kernel)
theorem xl_X1_12_1 : xLk "PayMatch$State" 12 1 0 (tyX1 0) (TX1 0).2.2.2 := xLk.link xC_1 (by decide) q196 (by decide +kernel)
theorem xl_X1_18_1 : xLk "PayMatch$State" 18 1 1 (tyX1 1) (TX1 1).2.2.2 := xLk.link xC_1 (by decide) q198 (by decide +kernel)
theorem xl_X1_21_1 : xLk "PayMatch$State" 21 1 2 (tyX1 2) (TX1 2).2.2.2 := xLk.link xC_1 (by decide) q200 (by decide +kernel)
theorem xn_X1_24 : xLn "PayMatch$State" 24 13 [.int 0, .int 0, .null, .null] := ⟨_, _, _, _, xC_13, q174, q175, q81, rfl, by decide +kernel⟩
theorem xl_J1_7_13 : xLk "java/util/AbstractList" 7 13 0 (tyJ4 0) (TJ4 0).2.2.2 := xLk.link xC_13 (by decide) q155 (by decide +kernel)
theorem xl_J4_7_13 : xLk "java/util/LinkedList" 7 13 1 (tyJ4 1) (TJ4 1).2.2.2 := xLk.link xC_13 (by decide) q183 (by decide +kernel)
theorem xl_X1_27_1 : xLk "PayMatch$State" 27 1 3 (tyX1 3) (TX1 3).2.2.2 := xLk.link xC_1 (by decide) q202 (by decide +kernel)
theorem xl_X1_33_1 : xLk "PayMatch$State" 33 1 4 (tyX1 4) (TX1 4).2.2.2 := xLk.link xC_1 (by decide) q204 (by decide +kernel)
theorem xl_X1_37_1 : xLk "PayMatch$State" 37 1 5 (tyX1 5) (TX1 5).2.2.2 := xLk.link xC_1 (by decide) q206 (by decide +kernel)
theorem xl_X1_41_1 : xLk "PayMatch$State" 41 1 6 (tyX1 6) (TX1 6).2.2.2 := xLk.link xC_1 (by decide) q208 (by decide +kernel)
theorem xl_X0_22_0 : xLk "PayMatch" 22 0 0 (tyX0 0) (TX0 0).2.2.2 := xLk.link xC_0 (by decide) q286 (by decide +kernel)
theorem xn_X0_28 : xLn "PayMatch" 28 14 [.null, .int 0, .int 0] := ⟨_, _, _, _, xC_14, q233, q234, q82, rfl, by decide +kernel⟩
theorem xl_J5_3_14 : xLk "java/util/ArrayDeque" 3 14 0 (tyJ5 0) (TJ5 0).2.2.2 := xLk.link xC_14 (by decide) q241 (by decide +kernel)
theorem xl_X0_31_0 : xLk "PayMatch" 31 0 2 (tyX0 2) (TX0 2).2.2.2 := xLk.link xC_0 (by decide) q288 (by decide +kernel)
theorem xn_X0_35 : xLn "PayMatch" 35 15 [.null, .int 0, .int 0, .int 0] := ⟨_, _, _, _, xC_15, q253, q254, q84, rfl, by decide +kernel⟩
theorem xl_J6_15_15 : xLk "java/lang/AbstractStringBuilder" 15 15 0 (tyJ7 0) (TJ7 0).2.2.2 := xLk.link xC_15 (by decide) q271 (by decide +kernel)
theorem xl_J6_22_15 : xLk "java/lang/AbstractStringBuilder" 22 15 1 (tyJ7 1) (TJ7 1).2.2.2 := xLk.link xC_15 (by decide) q272 (by decide +kernel)
theorem xl_X0_40_0 : xLk "PayMatch" 40 0 3 (tyX0 3) (TX0 3).2.2.2 := xLk.link xC_0 (by decide) q289 (by decide +kernel)
theorem xl_X3_13_3 : xLk "PayMatchModel" 13 3 1 (tyX3 1) (TX3 1).2.2.2 := xLk.link xC_3 (by decide) q1976 (by decide +kernel)
theorem xl_X3_17_3 : xLk "PayMatchModel" 17 3 2 (tyX3 2) (TX3 2).2.2.2 := xLk.link xC_3 (by decide) q1977 (by decide +kernel)
theorem xl_X3_20_3 : xLk "PayMatchModel" 20 3 3 (tyX3 3) (TX3 3).2.2.2 := xLk.link xC_3 (by decide) q1978 (by decide +kernel)
theorem xl_X3_23_3 : xLk "PayMatchModel" 23 3 5 (tyX3 5) (TX3 5).2.2.2 := xLk.link xC_3 (by decide) q1980 (by decide +kernel)
theorem xl_X3_26_3 : xLk "PayMatchModel" 26 3 7 (tyX3 7) (TX3 7).2.2.2 := xLk.link xC_3 (by decide) q1982 (by decide +kernel)
theorem xl_X3_30_3 : xLk "PayMatchModel" 30 3 11 (tyX3 11) (TX3 11).2.2.2 := xLk.link xC_3 (by decide) q1986 (by decide +kernel)
theorem xl_X0_60_1 : xLk "PayMatch" 60 1 0 (tyX1 0) false := xLk.nest xC_1 (by decide) q197 rfl
theorem xl_J2_48_12 : xLk "java/util/ArrayList" 48 12 2 (tyJ2 2) (TJ2 2).2.2.2 := xLk.link xC_12 (by decide) q154 (by decide +kernel)
theorem xn_X1_13 : xLn "PayMatch$State" 13 1 [.null, .null, .null, .null, .double 0, .int 0, .int 0, .int 0, .int 0] := ⟨_, _, _, _, xC_1, q327, q126, q75, rfl, by decide +kernel⟩
theorem xn_X2_11 : xLn "PayMatch$Book" 11 2 [.null] := ⟨_, _, _, _, xC_2, q333, q132, q76, rfl, by decide +kernel⟩
theorem xn_J2_267 : xLn "java/util/ArrayList" 267 16 [.int 0, .int 0, .int 0, .null] := ⟨_, _, _, _, xC_16, q344, q345, q89, rfl, by decide +kernel⟩
theorem xl_J10_1_16 : xLk "java/util/ArrayList$Itr" 1 16 3 (tyJ10 3) (TJ10 3).2.2.2 := xLk.link xC_16 (by decide) q355 (by decide +kernel)
theorem xl_J10_13_16 : xLk "java/util/ArrayList$Itr" 13 16 1 (tyJ10 1) (TJ10 1).2.2.2 := xLk.link xC_16 (by decide) q353 (by decide +kernel)
theorem xl_J10_17_12 : xLk "java/util/ArrayList$Itr" 17 12 0 (tyJ2 0) false := xLk.up xC_12 (by decide) q158 rfl q159
theorem xl_J10_22_16 : xLk "java/util/ArrayList$Itr" 22 16 2 (tyJ10 2) (TJ10 2).2.2.2 := xLk.link xC_16 (by decide) q354 (by decide +kernel)
theorem xl_J10_25_16 : xLk "java/util/ArrayList$Itr" 25 16 0 (tyJ10 0) (TJ10 0).2.2.2 := xLk.link xC_16 (by decide) q352 (by decide +kernel)
theorem xl_J10_28_12 : xLk "java/util/ArrayList$Itr" 28 12 2 (tyJ2 2) false := xLk.nest xC_12 (by decide) q153 rfl
theorem xl_J10_37_12 : xLk "java/util/ArrayList$Itr" 37 12 1 (tyJ2 1) (TJ2 1).2.2.2 := xLk.link xC_12 (by decide) q152 (by decide +kernel)
theorem xc_X2_26 : xLc "PayMatch$Book" 26 [4, 5, 6, 7] := by
  refine ⟨_, q851, ?_⟩
  intro ci hci
  simp only [List.mem_cons, List.not_mem_nil, or_false] at hci
  rcases hci with rfl | rfl | rfl | rfl
  · exact ⟨_, rfl, Or.inr q856⟩
  · exact ⟨_, rfl, Or.inr q938⟩
  · exact ⟨_, rfl, Or.inr q997⟩
  · exact ⟨_, rfl, Or.inr q1039⟩
theorem xn_X7_4 : xLn "PayMatch$Supplier" 4 7 [.int 0, .double 0, .double 0, .int 0, .int 0, .int 0, .int 0, .int 0, .int 0] := ⟨_, _, _, _, xC_7, q1049, q1050, q108, rfl, by decide +kernel⟩
theorem xl_X7_14_7 : xLk "PayMatch$Supplier" 14 7 0 (tyX7 0) (TX7 0).2.2.2 := xLk.link xC_7 (by decide) q1055 (by decide +kernel)
theorem xl_X7_18_7 : xLk "PayMatch$Supplier" 18 7 1 (tyX7 1) (TX7 1).2.2.2 := xLk.link xC_7 (by decide) q1056 (by decide +kernel)
theorem xl_X7_22_7 : xLk "PayMatch$Supplier" 22 7 2 (tyX7 2) (TX7 2).2.2.2 := xLk.link xC_7 (by decide) q1058 (by decide +kernel)
theorem xl_X7_25_7 : xLk "PayMatch$Supplier" 25 7 3 (tyX7 3) (TX7 3).2.2.2 := xLk.link xC_7 (by decide) q1060 (by decide +kernel)
theorem xl_X7_28_7 : xLk "PayMatch$Supplier" 28 7 4 (tyX7 4) (TX7 4).2.2.2 := xLk.link xC_7 (by decide) q1062 (by decide +kernel)
theorem xl_X7_31_7 : xLk "PayMatch$Supplier" 31 7 5 (tyX7 5) (TX7 5).2.2.2 := xLk.link xC_7 (by decide) q1065 (by decide +kernel)
theorem xl_X7_34_7 : xLk "PayMatch$Supplier" 34 7 6 (tyX7 6) (TX7 6).2.2.2 := xLk.link xC_7 (by decide) q1068 (by decide +kernel)
theorem xl_X7_37_7 : xLk "PayMatch$Supplier" 37 7 7 (tyX7 7) (TX7 7).2.2.2 := xLk.link xC_7 (by decide) q1071 (by decide +kernel)
theorem xl_X7_40_7 : xLk "PayMatch$Supplier" 40 7 8 (tyX7 8) (TX7 8).2.2.2 := xLk.link xC_7 (by decide) q1074 (by decide +kernel)
theorem xl_J2_63_12 : xLk "java/util/ArrayList" 63 12 0 (tyJ2 0) false := xLk.up xC_12 (by decide) q162 rfl q159
theorem xn_X6_13 : xLn "PayMatch$Order" 13 6 [.int 0, .int 0, .null, .int 0, .int 0] := ⟨_, _, _, _, xC_6, q1007, q1008, q107, rfl, by decide +kernel⟩
theorem xl_X6_22_6 : xLk "PayMatch$Order" 22 6 0 (tyX6 0) (TX6 0).2.2.2 := xLk.link xC_6 (by decide) q1015 (by decide +kernel)
theorem xl_X6_25_6 : xLk "PayMatch$Order" 25 6 1 (tyX6 1) (TX6 1).2.2.2 := xLk.link xC_6 (by decide) q1016 (by decide +kernel)
theorem xn_X6_9 : xLn "PayMatch$Order" 9 2 [.null] := ⟨_, _, _, _, xC_2, q1013, q132, q76, rfl, by decide +kernel⟩
theorem xl_X6_12_6 : xLk "PayMatch$Order" 12 6 2 (tyX6 2) (TX6 2).2.2.2 := xLk.link xC_6 (by decide) q1019 (by decide +kernel)
theorem xl_X6_18_6 : xLk "PayMatch$Order" 18 6 3 (tyX6 3) (TX6 3).2.2.2 := xLk.link xC_6 (by decide) q1022 (by decide +kernel)
theorem xn_X5_8 : xLn "PayMatch$Line" 8 5 [.int 0, .int 0, .int 0, .int 0, .int 0, .int 0, .int 0, .int 0, .int 0] := ⟨_, _, _, _, xC_5, q948, q949, q106, rfl, by decide +kernel⟩
theorem xl_X5_7_5 : xLk "PayMatch$Line" 7 5 0 (tyX5 0) (TX5 0).2.2.2 := xLk.link xC_5 (by decide) q954 (by decide +kernel)
theorem xl_X5_13_5 : xLk "PayMatch$Line" 13 5 1 (tyX5 1) (TX5 1).2.2.2 := xLk.link xC_5 (by decide) q955 (by decide +kernel)
theorem xl_X5_16_5 : xLk "PayMatch$Line" 16 5 2 (tyX5 2) (TX5 2).2.2.2 := xLk.link xC_5 (by decide) q957 (by decide +kernel)
theorem xl_X5_19_5 : xLk "PayMatch$Line" 19 5 3 (tyX5 3) (TX5 3).2.2.2 := xLk.link xC_5 (by decide) q960 (by decide +kernel)
theorem xl_X5_25_5 : xLk "PayMatch$Line" 25 5 4 (tyX5 4) (TX5 4).2.2.2 := xLk.link xC_5 (by decide) q964 (by decide +kernel)
theorem xl_X5_28_5 : xLk "PayMatch$Line" 28 5 5 (tyX5 5) (TX5 5).2.2.2 := xLk.link xC_5 (by decide) q967 (by decide +kernel)
theorem xl_X5_31_5 : xLk "PayMatch$Line" 31 5 6 (tyX5 6) (TX5 6).2.2.2 := xLk.link xC_5 (by decide) q970 (by decide +kernel)
theorem xl_X5_34_5 : xLk "PayMatch$Line" 34 5 7 (tyX5 7) (TX5 7).2.2.2 := xLk.link xC_5 (by decide) q973 (by decide +kernel)
theorem xl_X5_37_5 : xLk "PayMatch$Line" 37 5 8 (tyX5 8) (TX5 8).2.2.2 := xLk.link xC_5 (by decide) q976 (by decide +kernel)
theorem xl_X6_35_6 : xLk "PayMatch$Order" 35 6 4 (tyX6 4) (TX6 4).2.2.2 := xLk.link xC_6 (by decide) q1025 (by decide +kernel)
theorem xl_X4_39_4 : xLk "PayMatch$Invoice" 39 4 4 (tyX4 4) (TX4 4).2.2.2 := xLk.link xC_4 (by decide) q886 (by decide +kernel)
theorem xn_X4_10 : xLn "PayMatch$Invoice" 10 4 [.int 0, .int 0, .int 0, .int 0, .null, .int 0, .int 0, .int 0, .int 0, .int 0, .int 0, .int 0, .int 0] := ⟨_, _, _, _, xC_4, q869, q870, q105, rfl, by decide +kernel⟩
theorem xl_X4_27_4 : xLk "PayMatch$Invoice" 27 4 0 (tyX4 0) (TX4 0).2.2.2 := xLk.link xC_4 (by decide) q875 (by decide +kernel)
theorem xl_X4_30_4 : xLk "PayMatch$Invoice" 30 4 1 (tyX4 1) (TX4 1).2.2.2 := xLk.link xC_4 (by decide) q877 (by decide +kernel)
theorem xl_X4_33_4 : xLk "PayMatch$Invoice" 33 4 2 (tyX4 2) (TX4 2).2.2.2 := xLk.link xC_4 (by decide) q880 (by decide +kernel)
theorem xl_X4_36_4 : xLk "PayMatch$Invoice" 36 4 3 (tyX4 3) (TX4 3).2.2.2 := xLk.link xC_4 (by decide) q883 (by decide +kernel)
theorem xl_X4_9_4 : xLk "PayMatch$Invoice" 9 4 5 (tyX4 5) (TX4 5).2.2.2 := xLk.link xC_4 (by decide) q889 (by decide +kernel)
theorem xl_X4_15_4 : xLk "PayMatch$Invoice" 15 4 7 (tyX4 7) (TX4 7).2.2.2 := xLk.link xC_4 (by decide) q895 (by decide +kernel)
theorem xl_X4_18_4 : xLk "PayMatch$Invoice" 18 4 8 (tyX4 8) (TX4 8).2.2.2 := xLk.link xC_4 (by decide) q898 (by decide +kernel)
theorem xl_X4_21_4 : xLk "PayMatch$Invoice" 21 4 9 (tyX4 9) (TX4 9).2.2.2 := xLk.link xC_4 (by decide) q901 (by decide +kernel)
theorem xl_X4_24_4 : xLk "PayMatch$Invoice" 24 4 10 (tyX4 10) (TX4 10).2.2.2 := xLk.link xC_4 (by decide) q904 (by decide +kernel)
theorem xl_X4_54_4 : xLk "PayMatch$Invoice" 54 4 6 (tyX4 6) (TX4 6).2.2.2 := xLk.link xC_4 (by decide) q892 (by decide +kernel)
theorem xl_X4_57_4 : xLk "PayMatch$Invoice" 57 4 11 (tyX4 11) (TX4 11).2.2.2 := xLk.link xC_4 (by decide) q907 (by decide +kernel)
theorem xl_X4_61_4 : xLk "PayMatch$Invoice" 61 4 12 (tyX4 12) (TX4 12).2.2.2 := xLk.link xC_4 (by decide) q909 (by decide +kernel)
theorem xn_J4_150 : xLn "java/util/LinkedList" 150 17 [.null, .null, .int 0, .int 0, .null] := ⟨_, _, _, _, xC_17, q411, q412, q93, rfl, by decide +kernel⟩
theorem xl_J13_1_17 : xLk "java/util/LinkedList$ListItr" 1 17 4 (tyJ13 4) (TJ13 4).2.2.2 := xLk.link xC_17 (by decide) q425 (by decide +kernel)
theorem xl_J13_13_13 : xLk "java/util/LinkedList$ListItr" 13 13 0 (tyJ4 0) false := xLk.up xC_13 (by decide) q156 rfl q157
theorem xl_J13_19_17 : xLk "java/util/LinkedList$ListItr" 19 17 3 (tyJ13 3) (TJ13 3).2.2.2 := xLk.link xC_17 (by decide) q424 (by decide +kernel)
theorem xl_J13_22_13 : xLk "java/util/LinkedList$ListItr" 22 13 1 (tyJ4 1) (TJ4 1).2.2.2 := xLk.link xC_13 (by decide) q184 (by decide +kernel)
theorem xl_J13_29_17 : xLk "java/util/LinkedList$ListItr" 29 17 1 (tyJ13 1) (TJ13 1).2.2.2 := xLk.link xC_17 (by decide) q422 (by decide +kernel)
theorem xl_J13_33_17 : xLk "java/util/LinkedList$ListItr" 33 17 2 (tyJ13 2) (TJ13 2).2.2.2 := xLk.link xC_17 (by decide) q423 (by decide +kernel)
theorem xl_J4_18_13 : xLk "java/util/LinkedList" 18 13 2 (tyJ4 2) (TJ4 2).2.2.2 := xLk.link xC_13 (by decide) q185 (by decide +kernel)
theorem xl_J4_36_18 : xLk "java/util/LinkedList" 36 18 1 (tyJ24 1) (TJ24 1).2.2.2 := xLk.link xC_18 (by decide) q1153 (by decide +kernel)
theorem xl_J4_27_13 : xLk "java/util/LinkedList" 27 13 3 (tyJ4 3) (TJ4 3).2.2.2 := xLk.link xC_13 (by decide) q186 (by decide +kernel)
theorem xl_J4_30_18 : xLk "java/util/LinkedList" 30 18 2 (tyJ24 2) (TJ24 2).2.2.2 := xLk.link xC_18 (by decide) q1155 (by decide +kernel)
theorem xl_J13_46_17 : xLk "java/util/LinkedList$ListItr" 46 17 0 (tyJ13 0) (TJ13 0).2.2.2 := xLk.link xC_17 (by decide) q421 (by decide +kernel)
theorem xl_J13_49_18 : xLk "java/util/LinkedList$ListItr" 49 18 1 (tyJ24 1) (TJ24 1).2.2.2 := xLk.link xC_18 (by decide) q1152 (by decide +kernel)
theorem xl_J13_52_18 : xLk "java/util/LinkedList$ListItr" 52 18 0 (tyJ24 0) (TJ24 0).2.2.2 := xLk.link xC_18 (by decide) q1149 (by decide +kernel)
theorem xc_X1_63 : xLc "PayMatch$State" 63 [8] := by
  refine ⟨_, q1171, ?_⟩
  intro ci hci
  simp only [List.mem_cons, List.not_mem_nil, or_false] at hci
  rcases hci with rfl
  · exact ⟨_, rfl, Or.inl rfl⟩
theorem xn_J4_22 : xLn "java/util/LinkedList" 22 18 [.null, .null, .null] := ⟨_, _, _, _, xC_18, q1142, q1143, q109, rfl, by decide +kernel⟩
theorem xl_J24_7_18 : xLk "java/util/LinkedList$Node" 7 18 0 (tyJ24 0) (TJ24 0).2.2.2 := xLk.link xC_18 (by decide) q1148 (by decide +kernel)
theorem xl_J24_13_18 : xLk "java/util/LinkedList$Node" 13 18 1 (tyJ24 1) (TJ24 1).2.2.2 := xLk.link xC_18 (by decide) q1151 (by decide +kernel)
theorem xl_J24_17_18 : xLk "java/util/LinkedList$Node" 17 18 2 (tyJ24 2) (TJ24 2).2.2.2 := xLk.link xC_18 (by decide) q1154 (by decide +kernel)
theorem xl_J4_33_13 : xLk "java/util/LinkedList" 33 13 0 (tyJ4 0) false := xLk.up xC_13 (by decide) q161 rfl q157
theorem xl_X1_69_1 : xLk "PayMatch$State" 69 1 7 (tyX1 7) (TX1 7).2.2.2 := xLk.link xC_1 (by decide) q210 (by decide +kernel)
theorem xl_X1_72_1 : xLk "PayMatch$State" 72 1 8 (tyX1 8) (TX1 8).2.2.2 := xLk.link xC_1 (by decide) q212 (by decide +kernel)
theorem xn_X0_71 : xLn "PayMatch" 71 7 [.int 0, .double 0, .double 0, .int 0, .int 0, .int 0, .int 0, .int 0, .int 0] := ⟨_, _, _, _, xC_7, q1176, q1050, q108, rfl, by decide +kernel⟩
theorem xl_J5_20_14 : xLk "java/util/ArrayDeque" 20 14 2 (tyJ5 2) (TJ5 2).2.2.2 := xLk.link xC_14 (by decide) q245 (by decide +kernel)
theorem xl_J5_24_14 : xLk "java/util/ArrayDeque" 24 14 1 (tyJ5 1) (TJ5 1).2.2.2 := xLk.link xC_14 (by decide) q244 (by decide +kernel)
theorem xl_X3_1_3 : xLk "PayMatchModel" 1 3 0 (tyX3 0) (TX3 0).2.2.2 := xLk.link xC_3 (by decide) q1975 (by decide +kernel)
theorem xl_X3_71_3 : xLk "PayMatchModel" 71 3 6 (tyX3 6) (TX3 6).2.2.2 := xLk.link xC_3 (by decide) q1981 (by decide +kernel)
theorem xc_X0_71 : xLc "PayMatch" 71 [7] := by
  refine ⟨_, q1176, ?_⟩
  intro ci hci
  simp only [List.mem_cons, List.not_mem_nil, or_false] at hci
  rcases hci with rfl
  · exact ⟨_, rfl, Or.inl rfl⟩
theorem xl_X0_100_7 : xLk "PayMatch" 100 7 2 (tyX7 2) false := xLk.nest xC_7 (by decide) q1059 rfl
theorem xl_X0_104_7 : xLk "PayMatch" 104 7 1 (tyX7 1) false := xLk.nest xC_7 (by decide) q1057 rfl
theorem xl_X0_107_7 : xLk "PayMatch" 107 7 3 (tyX7 3) false := xLk.nest xC_7 (by decide) q1061 rfl
theorem xl_X0_111_7 : xLk "PayMatch" 111 7 8 (tyX7 8) false := xLk.nest xC_7 (by decide) q1075 rfl
theorem xc_X1_109 : xLc "PayMatch$State" 109 [4] := by
  refine ⟨_, q1280, ?_⟩
  intro ci hci
  simp only [List.mem_cons, List.not_mem_nil, or_false] at hci
  rcases hci with rfl
  · exact ⟨_, rfl, Or.inl rfl⟩
theorem xl_X1_108_4 : xLg "PayMatch$State" 108 4 2 := xLg.nest xC_4 (by decide) q881
theorem xc_X1_92 : xLc "PayMatch$State" 92 [6] := by
  refine ⟨_, q1282, ?_⟩
  intro ci hci
  simp only [List.mem_cons, List.not_mem_nil, or_false] at hci
  rcases hci with rfl
  · exact ⟨_, rfl, Or.inl rfl⟩
theorem xl_X1_94_6 : xLg "PayMatch$State" 94 6 1 := xLg.nest xC_6 (by decide) q1017
theorem xl_X1_168_4 : xLk "PayMatch$State" 168 4 5 (tyX4 5) false := xLk.nest xC_4 (by decide) q890 rfl
theorem xl_X0_121_1 : xLk "PayMatch" 121 1 4 (tyX1 4) false := xLk.nest xC_1 (by decide) q205 rfl
theorem xl_X0_124_1 : xLk "PayMatch" 124 1 6 (tyX1 6) false := xLk.nest xC_1 (by decide) q209 rfl
theorem xl_X0_127_1 : xLk "PayMatch" 127 1 5 (tyX1 5) false := xLk.nest xC_1 (by decide) q207 rfl
theorem xl_X0_130_1 : xLk "PayMatch" 130 1 1 (tyX1 1) false := xLk.nest xC_1 (by decide) q199 rfl
theorem xn_X0_133 : xLn "PayMatch" 133 6 [.int 0, .int 0, .null, .int 0, .int 0] := ⟨_, _, _, _, xC_6, q1296, q1008, q107, rfl, by decide +kernel⟩
theorem xc_X0_133 : xLc "PayMatch" 133 [6] := by
  refine ⟨_, q1296, ?_⟩
  intro ci hci
  simp only [List.mem_cons, List.not_mem_nil, or_false] at hci
  rcases hci with rfl
  · exact ⟨_, rfl, Or.inl rfl⟩
theorem xl_X0_138_6 : xLk "PayMatch" 138 6 3 (tyX6 3) false := xLk.nest xC_6 (by decide) q1023 rfl
theorem xl_X0_150_6 : xLk "PayMatch" 150 6 2 (tyX6 2) false := xLk.nest xC_6 (by decide) q1021 rfl
theorem xn_X0_153 : xLn "PayMatch" 153 5 [.int 0, .int 0, .int 0, .int 0, .int 0, .int 0, .int 0, .int 0, .int 0] := ⟨_, _, _, _, xC_5, q1312, q949, q106, rfl, by decide +kernel⟩
theorem xl_X1_103_6 : xLk "PayMatch$State" 103 6 2 (tyX6 2) false := xLk.nest xC_6 (by decide) q1020 rfl
theorem xc_X1_106 : xLc "PayMatch$State" 106 [5] := by
  refine ⟨_, q1327, ?_⟩
  intro ci hci
  simp only [List.mem_cons, List.not_mem_nil, or_false] at hci
  rcases hci with rfl
  · exact ⟨_, rfl, Or.inl rfl⟩
theorem xl_X0_166_5 : xLk "PayMatch" 166 5 4 (tyX5 4) false := xLk.nest xC_5 (by decide) q966 rfl
theorem xl_X0_169_5 : xLk "PayMatch" 169 5 6 (tyX5 6) false := xLk.nest xC_5 (by decide) q972 rfl
theorem xl_X0_172_5 : xLk "PayMatch" 172 5 2 (tyX5 2) false := xLk.nest xC_5 (by decide) q958 rfl
theorem xl_X0_175_5 : xLk "PayMatch" 175 5 3 (tyX5 3) false := xLk.nest xC_5 (by decide) q962 rfl
theorem xl_X0_178_6 : xLk "PayMatch" 178 6 4 (tyX6 4) false := xLk.nest xC_6 (by decide) q1026 rfl
theorem xc_X8_17 : xLc "PayMatch$Paper" 17 [4, 5, 6, 7] := by
  refine ⟨_, q1381, ?_⟩
  intro ci hci
  simp only [List.mem_cons, List.not_mem_nil, or_false] at hci
  rcases hci with rfl | rfl | rfl | rfl
  · exact ⟨_, rfl, Or.inr q856⟩
  · exact ⟨_, rfl, Or.inr q938⟩
  · exact ⟨_, rfl, Or.inr q997⟩
  · exact ⟨_, rfl, Or.inr q1039⟩
theorem xc_X6_58 : xLc "PayMatch$Order" 58 [5] := by
  refine ⟨_, q1421, ?_⟩
  intro ci hci
  simp only [List.mem_cons, List.not_mem_nil, or_false] at hci
  rcases hci with rfl
  · exact ⟨_, rfl, Or.inl rfl⟩
theorem xc_X1_97 : xLc "PayMatch$State" 97 [7] := by
  refine ⟨_, q1438, ?_⟩
  intro ci hci
  simp only [List.mem_cons, List.not_mem_nil, or_false] at hci
  rcases hci with rfl
  · exact ⟨_, rfl, Or.inl rfl⟩
theorem xl_X1_121_5 : xLk "PayMatch$State" 121 5 4 (tyX5 4) false := xLk.nest xC_5 (by decide) q965 rfl
theorem xl_X1_124_5 : xLk "PayMatch$State" 124 5 5 (tyX5 5) false := xLk.nest xC_5 (by decide) q968 rfl
theorem xn_X1_63 : xLn "PayMatch$State" 63 8 [.int 0, .int 0, .int 0, .int 0] := ⟨_, _, _, _, xC_8, q1171, q1453, q112, rfl, by decide +kernel⟩
theorem xl_X9_7_8 : xLk "PayMatch$Event" 7 8 0 (tyX9 0) (TX9 0).2.2.2 := xLk.link xC_8 (by decide) q1458 (by decide +kernel)
theorem xl_X9_13_8 : xLk "PayMatch$Event" 13 8 1 (tyX9 1) (TX9 1).2.2.2 := xLk.link xC_8 (by decide) q1459 (by decide +kernel)
theorem xl_X9_16_8 : xLk "PayMatch$Event" 16 8 2 (tyX9 2) (TX9 2).2.2.2 := xLk.link xC_8 (by decide) q1460 (by decide +kernel)
theorem xl_X9_19_8 : xLk "PayMatch$Event" 19 8 3 (tyX9 3) (TX9 3).2.2.2 := xLk.link xC_8 (by decide) q1461 (by decide +kernel)
theorem xl_J4_39_18 : xLk "java/util/LinkedList" 39 18 0 (tyJ24 0) (TJ24 0).2.2.2 := xLk.link xC_18 (by decide) q1150 (by decide +kernel)
theorem xl_X1_145_7 : xLk "PayMatch$State" 145 7 4 (tyX7 4) false := xLk.nest xC_7 (by decide) q1063 rfl
theorem xn_X0_218 : xLn "PayMatch" 218 9 [.int 0, .int 0, .int 0] := ⟨_, _, _, _, xC_9, q1510, q1511, q113, rfl, by decide +kernel⟩
theorem xl_X10_7_9 : xLk "PayMatch$Entry" 7 9 0 (tyX10 0) (TX10 0).2.2.2 := xLk.link xC_9 (by decide) q1516 (by decide +kernel)
theorem xl_X10_13_9 : xLk "PayMatch$Entry" 13 9 1 (tyX10 1) (TX10 1).2.2.2 := xLk.link xC_9 (by decide) q1519 (by decide +kernel)
theorem xl_X10_16_9 : xLk "PayMatch$Entry" 16 9 2 (tyX10 2) (TX10 2).2.2.2 := xLk.link xC_9 (by decide) q1522 (by decide +kernel)
theorem xl_X0_211_1 : xLk "PayMatch" 211 1 2 (tyX1 2) false := xLk.nest xC_1 (by decide) q201 rfl
theorem xn_X1_109 : xLn "PayMatch$State" 109 4 [.int 0, .int 0, .int 0, .int 0, .null, .int 0, .int 0, .int 0, .int 0, .int 0, .int 0, .int 0, .int 0] := ⟨_, _, _, _, xC_4, q1280, q870, q105, rfl, by decide +kernel⟩
theorem xl_X1_159_4 : xLg "PayMatch$State" 159 4 0 := xLg.nest xC_4 (by decide) q876
theorem xn_X0_230 : xLn "PayMatch" 230 10 [.null, .null, .int 0, .int 0, .int 0] := ⟨_, _, _, _, xC_10, q1556, q1557, q114, rfl, by decide +kernel⟩
theorem xn_X11_7 : xLn "PayMatch$Reader" 7 12 [.int 0, .null, .int 0] := ⟨_, _, _, _, xC_12, q1562, q138, q79, rfl, by decide +kernel⟩
theorem xl_X11_10_10 : xLk "PayMatch$Reader" 10 10 1 (tyX11 1) (TX11 1).2.2.2 := xLk.link xC_10 (by decide) q1565 (by decide +kernel)
theorem xl_X11_16_10 : xLk "PayMatch$Reader" 16 10 0 (tyX11 0) (TX11 0).2.2.2 := xLk.link xC_10 (by decide) q1564 (by decide +kernel)
theorem xl_X11_20_10 : xLk "PayMatch$Reader" 20 10 4 (tyX11 4) (TX11 4).2.2.2 := xLk.link xC_10 (by decide) q1570 (by decide +kernel)
theorem xl_J6_79_15 : xLk "java/lang/AbstractStringBuilder" 79 15 3 (tyJ7 3) (TJ7 3).2.2.2 := xLk.link xC_15 (by decide) q275 (by decide +kernel)
theorem xl_X11_68_10 : xLk "PayMatch$Reader" 68 10 2 (tyX11 2) (TX11 2).2.2.2 := xLk.link xC_10 (by decide) q1566 (by decide +kernel)
theorem xl_X11_71_10 : xLk "PayMatch$Reader" 71 10 3 (tyX11 3) (TX11 3).2.2.2 := xLk.link xC_10 (by decide) q1568 (by decide +kernel)
theorem xn_X11_57 : xLn "PayMatch$Reader" 57 9 [.int 0, .int 0, .int 0] := ⟨_, _, _, _, xC_9, q1675, q1511, q113, rfl, by decide +kernel⟩
theorem xl_X0_258_11 : xLg "PayMatch" 258 11 0 := xLg.nest xC_11 (by decide) q1662
theorem xc_X11_57 : xLc "PayMatch$Reader" 57 [9] := by
  refine ⟨_, q1675, ?_⟩
  intro ci hci
  simp only [List.mem_cons, List.not_mem_nil, or_false] at hci
  rcases hci with rfl
  · exact ⟨_, rfl, Or.inl rfl⟩
theorem xl_X0_242_10 : xLk "PayMatch" 242 10 3 (tyX11 3) false := xLk.nest xC_10 (by decide) q1569 rfl
theorem xl_X0_224_9 : xLg "PayMatch" 224 9 0 := xLg.nest xC_9 (by decide) q1518
theorem xl_X0_226_9 : xLg "PayMatch" 226 9 1 := xLg.nest xC_9 (by decide) q1521
theorem xl_X0_229_9 : xLg "PayMatch" 229 9 2 := xLg.nest xC_9 (by decide) q1524
theorem xl_X0_253_10 : xLk "PayMatch" 253 10 2 (tyX11 2) false := xLk.nest xC_10 (by decide) q1567 rfl
theorem xl_X3_201_3 : xLk "PayMatchModel" 201 3 9 (tyX3 9) (TX3 9).2.2.2 := xLk.link xC_3 (by decide) q1984 (by decide +kernel)
theorem xl_X3_204_3 : xLk "PayMatchModel" 204 3 10 (tyX3 10) (TX3 10).2.2.2 := xLk.link xC_3 (by decide) q1985 (by decide +kernel)
theorem xl_X3_198_3 : xLk "PayMatchModel" 198 3 8 (tyX3 8) (TX3 8).2.2.2 := xLk.link xC_3 (by decide) q1983 (by decide +kernel)
theorem xc_X0_261 : xLc "PayMatch" 261 [4] := by
  refine ⟨_, q1698, ?_⟩
  intro ci hci
  simp only [List.mem_cons, List.not_mem_nil, or_false] at hci
  rcases hci with rfl
  · exact ⟨_, rfl, Or.inl rfl⟩
theorem xl_X0_266_4 : xLk "PayMatch" 266 4 5 (tyX4 5) false := xLk.nest xC_4 (by decide) q891 rfl
theorem xl_X0_267_4 : xLk "PayMatch" 267 4 6 (tyX4 6) false := xLk.nest xC_4 (by decide) q894 rfl
theorem xl_X1_181_7 : xLk "PayMatch$State" 181 7 8 (tyX7 8) false := xLk.nest xC_7 (by decide) q1076 rfl
theorem xl_X1_165_4 : xLg "PayMatch$State" 165 4 1 := xLg.nest xC_4 (by decide) q878
theorem xl_X1_189_6 : xLk "PayMatch$State" 189 6 3 (tyX6 3) false := xLk.nest xC_6 (by decide) q1024 rfl
theorem xl_X1_190_4 : xLk "PayMatch$State" 190 4 4 (tyX4 4) false := xLk.nest xC_4 (by decide) q887 rfl
theorem xl_X1_194_9 : xLg "PayMatch$State" 194 9 2 := xLg.nest xC_9 (by decide) q1523
theorem xl_X1_178_9 : xLg "PayMatch$State" 178 9 1 := xLg.nest xC_9 (by decide) q1520
theorem xl_X1_113_9 : xLg "PayMatch$State" 113 9 0 := xLg.nest xC_9 (by decide) q1517
theorem xl_X7_46_5 : xLk "PayMatch$Supplier" 46 5 3 (tyX5 3) false := xLk.nest xC_5 (by decide) q961 rfl
theorem xl_X1_148_5 : xLk "PayMatch$State" 148 5 6 (tyX5 6) false := xLk.nest xC_5 (by decide) q971 rfl
theorem xl_X1_213_4 : xLk "PayMatch$State" 213 4 11 (tyX4 11) false := xLk.nest xC_4 (by decide) q908 rfl
theorem xl_X1_216_4 : xLk "PayMatch$State" 216 4 12 (tyX4 12) false := xLk.nest xC_4 (by decide) q910 rfl
theorem xl_X1_219_4 : xLk "PayMatch$State" 219 4 6 (tyX4 6) false := xLk.nest xC_4 (by decide) q893 rfl
theorem xl_X1_226_5 : xLk "PayMatch$State" 226 5 3 (tyX5 3) false := xLk.nest xC_5 (by decide) q963 rfl
theorem xn_X1_114 : xLn "PayMatch$State" 114 9 [.int 0, .int 0, .int 0] := ⟨_, _, _, _, xC_9, q1754, q1511, q113, rfl, by decide +kernel⟩
theorem xl_X1_241_4 : xLk "PayMatch$State" 241 4 7 (tyX4 7) false := xLk.nest xC_4 (by decide) q896 rfl
theorem xl_X1_243_7 : xLk "PayMatch$State" 243 7 6 (tyX7 6) false := xLk.nest xC_7 (by decide) q1069 rfl
theorem xl_X0_286_4 : xLg "PayMatch" 286 4 2 := xLg.nest xC_4 (by decide) q882
theorem xl_X1_244_4 : xLg "PayMatch$State" 244 4 3 := xLg.nest xC_4 (by decide) q884
theorem xl_X1_247_4 : xLk "PayMatch$State" 247 4 9 (tyX4 9) false := xLk.nest xC_4 (by decide) q902 rfl
theorem xl_X1_249_4 : xLk "PayMatch$State" 249 4 10 (tyX4 10) false := xLk.nest xC_4 (by decide) q905 rfl
theorem xl_X1_250_4 : xLk "PayMatch$State" 250 4 8 (tyX4 8) false := xLk.nest xC_4 (by decide) q899 rfl
theorem xl_X1_253_7 : xLk "PayMatch$State" 253 7 5 (tyX7 5) false := xLk.nest xC_7 (by decide) q1066 rfl
theorem xl_X1_254_7 : xLk "PayMatch$State" 254 7 7 (tyX7 7) false := xLk.nest xC_7 (by decide) q1072 rfl
theorem xl_X1_257_5 : xLk "PayMatch$State" 257 5 7 (tyX5 7) false := xLk.nest xC_5 (by decide) q974 rfl
theorem xl_X0_290_1 : xLk "PayMatch" 290 1 7 (tyX1 7) false := xLk.nest xC_1 (by decide) q211 rfl
theorem xl_J6_73_15 : xLk "java/lang/AbstractStringBuilder" 73 15 2 (tyJ7 2) (TJ7 2).2.2.2 := xLk.link xC_15 (by decide) q273 (by decide +kernel)
theorem xc_X0_19 : xLc "PayMatch" 19 [1] := by
  refine ⟨_, q125, ?_⟩
  intro ci hci
  simp only [List.mem_cons, List.not_mem_nil, or_false] at hci
  rcases hci with rfl
  · exact ⟨_, rfl, Or.inl rfl⟩
theorem xl_X0_312_0 : xLk "PayMatch" 312 0 1 (tyX0 1) (TX0 1).2.2.2 := xLk.link xC_0 (by decide) q287 (by decide +kernel)
theorem xl_X3_228_3 : xLk "PayMatchModel" 228 3 4 (tyX3 4) (TX3 4).2.2.2 := xLk.link xC_3 (by decide) q1979 (by decide +kernel)
theorem xl_X0_327_7 : xLk "PayMatch" 327 7 7 (tyX7 7) false := xLk.nest xC_7 (by decide) q1073 rfl
theorem xl_X0_324_7 : xLk "PayMatch" 324 7 6 (tyX7 6) false := xLk.nest xC_7 (by decide) q1070 rfl
theorem xl_X0_321_7 : xLk "PayMatch" 321 7 5 (tyX7 5) false := xLk.nest xC_7 (by decide) q1067 rfl
theorem xl_X0_315_7 : xLk "PayMatch" 315 7 4 (tyX7 4) false := xLk.nest xC_7 (by decide) q1064 rfl
theorem xl_X0_346_6 : xLg "PayMatch" 346 6 1 := xLg.nest xC_6 (by decide) q1018
theorem xl_X0_361_5 : xLk "PayMatch" 361 5 8 (tyX5 8) false := xLk.nest xC_5 (by decide) q977 rfl
theorem xl_X0_358_5 : xLk "PayMatch" 358 5 7 (tyX5 7) false := xLk.nest xC_5 (by decide) q975 rfl
theorem xl_X0_355_5 : xLk "PayMatch" 355 5 5 (tyX5 5) false := xLk.nest xC_5 (by decide) q969 rfl
theorem xl_X0_352_5 : xLg "PayMatch" 352 5 1 := xLg.nest xC_5 (by decide) q956
theorem xl_X0_382_4 : xLk "PayMatch" 382 4 10 (tyX4 10) false := xLk.nest xC_4 (by decide) q906 rfl
theorem xl_X0_380_4 : xLk "PayMatch" 380 4 9 (tyX4 9) false := xLk.nest xC_4 (by decide) q903 rfl
theorem xl_X0_379_4 : xLk "PayMatch" 379 4 8 (tyX4 8) false := xLk.nest xC_4 (by decide) q900 rfl
theorem xl_X0_378_4 : xLk "PayMatch" 378 4 7 (tyX4 7) false := xLk.nest xC_4 (by decide) q897 rfl
theorem xl_X0_374_4 : xLk "PayMatch" 374 4 4 (tyX4 4) false := xLk.nest xC_4 (by decide) q888 rfl
theorem xl_X0_373_4 : xLg "PayMatch" 373 4 3 := xLg.nest xC_4 (by decide) q885
theorem xl_X0_372_4 : xLg "PayMatch" 372 4 1 := xLg.nest xC_4 (by decide) q879
theorem xn_X0_261 : xLn "PayMatch" 261 4 [.int 0, .int 0, .int 0, .int 0, .null, .int 0, .int 0, .int 0, .int 0, .int 0, .int 0, .int 0, .int 0] := ⟨_, _, _, _, xC_4, q1698, q870, q105, rfl, by decide +kernel⟩
theorem xl_X1_267_5 : xLk "PayMatch$State" 267 5 2 (tyX5 2) false := xLk.nest xC_5 (by decide) q959 rfl
theorem xl_X0_399_1 : xLg "PayMatch" 399 1 3 := xLg.nest xC_1 (by decide) q203
theorem xc_X0_409 : xLc "PayMatch" 409 [8] := by
  refine ⟨_, q1945, ?_⟩
  intro ci hci
  simp only [List.mem_cons, List.not_mem_nil, or_false] at hci
  rcases hci with rfl
  · exact ⟨_, rfl, Or.inl rfl⟩
theorem xl_X0_426_1 : xLk "PayMatch" 426 1 8 (tyX1 8) false := xLk.nest xC_1 (by decide) q213 rfl
theorem xn_L_7 : xLn "PayMatchLaw" 7 0 [.null, .null, .null, .null] := ⟨_, _, _, _, xC_0, q117, q118, q74, rfl, by decide +kernel⟩
theorem xn_L_10 : xLn "PayMatchLaw" 10 3 [.int 0, .null, .null, .null, .int 0, .null, .int 0, .null, .int 0, .int 0, .int 0, .null] := ⟨_, _, _, _, xC_3, q1963, q1964, q87, rfl, by decide +kernel⟩
theorem xd_J21_min : yJ21_min.cls ≠ "java/lang/invoke/MethodHandle" ∧ yJ21_min.cls ≠ "java/lang/invoke/VarHandle" ∧ (parseMethodDescriptor yJ21_min.desc).map (fun d => d.parameters.length) = some 2 := by decide +kernel
theorem xd_J22_copyOf_3 : yJ22_copyOf_3.cls ≠ "java/lang/invoke/MethodHandle" ∧ yJ22_copyOf_3.cls ≠ "java/lang/invoke/VarHandle" ∧ (parseMethodDescriptor yJ22_copyOf_3.desc).map (fun d => d.parameters.length) = some 3 := by decide +kernel
theorem xd_J0_init : yJ0_init.cls ≠ "java/lang/invoke/MethodHandle" ∧ yJ0_init.cls ≠ "java/lang/invoke/VarHandle" ∧ (parseMethodDescriptor yJ0_init.desc).map (fun d => d.parameters.length) = some 0 := by decide +kernel
theorem xd_J1_init : yJ1_init.cls ≠ "java/lang/invoke/MethodHandle" ∧ yJ1_init.cls ≠ "java/lang/invoke/VarHandle" ∧ (parseMethodDescriptor yJ1_init.desc).map (fun d => d.parameters.length) = some 0 := by decide +kernel
theorem xd_J2_init : yJ2_init.cls ≠ "java/lang/invoke/MethodHandle" ∧ yJ2_init.cls ≠ "java/lang/invoke/VarHandle" ∧ (parseMethodDescriptor yJ2_init.desc).map (fun d => d.parameters.length) = some 0 := by decide +kernel
theorem xd_X2_init : yX2_init.cls ≠ "java/lang/invoke/MethodHandle" ∧ yX2_init.cls ≠ "java/lang/invoke/VarHandle" ∧ (parseMethodDescriptor yX2_init.desc).map (fun d => d.parameters.length) = some 0 := by decide +kernel
theorem xd_J3_init : yJ3_init.cls ≠ "java/lang/invoke/MethodHandle" ∧ yJ3_init.cls ≠ "java/lang/invoke/VarHandle" ∧ (parseMethodDescriptor yJ3_init.desc).map (fun d => d.parameters.length) = some 0 := by decide +kernel
theorem xd_J4_init : yJ4_init.cls ≠ "java/lang/invoke/MethodHandle" ∧ yJ4_init.cls ≠ "java/lang/invoke/VarHandle" ∧ (parseMethodDescriptor yJ4_init.desc).map (fun d => d.parameters.length) = some 0 := by decide +kernel
theorem xd_X1_init : yX1_init.cls ≠ "java/lang/invoke/MethodHandle" ∧ yX1_init.cls ≠ "java/lang/invoke/VarHandle" ∧ (parseMethodDescriptor yX1_init.desc).map (fun d => d.parameters.length) = some 0 := by decide +kernel
theorem xd_J5_init : yJ5_init.cls ≠ "java/lang/invoke/MethodHandle" ∧ yJ5_init.cls ≠ "java/lang/invoke/VarHandle" ∧ (parseMethodDescriptor yJ5_init.desc).map (fun d => d.parameters.length) = some 0 := by decide +kernel
theorem xd_J9_newBytesLength : yJ9_newBytesLength.cls ≠ "java/lang/invoke/MethodHandle" ∧ yJ9_newBytesLength.cls ≠ "java/lang/invoke/VarHandle" ∧ (parseMethodDescriptor yJ9_newBytesLength.desc).map (fun d => d.parameters.length) = some 1 := by decide +kernel
theorem xd_J9_newBytesFor : yJ9_newBytesFor.cls ≠ "java/lang/invoke/MethodHandle" ∧ yJ9_newBytesFor.cls ≠ "java/lang/invoke/VarHandle" ∧ (parseMethodDescriptor yJ9_newBytesFor.desc).map (fun d => d.parameters.length) = some 1 := by decide +kernel
theorem xd_J6_init : yJ6_init.cls ≠ "java/lang/invoke/MethodHandle" ∧ yJ6_init.cls ≠ "java/lang/invoke/VarHandle" ∧ (parseMethodDescriptor yJ6_init.desc).map (fun d => d.parameters.length) = some 1 := by decide +kernel
theorem xd_J7_init : yJ7_init.cls ≠ "java/lang/invoke/MethodHandle" ∧ yJ7_init.cls ≠ "java/lang/invoke/VarHandle" ∧ (parseMethodDescriptor yJ7_init.desc).map (fun d => d.parameters.length) = some 1 := by decide +kernel
theorem xdi_0 : ("java/util/List" : String) ≠ "java/lang/invoke/MethodHandle" ∧ ("java/util/List" : String) ≠ "java/lang/invoke/VarHandle" ∧ (parseMethodDescriptor "()I").map (fun d => d.parameters.length) = some 0 := by decide +kernel
theorem xd_X2_size : yX2_size.cls ≠ "java/lang/invoke/MethodHandle" ∧ yX2_size.cls ≠ "java/lang/invoke/VarHandle" ∧ (parseMethodDescriptor yX2_size.desc).map (fun d => d.parameters.length) = some 0 := by decide +kernel
theorem xd_J10_init : yJ10_init.cls ≠ "java/lang/invoke/MethodHandle" ∧ yJ10_init.cls ≠ "java/lang/invoke/VarHandle" ∧ (parseMethodDescriptor yJ10_init.desc).map (fun d => d.parameters.length) = some 1 := by decide +kernel
theorem xdi_2 : ("java/util/List" : String) ≠ "java/lang/invoke/MethodHandle" ∧ ("java/util/List" : String) ≠ "java/lang/invoke/VarHandle" ∧ (parseMethodDescriptor "()Ljava/util/Iterator;").map (fun d => d.parameters.length) = some 0 := by decide +kernel
theorem xdi_4 : ("java/util/Iterator" : String) ≠ "java/lang/invoke/MethodHandle" ∧ ("java/util/Iterator" : String) ≠ "java/lang/invoke/VarHandle" ∧ (parseMethodDescriptor "()Z").map (fun d => d.parameters.length) = some 0 := by decide +kernel
theorem xd_J10_checkForComodification : yJ10_checkForComodification.cls ≠ "java/lang/invoke/MethodHandle" ∧ yJ10_checkForComodification.cls ≠ "java/lang/invoke/VarHandle" ∧ (parseMethodDescriptor yJ10_checkForComodification.desc).map (fun d => d.parameters.length) = some 0 := by decide +kernel
theorem xdi_6 : ("java/util/Iterator" : String) ≠ "java/lang/invoke/MethodHandle" ∧ ("java/util/Iterator" : String) ≠ "java/lang/invoke/VarHandle" ∧ (parseMethodDescriptor "()Ljava/lang/Object;").map (fun d => d.parameters.length) = some 0 := by decide +kernel
theorem xd_X7_init : yX7_init.cls ≠ "java/lang/invoke/MethodHandle" ∧ yX7_init.cls ≠ "java/lang/invoke/VarHandle" ∧ (parseMethodDescriptor yX7_init.desc).map (fun d => d.parameters.length) = some 4 := by decide +kernel
theorem xd_X7_copy_2 : yX7_copy_2.cls ≠ "java/lang/invoke/MethodHandle" ∧ yX7_copy_2.cls ≠ "java/lang/invoke/VarHandle" ∧ (parseMethodDescriptor yX7_copy_2.desc).map (fun d => d.parameters.length) = some 0 := by decide +kernel
theorem xdi_11 : ("PayMatch$Paper" : String) ≠ "java/lang/invoke/MethodHandle" ∧ ("PayMatch$Paper" : String) ≠ "java/lang/invoke/VarHandle" ∧ (parseMethodDescriptor "()LPayMatch$Paper;").map (fun d => d.parameters.length) = some 0 := by decide +kernel
theorem xd_J21_max : yJ21_max.cls ≠ "java/lang/invoke/MethodHandle" ∧ yJ21_max.cls ≠ "java/lang/invoke/VarHandle" ∧ (parseMethodDescriptor yJ21_max.desc).map (fun d => d.parameters.length) = some 2 := by decide +kernel
theorem xd_J20_newLength : yJ20_newLength.cls ≠ "java/lang/invoke/MethodHandle" ∧ yJ20_newLength.cls ≠ "java/lang/invoke/VarHandle" ∧ (parseMethodDescriptor yJ20_newLength.desc).map (fun d => d.parameters.length) = some 3 := by decide +kernel
theorem xd_J22_copyOf_2 : yJ22_copyOf_2.cls ≠ "java/lang/invoke/MethodHandle" ∧ yJ22_copyOf_2.cls ≠ "java/lang/invoke/VarHandle" ∧ (parseMethodDescriptor yJ22_copyOf_2.desc).map (fun d => d.parameters.length) = some 2 := by decide +kernel
theorem xd_J2_grow_2 : yJ2_grow_2.cls ≠ "java/lang/invoke/MethodHandle" ∧ yJ2_grow_2.cls ≠ "java/lang/invoke/VarHandle" ∧ (parseMethodDescriptor yJ2_grow_2.desc).map (fun d => d.parameters.length) = some 1 := by decide +kernel
theorem xd_J2_grow : yJ2_grow.cls ≠ "java/lang/invoke/MethodHandle" ∧ yJ2_grow.cls ≠ "java/lang/invoke/VarHandle" ∧ (parseMethodDescriptor yJ2_grow.desc).map (fun d => d.parameters.length) = some 0 := by decide +kernel
theorem xd_J2_add_2 : yJ2_add_2.cls ≠ "java/lang/invoke/MethodHandle" ∧ yJ2_add_2.cls ≠ "java/lang/invoke/VarHandle" ∧ (parseMethodDescriptor yJ2_add_2.desc).map (fun d => d.parameters.length) = some 3 := by decide +kernel
theorem xdi_12 : ("java/util/List" : String) ≠ "java/lang/invoke/MethodHandle" ∧ ("java/util/List" : String) ≠ "java/lang/invoke/VarHandle" ∧ (parseMethodDescriptor "(Ljava/lang/Object;)Z").map (fun d => d.parameters.length) = some 1 := by decide +kernel
theorem xd_X2_add : yX2_add.cls ≠ "java/lang/invoke/MethodHandle" ∧ yX2_add.cls ≠ "java/lang/invoke/VarHandle" ∧ (parseMethodDescriptor yX2_add.desc).map (fun d => d.parameters.length) = some 1 := by decide +kernel
theorem xd_X2_copy : yX2_copy.cls ≠ "java/lang/invoke/MethodHandle" ∧ yX2_copy.cls ≠ "java/lang/invoke/VarHandle" ∧ (parseMethodDescriptor yX2_copy.desc).map (fun d => d.parameters.length) = some 0 := by decide +kernel
theorem xd_X6_init : yX6_init.cls ≠ "java/lang/invoke/MethodHandle" ∧ yX6_init.cls ≠ "java/lang/invoke/VarHandle" ∧ (parseMethodDescriptor yX6_init.desc).map (fun d => d.parameters.length) = some 2 := by decide +kernel
theorem xd_X5_init : yX5_init.cls ≠ "java/lang/invoke/MethodHandle" ∧ yX5_init.cls ≠ "java/lang/invoke/VarHandle" ∧ (parseMethodDescriptor yX5_init.desc).map (fun d => d.parameters.length) = some 4 := by decide +kernel
theorem xd_X5_copy_2 : yX5_copy_2.cls ≠ "java/lang/invoke/MethodHandle" ∧ yX5_copy_2.cls ≠ "java/lang/invoke/VarHandle" ∧ (parseMethodDescriptor yX5_copy_2.desc).map (fun d => d.parameters.length) = some 0 := by decide +kernel
theorem xdi_9 : ("PayMatch$Paper" : String) ≠ "java/lang/invoke/MethodHandle" ∧ ("PayMatch$Paper" : String) ≠ "java/lang/invoke/VarHandle" ∧ (parseMethodDescriptor "()LPayMatch$Paper;").map (fun d => d.parameters.length) = some 0 := by decide +kernel
theorem xd_X6_copy_2 : yX6_copy_2.cls ≠ "java/lang/invoke/MethodHandle" ∧ yX6_copy_2.cls ≠ "java/lang/invoke/VarHandle" ∧ (parseMethodDescriptor yX6_copy_2.desc).map (fun d => d.parameters.length) = some 0 := by decide +kernel
theorem xdi_10 : ("PayMatch$Paper" : String) ≠ "java/lang/invoke/MethodHandle" ∧ ("PayMatch$Paper" : String) ≠ "java/lang/invoke/VarHandle" ∧ (parseMethodDescriptor "()LPayMatch$Paper;").map (fun d => d.parameters.length) = some 0 := by decide +kernel
theorem xd_X4_init : yX4_init.cls ≠ "java/lang/invoke/MethodHandle" ∧ yX4_init.cls ≠ "java/lang/invoke/VarHandle" ∧ (parseMethodDescriptor yX4_init.desc).map (fun d => d.parameters.length) = some 5 := by decide +kernel
theorem xd_X4_copy_2 : yX4_copy_2.cls ≠ "java/lang/invoke/MethodHandle" ∧ yX4_copy_2.cls ≠ "java/lang/invoke/VarHandle" ∧ (parseMethodDescriptor yX4_copy_2.desc).map (fun d => d.parameters.length) = some 0 := by decide +kernel
theorem xdi_8 : ("PayMatch$Paper" : String) ≠ "java/lang/invoke/MethodHandle" ∧ ("PayMatch$Paper" : String) ≠ "java/lang/invoke/VarHandle" ∧ (parseMethodDescriptor "()LPayMatch$Paper;").map (fun d => d.parameters.length) = some 0 := by decide +kernel
theorem xd_J4_isPositionIndex : yJ4_isPositionIndex.cls ≠ "java/lang/invoke/MethodHandle" ∧ yJ4_isPositionIndex.cls ≠ "java/lang/invoke/VarHandle" ∧ (parseMethodDescriptor yJ4_isPositionIndex.desc).map (fun d => d.parameters.length) = some 1 := by decide +kernel
theorem xd_J4_checkPositionIndex : yJ4_checkPositionIndex.cls ≠ "java/lang/invoke/MethodHandle" ∧ yJ4_checkPositionIndex.cls ≠ "java/lang/invoke/VarHandle" ∧ (parseMethodDescriptor yJ4_checkPositionIndex.desc).map (fun d => d.parameters.length) = some 1 := by decide +kernel
theorem xd_J4_node : yJ4_node.cls ≠ "java/lang/invoke/MethodHandle" ∧ yJ4_node.cls ≠ "java/lang/invoke/VarHandle" ∧ (parseMethodDescriptor yJ4_node.desc).map (fun d => d.parameters.length) = some 1 := by decide +kernel
theorem xd_J13_init : yJ13_init.cls ≠ "java/lang/invoke/MethodHandle" ∧ yJ13_init.cls ≠ "java/lang/invoke/VarHandle" ∧ (parseMethodDescriptor yJ13_init.desc).map (fun d => d.parameters.length) = some 2 := by decide +kernel
theorem xdi_5 : ("java/util/Iterator" : String) ≠ "java/lang/invoke/MethodHandle" ∧ ("java/util/Iterator" : String) ≠ "java/lang/invoke/VarHandle" ∧ (parseMethodDescriptor "()Z").map (fun d => d.parameters.length) = some 0 := by decide +kernel
theorem xd_J13_checkForComodification : yJ13_checkForComodification.cls ≠ "java/lang/invoke/MethodHandle" ∧ yJ13_checkForComodification.cls ≠ "java/lang/invoke/VarHandle" ∧ (parseMethodDescriptor yJ13_checkForComodification.desc).map (fun d => d.parameters.length) = some 0 := by decide +kernel
theorem xd_J13_hasNext : yJ13_hasNext.cls ≠ "java/lang/invoke/MethodHandle" ∧ yJ13_hasNext.cls ≠ "java/lang/invoke/VarHandle" ∧ (parseMethodDescriptor yJ13_hasNext.desc).map (fun d => d.parameters.length) = some 0 := by decide +kernel
theorem xdi_7 : ("java/util/Iterator" : String) ≠ "java/lang/invoke/MethodHandle" ∧ ("java/util/Iterator" : String) ≠ "java/lang/invoke/VarHandle" ∧ (parseMethodDescriptor "()Ljava/lang/Object;").map (fun d => d.parameters.length) = some 0 := by decide +kernel
theorem xd_J24_init : yJ24_init.cls ≠ "java/lang/invoke/MethodHandle" ∧ yJ24_init.cls ≠ "java/lang/invoke/VarHandle" ∧ (parseMethodDescriptor yJ24_init.desc).map (fun d => d.parameters.length) = some 3 := by decide +kernel
theorem xd_J4_linkLast : yJ4_linkLast.cls ≠ "java/lang/invoke/MethodHandle" ∧ yJ4_linkLast.cls ≠ "java/lang/invoke/VarHandle" ∧ (parseMethodDescriptor yJ4_linkLast.desc).map (fun d => d.parameters.length) = some 1 := by decide +kernel
theorem xd_J4_addLast : yJ4_addLast.cls ≠ "java/lang/invoke/MethodHandle" ∧ yJ4_addLast.cls ≠ "java/lang/invoke/VarHandle" ∧ (parseMethodDescriptor yJ4_addLast.desc).map (fun d => d.parameters.length) = some 1 := by decide +kernel
theorem xd_X1_copy : yX1_copy.cls ≠ "java/lang/invoke/MethodHandle" ∧ yX1_copy.cls ≠ "java/lang/invoke/VarHandle" ∧ (parseMethodDescriptor yX1_copy.desc).map (fun d => d.parameters.length) = some 0 := by decide +kernel
theorem xd_X7_init_2 : yX7_init_2.cls ≠ "java/lang/invoke/MethodHandle" ∧ yX7_init_2.cls ≠ "java/lang/invoke/VarHandle" ∧ (parseMethodDescriptor yX7_init_2.desc).map (fun d => d.parameters.length) = some 1 := by decide +kernel
theorem xd_J5_inc : yJ5_inc.cls ≠ "java/lang/invoke/MethodHandle" ∧ yJ5_inc.cls ≠ "java/lang/invoke/VarHandle" ∧ (parseMethodDescriptor yJ5_inc.desc).map (fun d => d.parameters.length) = some 2 := by decide +kernel
theorem xd_J5_addLast : yJ5_addLast.cls ≠ "java/lang/invoke/MethodHandle" ∧ yJ5_addLast.cls ≠ "java/lang/invoke/VarHandle" ∧ (parseMethodDescriptor yJ5_addLast.desc).map (fun d => d.parameters.length) = some 1 := by decide +kernel
theorem xd_J5_sub : yJ5_sub.cls ≠ "java/lang/invoke/MethodHandle" ∧ yJ5_sub.cls ≠ "java/lang/invoke/VarHandle" ∧ (parseMethodDescriptor yJ5_sub.desc).map (fun d => d.parameters.length) = some 3 := by decide +kernel
theorem xd_J5_size : yJ5_size.cls ≠ "java/lang/invoke/MethodHandle" ∧ yJ5_size.cls ≠ "java/lang/invoke/VarHandle" ∧ (parseMethodDescriptor yJ5_size.desc).map (fun d => d.parameters.length) = some 0 := by decide +kernel
theorem xd_J5_elementAt : yJ5_elementAt.cls ≠ "java/lang/invoke/MethodHandle" ∧ yJ5_elementAt.cls ≠ "java/lang/invoke/VarHandle" ∧ (parseMethodDescriptor yJ5_elementAt.desc).map (fun d => d.parameters.length) = some 2 := by decide +kernel
theorem xd_J5_pollFirst : yJ5_pollFirst.cls ≠ "java/lang/invoke/MethodHandle" ∧ yJ5_pollFirst.cls ≠ "java/lang/invoke/VarHandle" ∧ (parseMethodDescriptor yJ5_pollFirst.desc).map (fun d => d.parameters.length) = some 0 := by decide +kernel
theorem xd_J5_removeFirst : yJ5_removeFirst.cls ≠ "java/lang/invoke/MethodHandle" ∧ yJ5_removeFirst.cls ≠ "java/lang/invoke/VarHandle" ∧ (parseMethodDescriptor yJ5_removeFirst.desc).map (fun d => d.parameters.length) = some 0 := by decide +kernel
theorem xd_X0_become : yX0_become.cls ≠ "java/lang/invoke/MethodHandle" ∧ yX0_become.cls ≠ "java/lang/invoke/VarHandle" ∧ (parseMethodDescriptor yX0_become.desc).map (fun d => d.parameters.length) = some 2 := by decide +kernel
theorem xd_X3_aside : yX3_aside.cls ≠ "java/lang/invoke/MethodHandle" ∧ yX3_aside.cls ≠ "java/lang/invoke/VarHandle" ∧ (parseMethodDescriptor yX3_aside.desc).map (fun d => d.parameters.length) = some 0 := by decide +kernel
theorem xd_X3_at : yX3_at.cls ≠ "java/lang/invoke/MethodHandle" ∧ yX3_at.cls ≠ "java/lang/invoke/VarHandle" ∧ (parseMethodDescriptor yX3_at.desc).map (fun d => d.parameters.length) = some 1 := by decide +kernel
theorem xd_X3_ofSupplier : yX3_ofSupplier.cls ≠ "java/lang/invoke/MethodHandle" ∧ yX3_ofSupplier.cls ≠ "java/lang/invoke/VarHandle" ∧ (parseMethodDescriptor yX3_ofSupplier.desc).map (fun d => d.parameters.length) = some 2 := by decide +kernel
theorem xd_X3_acted : yX3_acted.cls ≠ "java/lang/invoke/MethodHandle" ∧ yX3_acted.cls ≠ "java/lang/invoke/VarHandle" ∧ (parseMethodDescriptor yX3_acted.desc).map (fun d => d.parameters.length) = some 1 := by decide +kernel
theorem xd_X0_inRange : yX0_inRange.cls ≠ "java/lang/invoke/MethodHandle" ∧ yX0_inRange.cls ≠ "java/lang/invoke/VarHandle" ∧ (parseMethodDescriptor yX0_inRange.desc).map (fun d => d.parameters.length) = some 3 := by decide +kernel
theorem xd_X2_has : yX2_has.cls ≠ "java/lang/invoke/MethodHandle" ∧ yX2_has.cls ≠ "java/lang/invoke/VarHandle" ∧ (parseMethodDescriptor yX2_has.desc).map (fun d => d.parameters.length) = some 1 := by decide +kernel
theorem xd_X0_isPercent : yX0_isPercent.cls ≠ "java/lang/invoke/MethodHandle" ∧ yX0_isPercent.cls ≠ "java/lang/invoke/VarHandle" ∧ (parseMethodDescriptor yX0_isPercent.desc).map (fun d => d.parameters.length) = some 2 := by decide +kernel
theorem xd_X0_nothing : yX0_nothing.cls ≠ "java/lang/invoke/MethodHandle" ∧ yX0_nothing.cls ≠ "java/lang/invoke/VarHandle" ∧ (parseMethodDescriptor yX0_nothing.desc).map (fun d => d.parameters.length) = some 0 := by decide +kernel
theorem xd_J15_checkIndex : yJ15_checkIndex.cls ≠ "java/lang/invoke/MethodHandle" ∧ yJ15_checkIndex.cls ≠ "java/lang/invoke/VarHandle" ∧ (parseMethodDescriptor yJ15_checkIndex.desc).map (fun d => d.parameters.length) = some 3 := by decide +kernel
theorem xd_J14_checkIndex : yJ14_checkIndex.cls ≠ "java/lang/invoke/MethodHandle" ∧ yJ14_checkIndex.cls ≠ "java/lang/invoke/VarHandle" ∧ (parseMethodDescriptor yJ14_checkIndex.desc).map (fun d => d.parameters.length) = some 2 := by decide +kernel
theorem xd_J2_elementData : yJ2_elementData.cls ≠ "java/lang/invoke/MethodHandle" ∧ yJ2_elementData.cls ≠ "java/lang/invoke/VarHandle" ∧ (parseMethodDescriptor yJ2_elementData.desc).map (fun d => d.parameters.length) = some 1 := by decide +kernel
theorem xdi_14 : ("java/util/List" : String) ≠ "java/lang/invoke/MethodHandle" ∧ ("java/util/List" : String) ≠ "java/lang/invoke/VarHandle" ∧ (parseMethodDescriptor "(I)Ljava/lang/Object;").map (fun d => d.parameters.length) = some 1 := by decide +kernel
theorem xd_X2_get : yX2_get.cls ≠ "java/lang/invoke/MethodHandle" ∧ yX2_get.cls ≠ "java/lang/invoke/VarHandle" ∧ (parseMethodDescriptor yX2_get.desc).map (fun d => d.parameters.length) = some 1 := by decide +kernel
theorem xd_X0_tolerance : yX0_tolerance.cls ≠ "java/lang/invoke/MethodHandle" ∧ yX0_tolerance.cls ≠ "java/lang/invoke/VarHandle" ∧ (parseMethodDescriptor yX0_tolerance.desc).map (fun d => d.parameters.length) = some 2 := by decide +kernel
theorem xd_X3_in : yX3_in.cls ≠ "java/lang/invoke/MethodHandle" ∧ yX3_in.cls ≠ "java/lang/invoke/VarHandle" ∧ (parseMethodDescriptor yX3_in.desc).map (fun d => d.parameters.length) = some 3 := by decide +kernel
theorem xd_X3_isSupplier : yX3_isSupplier.cls ≠ "java/lang/invoke/MethodHandle" ∧ yX3_isSupplier.cls ≠ "java/lang/invoke/VarHandle" ∧ (parseMethodDescriptor yX3_isSupplier.desc).map (fun d => d.parameters.length) = some 1 := by decide +kernel
theorem xd_X3_isFrom : yX3_isFrom.cls ≠ "java/lang/invoke/MethodHandle" ∧ yX3_isFrom.cls ≠ "java/lang/invoke/VarHandle" ∧ (parseMethodDescriptor yX3_isFrom.desc).map (fun d => d.parameters.length) = some 2 := by decide +kernel
theorem xd_X2_iterator : yX2_iterator.cls ≠ "java/lang/invoke/MethodHandle" ∧ yX2_iterator.cls ≠ "java/lang/invoke/VarHandle" ∧ (parseMethodDescriptor yX2_iterator.desc).map (fun d => d.parameters.length) = some 0 := by decide +kernel
theorem xd_X1_invoicesOf : yX1_invoicesOf.cls ≠ "java/lang/invoke/MethodHandle" ∧ yX1_invoicesOf.cls ≠ "java/lang/invoke/VarHandle" ∧ (parseMethodDescriptor yX1_invoicesOf.desc).map (fun d => d.parameters.length) = some 2 := by decide +kernel
theorem xd_X3_isBlocked : yX3_isBlocked.cls ≠ "java/lang/invoke/MethodHandle" ∧ yX3_isBlocked.cls ≠ "java/lang/invoke/VarHandle" ∧ (parseMethodDescriptor yX3_isBlocked.desc).map (fun d => d.parameters.length) = some 1 := by decide +kernel
theorem xd_X3_ofInvoice : yX3_ofInvoice.cls ≠ "java/lang/invoke/MethodHandle" ∧ yX3_ofInvoice.cls ≠ "java/lang/invoke/VarHandle" ∧ (parseMethodDescriptor yX3_ofInvoice.desc).map (fun d => d.parameters.length) = some 2 := by decide +kernel
theorem xd_X3_ofOrder : yX3_ofOrder.cls ≠ "java/lang/invoke/MethodHandle" ∧ yX3_ofOrder.cls ≠ "java/lang/invoke/VarHandle" ∧ (parseMethodDescriptor yX3_ofOrder.desc).map (fun d => d.parameters.length) = some 2 := by decide +kernel
theorem xd_X3_whose : yX3_whose.cls ≠ "java/lang/invoke/MethodHandle" ∧ yX3_whose.cls ≠ "java/lang/invoke/VarHandle" ∧ (parseMethodDescriptor yX3_whose.desc).map (fun d => d.parameters.length) = some 1 := by decide +kernel
theorem xd_X3_payee : yX3_payee.cls ≠ "java/lang/invoke/MethodHandle" ∧ yX3_payee.cls ≠ "java/lang/invoke/VarHandle" ∧ (parseMethodDescriptor yX3_payee.desc).map (fun d => d.parameters.length) = some 1 := by decide +kernel
theorem xd_X0_areUnits : yX0_areUnits.cls ≠ "java/lang/invoke/MethodHandle" ∧ yX0_areUnits.cls ≠ "java/lang/invoke/VarHandle" ∧ (parseMethodDescriptor yX0_areUnits.desc).map (fun d => d.parameters.length) = some 1 := by decide +kernel
theorem xd_X0_isPrice : yX0_isPrice.cls ≠ "java/lang/invoke/MethodHandle" ∧ yX0_isPrice.cls ≠ "java/lang/invoke/VarHandle" ∧ (parseMethodDescriptor yX0_isPrice.desc).map (fun d => d.parameters.length) = some 1 := by decide +kernel
theorem xd_X0_isOpen : yX0_isOpen.cls ≠ "java/lang/invoke/MethodHandle" ∧ yX0_isOpen.cls ≠ "java/lang/invoke/VarHandle" ∧ (parseMethodDescriptor yX0_isOpen.desc).map (fun d => d.parameters.length) = some 1 := by decide +kernel
theorem xd_X3_isOrder : yX3_isOrder.cls ≠ "java/lang/invoke/MethodHandle" ∧ yX3_isOrder.cls ≠ "java/lang/invoke/VarHandle" ∧ (parseMethodDescriptor yX3_isOrder.desc).map (fun d => d.parameters.length) = some 1 := by decide +kernel
theorem xd_X3_isOpen : yX3_isOpen.cls ≠ "java/lang/invoke/MethodHandle" ∧ yX3_isOpen.cls ≠ "java/lang/invoke/VarHandle" ∧ (parseMethodDescriptor yX3_isOpen.desc).map (fun d => d.parameters.length) = some 1 := by decide +kernel
theorem xd_X3_ofLine : yX3_ofLine.cls ≠ "java/lang/invoke/MethodHandle" ∧ yX3_ofLine.cls ≠ "java/lang/invoke/VarHandle" ∧ (parseMethodDescriptor yX3_ofLine.desc).map (fun d => d.parameters.length) = some 3 := by decide +kernel
theorem xd_X1_hasLine : yX1_hasLine.cls ≠ "java/lang/invoke/MethodHandle" ∧ yX1_hasLine.cls ≠ "java/lang/invoke/VarHandle" ∧ (parseMethodDescriptor yX1_hasLine.desc).map (fun d => d.parameters.length) = some 2 := by decide +kernel
theorem xd_X1_line : yX1_line.cls ≠ "java/lang/invoke/MethodHandle" ∧ yX1_line.cls ≠ "java/lang/invoke/VarHandle" ∧ (parseMethodDescriptor yX1_line.desc).map (fun d => d.parameters.length) = some 2 := by decide +kernel
theorem xd_X3_isLine : yX3_isLine.cls ≠ "java/lang/invoke/MethodHandle" ∧ yX3_isLine.cls ≠ "java/lang/invoke/VarHandle" ∧ (parseMethodDescriptor yX3_isLine.desc).map (fun d => d.parameters.length) = some 2 := by decide +kernel
theorem xdi_16 : ("java/lang/Iterable" : String) ≠ "java/lang/invoke/MethodHandle" ∧ ("java/lang/Iterable" : String) ≠ "java/lang/invoke/VarHandle" ∧ (parseMethodDescriptor "()Ljava/util/Iterator;").map (fun d => d.parameters.length) = some 0 := by decide +kernel
theorem xdi_20 : ("PayMatch$Paper" : String) ≠ "java/lang/invoke/MethodHandle" ∧ ("PayMatch$Paper" : String) ≠ "java/lang/invoke/VarHandle" ∧ (parseMethodDescriptor "()I").map (fun d => d.parameters.length) = some 0 := by decide +kernel
theorem xd_X8_weightOf : yX8_weightOf.cls ≠ "java/lang/invoke/MethodHandle" ∧ yX8_weightOf.cls ≠ "java/lang/invoke/VarHandle" ∧ (parseMethodDescriptor yX8_weightOf.desc).map (fun d => d.parameters.length) = some 1 := by decide +kernel
theorem xd_X6_weight : yX6_weight.cls ≠ "java/lang/invoke/MethodHandle" ∧ yX6_weight.cls ≠ "java/lang/invoke/VarHandle" ∧ (parseMethodDescriptor yX6_weight.desc).map (fun d => d.parameters.length) = some 0 := by decide +kernel
theorem xd_X0_setState : yX0_setState.cls ≠ "java/lang/invoke/MethodHandle" ∧ yX0_setState.cls ≠ "java/lang/invoke/VarHandle" ∧ (parseMethodDescriptor yX0_setState.desc).map (fun d => d.parameters.length) = some 3 := by decide +kernel
theorem xd_X5_isUsed : yX5_isUsed.cls ≠ "java/lang/invoke/MethodHandle" ∧ yX5_isUsed.cls ≠ "java/lang/invoke/VarHandle" ∧ (parseMethodDescriptor yX5_isUsed.desc).map (fun d => d.parameters.length) = some 0 := by decide +kernel
theorem xd_X6_isUsed : yX6_isUsed.cls ≠ "java/lang/invoke/MethodHandle" ∧ yX6_isUsed.cls ≠ "java/lang/invoke/VarHandle" ∧ (parseMethodDescriptor yX6_isUsed.desc).map (fun d => d.parameters.length) = some 0 := by decide +kernel
theorem xd_X1_supplierOf : yX1_supplierOf.cls ≠ "java/lang/invoke/MethodHandle" ∧ yX1_supplierOf.cls ≠ "java/lang/invoke/VarHandle" ∧ (parseMethodDescriptor yX1_supplierOf.desc).map (fun d => d.parameters.length) = some 1 := by decide +kernel
theorem xd_X7_with : yX7_with.cls ≠ "java/lang/invoke/MethodHandle" ∧ yX7_with.cls ≠ "java/lang/invoke/VarHandle" ∧ (parseMethodDescriptor yX7_with.desc).map (fun d => d.parameters.length) = some 1 := by decide +kernel
theorem xd_X0_roomOf : yX0_roomOf.cls ≠ "java/lang/invoke/MethodHandle" ∧ yX0_roomOf.cls ≠ "java/lang/invoke/VarHandle" ∧ (parseMethodDescriptor yX0_roomOf.desc).map (fun d => d.parameters.length) = some 2 := by decide +kernel
theorem xd_X9_init : yX9_init.cls ≠ "java/lang/invoke/MethodHandle" ∧ yX9_init.cls ≠ "java/lang/invoke/VarHandle" ∧ (parseMethodDescriptor yX9_init.desc).map (fun d => d.parameters.length) = some 4 := by decide +kernel
theorem xd_J4_linkFirst : yJ4_linkFirst.cls ≠ "java/lang/invoke/MethodHandle" ∧ yJ4_linkFirst.cls ≠ "java/lang/invoke/VarHandle" ∧ (parseMethodDescriptor yJ4_linkFirst.desc).map (fun d => d.parameters.length) = some 1 := by decide +kernel
theorem xd_J4_addFirst : yJ4_addFirst.cls ≠ "java/lang/invoke/MethodHandle" ∧ yJ4_addFirst.cls ≠ "java/lang/invoke/VarHandle" ∧ (parseMethodDescriptor yJ4_addFirst.desc).map (fun d => d.parameters.length) = some 1 := by decide +kernel
theorem xd_J4_size : yJ4_size.cls ≠ "java/lang/invoke/MethodHandle" ∧ yJ4_size.cls ≠ "java/lang/invoke/VarHandle" ∧ (parseMethodDescriptor yJ4_size.desc).map (fun d => d.parameters.length) = some 0 := by decide +kernel
theorem xd_J4_unlinkLast : yJ4_unlinkLast.cls ≠ "java/lang/invoke/MethodHandle" ∧ yJ4_unlinkLast.cls ≠ "java/lang/invoke/VarHandle" ∧ (parseMethodDescriptor yJ4_unlinkLast.desc).map (fun d => d.parameters.length) = some 1 := by decide +kernel
theorem xd_J4_removeLast : yJ4_removeLast.cls ≠ "java/lang/invoke/MethodHandle" ∧ yJ4_removeLast.cls ≠ "java/lang/invoke/VarHandle" ∧ (parseMethodDescriptor yJ4_removeLast.desc).map (fun d => d.parameters.length) = some 0 := by decide +kernel
theorem xd_X1_tell : yX1_tell.cls ≠ "java/lang/invoke/MethodHandle" ∧ yX1_tell.cls ≠ "java/lang/invoke/VarHandle" ∧ (parseMethodDescriptor yX1_tell.desc).map (fun d => d.parameters.length) = some 3 := by decide +kernel
theorem xd_X1_receive : yX1_receive.cls ≠ "java/lang/invoke/MethodHandle" ∧ yX1_receive.cls ≠ "java/lang/invoke/VarHandle" ∧ (parseMethodDescriptor yX1_receive.desc).map (fun d => d.parameters.length) = some 4 := by decide +kernel
theorem xd_X3_real : yX3_real.cls ≠ "java/lang/invoke/MethodHandle" ∧ yX3_real.cls ≠ "java/lang/invoke/VarHandle" ∧ (parseMethodDescriptor yX3_real.desc).map (fun d => d.parameters.length) = some 1 := by decide +kernel
theorem xd_X3_stretched : yX3_stretched.cls ≠ "java/lang/invoke/MethodHandle" ∧ yX3_stretched.cls ≠ "java/lang/invoke/VarHandle" ∧ (parseMethodDescriptor yX3_stretched.desc).map (fun d => d.parameters.length) = some 2 := by decide +kernel
theorem xd_X3_takesMost : yX3_takesMost.cls ≠ "java/lang/invoke/MethodHandle" ∧ yX3_takesMost.cls ≠ "java/lang/invoke/VarHandle" ∧ (parseMethodDescriptor yX3_takesMost.desc).map (fun d => d.parameters.length) = some 2 := by decide +kernel
theorem xd_X3_log : yX3_log.cls ≠ "java/lang/invoke/MethodHandle" ∧ yX3_log.cls ≠ "java/lang/invoke/VarHandle" ∧ (parseMethodDescriptor yX3_log.desc).map (fun d => d.parameters.length) = some 3 := by decide +kernel
theorem xd_X5_claim : yX5_claim.cls ≠ "java/lang/invoke/MethodHandle" ∧ yX5_claim.cls ≠ "java/lang/invoke/VarHandle" ∧ (parseMethodDescriptor yX5_claim.desc).map (fun d => d.parameters.length) = some 1 := by decide +kernel
theorem xd_X1_claim : yX1_claim.cls ≠ "java/lang/invoke/MethodHandle" ∧ yX1_claim.cls ≠ "java/lang/invoke/VarHandle" ∧ (parseMethodDescriptor yX1_claim.desc).map (fun d => d.parameters.length) = some 2 := by decide +kernel
theorem xd_X1_giveBack : yX1_giveBack.cls ≠ "java/lang/invoke/MethodHandle" ∧ yX1_giveBack.cls ≠ "java/lang/invoke/VarHandle" ∧ (parseMethodDescriptor yX1_giveBack.desc).map (fun d => d.parameters.length) = some 3 := by decide +kernel
theorem xd_X3_billsMost : yX3_billsMost.cls ≠ "java/lang/invoke/MethodHandle" ∧ yX3_billsMost.cls ≠ "java/lang/invoke/VarHandle" ∧ (parseMethodDescriptor yX3_billsMost.desc).map (fun d => d.parameters.length) = some 2 := by decide +kernel
theorem xd_X3_claims : yX3_claims.cls ≠ "java/lang/invoke/MethodHandle" ∧ yX3_claims.cls ≠ "java/lang/invoke/VarHandle" ∧ (parseMethodDescriptor yX3_claims.desc).map (fun d => d.parameters.length) = some 2 := by decide +kernel
theorem xd_X10_init : yX10_init.cls ≠ "java/lang/invoke/MethodHandle" ∧ yX10_init.cls ≠ "java/lang/invoke/VarHandle" ∧ (parseMethodDescriptor yX10_init.desc).map (fun d => d.parameters.length) = some 3 := by decide +kernel
theorem xd_X10_amount : yX10_amount.cls ≠ "java/lang/invoke/MethodHandle" ∧ yX10_amount.cls ≠ "java/lang/invoke/VarHandle" ∧ (parseMethodDescriptor yX10_amount.desc).map (fun d => d.parameters.length) = some 0 := by decide +kernel
theorem xd_X4_total : yX4_total.cls ≠ "java/lang/invoke/MethodHandle" ∧ yX4_total.cls ≠ "java/lang/invoke/VarHandle" ∧ (parseMethodDescriptor yX4_total.desc).map (fun d => d.parameters.length) = some 0 := by decide +kernel
theorem xd_X1_enter : yX1_enter.cls ≠ "java/lang/invoke/MethodHandle" ∧ yX1_enter.cls ≠ "java/lang/invoke/VarHandle" ∧ (parseMethodDescriptor yX1_enter.desc).map (fun d => d.parameters.length) = some 3 := by decide +kernel
theorem xd_X0_enter : yX0_enter.cls ≠ "java/lang/invoke/MethodHandle" ∧ yX0_enter.cls ≠ "java/lang/invoke/VarHandle" ∧ (parseMethodDescriptor yX0_enter.desc).map (fun d => d.parameters.length) = some 3 := by decide +kernel
theorem xd_X3_begins : yX3_begins.cls ≠ "java/lang/invoke/MethodHandle" ∧ yX3_begins.cls ≠ "java/lang/invoke/VarHandle" ∧ (parseMethodDescriptor yX3_begins.desc).map (fun d => d.parameters.length) = some 2 := by decide +kernel
theorem xd_X3_adds : yX3_adds.cls ≠ "java/lang/invoke/MethodHandle" ∧ yX3_adds.cls ≠ "java/lang/invoke/VarHandle" ∧ (parseMethodDescriptor yX3_adds.desc).map (fun d => d.parameters.length) = some 4 := by decide +kernel
theorem xd_X3_entryOf : yX3_entryOf.cls ≠ "java/lang/invoke/MethodHandle" ∧ yX3_entryOf.cls ≠ "java/lang/invoke/VarHandle" ∧ (parseMethodDescriptor yX3_entryOf.desc).map (fun d => d.parameters.length) = some 3 := by decide +kernel
theorem xd_X3_total : yX3_total.cls ≠ "java/lang/invoke/MethodHandle" ∧ yX3_total.cls ≠ "java/lang/invoke/VarHandle" ∧ (parseMethodDescriptor yX3_total.desc).map (fun d => d.parameters.length) = some 1 := by decide +kernel
theorem xd_X3_entered : yX3_entered.cls ≠ "java/lang/invoke/MethodHandle" ∧ yX3_entered.cls ≠ "java/lang/invoke/VarHandle" ∧ (parseMethodDescriptor yX3_entered.desc).map (fun d => d.parameters.length) = some 1 := by decide +kernel
theorem xd_X11_init : yX11_init.cls ≠ "java/lang/invoke/MethodHandle" ∧ yX11_init.cls ≠ "java/lang/invoke/VarHandle" ∧ (parseMethodDescriptor yX11_init.desc).map (fun d => d.parameters.length) = some 1 := by decide +kernel
theorem xdi_23 : ("java/lang/CharSequence" : String) ≠ "java/lang/invoke/MethodHandle" ∧ ("java/lang/CharSequence" : String) ≠ "java/lang/invoke/VarHandle" ∧ (parseMethodDescriptor "()I").map (fun d => d.parameters.length) = some 0 := by decide +kernel
theorem xd_J8_checkIndex : yJ8_checkIndex.cls ≠ "java/lang/invoke/MethodHandle" ∧ yJ8_checkIndex.cls ≠ "java/lang/invoke/VarHandle" ∧ (parseMethodDescriptor yJ8_checkIndex.desc).map (fun d => d.parameters.length) = some 2 := by decide +kernel
theorem xd_J9_length : yJ9_length.cls ≠ "java/lang/invoke/MethodHandle" ∧ yJ9_length.cls ≠ "java/lang/invoke/VarHandle" ∧ (parseMethodDescriptor yJ9_length.desc).map (fun d => d.parameters.length) = some 1 := by decide +kernel
theorem xd_J9_getChar : yJ9_getChar.cls ≠ "java/lang/invoke/MethodHandle" ∧ yJ9_getChar.cls ≠ "java/lang/invoke/VarHandle" ∧ (parseMethodDescriptor yJ9_getChar.desc).map (fun d => d.parameters.length) = some 2 := by decide +kernel
theorem xdi_24 : ("java/lang/CharSequence" : String) ≠ "java/lang/invoke/MethodHandle" ∧ ("java/lang/CharSequence" : String) ≠ "java/lang/invoke/VarHandle" ∧ (parseMethodDescriptor "(I)C").map (fun d => d.parameters.length) = some 1 := by decide +kernel
theorem xd_X11_seesFigure : yX11_seesFigure.cls ≠ "java/lang/invoke/MethodHandle" ∧ yX11_seesFigure.cls ≠ "java/lang/invoke/VarHandle" ∧ (parseMethodDescriptor yX11_seesFigure.desc).map (fun d => d.parameters.length) = some 0 := by decide +kernel
theorem xd_X11_number : yX11_number.cls ≠ "java/lang/invoke/MethodHandle" ∧ yX11_number.cls ≠ "java/lang/invoke/VarHandle" ∧ (parseMethodDescriptor yX11_number.desc).map (fun d => d.parameters.length) = some 1 := by decide +kernel
theorem xd_X11_sign : yX11_sign.cls ≠ "java/lang/invoke/MethodHandle" ∧ yX11_sign.cls ≠ "java/lang/invoke/VarHandle" ∧ (parseMethodDescriptor yX11_sign.desc).map (fun d => d.parameters.length) = some 1 := by decide +kernel
theorem xd_X11_entry : yX11_entry.cls ≠ "java/lang/invoke/MethodHandle" ∧ yX11_entry.cls ≠ "java/lang/invoke/VarHandle" ∧ (parseMethodDescriptor yX11_entry.desc).map (fun d => d.parameters.length) = some 0 := by decide +kernel
theorem xd_X11_read : yX11_read.cls ≠ "java/lang/invoke/MethodHandle" ∧ yX11_read.cls ≠ "java/lang/invoke/VarHandle" ∧ (parseMethodDescriptor yX11_read.desc).map (fun d => d.parameters.length) = some 0 := by decide +kernel
theorem xd_X11_row : yX11_row.cls ≠ "java/lang/invoke/MethodHandle" ∧ yX11_row.cls ≠ "java/lang/invoke/VarHandle" ∧ (parseMethodDescriptor yX11_row.desc).map (fun d => d.parameters.length) = some 0 := by decide +kernel
theorem xd_X0_areKnown : yX0_areKnown.cls ≠ "java/lang/invoke/MethodHandle" ∧ yX0_areKnown.cls ≠ "java/lang/invoke/VarHandle" ∧ (parseMethodDescriptor yX0_areKnown.desc).map (fun d => d.parameters.length) = some 2 := by decide +kernel
theorem xd_X0_areGood : yX0_areGood.cls ≠ "java/lang/invoke/MethodHandle" ∧ yX0_areGood.cls ≠ "java/lang/invoke/VarHandle" ∧ (parseMethodDescriptor yX0_areGood.desc).map (fun d => d.parameters.length) = some 1 := by decide +kernel
theorem xd_X3_look : yX3_look.cls ≠ "java/lang/invoke/MethodHandle" ∧ yX3_look.cls ≠ "java/lang/invoke/VarHandle" ∧ (parseMethodDescriptor yX3_look.desc).map (fun d => d.parameters.length) = some 0 := by decide +kernel
theorem xd_X3_must : yX3_must.cls ≠ "java/lang/invoke/MethodHandle" ∧ yX3_must.cls ≠ "java/lang/invoke/VarHandle" ∧ (parseMethodDescriptor yX3_must.desc).map (fun d => d.parameters.length) = some 1 := by decide +kernel
theorem xd_X3_number : yX3_number.cls ≠ "java/lang/invoke/MethodHandle" ∧ yX3_number.cls ≠ "java/lang/invoke/VarHandle" ∧ (parseMethodDescriptor yX3_number.desc).map (fun d => d.parameters.length) = some 1 := by decide +kernel
theorem xd_X3_tell : yX3_tell.cls ≠ "java/lang/invoke/MethodHandle" ∧ yX3_tell.cls ≠ "java/lang/invoke/VarHandle" ∧ (parseMethodDescriptor yX3_tell.desc).map (fun d => d.parameters.length) = some 1 := by decide +kernel
theorem xd_X3_areLines : yX3_areLines.cls ≠ "java/lang/invoke/MethodHandle" ∧ yX3_areLines.cls ≠ "java/lang/invoke/VarHandle" ∧ (parseMethodDescriptor yX3_areLines.desc).map (fun d => d.parameters.length) = some 2 := by decide +kernel
theorem xd_X3_areEntries : yX3_areEntries.cls ≠ "java/lang/invoke/MethodHandle" ∧ yX3_areEntries.cls ≠ "java/lang/invoke/VarHandle" ∧ (parseMethodDescriptor yX3_areEntries.desc).map (fun d => d.parameters.length) = some 1 := by decide +kernel
theorem xd_X4_isWaiting : yX4_isWaiting.cls ≠ "java/lang/invoke/MethodHandle" ∧ yX4_isWaiting.cls ≠ "java/lang/invoke/VarHandle" ∧ (parseMethodDescriptor yX4_isWaiting.desc).map (fun d => d.parameters.length) = some 0 := by decide +kernel
theorem xd_X1_isTwice : yX1_isTwice.cls ≠ "java/lang/invoke/MethodHandle" ∧ yX1_isTwice.cls ≠ "java/lang/invoke/VarHandle" ∧ (parseMethodDescriptor yX1_isTwice.desc).map (fun d => d.parameters.length) = some 1 := by decide +kernel
theorem xd_X1_lineOf : yX1_lineOf.cls ≠ "java/lang/invoke/MethodHandle" ∧ yX1_lineOf.cls ≠ "java/lang/invoke/VarHandle" ∧ (parseMethodDescriptor yX1_lineOf.desc).map (fun d => d.parameters.length) = some 2 := by decide +kernel
theorem xd_X7_isTooDear : yX7_isTooDear.cls ≠ "java/lang/invoke/MethodHandle" ∧ yX7_isTooDear.cls ≠ "java/lang/invoke/VarHandle" ∧ (parseMethodDescriptor yX7_isTooDear.desc).map (fun d => d.parameters.length) = some 3 := by decide +kernel
theorem xd_X1_left : yX1_left.cls ≠ "java/lang/invoke/MethodHandle" ∧ yX1_left.cls ≠ "java/lang/invoke/VarHandle" ∧ (parseMethodDescriptor yX1_left.desc).map (fun d => d.parameters.length) = some 2 := by decide +kernel
theorem xd_X4_isBilled : yX4_isBilled.cls ≠ "java/lang/invoke/MethodHandle" ∧ yX4_isBilled.cls ≠ "java/lang/invoke/VarHandle" ∧ (parseMethodDescriptor yX4_isBilled.desc).map (fun d => d.parameters.length) = some 0 := by decide +kernel
theorem xd_X1_leftFor : yX1_leftFor.cls ≠ "java/lang/invoke/MethodHandle" ∧ yX1_leftFor.cls ≠ "java/lang/invoke/VarHandle" ∧ (parseMethodDescriptor yX1_leftFor.desc).map (fun d => d.parameters.length) = some 2 := by decide +kernel
theorem xd_X1_against : yX1_against.cls ≠ "java/lang/invoke/MethodHandle" ∧ yX1_against.cls ≠ "java/lang/invoke/VarHandle" ∧ (parseMethodDescriptor yX1_against.desc).map (fun d => d.parameters.length) = some 1 := by decide +kernel
theorem xd_X1_approve : yX1_approve.cls ≠ "java/lang/invoke/MethodHandle" ∧ yX1_approve.cls ≠ "java/lang/invoke/VarHandle" ∧ (parseMethodDescriptor yX1_approve.desc).map (fun d => d.parameters.length) = some 1 := by decide +kernel
theorem xd_X1_match : yX1_match.cls ≠ "java/lang/invoke/MethodHandle" ∧ yX1_match.cls ≠ "java/lang/invoke/VarHandle" ∧ (parseMethodDescriptor yX1_match.desc).map (fun d => d.parameters.length) = some 1 := by decide +kernel
theorem xd_X3_isInvoice : yX3_isInvoice.cls ≠ "java/lang/invoke/MethodHandle" ∧ yX3_isInvoice.cls ≠ "java/lang/invoke/VarHandle" ∧ (parseMethodDescriptor yX3_isInvoice.desc).map (fun d => d.parameters.length) = some 1 := by decide +kernel
theorem xd_X3_isWaiting : yX3_isWaiting.cls ≠ "java/lang/invoke/MethodHandle" ∧ yX3_isWaiting.cls ≠ "java/lang/invoke/VarHandle" ∧ (parseMethodDescriptor yX3_isWaiting.desc).map (fun d => d.parameters.length) = some 1 := by decide +kernel
theorem xd_X3_isDear : yX3_isDear.cls ≠ "java/lang/invoke/MethodHandle" ∧ yX3_isDear.cls ≠ "java/lang/invoke/VarHandle" ∧ (parseMethodDescriptor yX3_isDear.desc).map (fun d => d.parameters.length) = some 4 := by decide +kernel
theorem xd_X3_billedBut : yX3_billedBut.cls ≠ "java/lang/invoke/MethodHandle" ∧ yX3_billedBut.cls ≠ "java/lang/invoke/VarHandle" ∧ (parseMethodDescriptor yX3_billedBut.desc).map (fun d => d.parameters.length) = some 3 := by decide +kernel
theorem xd_X3_isMuch : yX3_isMuch.cls ≠ "java/lang/invoke/MethodHandle" ∧ yX3_isMuch.cls ≠ "java/lang/invoke/VarHandle" ∧ (parseMethodDescriptor yX3_isMuch.desc).map (fun d => d.parameters.length) = some 4 := by decide +kernel
theorem xd_X3_reasonsOf : yX3_reasonsOf.cls ≠ "java/lang/invoke/MethodHandle" ∧ yX3_reasonsOf.cls ≠ "java/lang/invoke/VarHandle" ∧ (parseMethodDescriptor yX3_reasonsOf.desc).map (fun d => d.parameters.length) = some 1 := by decide +kernel
theorem xd_X3_isTwice : yX3_isTwice.cls ≠ "java/lang/invoke/MethodHandle" ∧ yX3_isTwice.cls ≠ "java/lang/invoke/VarHandle" ∧ (parseMethodDescriptor yX3_isTwice.desc).map (fun d => d.parameters.length) = some 1 := by decide +kernel
theorem xd_X3_reasons : yX3_reasons.cls ≠ "java/lang/invoke/MethodHandle" ∧ yX3_reasons.cls ≠ "java/lang/invoke/VarHandle" ∧ (parseMethodDescriptor yX3_reasons.desc).map (fun d => d.parameters.length) = some 1 := by decide +kernel
theorem xd_X3_approves : yX3_approves.cls ≠ "java/lang/invoke/MethodHandle" ∧ yX3_approves.cls ≠ "java/lang/invoke/VarHandle" ∧ (parseMethodDescriptor yX3_approves.desc).map (fun d => d.parameters.length) = some 1 := by decide +kernel
theorem xd_X1_noted : yX1_noted.cls ≠ "java/lang/invoke/MethodHandle" ∧ yX1_noted.cls ≠ "java/lang/invoke/VarHandle" ∧ (parseMethodDescriptor yX1_noted.desc).map (fun d => d.parameters.length) = some 2 := by decide +kernel
theorem xd_X1_note : yX1_note.cls ≠ "java/lang/invoke/MethodHandle" ∧ yX1_note.cls ≠ "java/lang/invoke/VarHandle" ∧ (parseMethodDescriptor yX1_note.desc).map (fun d => d.parameters.length) = some 1 := by decide +kernel
theorem xd_X1_pay : yX1_pay.cls ≠ "java/lang/invoke/MethodHandle" ∧ yX1_pay.cls ≠ "java/lang/invoke/VarHandle" ∧ (parseMethodDescriptor yX1_pay.desc).map (fun d => d.parameters.length) = some 1 := by decide +kernel
theorem xd_X3_canBePaid : yX3_canBePaid.cls ≠ "java/lang/invoke/MethodHandle" ∧ yX3_canBePaid.cls ≠ "java/lang/invoke/VarHandle" ∧ (parseMethodDescriptor yX3_canBePaid.desc).map (fun d => d.parameters.length) = some 1 := by decide +kernel
theorem xd_X3_pays : yX3_pays.cls ≠ "java/lang/invoke/MethodHandle" ∧ yX3_pays.cls ≠ "java/lang/invoke/VarHandle" ∧ (parseMethodDescriptor yX3_pays.desc).map (fun d => d.parameters.length) = some 1 := by decide +kernel
theorem xd_X1_payDue : yX1_payDue.cls ≠ "java/lang/invoke/MethodHandle" ∧ yX1_payDue.cls ≠ "java/lang/invoke/VarHandle" ∧ (parseMethodDescriptor yX1_payDue.desc).map (fun d => d.parameters.length) = some 0 := by decide +kernel
theorem xd_X1_pass : yX1_pass.cls ≠ "java/lang/invoke/MethodHandle" ∧ yX1_pass.cls ≠ "java/lang/invoke/VarHandle" ∧ (parseMethodDescriptor yX1_pass.desc).map (fun d => d.parameters.length) = some 1 := by decide +kernel
theorem xd_J7_length : yJ7_length.cls ≠ "java/lang/invoke/MethodHandle" ∧ yJ7_length.cls ≠ "java/lang/invoke/VarHandle" ∧ (parseMethodDescriptor yJ7_length.desc).map (fun d => d.parameters.length) = some 0 := by decide +kernel
theorem xd_J6_ensureCapacityInternal : yJ6_ensureCapacityInternal.cls ≠ "java/lang/invoke/MethodHandle" ∧ yJ6_ensureCapacityInternal.cls ≠ "java/lang/invoke/VarHandle" ∧ (parseMethodDescriptor yJ6_ensureCapacityInternal.desc).map (fun d => d.parameters.length) = some 1 := by decide +kernel
theorem xd_J23_canEncode : yJ23_canEncode.cls ≠ "java/lang/invoke/MethodHandle" ∧ yJ23_canEncode.cls ≠ "java/lang/invoke/VarHandle" ∧ (parseMethodDescriptor yJ23_canEncode.desc).map (fun d => d.parameters.length) = some 1 := by decide +kernel
theorem xd_J15_checkFromIndexSize : yJ15_checkFromIndexSize.cls ≠ "java/lang/invoke/MethodHandle" ∧ yJ15_checkFromIndexSize.cls ≠ "java/lang/invoke/VarHandle" ∧ (parseMethodDescriptor yJ15_checkFromIndexSize.desc).map (fun d => d.parameters.length) = some 4 := by decide +kernel
theorem xd_J8_checkBoundsOffCount : yJ8_checkBoundsOffCount.cls ≠ "java/lang/invoke/MethodHandle" ∧ yJ8_checkBoundsOffCount.cls ≠ "java/lang/invoke/VarHandle" ∧ (parseMethodDescriptor yJ8_checkBoundsOffCount.desc).map (fun d => d.parameters.length) = some 3 := by decide +kernel
theorem xd_J9_checkBoundsOffCount : yJ9_checkBoundsOffCount.cls ≠ "java/lang/invoke/MethodHandle" ∧ yJ9_checkBoundsOffCount.cls ≠ "java/lang/invoke/VarHandle" ∧ (parseMethodDescriptor yJ9_checkBoundsOffCount.desc).map (fun d => d.parameters.length) = some 3 := by decide +kernel
theorem xd_J9_putChar : yJ9_putChar.cls ≠ "java/lang/invoke/MethodHandle" ∧ yJ9_putChar.cls ≠ "java/lang/invoke/VarHandle" ∧ (parseMethodDescriptor yJ9_putChar.desc).map (fun d => d.parameters.length) = some 3 := by decide +kernel
theorem xd_J9_inflate : yJ9_inflate.cls ≠ "java/lang/invoke/MethodHandle" ∧ yJ9_inflate.cls ≠ "java/lang/invoke/VarHandle" ∧ (parseMethodDescriptor yJ9_inflate.desc).map (fun d => d.parameters.length) = some 5 := by decide +kernel
theorem xd_J23_inflate : yJ23_inflate.cls ≠ "java/lang/invoke/MethodHandle" ∧ yJ23_inflate.cls ≠ "java/lang/invoke/VarHandle" ∧ (parseMethodDescriptor yJ23_inflate.desc).map (fun d => d.parameters.length) = some 5 := by decide +kernel
theorem xd_J6_inflate : yJ6_inflate.cls ≠ "java/lang/invoke/MethodHandle" ∧ yJ6_inflate.cls ≠ "java/lang/invoke/VarHandle" ∧ (parseMethodDescriptor yJ6_inflate.desc).map (fun d => d.parameters.length) = some 0 := by decide +kernel
theorem xd_J9_checkIndex : yJ9_checkIndex.cls ≠ "java/lang/invoke/MethodHandle" ∧ yJ9_checkIndex.cls ≠ "java/lang/invoke/VarHandle" ∧ (parseMethodDescriptor yJ9_checkIndex.desc).map (fun d => d.parameters.length) = some 2 := by decide +kernel
theorem xd_J9_putCharSB : yJ9_putCharSB.cls ≠ "java/lang/invoke/MethodHandle" ∧ yJ9_putCharSB.cls ≠ "java/lang/invoke/VarHandle" ∧ (parseMethodDescriptor yJ9_putCharSB.desc).map (fun d => d.parameters.length) = some 3 := by decide +kernel
theorem xd_J7_append_2 : yJ7_append_2.cls ≠ "java/lang/invoke/MethodHandle" ∧ yJ7_append_2.cls ≠ "java/lang/invoke/VarHandle" ∧ (parseMethodDescriptor yJ7_append_2.desc).map (fun d => d.parameters.length) = some 1 := by decide +kernel
theorem xd_J22_rangeCheck : yJ22_rangeCheck.cls ≠ "java/lang/invoke/MethodHandle" ∧ yJ22_rangeCheck.cls ≠ "java/lang/invoke/VarHandle" ∧ (parseMethodDescriptor yJ22_rangeCheck.desc).map (fun d => d.parameters.length) = some 3 := by decide +kernel
theorem xd_J22_fill : yJ22_fill.cls ≠ "java/lang/invoke/MethodHandle" ∧ yJ22_fill.cls ≠ "java/lang/invoke/VarHandle" ∧ (parseMethodDescriptor yJ22_fill.desc).map (fun d => d.parameters.length) = some 4 := by decide +kernel
theorem xd_J23_fillNull : yJ23_fillNull.cls ≠ "java/lang/invoke/MethodHandle" ∧ yJ23_fillNull.cls ≠ "java/lang/invoke/VarHandle" ∧ (parseMethodDescriptor yJ23_fillNull.desc).map (fun d => d.parameters.length) = some 3 := by decide +kernel
theorem xd_J9_fillNull : yJ9_fillNull.cls ≠ "java/lang/invoke/MethodHandle" ∧ yJ9_fillNull.cls ≠ "java/lang/invoke/VarHandle" ∧ (parseMethodDescriptor yJ9_fillNull.desc).map (fun d => d.parameters.length) = some 3 := by decide +kernel
theorem xd_J7_setLength : yJ7_setLength.cls ≠ "java/lang/invoke/MethodHandle" ∧ yJ7_setLength.cls ≠ "java/lang/invoke/VarHandle" ∧ (parseMethodDescriptor yJ7_setLength.desc).map (fun d => d.parameters.length) = some 1 := by decide +kernel
theorem xd_J5_isEmpty : yJ5_isEmpty.cls ≠ "java/lang/invoke/MethodHandle" ∧ yJ5_isEmpty.cls ≠ "java/lang/invoke/VarHandle" ∧ (parseMethodDescriptor yJ5_isEmpty.desc).map (fun d => d.parameters.length) = some 0 := by decide +kernel
theorem xd_J5_dec : yJ5_dec.cls ≠ "java/lang/invoke/MethodHandle" ∧ yJ5_dec.cls ≠ "java/lang/invoke/VarHandle" ∧ (parseMethodDescriptor yJ5_dec.desc).map (fun d => d.parameters.length) = some 2 := by decide +kernel
theorem xd_J5_pollLast : yJ5_pollLast.cls ≠ "java/lang/invoke/MethodHandle" ∧ yJ5_pollLast.cls ≠ "java/lang/invoke/VarHandle" ∧ (parseMethodDescriptor yJ5_pollLast.desc).map (fun d => d.parameters.length) = some 0 := by decide +kernel
theorem xd_J5_removeLast : yJ5_removeLast.cls ≠ "java/lang/invoke/MethodHandle" ∧ yJ5_removeLast.cls ≠ "java/lang/invoke/VarHandle" ∧ (parseMethodDescriptor yJ5_removeLast.desc).map (fun d => d.parameters.length) = some 0 := by decide +kernel
theorem xd_X1_ordersOf : yX1_ordersOf.cls ≠ "java/lang/invoke/MethodHandle" ∧ yX1_ordersOf.cls ≠ "java/lang/invoke/VarHandle" ∧ (parseMethodDescriptor yX1_ordersOf.desc).map (fun d => d.parameters.length) = some 1 := by decide +kernel
theorem xd_X3_papersOf : yX3_papersOf.cls ≠ "java/lang/invoke/MethodHandle" ∧ yX3_papersOf.cls ≠ "java/lang/invoke/VarHandle" ∧ (parseMethodDescriptor yX3_papersOf.desc).map (fun d => d.parameters.length) = some 2 := by decide +kernel
theorem xd_X0_invoicesFor : yX0_invoicesFor.cls ≠ "java/lang/invoke/MethodHandle" ∧ yX0_invoicesFor.cls ≠ "java/lang/invoke/VarHandle" ∧ (parseMethodDescriptor yX0_invoicesFor.desc).map (fun d => d.parameters.length) = some 1 := by decide +kernel
theorem xd_X3_billsOf : yX3_billsOf.cls ≠ "java/lang/invoke/MethodHandle" ∧ yX3_billsOf.cls ≠ "java/lang/invoke/VarHandle" ∧ (parseMethodDescriptor yX3_billsOf.desc).map (fun d => d.parameters.length) = some 1 := by decide +kernel
theorem xd_X3_atLeast0 : yX3_atLeast0.cls ≠ "java/lang/invoke/MethodHandle" ∧ yX3_atLeast0.cls ≠ "java/lang/invoke/VarHandle" ∧ (parseMethodDescriptor yX3_atLeast0.desc).map (fun d => d.parameters.length) = some 1 := by decide +kernel
theorem xd_X1_firstShare : yX1_firstShare.cls ≠ "java/lang/invoke/MethodHandle" ∧ yX1_firstShare.cls ≠ "java/lang/invoke/VarHandle" ∧ (parseMethodDescriptor yX1_firstShare.desc).map (fun d => d.parameters.length) = some 0 := by decide +kernel
theorem xd_X1_open : yX1_open.cls ≠ "java/lang/invoke/MethodHandle" ∧ yX1_open.cls ≠ "java/lang/invoke/VarHandle" ∧ (parseMethodDescriptor yX1_open.desc).map (fun d => d.parameters.length) = some 1 := by decide +kernel
theorem xd_X3_worth : yX3_worth.cls ≠ "java/lang/invoke/MethodHandle" ∧ yX3_worth.cls ≠ "java/lang/invoke/VarHandle" ∧ (parseMethodDescriptor yX3_worth.desc).map (fun d => d.parameters.length) = some 3 := by decide +kernel
theorem xd_J4_isElementIndex : yJ4_isElementIndex.cls ≠ "java/lang/invoke/MethodHandle" ∧ yJ4_isElementIndex.cls ≠ "java/lang/invoke/VarHandle" ∧ (parseMethodDescriptor yJ4_isElementIndex.desc).map (fun d => d.parameters.length) = some 1 := by decide +kernel
theorem xd_J4_checkElementIndex : yJ4_checkElementIndex.cls ≠ "java/lang/invoke/MethodHandle" ∧ yJ4_checkElementIndex.cls ≠ "java/lang/invoke/VarHandle" ∧ (parseMethodDescriptor yJ4_checkElementIndex.desc).map (fun d => d.parameters.length) = some 1 := by decide +kernel
theorem xd_J4_get : yJ4_get.cls ≠ "java/lang/invoke/MethodHandle" ∧ yJ4_get.cls ≠ "java/lang/invoke/VarHandle" ∧ (parseMethodDescriptor yJ4_get.desc).map (fun d => d.parameters.length) = some 1 := by decide +kernel
theorem xd_X9_told : yX9_told.cls ≠ "java/lang/invoke/MethodHandle" ∧ yX9_told.cls ≠ "java/lang/invoke/VarHandle" ∧ (parseMethodDescriptor yX9_told.desc).map (fun d => d.parameters.length) = some 1 := by decide +kernel
theorem xdi_22 : ("PayMatch$Paper" : String) ≠ "java/lang/invoke/MethodHandle" ∧ ("PayMatch$Paper" : String) ≠ "java/lang/invoke/VarHandle" ∧ (parseMethodDescriptor "()I").map (fun d => d.parameters.length) = some 0 := by decide +kernel
theorem xd_X1_sum : yX1_sum.cls ≠ "java/lang/invoke/MethodHandle" ∧ yX1_sum.cls ≠ "java/lang/invoke/VarHandle" ∧ (parseMethodDescriptor yX1_sum.desc).map (fun d => d.parameters.length) = some 1 := by decide +kernel
theorem xd_X1_invoicesIn : yX1_invoicesIn.cls ≠ "java/lang/invoke/MethodHandle" ∧ yX1_invoicesIn.cls ≠ "java/lang/invoke/VarHandle" ∧ (parseMethodDescriptor yX1_invoicesIn.desc).map (fun d => d.parameters.length) = some 1 := by decide +kernel
theorem xd_X3_sumOf : yX3_sumOf.cls ≠ "java/lang/invoke/MethodHandle" ∧ yX3_sumOf.cls ≠ "java/lang/invoke/VarHandle" ∧ (parseMethodDescriptor yX3_sumOf.desc).map (fun d => d.parameters.length) = some 1 := by decide +kernel
theorem xd_X3_inState : yX3_inState.cls ≠ "java/lang/invoke/MethodHandle" ∧ yX3_inState.cls ≠ "java/lang/invoke/VarHandle" ∧ (parseMethodDescriptor yX3_inState.desc).map (fun d => d.parameters.length) = some 1 := by decide +kernel
theorem xd_X0_init : yX0_init.cls ≠ "java/lang/invoke/MethodHandle" ∧ yX0_init.cls ≠ "java/lang/invoke/VarHandle" ∧ (parseMethodDescriptor yX0_init.desc).map (fun d => d.parameters.length) = some 0 := by decide +kernel
theorem xd_X3_init : yX3_init.cls ≠ "java/lang/invoke/MethodHandle" ∧ yX3_init.cls ≠ "java/lang/invoke/VarHandle" ∧ (parseMethodDescriptor yX3_init.desc).map (fun d => d.parameters.length) = some 0 := by decide +kernel
theorem xd_X0_count : yX0_count.cls ≠ "java/lang/invoke/MethodHandle" ∧ yX0_count.cls ≠ "java/lang/invoke/VarHandle" ∧ (parseMethodDescriptor yX0_count.desc).map (fun d => d.parameters.length) = some 1 := by decide +kernel
theorem xd_X3_count : yX3_count.cls ≠ "java/lang/invoke/MethodHandle" ∧ yX3_count.cls ≠ "java/lang/invoke/VarHandle" ∧ (parseMethodDescriptor yX3_count.desc).map (fun d => d.parameters.length) = some 1 := by decide +kernel
theorem xd_X0_event : yX0_event.cls ≠ "java/lang/invoke/MethodHandle" ∧ yX0_event.cls ≠ "java/lang/invoke/VarHandle" ∧ (parseMethodDescriptor yX0_event.desc).map (fun d => d.parameters.length) = some 2 := by decide +kernel
theorem xd_X3_event : yX3_event.cls ≠ "java/lang/invoke/MethodHandle" ∧ yX3_event.cls ≠ "java/lang/invoke/VarHandle" ∧ (parseMethodDescriptor yX3_event.desc).map (fun d => d.parameters.length) = some 2 := by decide +kernel
theorem xd_X0_takes : yX0_takes.cls ≠ "java/lang/invoke/MethodHandle" ∧ yX0_takes.cls ≠ "java/lang/invoke/VarHandle" ∧ (parseMethodDescriptor yX0_takes.desc).map (fun d => d.parameters.length) = some 3 := by decide +kernel
theorem xd_X3_takes : yX3_takes.cls ≠ "java/lang/invoke/MethodHandle" ∧ yX3_takes.cls ≠ "java/lang/invoke/VarHandle" ∧ (parseMethodDescriptor yX3_takes.desc).map (fun d => d.parameters.length) = some 3 := by decide +kernel
theorem xd_X0_value : yX0_value.cls ≠ "java/lang/invoke/MethodHandle" ∧ yX0_value.cls ≠ "java/lang/invoke/VarHandle" ∧ (parseMethodDescriptor yX0_value.desc).map (fun d => d.parameters.length) = some 1 := by decide +kernel
theorem xd_X3_value : yX3_value.cls ≠ "java/lang/invoke/MethodHandle" ∧ yX3_value.cls ≠ "java/lang/invoke/VarHandle" ∧ (parseMethodDescriptor yX3_value.desc).map (fun d => d.parameters.length) = some 1 := by decide +kernel
theorem xd_X0_greatestPrice : yX0_greatestPrice.cls ≠ "java/lang/invoke/MethodHandle" ∧ yX0_greatestPrice.cls ≠ "java/lang/invoke/VarHandle" ∧ (parseMethodDescriptor yX0_greatestPrice.desc).map (fun d => d.parameters.length) = some 3 := by decide +kernel
theorem xd_X3_greatestPrice : yX3_greatestPrice.cls ≠ "java/lang/invoke/MethodHandle" ∧ yX3_greatestPrice.cls ≠ "java/lang/invoke/VarHandle" ∧ (parseMethodDescriptor yX3_greatestPrice.desc).map (fun d => d.parameters.length) = some 3 := by decide +kernel
theorem xd_X0_wouldMatch : yX0_wouldMatch.cls ≠ "java/lang/invoke/MethodHandle" ∧ yX0_wouldMatch.cls ≠ "java/lang/invoke/VarHandle" ∧ (parseMethodDescriptor yX0_wouldMatch.desc).map (fun d => d.parameters.length) = some 4 := by decide +kernel
theorem xd_X3_wouldMatch : yX3_wouldMatch.cls ≠ "java/lang/invoke/MethodHandle" ∧ yX3_wouldMatch.cls ≠ "java/lang/invoke/VarHandle" ∧ (parseMethodDescriptor yX3_wouldMatch.desc).map (fun d => d.parameters.length) = some 4 := by decide +kernel
theorem xd_X0_entry : yX0_entry.cls ≠ "java/lang/invoke/MethodHandle" ∧ yX0_entry.cls ≠ "java/lang/invoke/VarHandle" ∧ (parseMethodDescriptor yX0_entry.desc).map (fun d => d.parameters.length) = some 3 := by decide +kernel
theorem xd_X3_entry : yX3_entry.cls ≠ "java/lang/invoke/MethodHandle" ∧ yX3_entry.cls ≠ "java/lang/invoke/VarHandle" ∧ (parseMethodDescriptor yX3_entry.desc).map (fun d => d.parameters.length) = some 3 := by decide +kernel
theorem xd_X0_invoice : yX0_invoice.cls ≠ "java/lang/invoke/MethodHandle" ∧ yX0_invoice.cls ≠ "java/lang/invoke/VarHandle" ∧ (parseMethodDescriptor yX0_invoice.desc).map (fun d => d.parameters.length) = some 2 := by decide +kernel
theorem xd_X3_invoice : yX3_invoice.cls ≠ "java/lang/invoke/MethodHandle" ∧ yX3_invoice.cls ≠ "java/lang/invoke/VarHandle" ∧ (parseMethodDescriptor yX3_invoice.desc).map (fun d => d.parameters.length) = some 2 := by decide +kernel
theorem xd_X0_line : yX0_line.cls ≠ "java/lang/invoke/MethodHandle" ∧ yX0_line.cls ≠ "java/lang/invoke/VarHandle" ∧ (parseMethodDescriptor yX0_line.desc).map (fun d => d.parameters.length) = some 3 := by decide +kernel
theorem xd_X3_line : yX3_line.cls ≠ "java/lang/invoke/MethodHandle" ∧ yX3_line.cls ≠ "java/lang/invoke/VarHandle" ∧ (parseMethodDescriptor yX3_line.desc).map (fun d => d.parameters.length) = some 3 := by decide +kernel
theorem xd_X0_order : yX0_order.cls ≠ "java/lang/invoke/MethodHandle" ∧ yX0_order.cls ≠ "java/lang/invoke/VarHandle" ∧ (parseMethodDescriptor yX0_order.desc).map (fun d => d.parameters.length) = some 2 := by decide +kernel
theorem xd_X3_order : yX3_order.cls ≠ "java/lang/invoke/MethodHandle" ∧ yX3_order.cls ≠ "java/lang/invoke/VarHandle" ∧ (parseMethodDescriptor yX3_order.desc).map (fun d => d.parameters.length) = some 2 := by decide +kernel
theorem xd_X3_tolerance : yX3_tolerance.cls ≠ "java/lang/invoke/MethodHandle" ∧ yX3_tolerance.cls ≠ "java/lang/invoke/VarHandle" ∧ (parseMethodDescriptor yX3_tolerance.desc).map (fun d => d.parameters.length) = some 2 := by decide +kernel
theorem xd_X0_supplier : yX0_supplier.cls ≠ "java/lang/invoke/MethodHandle" ∧ yX0_supplier.cls ≠ "java/lang/invoke/VarHandle" ∧ (parseMethodDescriptor yX0_supplier.desc).map (fun d => d.parameters.length) = some 2 := by decide +kernel
theorem xd_X3_supplier : yX3_supplier.cls ≠ "java/lang/invoke/MethodHandle" ∧ yX3_supplier.cls ≠ "java/lang/invoke/VarHandle" ∧ (parseMethodDescriptor yX3_supplier.desc).map (fun d => d.parameters.length) = some 2 := by decide +kernel
theorem xd_X0_restore : yX0_restore.cls ≠ "java/lang/invoke/MethodHandle" ∧ yX0_restore.cls ≠ "java/lang/invoke/VarHandle" ∧ (parseMethodDescriptor yX0_restore.desc).map (fun d => d.parameters.length) = some 0 := by decide +kernel
theorem xd_X3_restore : yX3_restore.cls ≠ "java/lang/invoke/MethodHandle" ∧ yX3_restore.cls ≠ "java/lang/invoke/VarHandle" ∧ (parseMethodDescriptor yX3_restore.desc).map (fun d => d.parameters.length) = some 0 := by decide +kernel
theorem xd_X0_keep : yX0_keep.cls ≠ "java/lang/invoke/MethodHandle" ∧ yX0_keep.cls ≠ "java/lang/invoke/VarHandle" ∧ (parseMethodDescriptor yX0_keep.desc).map (fun d => d.parameters.length) = some 0 := by decide +kernel
theorem xd_X3_keep : yX3_keep.cls ≠ "java/lang/invoke/MethodHandle" ∧ yX3_keep.cls ≠ "java/lang/invoke/VarHandle" ∧ (parseMethodDescriptor yX3_keep.desc).map (fun d => d.parameters.length) = some 0 := by decide +kernel
theorem xd_X0_undo : yX0_undo.cls ≠ "java/lang/invoke/MethodHandle" ∧ yX0_undo.cls ≠ "java/lang/invoke/VarHandle" ∧ (parseMethodDescriptor yX0_undo.desc).map (fun d => d.parameters.length) = some 0 := by decide +kernel
theorem xd_X3_undo : yX3_undo.cls ≠ "java/lang/invoke/MethodHandle" ∧ yX3_undo.cls ≠ "java/lang/invoke/VarHandle" ∧ (parseMethodDescriptor yX3_undo.desc).map (fun d => d.parameters.length) = some 0 := by decide +kernel
theorem xd_X0_clearText : yX0_clearText.cls ≠ "java/lang/invoke/MethodHandle" ∧ yX0_clearText.cls ≠ "java/lang/invoke/VarHandle" ∧ (parseMethodDescriptor yX0_clearText.desc).map (fun d => d.parameters.length) = some 0 := by decide +kernel
theorem xd_X3_clearText : yX3_clearText.cls ≠ "java/lang/invoke/MethodHandle" ∧ yX3_clearText.cls ≠ "java/lang/invoke/VarHandle" ∧ (parseMethodDescriptor yX3_clearText.desc).map (fun d => d.parameters.length) = some 0 := by decide +kernel
theorem xd_X0_type : yX0_type.cls ≠ "java/lang/invoke/MethodHandle" ∧ yX0_type.cls ≠ "java/lang/invoke/VarHandle" ∧ (parseMethodDescriptor yX0_type.desc).map (fun d => d.parameters.length) = some 1 := by decide +kernel
theorem xd_X3_type : yX3_type.cls ≠ "java/lang/invoke/MethodHandle" ∧ yX3_type.cls ≠ "java/lang/invoke/VarHandle" ∧ (parseMethodDescriptor yX3_type.desc).map (fun d => d.parameters.length) = some 1 := by decide +kernel
theorem xd_X0_pass : yX0_pass.cls ≠ "java/lang/invoke/MethodHandle" ∧ yX0_pass.cls ≠ "java/lang/invoke/VarHandle" ∧ (parseMethodDescriptor yX0_pass.desc).map (fun d => d.parameters.length) = some 1 := by decide +kernel
theorem xd_X3_pass : yX3_pass.cls ≠ "java/lang/invoke/MethodHandle" ∧ yX3_pass.cls ≠ "java/lang/invoke/VarHandle" ∧ (parseMethodDescriptor yX3_pass.desc).map (fun d => d.parameters.length) = some 1 := by decide +kernel
theorem xd_X0_pay : yX0_pay.cls ≠ "java/lang/invoke/MethodHandle" ∧ yX0_pay.cls ≠ "java/lang/invoke/VarHandle" ∧ (parseMethodDescriptor yX0_pay.desc).map (fun d => d.parameters.length) = some 1 := by decide +kernel
theorem xd_X3_pay : yX3_pay.cls ≠ "java/lang/invoke/MethodHandle" ∧ yX3_pay.cls ≠ "java/lang/invoke/VarHandle" ∧ (parseMethodDescriptor yX3_pay.desc).map (fun d => d.parameters.length) = some 1 := by decide +kernel
theorem xd_X0_reject : yX0_reject.cls ≠ "java/lang/invoke/MethodHandle" ∧ yX0_reject.cls ≠ "java/lang/invoke/VarHandle" ∧ (parseMethodDescriptor yX0_reject.desc).map (fun d => d.parameters.length) = some 1 := by decide +kernel
theorem xd_X3_reject : yX3_reject.cls ≠ "java/lang/invoke/MethodHandle" ∧ yX3_reject.cls ≠ "java/lang/invoke/VarHandle" ∧ (parseMethodDescriptor yX3_reject.desc).map (fun d => d.parameters.length) = some 1 := by decide +kernel
theorem xd_X0_note : yX0_note.cls ≠ "java/lang/invoke/MethodHandle" ∧ yX0_note.cls ≠ "java/lang/invoke/VarHandle" ∧ (parseMethodDescriptor yX0_note.desc).map (fun d => d.parameters.length) = some 1 := by decide +kernel
theorem xd_X3_note : yX3_note.cls ≠ "java/lang/invoke/MethodHandle" ∧ yX3_note.cls ≠ "java/lang/invoke/VarHandle" ∧ (parseMethodDescriptor yX3_note.desc).map (fun d => d.parameters.length) = some 1 := by decide +kernel
theorem xd_X0_match : yX0_match.cls ≠ "java/lang/invoke/MethodHandle" ∧ yX0_match.cls ≠ "java/lang/invoke/VarHandle" ∧ (parseMethodDescriptor yX0_match.desc).map (fun d => d.parameters.length) = some 1 := by decide +kernel
theorem xd_X3_match : yX3_match.cls ≠ "java/lang/invoke/MethodHandle" ∧ yX3_match.cls ≠ "java/lang/invoke/VarHandle" ∧ (parseMethodDescriptor yX3_match.desc).map (fun d => d.parameters.length) = some 1 := by decide +kernel
theorem xd_X0_readInvoice : yX0_readInvoice.cls ≠ "java/lang/invoke/MethodHandle" ∧ yX0_readInvoice.cls ≠ "java/lang/invoke/VarHandle" ∧ (parseMethodDescriptor yX0_readInvoice.desc).map (fun d => d.parameters.length) = some 0 := by decide +kernel
theorem xd_X3_readInvoice : yX3_readInvoice.cls ≠ "java/lang/invoke/MethodHandle" ∧ yX3_readInvoice.cls ≠ "java/lang/invoke/VarHandle" ∧ (parseMethodDescriptor yX3_readInvoice.desc).map (fun d => d.parameters.length) = some 0 := by decide +kernel
theorem xd_X0_bill : yX0_bill.cls ≠ "java/lang/invoke/MethodHandle" ∧ yX0_bill.cls ≠ "java/lang/invoke/VarHandle" ∧ (parseMethodDescriptor yX0_bill.desc).map (fun d => d.parameters.length) = some 5 := by decide +kernel
theorem xd_X3_bill : yX3_bill.cls ≠ "java/lang/invoke/MethodHandle" ∧ yX3_bill.cls ≠ "java/lang/invoke/VarHandle" ∧ (parseMethodDescriptor yX3_bill.desc).map (fun d => d.parameters.length) = some 5 := by decide +kernel
theorem xd_X0_giveBack : yX0_giveBack.cls ≠ "java/lang/invoke/MethodHandle" ∧ yX0_giveBack.cls ≠ "java/lang/invoke/VarHandle" ∧ (parseMethodDescriptor yX0_giveBack.desc).map (fun d => d.parameters.length) = some 3 := by decide +kernel
theorem xd_X3_giveBack : yX3_giveBack.cls ≠ "java/lang/invoke/MethodHandle" ∧ yX3_giveBack.cls ≠ "java/lang/invoke/VarHandle" ∧ (parseMethodDescriptor yX3_giveBack.desc).map (fun d => d.parameters.length) = some 3 := by decide +kernel
theorem xd_X0_receive : yX0_receive.cls ≠ "java/lang/invoke/MethodHandle" ∧ yX0_receive.cls ≠ "java/lang/invoke/VarHandle" ∧ (parseMethodDescriptor yX0_receive.desc).map (fun d => d.parameters.length) = some 4 := by decide +kernel
theorem xd_X3_receive : yX3_receive.cls ≠ "java/lang/invoke/MethodHandle" ∧ yX3_receive.cls ≠ "java/lang/invoke/VarHandle" ∧ (parseMethodDescriptor yX3_receive.desc).map (fun d => d.parameters.length) = some 4 := by decide +kernel
theorem xd_X0_cancel : yX0_cancel.cls ≠ "java/lang/invoke/MethodHandle" ∧ yX0_cancel.cls ≠ "java/lang/invoke/VarHandle" ∧ (parseMethodDescriptor yX0_cancel.desc).map (fun d => d.parameters.length) = some 1 := by decide +kernel
theorem xd_X3_cancel : yX3_cancel.cls ≠ "java/lang/invoke/MethodHandle" ∧ yX3_cancel.cls ≠ "java/lang/invoke/VarHandle" ∧ (parseMethodDescriptor yX3_cancel.desc).map (fun d => d.parameters.length) = some 1 := by decide +kernel
theorem xd_X0_close : yX0_close.cls ≠ "java/lang/invoke/MethodHandle" ∧ yX0_close.cls ≠ "java/lang/invoke/VarHandle" ∧ (parseMethodDescriptor yX0_close.desc).map (fun d => d.parameters.length) = some 1 := by decide +kernel
theorem xd_X3_close : yX3_close.cls ≠ "java/lang/invoke/MethodHandle" ∧ yX3_close.cls ≠ "java/lang/invoke/VarHandle" ∧ (parseMethodDescriptor yX3_close.desc).map (fun d => d.parameters.length) = some 1 := by decide +kernel
theorem xd_X0_changeLine : yX0_changeLine.cls ≠ "java/lang/invoke/MethodHandle" ∧ yX0_changeLine.cls ≠ "java/lang/invoke/VarHandle" ∧ (parseMethodDescriptor yX0_changeLine.desc).map (fun d => d.parameters.length) = some 4 := by decide +kernel
theorem xd_X3_changeLine : yX3_changeLine.cls ≠ "java/lang/invoke/MethodHandle" ∧ yX3_changeLine.cls ≠ "java/lang/invoke/VarHandle" ∧ (parseMethodDescriptor yX3_changeLine.desc).map (fun d => d.parameters.length) = some 4 := by decide +kernel
theorem xd_X0_addLine : yX0_addLine.cls ≠ "java/lang/invoke/MethodHandle" ∧ yX0_addLine.cls ≠ "java/lang/invoke/VarHandle" ∧ (parseMethodDescriptor yX0_addLine.desc).map (fun d => d.parameters.length) = some 4 := by decide +kernel
theorem xd_X3_addLine : yX3_addLine.cls ≠ "java/lang/invoke/MethodHandle" ∧ yX3_addLine.cls ≠ "java/lang/invoke/VarHandle" ∧ (parseMethodDescriptor yX3_addLine.desc).map (fun d => d.parameters.length) = some 4 := by decide +kernel
theorem xd_X0_addOrder : yX0_addOrder.cls ≠ "java/lang/invoke/MethodHandle" ∧ yX0_addOrder.cls ≠ "java/lang/invoke/VarHandle" ∧ (parseMethodDescriptor yX0_addOrder.desc).map (fun d => d.parameters.length) = some 1 := by decide +kernel
theorem xd_X3_addOrder : yX3_addOrder.cls ≠ "java/lang/invoke/MethodHandle" ∧ yX3_addOrder.cls ≠ "java/lang/invoke/VarHandle" ∧ (parseMethodDescriptor yX3_addOrder.desc).map (fun d => d.parameters.length) = some 1 := by decide +kernel
theorem xd_X0_setTerms : yX0_setTerms.cls ≠ "java/lang/invoke/MethodHandle" ∧ yX0_setTerms.cls ≠ "java/lang/invoke/VarHandle" ∧ (parseMethodDescriptor yX0_setTerms.desc).map (fun d => d.parameters.length) = some 2 := by decide +kernel
theorem xd_X3_setTerms : yX3_setTerms.cls ≠ "java/lang/invoke/MethodHandle" ∧ yX3_setTerms.cls ≠ "java/lang/invoke/VarHandle" ∧ (parseMethodDescriptor yX3_setTerms.desc).map (fun d => d.parameters.length) = some 2 := by decide +kernel
theorem xd_X0_setDiscount : yX0_setDiscount.cls ≠ "java/lang/invoke/MethodHandle" ∧ yX0_setDiscount.cls ≠ "java/lang/invoke/VarHandle" ∧ (parseMethodDescriptor yX0_setDiscount.desc).map (fun d => d.parameters.length) = some 1 := by decide +kernel
theorem xd_X3_setDiscount : yX3_setDiscount.cls ≠ "java/lang/invoke/MethodHandle" ∧ yX3_setDiscount.cls ≠ "java/lang/invoke/VarHandle" ∧ (parseMethodDescriptor yX3_setDiscount.desc).map (fun d => d.parameters.length) = some 1 := by decide +kernel
theorem xd_X0_block : yX0_block.cls ≠ "java/lang/invoke/MethodHandle" ∧ yX0_block.cls ≠ "java/lang/invoke/VarHandle" ∧ (parseMethodDescriptor yX0_block.desc).map (fun d => d.parameters.length) = some 2 := by decide +kernel
theorem xd_X3_block : yX3_block.cls ≠ "java/lang/invoke/MethodHandle" ∧ yX3_block.cls ≠ "java/lang/invoke/VarHandle" ∧ (parseMethodDescriptor yX3_block.desc).map (fun d => d.parameters.length) = some 2 := by decide +kernel
theorem xd_X0_setTrifle : yX0_setTrifle.cls ≠ "java/lang/invoke/MethodHandle" ∧ yX0_setTrifle.cls ≠ "java/lang/invoke/VarHandle" ∧ (parseMethodDescriptor yX0_setTrifle.desc).map (fun d => d.parameters.length) = some 2 := by decide +kernel
theorem xd_X3_setTrifle : yX3_setTrifle.cls ≠ "java/lang/invoke/MethodHandle" ∧ yX3_setTrifle.cls ≠ "java/lang/invoke/VarHandle" ∧ (parseMethodDescriptor yX3_setTrifle.desc).map (fun d => d.parameters.length) = some 2 := by decide +kernel
theorem xd_X0_setTolerance : yX0_setTolerance.cls ≠ "java/lang/invoke/MethodHandle" ∧ yX0_setTolerance.cls ≠ "java/lang/invoke/VarHandle" ∧ (parseMethodDescriptor yX0_setTolerance.desc).map (fun d => d.parameters.length) = some 3 := by decide +kernel
theorem xd_X3_setTolerance : yX3_setTolerance.cls ≠ "java/lang/invoke/MethodHandle" ∧ yX3_setTolerance.cls ≠ "java/lang/invoke/VarHandle" ∧ (parseMethodDescriptor yX3_setTolerance.desc).map (fun d => d.parameters.length) = some 3 := by decide +kernel
theorem xd_X0_addSupplier : yX0_addSupplier.cls ≠ "java/lang/invoke/MethodHandle" ∧ yX0_addSupplier.cls ≠ "java/lang/invoke/VarHandle" ∧ (parseMethodDescriptor yX0_addSupplier.desc).map (fun d => d.parameters.length) = some 0 := by decide +kernel
theorem xd_X3_addSupplier : yX3_addSupplier.cls ≠ "java/lang/invoke/MethodHandle" ∧ yX3_addSupplier.cls ≠ "java/lang/invoke/VarHandle" ∧ (parseMethodDescriptor yX3_addSupplier.desc).map (fun d => d.parameters.length) = some 0 := by decide +kernel
