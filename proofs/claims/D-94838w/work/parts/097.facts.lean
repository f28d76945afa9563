set_option maxRecDepth 100000
theorem fl_X1_157 : FL RX1 157 0 4 := ⟨(RX1, TX1, 40), "HeavierServes", rfl, by decide, Or.inl q382, Or.inl rfl⟩
theorem fl_X1_11 : FL RX1 11 0 0 := ⟨(RX1, TX1, 40), "HeavierServes", rfl, by decide, Or.inl q369, Or.inl rfl⟩
theorem fl_X1_270 : FL RX1 270 2 2 := ⟨(RX3, TX3, 4), "HeavierServes$One", rfl, by decide, Or.inl q196, Or.inl rfl⟩
theorem fl_X1_273 : FL RX1 273 2 3 := ⟨(RX3, TX3, 4), "HeavierServes$One", rfl, by decide, Or.inl q199, Or.inl rfl⟩
theorem fl_X2_9 : FL RX2 9 1 0 := ⟨(RX2, TX2, 11), "HeavierServes$Time", rfl, by decide, Or.inl q123, Or.inl rfl⟩
theorem fl_X2_15 : FL RX2 15 1 1 := ⟨(RX2, TX2, 11), "HeavierServes$Time", rfl, by decide, Or.inl q126, Or.inl rfl⟩
theorem fl_X2_18 : FL RX2 18 1 2 := ⟨(RX2, TX2, 11), "HeavierServes$Time", rfl, by decide, Or.inl q129, Or.inl rfl⟩
theorem fl_X2_21 : FL RX2 21 1 3 := ⟨(RX2, TX2, 11), "HeavierServes$Time", rfl, by decide, Or.inl q131, Or.inl rfl⟩
theorem fl_X2_24 : FL RX2 24 1 4 := ⟨(RX2, TX2, 11), "HeavierServes$Time", rfl, by decide, Or.inl q133, Or.inl rfl⟩
theorem fl_X2_27 : FL RX2 27 1 5 := ⟨(RX2, TX2, 11), "HeavierServes$Time", rfl, by decide, Or.inl q135, Or.inl rfl⟩
theorem fl_X2_40 : FL RX2 40 1 6 := ⟨(RX2, TX2, 11), "HeavierServes$Time", rfl, by decide, Or.inl q137, Or.inl rfl⟩
theorem fn_1_6 : finN 1 6 := fun q h => by cases h; rfl
theorem fl_X2_30 : FL RX2 30 1 7 := ⟨(RX2, TX2, 11), "HeavierServes$Time", rfl, by decide, Or.inl q140, Or.inl rfl⟩
theorem fn_1_7 : finN 1 7 := fun q h => by cases h; rfl
theorem fl_X2_43 : FL RX2 43 1 8 := ⟨(RX2, TX2, 11), "HeavierServes$Time", rfl, by decide, Or.inl q147, Or.inl rfl⟩
theorem fn_1_8 : finN 1 8 := fun q h => by cases h; rfl
theorem fl_X2_46 : FL RX2 46 1 9 := ⟨(RX2, TX2, 11), "HeavierServes$Time", rfl, by decide, Or.inl q152, Or.inl rfl⟩
theorem fn_1_9 : finN 1 9 := fun q h => by cases h; rfl
theorem fl_X2_49 : FL RX2 49 1 10 := ⟨(RX2, TX2, 11), "HeavierServes$Time", rfl, by decide, Or.inl q156, Or.inl rfl⟩
theorem fn_1_10 : finN 1 10 := fun q h => by cases h; rfl
theorem fl_X17_23 : FL RX17 23 16 4 := ⟨(RX17, TX17, 7), "HeavierServes$Will", rfl, by decide, Or.inl q684, Or.inl rfl⟩
theorem fl_X17_79 : FL RX17 79 1 7 := ⟨(RX2, TX2, 11), "HeavierServes$Time", rfl, by decide, Or.inl q145, Or.inl rfl⟩
theorem fl_X17_27 : FL RX17 27 16 5 := ⟨(RX17, TX17, 7), "HeavierServes$Will", rfl, by decide, Or.inl q685, Or.inl rfl⟩
theorem fl_X17_108 : FL RX17 108 1 9 := ⟨(RX2, TX2, 11), "HeavierServes$Time", rfl, by decide, Or.inl q154, Or.inl rfl⟩
theorem fl_X17_3 : FL RX17 3 16 6 := ⟨(RX17, TX17, 7), "HeavierServes$Will", rfl, by decide, Or.inl q686, Or.inl rfl⟩
theorem fl_X17_88 : FL RX17 88 0 0 := ⟨(RX1, TX1, 40), "HeavierServes", rfl, by decide, Or.inr ⟨_, q370⟩, Or.inl rfl⟩
theorem fl_X17_92 : FL RX17 92 2 0 := ⟨(RX3, TX3, 4), "HeavierServes$One", rfl, by decide, Or.inl q190, Or.inl rfl⟩
theorem fl_X17_97 : FL RX17 97 1 8 := ⟨(RX2, TX2, 11), "HeavierServes$Time", rfl, by decide, Or.inl q148, Or.inl rfl⟩
theorem fl_X17_84 : FL RX17 84 1 0 := ⟨(RX2, TX2, 11), "HeavierServes$Time", rfl, by decide, Or.inl q124, Or.inl rfl⟩
theorem fl_X17_111 : FL RX17 111 1 1 := ⟨(RX2, TX2, 11), "HeavierServes$Time", rfl, by decide, Or.inl q127, Or.inl rfl⟩
theorem fl_X5_7 : FL RX5 7 4 0 := ⟨(RX5, TX5, 1), "HeavierServes$Told", rfl, by decide, Or.inl q227, Or.inl rfl⟩
theorem fl_X7_9 : FL RX7 9 6 0 := ⟨(RX7, TX7, 2), "HeavierServes$AllPlanned", rfl, by decide, Or.inl q261, Or.inl rfl⟩
theorem fl_X7_15 : FL RX7 15 1 9 := ⟨(RX2, TX2, 11), "HeavierServes$Time", rfl, by decide, Or.inl q150, Or.inl rfl⟩
theorem fl_X7_21 : FL RX7 21 6 1 := ⟨(RX7, TX7, 2), "HeavierServes$AllPlanned", rfl, by decide, Or.inl q263, Or.inl rfl⟩
theorem fl_X8_3 : FL RX8 3 7 2 := ⟨(RX8, TX8, 3), "HeavierServes$InTurn", rfl, by decide, Or.inl q280, Or.inl rfl⟩
theorem fl_X8_15 : FL RX8 15 0 0 := ⟨(RX1, TX1, 40), "HeavierServes", rfl, by decide, Or.inr ⟨_, q368⟩, Or.inl rfl⟩
theorem fl_X8_19 : FL RX8 19 2 0 := ⟨(RX3, TX3, 4), "HeavierServes$One", rfl, by decide, Or.inl q189, Or.inl rfl⟩
theorem fl_X8_25 : FL RX8 25 7 0 := ⟨(RX8, TX8, 3), "HeavierServes$InTurn", rfl, by decide, Or.inl q276, Or.inl rfl⟩
theorem fl_X8_49 : FL RX8 49 1 6 := ⟨(RX2, TX2, 11), "HeavierServes$Time", rfl, by decide, Or.inl q138, Or.inl rfl⟩
theorem fl_X8_34 : FL RX8 34 0 4 := ⟨(RX1, TX1, 40), "HeavierServes", rfl, by decide, Or.inr ⟨_, q381⟩, Or.inl rfl⟩
theorem fl_X8_41 : FL RX8 41 1 9 := ⟨(RX2, TX2, 11), "HeavierServes$Time", rfl, by decide, Or.inl q153, Or.inl rfl⟩
theorem fl_X8_46 : FL RX8 46 7 1 := ⟨(RX8, TX8, 3), "HeavierServes$InTurn", rfl, by decide, Or.inl q278, Or.inl rfl⟩
theorem fl_X1_175 : FL RX1 175 0 8 := ⟨(RX1, TX1, 40), "HeavierServes", rfl, by decide, Or.inl q387, Or.inl rfl⟩
theorem fl_X1_29 : FL RX1 29 0 7 := ⟨(RX1, TX1, 40), "HeavierServes", rfl, by decide, Or.inl q386, Or.inl rfl⟩
theorem fl_X1_332 : FL RX1 332 0 21 := ⟨(RX1, TX1, 40), "HeavierServes", rfl, by decide, Or.inl q406, Or.inl rfl⟩
theorem fn_0_21 : finN 0 21 := fun q h => by cases h; rfl
theorem fl_X1_336 : FL RX1 336 0 22 := ⟨(RX1, TX1, 40), "HeavierServes", rfl, by decide, Or.inl q407, Or.inl rfl⟩
theorem fn_0_22 : finN 0 22 := fun q h => by cases h; rfl
theorem fl_X1_315 : FL RX1 315 1 7 := ⟨(RX2, TX2, 11), "HeavierServes$Time", rfl, by decide, Or.inl q146, Or.inl rfl⟩
theorem fl_X1_342 : FL RX1 342 1 8 := ⟨(RX2, TX2, 11), "HeavierServes$Time", rfl, by decide, Or.inl q149, Or.inl rfl⟩
theorem fl_X1_345 : FL RX1 345 1 5 := ⟨(RX2, TX2, 11), "HeavierServes$Time", rfl, by decide, Or.inl q136, Or.inl rfl⟩
theorem fl_X1_348 : FL RX1 348 1 9 := ⟨(RX2, TX2, 11), "HeavierServes$Time", rfl, by decide, Or.inl q155, Or.inl rfl⟩
theorem fl_X1_239 : FL RX1 239 1 1 := ⟨(RX2, TX2, 11), "HeavierServes$Time", rfl, by decide, Or.inl q128, Or.inl rfl⟩
theorem fl_X1_168 : FL RX1 168 1 6 := ⟨(RX2, TX2, 11), "HeavierServes$Time", rfl, by decide, Or.inl q139, Or.inl rfl⟩
theorem fl_X1_236 : FL RX1 236 1 0 := ⟨(RX2, TX2, 11), "HeavierServes$Time", rfl, by decide, Or.inl q125, Or.inl rfl⟩
theorem fl_X1_37 : FL RX1 37 0 11 := ⟨(RX1, TX1, 40), "HeavierServes", rfl, by decide, Or.inl q390, Or.inl rfl⟩
theorem fl_X1_154 : FL RX1 154 0 12 := ⟨(RX1, TX1, 40), "HeavierServes", rfl, by decide, Or.inl q391, Or.inl rfl⟩
theorem fn_0_12 : finN 0 12 := fun q h => by cases h; rfl
theorem fl_X1_18 : FL RX1 18 0 1 := ⟨(RX1, TX1, 40), "HeavierServes", rfl, by decide, Or.inl q373, Or.inl rfl⟩
theorem fl_X1_388 : FL RX1 388 1 10 := ⟨(RX2, TX2, 11), "HeavierServes$Time", rfl, by decide, Or.inl q157, Or.inl rfl⟩
theorem fl_X1_391 : FL RX1 391 1 2 := ⟨(RX2, TX2, 11), "HeavierServes$Time", rfl, by decide, Or.inl q130, Or.inl rfl⟩
theorem fl_X1_394 : FL RX1 394 1 3 := ⟨(RX2, TX2, 11), "HeavierServes$Time", rfl, by decide, Or.inl q132, Or.inl rfl⟩
theorem fl_X1_397 : FL RX1 397 1 4 := ⟨(RX2, TX2, 11), "HeavierServes$Time", rfl, by decide, Or.inl q134, Or.inl rfl⟩
theorem fl_X3_15 : FL RX3 15 2 0 := ⟨(RX3, TX3, 4), "HeavierServes$One", rfl, by decide, Or.inl q188, Or.inl rfl⟩
theorem fn_2_0 : finN 2 0 := fun q h => by cases h; rfl
theorem fl_X3_19 : FL RX3 19 2 1 := ⟨(RX3, TX3, 4), "HeavierServes$One", rfl, by decide, Or.inl q192, Or.inl rfl⟩
theorem fn_2_1 : finN 2 1 := fun q h => by cases h; rfl
theorem fl_X3_22 : FL RX3 22 2 2 := ⟨(RX3, TX3, 4), "HeavierServes$One", rfl, by decide, Or.inl q194, Or.inl rfl⟩
theorem fn_2_2 : finN 2 2 := fun q h => by cases h; rfl
theorem fl_X3_9 : FL RX3 9 2 3 := ⟨(RX3, TX3, 4), "HeavierServes$One", rfl, by decide, Or.inl q197, Or.inl rfl⟩
theorem fn_0_4 : finN 0 4 := fun q h => by cases h; rfl
theorem fl_X1_242 : FL RX1 242 0 5 := ⟨(RX1, TX1, 40), "HeavierServes", rfl, by decide, Or.inl q384, Or.inl rfl⟩
theorem fn_0_5 : finN 0 5 := fun q h => by cases h; rfl
theorem fl_X1_245 : FL RX1 245 0 6 := ⟨(RX1, TX1, 40), "HeavierServes", rfl, by decide, Or.inl q385, Or.inl rfl⟩
theorem fn_0_6 : finN 0 6 := fun q h => by cases h; rfl
theorem fl_X1_150 : FL RX1 150 0 39 := ⟨(RX1, TX1, 40), "HeavierServes", rfl, by decide, Or.inl q424, Or.inl rfl⟩
theorem fl_X1_520 : FL RX1 520 17 1 := ⟨(RX18, TX18, 3), "HeavierServes$Kept", rfl, by decide, Or.inr ⟨_, q1283⟩, Or.inl rfl⟩
theorem fl_X1_523 : FL RX1 523 17 0 := ⟨(RX18, TX18, 3), "HeavierServes$Kept", rfl, by decide, Or.inr ⟨_, q1281⟩, Or.inl rfl⟩
theorem fl_X1_22 : FL RX1 22 0 2 := ⟨(RX1, TX1, 40), "HeavierServes", rfl, by decide, Or.inl q378, Or.inl rfl⟩
theorem fl_X14_28 : FL RX14 28 13 4 := ⟨(RX14, TX14, 46), "HeavierServesModel", rfl, by decide, Or.inl q1370, Or.inl rfl⟩
theorem fl_X14_232 : FL RX14 232 13 24 := ⟨(RX14, TX14, 46), "HeavierServesModel", rfl, by decide, Or.inl q1390, Or.inl rfl⟩
theorem fl_X14_71 : FL RX14 71 13 26 := ⟨(RX14, TX14, 46), "HeavierServesModel", rfl, by decide, Or.inl q1392, Or.inl rfl⟩
theorem fl_X14_65 : FL RX14 65 13 22 := ⟨(RX14, TX14, 46), "HeavierServesModel", rfl, by decide, Or.inl q1388, Or.inl rfl⟩
theorem fl_X14_117 : FL RX14 117 13 3 := ⟨(RX14, TX14, 46), "HeavierServesModel", rfl, by decide, Or.inl q1369, Or.inl rfl⟩
theorem fl_X14_251 : FL RX14 251 13 9 := ⟨(RX14, TX14, 46), "HeavierServesModel", rfl, by decide, Or.inl q1375, Or.inl rfl⟩
theorem fl_X14_41 : FL RX14 41 13 8 := ⟨(RX14, TX14, 46), "HeavierServesModel", rfl, by decide, Or.inl q1374, Or.inl rfl⟩
theorem fl_X14_273 : FL RX14 273 13 27 := ⟨(RX14, TX14, 46), "HeavierServesModel", rfl, by decide, Or.inl q1393, Or.inl rfl⟩
theorem fn_13_27 : finN 13 27 := fun q h => by cases h; rfl
theorem fl_X14_38 : FL RX14 38 13 7 := ⟨(RX14, TX14, 46), "HeavierServesModel", rfl, by decide, Or.inl q1373, Or.inl rfl⟩
theorem fl_X14_35 : FL RX14 35 13 6 := ⟨(RX14, TX14, 46), "HeavierServesModel", rfl, by decide, Or.inl q1372, Or.inl rfl⟩
theorem fl_X14_47 : FL RX14 47 13 11 := ⟨(RX14, TX14, 46), "HeavierServesModel", rfl, by decide, Or.inl q1377, Or.inl rfl⟩
theorem fl_X14_80 : FL RX14 80 13 32 := ⟨(RX14, TX14, 46), "HeavierServesModel", rfl, by decide, Or.inl q1398, Or.inl rfl⟩
theorem fl_X14_368 : FL RX14 368 13 37 := ⟨(RX14, TX14, 46), "HeavierServesModel", rfl, by decide, Or.inl q1403, Or.inl rfl⟩
theorem fl_X14_95 : FL RX14 95 13 39 := ⟨(RX14, TX14, 46), "HeavierServesModel", rfl, by decide, Or.inl q1405, Or.inl rfl⟩
theorem fl_X14_92 : FL RX14 92 13 38 := ⟨(RX14, TX14, 46), "HeavierServesModel", rfl, by decide, Or.inl q1404, Or.inl rfl⟩
theorem fl_X1_476 : FL RX1 476 0 32 := ⟨(RX1, TX1, 40), "HeavierServes", rfl, by decide, Or.inl q417, Or.inl rfl⟩
theorem fl_X1_127 : FL RX1 127 0 30 := ⟨(RX1, TX1, 40), "HeavierServes", rfl, by decide, Or.inl q415, Or.inl rfl⟩
theorem fl_X1_130 : FL RX1 130 0 31 := ⟨(RX1, TX1, 40), "HeavierServes", rfl, by decide, Or.inl q416, Or.inl rfl⟩
theorem fn_0_8 : finN 0 8 := fun q h => by cases h; rfl
theorem fl_X1_488 : FL RX1 488 0 35 := ⟨(RX1, TX1, 40), "HeavierServes", rfl, by decide, Or.inl q420, Or.inl rfl⟩
theorem fl_X1_186 : FL RX1 186 0 10 := ⟨(RX1, TX1, 40), "HeavierServes", rfl, by decide, Or.inl q389, Or.inl rfl⟩
theorem fl_X1_25 : FL RX1 25 0 3 := ⟨(RX1, TX1, 40), "HeavierServes", rfl, by decide, Or.inl q379, Or.inl rfl⟩
theorem fn_0_10 : finN 0 10 := fun q h => by cases h; rfl
theorem fn_0_32 : finN 0 32 := fun q h => by cases h; rfl
theorem fn_0_7 : finN 0 7 := fun q h => by cases h; rfl
theorem fl_X15_9 : FL RX15 9 14 0 := ⟨(RX15, TX15, 4), "HeavierServes$Words", rfl, by decide, Or.inl q535, Or.inl rfl⟩
theorem ff_X15_9 : finF RX15 9 14 0 := fun q h => by cases h; exact ⟨rfl, rfl, "HeavierServes$Words", q535, Or.inl rfl⟩
theorem fl_X15_15 : FL RX15 15 14 1 := ⟨(RX15, TX15, 4), "HeavierServes$Words", rfl, by decide, Or.inl q536, Or.inl rfl⟩
theorem ff_X15_15 : finF RX15 15 14 1 := fun q h => by cases h; exact ⟨rfl, rfl, "HeavierServes$Words", q536, Or.inl rfl⟩
theorem fl_X15_25 : FL RX15 25 14 2 := ⟨(RX15, TX15, 4), "HeavierServes$Words", rfl, by decide, Or.inl q538, Or.inl rfl⟩
theorem ff_X15_25 : finF RX15 25 14 2 := fun q h => by cases h; exact ⟨rfl, rfl, "HeavierServes$Words", q538, Or.inl rfl⟩
theorem fl_X15_9_X17 : FL RX15 9 16 0 := ⟨(RX17, TX17, 7), "HeavierServes$Words", rfl, by decide, Or.inl q535, Or.inl rfl⟩
theorem ff_X15_9_16 : finF RX15 9 16 0 := fun q h => by cases h; exact ⟨rfl, rfl, "HeavierServes$Words", q535, Or.inl rfl⟩
theorem fl_X15_15_X17 : FL RX15 15 16 1 := ⟨(RX17, TX17, 7), "HeavierServes$Words", rfl, by decide, Or.inl q536, Or.inl rfl⟩
theorem ff_X15_15_16 : finF RX15 15 16 1 := fun q h => by cases h; exact ⟨rfl, rfl, "HeavierServes$Words", q536, Or.inl rfl⟩
theorem fl_X15_25_X17 : FL RX15 25 16 2 := ⟨(RX17, TX17, 7), "HeavierServes$Words", rfl, by decide, Or.inl q538, Or.inl rfl⟩
theorem ff_X15_25_16 : finF RX15 25 16 2 := fun q h => by cases h; exact ⟨rfl, rfl, "HeavierServes$Words", q538, Or.inl rfl⟩
theorem fl_X15_28 : FL RX15 28 14 3 := ⟨(RX15, TX15, 4), "HeavierServes$Words", rfl, by decide, Or.inl q539, Or.inl rfl⟩
theorem fl_X15_28_X17 : FL RX15 28 16 3 := ⟨(RX17, TX17, 7), "HeavierServes$Words", rfl, by decide, Or.inl q539, Or.inl rfl⟩
theorem fn_14_3 : finN 14 3 := fun q h => by cases h; rfl
theorem fn_16_3 : finN 16 3 := fun q h => by cases h; rfl
theorem fl_X15_52 : FL RX15 52 2 2 := ⟨(RX3, TX3, 4), "HeavierServes$One", rfl, by decide, Or.inl q195, Or.inl rfl⟩
theorem fl_X15_57 : FL RX15 57 2 3 := ⟨(RX3, TX3, 4), "HeavierServes$One", rfl, by decide, Or.inl q198, Or.inl rfl⟩
theorem fl_X4_1 : FL RX4 1 3 0 := ⟨(RX4, TX4, 1), "HeavierServes$ByWill", rfl, by decide, Or.inl q217, Or.inl rfl⟩
theorem ff_X4_1 : finF RX4 1 3 0 := fun q h => by cases h; exact ⟨rfl, rfl, "HeavierServes$ByWill", q217, Or.inl rfl⟩
theorem fl_X6_1 : FL RX6 1 5 3 := ⟨(RX6, TX6, 4), "HeavierServes$Planned", rfl, by decide, Or.inl q245, Or.inl rfl⟩
theorem ff_X6_1 : finF RX6 1 5 3 := fun q h => by cases h; exact ⟨rfl, rfl, "HeavierServes$Planned", q245, Or.inl rfl⟩
theorem ff_X8_3 : finF RX8 3 7 2 := fun q h => by cases h; exact ⟨rfl, rfl, "HeavierServes$InTurn", q280, Or.inl rfl⟩
theorem fl_X9_1 : FL RX9 1 8 1 := ⟨(RX9, TX9, 2), "HeavierServes$Without", rfl, by decide, Or.inl q296, Or.inl rfl⟩
theorem ff_X9_1 : finF RX9 1 8 1 := fun q h => by cases h; exact ⟨rfl, rfl, "HeavierServes$Without", q296, Or.inl rfl⟩
theorem fl_X10_1 : FL RX10 1 9 1 := ⟨(RX10, TX10, 2), "HeavierServes$Holds", rfl, by decide, Or.inl q310, Or.inl rfl⟩
theorem ff_X10_1 : finF RX10 1 9 1 := fun q h => by cases h; exact ⟨rfl, rfl, "HeavierServes$Holds", q310, Or.inl rfl⟩
theorem fl_X11_1 : FL RX11 1 10 2 := ⟨(RX11, TX11, 3), "HeavierServes$Serves", rfl, by decide, Or.inl q326, Or.inl rfl⟩
theorem ff_X11_1 : finF RX11 1 10 2 := fun q h => by cases h; exact ⟨rfl, rfl, "HeavierServes$Serves", q326, Or.inl rfl⟩
theorem fl_X12_1 : FL RX12 1 11 2 := ⟨(RX12, TX12, 3), "HeavierServes$ServesNever", rfl, by decide, Or.inl q344, Or.inl rfl⟩
theorem ff_X12_1 : finF RX12 1 11 2 := fun q h => by cases h; exact ⟨rfl, rfl, "HeavierServes$ServesNever", q344, Or.inl rfl⟩
theorem fl_X13_1 : FL RX13 1 12 1 := ⟨(RX13, TX13, 2), "HeavierServes$ServesNext", rfl, by decide, Or.inl q360, Or.inl rfl⟩
theorem ff_X13_1 : finF RX13 1 12 1 := fun q h => by cases h; exact ⟨rfl, rfl, "HeavierServes$ServesNext", q360, Or.inl rfl⟩
theorem fl_X1_385 : FL RX1 385 14 3 := ⟨(RX15, TX15, 4), "HeavierServes$Words", rfl, by decide, Or.inl q542, Or.inl rfl⟩
theorem fl_X1_211 : FL RX1 211 2 0 := ⟨(RX3, TX3, 4), "HeavierServes$One", rfl, by decide, Or.inl q191, Or.inl rfl⟩
theorem fl_X1_214 : FL RX1 214 2 1 := ⟨(RX3, TX3, 4), "HeavierServes$One", rfl, by decide, Or.inl q193, Or.inl rfl⟩
theorem fl_X1_33 : FL RX1 33 0 9 := ⟨(RX1, TX1, 40), "HeavierServes", rfl, by decide, Or.inl q388, Or.inl rfl⟩
theorem fl_X1_133 : FL RX1 133 0 33 := ⟨(RX1, TX1, 40), "HeavierServes", rfl, by decide, Or.inl q418, Or.inl rfl⟩
theorem fl_X1_136 : FL RX1 136 0 34 := ⟨(RX1, TX1, 40), "HeavierServes", rfl, by decide, Or.inl q419, Or.inl rfl⟩
theorem fn_0_35 : finN 0 35 := fun q h => by cases h; rfl
theorem ff_X17_3 : finF RX17 3 16 6 := fun q h => by cases h; exact ⟨rfl, rfl, "HeavierServes$Will", q686, Or.inl rfl⟩
theorem fl_X14_44 : FL RX14 44 13 10 := ⟨(RX14, TX14, 46), "HeavierServesModel", rfl, by decide, Or.inl q1376, Or.inl rfl⟩
theorem fl_X14_11 : FL RX14 11 13 2 := ⟨(RX14, TX14, 46), "HeavierServesModel", rfl, by decide, Or.inl q1368, Or.inl rfl⟩
theorem fl_X14_15 : FL RX14 15 13 1 := ⟨(RX14, TX14, 46), "HeavierServesModel", rfl, by decide, Or.inl q1367, Or.inl rfl⟩
theorem fn_13_1 : finN 13 1 := fun q h => by cases h; rfl
theorem fl_X14_3 : FL RX14 3 13 0 := ⟨(RX14, TX14, 46), "HeavierServesModel", rfl, by decide, Or.inl q1366, Or.inl rfl⟩
theorem fn_13_0 : finN 13 0 := fun q h => by cases h; rfl
theorem fl_X14_107 : FL RX14 107 13 43 := ⟨(RX14, TX14, 46), "HeavierServesModel", rfl, by decide, Or.inl q1409, Or.inl rfl⟩
theorem fl_X14_111 : FL RX14 111 13 44 := ⟨(RX14, TX14, 46), "HeavierServesModel", rfl, by decide, Or.inl q1410, Or.inl rfl⟩
theorem fl_X14_207 : FL RX14 207 13 28 := ⟨(RX14, TX14, 46), "HeavierServesModel", rfl, by decide, Or.inl q1394, Or.inl rfl⟩
theorem fn_13_28 : finN 13 28 := fun q h => by cases h; rfl
theorem fl_X14_114 : FL RX14 114 13 45 := ⟨(RX14, TX14, 46), "HeavierServesModel", rfl, by decide, Or.inl q1411, Or.inl rfl⟩
theorem fl_X14_135 : FL RX14 135 13 14 := ⟨(RX14, TX14, 46), "HeavierServesModel", rfl, by decide, Or.inl q1380, Or.inl rfl⟩
theorem fl_X14_147 : FL RX14 147 13 15 := ⟨(RX14, TX14, 46), "HeavierServesModel", rfl, by decide, Or.inl q1381, Or.inl rfl⟩
theorem fl_X14_50 : FL RX14 50 13 12 := ⟨(RX14, TX14, 46), "HeavierServesModel", rfl, by decide, Or.inl q1378, Or.inl rfl⟩
theorem fl_X14_132 : FL RX14 132 13 13 := ⟨(RX14, TX14, 46), "HeavierServesModel", rfl, by decide, Or.inl q1379, Or.inl rfl⟩
theorem fn_13_13 : finN 13 13 := fun q h => by cases h; rfl
theorem fn_13_14 : finN 13 14 := fun q h => by cases h; rfl
theorem fl_X14_138 : FL RX14 138 13 16 := ⟨(RX14, TX14, 46), "HeavierServesModel", rfl, by decide, Or.inl q1382, Or.inl rfl⟩
theorem fn_13_16 : finN 13 16 := fun q h => by cases h; rfl
theorem fn_13_15 : finN 13 15 := fun q h => by cases h; rfl
theorem fl_X14_83 : FL RX14 83 13 33 := ⟨(RX14, TX14, 46), "HeavierServesModel", rfl, by decide, Or.inl q1399, Or.inl rfl⟩
theorem fl_X14_351 : FL RX14 351 13 34 := ⟨(RX14, TX14, 46), "HeavierServesModel", rfl, by decide, Or.inl q1400, Or.inl rfl⟩
theorem fl_X14_86 : FL RX14 86 13 35 := ⟨(RX14, TX14, 46), "HeavierServesModel", rfl, by decide, Or.inl q1401, Or.inl rfl⟩
theorem fl_X14_89 : FL RX14 89 13 36 := ⟨(RX14, TX14, 46), "HeavierServesModel", rfl, by decide, Or.inl q1402, Or.inl rfl⟩
theorem fn_13_9 : finN 13 9 := fun q h => by cases h; rfl
theorem fl_X14_68 : FL RX14 68 13 23 := ⟨(RX14, TX14, 46), "HeavierServesModel", rfl, by decide, Or.inl q1389, Or.inl rfl⟩
theorem fl_X14_213 : FL RX14 213 13 25 := ⟨(RX14, TX14, 46), "HeavierServesModel", rfl, by decide, Or.inl q1391, Or.inl rfl⟩
theorem fn_13_25 : finN 13 25 := fun q h => by cases h; rfl
theorem fl_X14_62 : FL RX14 62 13 20 := ⟨(RX14, TX14, 46), "HeavierServesModel", rfl, by decide, Or.inl q1386, Or.inl rfl⟩
theorem fl_X14_59 : FL RX14 59 13 19 := ⟨(RX14, TX14, 46), "HeavierServesModel", rfl, by decide, Or.inl q1385, Or.inl rfl⟩
theorem fl_X14_32 : FL RX14 32 13 5 := ⟨(RX14, TX14, 46), "HeavierServesModel", rfl, by decide, Or.inl q1371, Or.inl rfl⟩
theorem fl_X14_74 : FL RX14 74 13 29 := ⟨(RX14, TX14, 46), "HeavierServesModel", rfl, by decide, Or.inl q1395, Or.inl rfl⟩
theorem fn_13_34 : finN 13 34 := fun q h => by cases h; rfl
theorem fn_13_8 : finN 13 8 := fun q h => by cases h; rfl
theorem fl_X14_98 : FL RX14 98 13 40 := ⟨(RX14, TX14, 46), "HeavierServesModel", rfl, by decide, Or.inl q1406, Or.inl rfl⟩
theorem fl_X14_104 : FL RX14 104 13 42 := ⟨(RX14, TX14, 46), "HeavierServesModel", rfl, by decide, Or.inl q1408, Or.inl rfl⟩
theorem fl_X14_101 : FL RX14 101 13 41 := ⟨(RX14, TX14, 46), "HeavierServesModel", rfl, by decide, Or.inl q1407, Or.inl rfl⟩
theorem fl_X14_185 : FL RX14 185 13 21 := ⟨(RX14, TX14, 46), "HeavierServesModel", rfl, by decide, Or.inl q1387, Or.inl rfl⟩
theorem fl_X14_53 : FL RX14 53 13 17 := ⟨(RX14, TX14, 46), "HeavierServesModel", rfl, by decide, Or.inl q1383, Or.inl rfl⟩
theorem fl_X14_56 : FL RX14 56 13 18 := ⟨(RX14, TX14, 46), "HeavierServesModel", rfl, by decide, Or.inl q1384, Or.inl rfl⟩
theorem fn_13_21 : finN 13 21 := fun q h => by cases h; rfl
theorem fl_X14_77 : FL RX14 77 13 30 := ⟨(RX14, TX14, 46), "HeavierServesModel", rfl, by decide, Or.inl q1396, Or.inl rfl⟩
theorem fl_X14_291 : FL RX14 291 13 31 := ⟨(RX14, TX14, 46), "HeavierServesModel", rfl, by decide, Or.inl q1397, Or.inl rfl⟩
theorem fn_13_31 : finN 13 31 := fun q h => by cases h; rfl
theorem fn_13_37 : finN 13 37 := fun q h => by cases h; rfl
theorem fn_13_3 : finN 13 3 := fun q h => by cases h; rfl
theorem fl_X17_31 : FL RX17 31 16 3 := ⟨(RX17, TX17, 7), "HeavierServes$Will", rfl, by decide, Or.inl q540, Or.inr q541⟩
theorem fn_16_4 : finN 16 4 := fun q h => by cases h; rfl
theorem fn_16_5 : finN 16 5 := fun q h => by cases h; rfl
theorem fl_X1_253 : FL RX1 253 0 15 := ⟨(RX1, TX1, 40), "HeavierServes", rfl, by decide, Or.inl q394, Or.inl rfl⟩
theorem fl_X6_13 : FL RX6 13 5 0 := ⟨(RX6, TX6, 4), "HeavierServes$Planned", rfl, by decide, Or.inl q239, Or.inl rfl⟩
theorem fl_X6_17 : FL RX6 17 5 1 := ⟨(RX6, TX6, 4), "HeavierServes$Planned", rfl, by decide, Or.inl q241, Or.inl rfl⟩
theorem fl_X6_20 : FL RX6 20 1 9 := ⟨(RX2, TX2, 11), "HeavierServes$Time", rfl, by decide, Or.inl q151, Or.inl rfl⟩
theorem fl_X6_25 : FL RX6 25 5 2 := ⟨(RX6, TX6, 4), "HeavierServes$Planned", rfl, by decide, Or.inl q243, Or.inl rfl⟩
theorem fl_X9_13 : FL RX9 13 8 0 := ⟨(RX9, TX9, 2), "HeavierServes$Without", rfl, by decide, Or.inl q294, Or.inl rfl⟩
theorem fl_X9_17 : FL RX9 17 0 16 := ⟨(RX1, TX1, 40), "HeavierServes", rfl, by decide, Or.inr ⟨_, q395⟩, Or.inl rfl⟩
theorem fl_X1_142 : FL RX1 142 0 37 := ⟨(RX1, TX1, 40), "HeavierServes", rfl, by decide, Or.inl q422, Or.inl rfl⟩
theorem fl_X1_139 : FL RX1 139 0 36 := ⟨(RX1, TX1, 40), "HeavierServes", rfl, by decide, Or.inl q421, Or.inl rfl⟩
theorem fl_X1_145 : FL RX1 145 0 38 := ⟨(RX1, TX1, 40), "HeavierServes", rfl, by decide, Or.inl q423, Or.inl rfl⟩
theorem fn_13_24 : finN 13 24 := fun q h => by cases h; rfl
theorem fl_X1_89 : FL RX1 89 0 24 := ⟨(RX1, TX1, 40), "HeavierServes", rfl, by decide, Or.inl q409, Or.inl rfl⟩
theorem fl_X1_54 : FL RX1 54 0 16 := ⟨(RX1, TX1, 40), "HeavierServes", rfl, by decide, Or.inl q399, Or.inl rfl⟩
theorem fl_X1_95 : FL RX1 95 0 25 := ⟨(RX1, TX1, 40), "HeavierServes", rfl, by decide, Or.inl q410, Or.inl rfl⟩
theorem fl_X1_453 : FL RX1 453 8 0 := ⟨(RX9, TX9, 2), "HeavierServes$Without", rfl, by decide, Or.inl q295, Or.inl rfl⟩
theorem fn_8_0 : finN 8 0 := fun q h => by cases h; rfl
theorem fl_X10_13 : FL RX10 13 0 1 := ⟨(RX1, TX1, 40), "HeavierServes", rfl, by decide, Or.inr ⟨_, q372⟩, Or.inl rfl⟩
theorem fl_X10_19 : FL RX10 19 1 7 := ⟨(RX2, TX2, 11), "HeavierServes$Time", rfl, by decide, Or.inl q141, Or.inl rfl⟩
theorem fl_X10_29 : FL RX10 29 9 0 := ⟨(RX10, TX10, 2), "HeavierServes$Holds", rfl, by decide, Or.inl q308, Or.inl rfl⟩
theorem fl_X10_32 : FL RX10 32 0 2 := ⟨(RX1, TX1, 40), "HeavierServes", rfl, by decide, Or.inr ⟨_, q376⟩, Or.inl rfl⟩
theorem fl_X10_35 : FL RX10 35 0 16 := ⟨(RX1, TX1, 40), "HeavierServes", rfl, by decide, Or.inr ⟨_, q398⟩, Or.inl rfl⟩
theorem fl_X10_43 : FL RX10 43 0 21 := ⟨(RX1, TX1, 40), "HeavierServes", rfl, by decide, Or.inr ⟨_, q405⟩, Or.inl rfl⟩
theorem fl_X11_13 : FL RX11 13 10 0 := ⟨(RX11, TX11, 3), "HeavierServes$Serves", rfl, by decide, Or.inl q322, Or.inl rfl⟩
theorem fl_X11_23 : FL RX11 23 10 1 := ⟨(RX11, TX11, 3), "HeavierServes$Serves", rfl, by decide, Or.inl q324, Or.inl rfl⟩
theorem fl_X11_26 : FL RX11 26 0 2 := ⟨(RX1, TX1, 40), "HeavierServes", rfl, by decide, Or.inr ⟨_, q374⟩, Or.inl rfl⟩
theorem fl_X11_38 : FL RX11 38 1 7 := ⟨(RX2, TX2, 11), "HeavierServes$Time", rfl, by decide, Or.inl q143, Or.inl rfl⟩
theorem fl_X11_30 : FL RX11 30 0 16 := ⟨(RX1, TX1, 40), "HeavierServes", rfl, by decide, Or.inr ⟨_, q396⟩, Or.inl rfl⟩
theorem fl_X12_13 : FL RX12 13 11 0 := ⟨(RX12, TX12, 3), "HeavierServes$ServesNever", rfl, by decide, Or.inl q340, Or.inl rfl⟩
theorem fl_X12_23 : FL RX12 23 11 1 := ⟨(RX12, TX12, 3), "HeavierServes$ServesNever", rfl, by decide, Or.inl q342, Or.inl rfl⟩
theorem fl_X12_26 : FL RX12 26 0 2 := ⟨(RX1, TX1, 40), "HeavierServes", rfl, by decide, Or.inr ⟨_, q375⟩, Or.inl rfl⟩
theorem fl_X12_30 : FL RX12 30 0 16 := ⟨(RX1, TX1, 40), "HeavierServes", rfl, by decide, Or.inr ⟨_, q397⟩, Or.inl rfl⟩
theorem fl_X12_38 : FL RX12 38 1 7 := ⟨(RX2, TX2, 11), "HeavierServes$Time", rfl, by decide, Or.inl q142, Or.inl rfl⟩
theorem fl_X13_13 : FL RX13 13 12 0 := ⟨(RX13, TX13, 2), "HeavierServes$ServesNext", rfl, by decide, Or.inl q358, Or.inl rfl⟩
theorem fl_X13_23 : FL RX13 23 0 17 := ⟨(RX1, TX1, 40), "HeavierServes", rfl, by decide, Or.inr ⟨_, q400⟩, Or.inl rfl⟩
theorem fl_X13_27 : FL RX13 27 4 0 := ⟨(RX5, TX5, 1), "HeavierServes$Told", rfl, by decide, Or.inl q228, Or.inl rfl⟩
theorem fn_4_0 : finN 4 0 := fun q h => by cases h; rfl
theorem fl_X13_32 : FL RX13 32 0 4 := ⟨(RX1, TX1, 40), "HeavierServes", rfl, by decide, Or.inr ⟨_, q380⟩, Or.inl rfl⟩
theorem fl_X13_35 : FL RX13 35 0 2 := ⟨(RX1, TX1, 40), "HeavierServes", rfl, by decide, Or.inr ⟨_, q377⟩, Or.inl rfl⟩
theorem fl_X13_47 : FL RX13 47 1 7 := ⟨(RX2, TX2, 11), "HeavierServes$Time", rfl, by decide, Or.inl q144, Or.inl rfl⟩
theorem fl_X1_82 : FL RX1 82 0 20 := ⟨(RX1, TX1, 40), "HeavierServes", rfl, by decide, Or.inl q404, Or.inl rfl⟩
theorem fl_X1_451 : FL RX1 451 7 0 := ⟨(RX8, TX8, 3), "HeavierServes$InTurn", rfl, by decide, Or.inl q277, Or.inl rfl⟩
theorem fn_7_0 : finN 7 0 := fun q h => by cases h; rfl
theorem fl_X1_452 : FL RX1 452 7 1 := ⟨(RX8, TX8, 3), "HeavierServes$InTurn", rfl, by decide, Or.inl q279, Or.inl rfl⟩
theorem fn_7_1 : finN 7 1 := fun q h => by cases h; rfl
theorem fl_X1_61 : FL RX1 61 0 17 := ⟨(RX1, TX1, 40), "HeavierServes", rfl, by decide, Or.inl q401, Or.inl rfl⟩
theorem fl_X1_360 : FL RX1 360 4 0 := ⟨(RX5, TX5, 1), "HeavierServes$Told", rfl, by decide, Or.inl q229, Or.inl rfl⟩
theorem fl_X1_68 : FL RX1 68 0 18 := ⟨(RX1, TX1, 40), "HeavierServes", rfl, by decide, Or.inl q402, Or.inl rfl⟩
theorem fl_X1_412 : FL RX1 412 5 0 := ⟨(RX6, TX6, 4), "HeavierServes$Planned", rfl, by decide, Or.inl q240, Or.inl rfl⟩
theorem fn_5_0 : finN 5 0 := fun q h => by cases h; rfl
theorem fl_X1_415 : FL RX1 415 5 2 := ⟨(RX6, TX6, 4), "HeavierServes$Planned", rfl, by decide, Or.inl q244, Or.inl rfl⟩
theorem fn_5_2 : finN 5 2 := fun q h => by cases h; rfl
theorem fl_X1_418 : FL RX1 418 5 1 := ⟨(RX6, TX6, 4), "HeavierServes$Planned", rfl, by decide, Or.inl q242, Or.inl rfl⟩
theorem fn_5_1 : finN 5 1 := fun q h => by cases h; rfl
theorem fl_X1_75 : FL RX1 75 0 19 := ⟨(RX1, TX1, 40), "HeavierServes", rfl, by decide, Or.inl q403, Or.inl rfl⟩
theorem fl_X1_435 : FL RX1 435 6 0 := ⟨(RX7, TX7, 2), "HeavierServes$AllPlanned", rfl, by decide, Or.inl q262, Or.inl rfl⟩
theorem fl_X1_434 : FL RX1 434 6 1 := ⟨(RX7, TX7, 2), "HeavierServes$AllPlanned", rfl, by decide, Or.inl q264, Or.inl rfl⟩
theorem fn_6_1 : finN 6 1 := fun q h => by cases h; rfl
theorem fl_X1_109 : FL RX1 109 0 27 := ⟨(RX1, TX1, 40), "HeavierServes", rfl, by decide, Or.inl q412, Or.inl rfl⟩
theorem fl_X1_468 : FL RX1 468 10 0 := ⟨(RX11, TX11, 3), "HeavierServes$Serves", rfl, by decide, Or.inl q323, Or.inl rfl⟩
theorem fn_10_0 : finN 10 0 := fun q h => by cases h; rfl
theorem fl_X1_469 : FL RX1 469 10 1 := ⟨(RX11, TX11, 3), "HeavierServes$Serves", rfl, by decide, Or.inl q325, Or.inl rfl⟩
theorem fn_10_1 : finN 10 1 := fun q h => by cases h; rfl
theorem fl_X1_123 : FL RX1 123 0 29 := ⟨(RX1, TX1, 40), "HeavierServes", rfl, by decide, Or.inl q414, Or.inl rfl⟩
theorem fl_X1_473 : FL RX1 473 12 0 := ⟨(RX13, TX13, 2), "HeavierServes$ServesNext", rfl, by decide, Or.inl q359, Or.inl rfl⟩
theorem fn_12_0 : finN 12 0 := fun q h => by cases h; rfl
theorem fl_X1_102 : FL RX1 102 0 26 := ⟨(RX1, TX1, 40), "HeavierServes", rfl, by decide, Or.inl q411, Or.inl rfl⟩
theorem fl_X1_461 : FL RX1 461 9 0 := ⟨(RX10, TX10, 2), "HeavierServes$Holds", rfl, by decide, Or.inl q309, Or.inl rfl⟩
theorem fn_9_0 : finN 9 0 := fun q h => by cases h; rfl
theorem fl_X1_116 : FL RX1 116 0 28 := ⟨(RX1, TX1, 40), "HeavierServes", rfl, by decide, Or.inl q413, Or.inl rfl⟩
theorem fl_X1_471 : FL RX1 471 11 0 := ⟨(RX12, TX12, 3), "HeavierServes$ServesNever", rfl, by decide, Or.inl q341, Or.inl rfl⟩
theorem fn_11_0 : finN 11 0 := fun q h => by cases h; rfl
theorem fl_X1_472 : FL RX1 472 11 1 := ⟨(RX12, TX12, 3), "HeavierServes$ServesNever", rfl, by decide, Or.inl q343, Or.inl rfl⟩
theorem fn_11_1 : finN 11 1 := fun q h => by cases h; rfl
theorem ff_X2_9 : finF RX2 9 1 0 := fun q h => by cases h; exact ⟨rfl, rfl, "HeavierServes$Time", q123, Or.inl rfl⟩
theorem ff_X2_15 : finF RX2 15 1 1 := fun q h => by cases h; exact ⟨rfl, rfl, "HeavierServes$Time", q126, Or.inl rfl⟩
theorem ff_X2_18 : finF RX2 18 1 2 := fun q h => by cases h; exact ⟨rfl, rfl, "HeavierServes$Time", q129, Or.inl rfl⟩
theorem ff_X2_21 : finF RX2 21 1 3 := fun q h => by cases h; exact ⟨rfl, rfl, "HeavierServes$Time", q131, Or.inl rfl⟩
theorem ff_X2_24 : finF RX2 24 1 4 := fun q h => by cases h; exact ⟨rfl, rfl, "HeavierServes$Time", q133, Or.inl rfl⟩
theorem ff_X2_27 : finF RX2 27 1 5 := fun q h => by cases h; exact ⟨rfl, rfl, "HeavierServes$Time", q135, Or.inl rfl⟩
theorem ff_X3_9 : finF RX3 9 2 3 := fun q h => by cases h; exact ⟨rfl, rfl, "HeavierServes$One", q197, Or.inl rfl⟩
theorem ff_X7_9 : finF RX7 9 6 0 := fun q h => by cases h; exact ⟨rfl, rfl, "HeavierServes$AllPlanned", q261, Or.inl rfl⟩
theorem ff_X14_11 : finF RX14 11 13 2 := fun q h => by cases h; exact ⟨rfl, rfl, "HeavierServesModel", q1368, Or.inl rfl⟩
theorem ff_X14_28 : finF RX14 28 13 4 := fun q h => by cases h; exact ⟨rfl, rfl, "HeavierServesModel", q1370, Or.inl rfl⟩
theorem ff_X14_32 : finF RX14 32 13 5 := fun q h => by cases h; exact ⟨rfl, rfl, "HeavierServesModel", q1371, Or.inl rfl⟩
theorem ff_X14_35 : finF RX14 35 13 6 := fun q h => by cases h; exact ⟨rfl, rfl, "HeavierServesModel", q1372, Or.inl rfl⟩
theorem ff_X14_38 : finF RX14 38 13 7 := fun q h => by cases h; exact ⟨rfl, rfl, "HeavierServesModel", q1373, Or.inl rfl⟩
theorem ff_X14_44 : finF RX14 44 13 10 := fun q h => by cases h; exact ⟨rfl, rfl, "HeavierServesModel", q1376, Or.inl rfl⟩
theorem ff_X14_47 : finF RX14 47 13 11 := fun q h => by cases h; exact ⟨rfl, rfl, "HeavierServesModel", q1377, Or.inl rfl⟩
theorem ff_X14_50 : finF RX14 50 13 12 := fun q h => by cases h; exact ⟨rfl, rfl, "HeavierServesModel", q1378, Or.inl rfl⟩
theorem ff_X14_53 : finF RX14 53 13 17 := fun q h => by cases h; exact ⟨rfl, rfl, "HeavierServesModel", q1383, Or.inl rfl⟩
theorem ff_X14_56 : finF RX14 56 13 18 := fun q h => by cases h; exact ⟨rfl, rfl, "HeavierServesModel", q1384, Or.inl rfl⟩
theorem ff_X14_59 : finF RX14 59 13 19 := fun q h => by cases h; exact ⟨rfl, rfl, "HeavierServesModel", q1385, Or.inl rfl⟩
theorem ff_X14_62 : finF RX14 62 13 20 := fun q h => by cases h; exact ⟨rfl, rfl, "HeavierServesModel", q1386, Or.inl rfl⟩
theorem ff_X14_65 : finF RX14 65 13 22 := fun q h => by cases h; exact ⟨rfl, rfl, "HeavierServesModel", q1388, Or.inl rfl⟩
theorem ff_X14_68 : finF RX14 68 13 23 := fun q h => by cases h; exact ⟨rfl, rfl, "HeavierServesModel", q1389, Or.inl rfl⟩
theorem ff_X14_71 : finF RX14 71 13 26 := fun q h => by cases h; exact ⟨rfl, rfl, "HeavierServesModel", q1392, Or.inl rfl⟩
theorem ff_X14_74 : finF RX14 74 13 29 := fun q h => by cases h; exact ⟨rfl, rfl, "HeavierServesModel", q1395, Or.inl rfl⟩
theorem ff_X14_77 : finF RX14 77 13 30 := fun q h => by cases h; exact ⟨rfl, rfl, "HeavierServesModel", q1396, Or.inl rfl⟩
theorem ff_X14_80 : finF RX14 80 13 32 := fun q h => by cases h; exact ⟨rfl, rfl, "HeavierServesModel", q1398, Or.inl rfl⟩
theorem ff_X14_83 : finF RX14 83 13 33 := fun q h => by cases h; exact ⟨rfl, rfl, "HeavierServesModel", q1399, Or.inl rfl⟩
theorem ff_X14_86 : finF RX14 86 13 35 := fun q h => by cases h; exact ⟨rfl, rfl, "HeavierServesModel", q1401, Or.inl rfl⟩
theorem ff_X14_89 : finF RX14 89 13 36 := fun q h => by cases h; exact ⟨rfl, rfl, "HeavierServesModel", q1402, Or.inl rfl⟩
theorem ff_X14_92 : finF RX14 92 13 38 := fun q h => by cases h; exact ⟨rfl, rfl, "HeavierServesModel", q1404, Or.inl rfl⟩
theorem ff_X14_95 : finF RX14 95 13 39 := fun q h => by cases h; exact ⟨rfl, rfl, "HeavierServesModel", q1405, Or.inl rfl⟩
theorem ff_X14_98 : finF RX14 98 13 40 := fun q h => by cases h; exact ⟨rfl, rfl, "HeavierServesModel", q1406, Or.inl rfl⟩
theorem ff_X14_101 : finF RX14 101 13 41 := fun q h => by cases h; exact ⟨rfl, rfl, "HeavierServesModel", q1407, Or.inl rfl⟩
theorem ff_X14_104 : finF RX14 104 13 42 := fun q h => by cases h; exact ⟨rfl, rfl, "HeavierServesModel", q1408, Or.inl rfl⟩
theorem ff_X14_107 : finF RX14 107 13 43 := fun q h => by cases h; exact ⟨rfl, rfl, "HeavierServesModel", q1409, Or.inl rfl⟩
theorem ff_X14_111 : finF RX14 111 13 44 := fun q h => by cases h; exact ⟨rfl, rfl, "HeavierServesModel", q1410, Or.inl rfl⟩
theorem ff_X14_114 : finF RX14 114 13 45 := fun q h => by cases h; exact ⟨rfl, rfl, "HeavierServesModel", q1411, Or.inl rfl⟩
theorem fl_X18_1 : FL RX18 1 17 2 := ⟨(RX18, TX18, 3), "HeavierServes$Kept", rfl, by decide, Or.inl q1284, Or.inl rfl⟩
theorem ff_X18_1 : finF RX18 1 17 2 := fun q h => by cases h; exact ⟨rfl, rfl, "HeavierServes$Kept", q1284, Or.inl rfl⟩
theorem okT_X2 : ∀ j, j < 11 → okT (tF 1 j) = true := by decide +kernel
theorem fl_X18_16 : FL RX18 16 17 0 := ⟨(RX18, TX18, 3), "HeavierServes$Kept", rfl, by decide, Or.inl q1280, Or.inl rfl⟩
theorem ff_X18_16 : finF RX18 16 17 0 := fun q h => by cases h; exact ⟨rfl, rfl, "HeavierServes$Kept", q1280, Or.inl rfl⟩
theorem fl_X18_20 : FL RX18 20 0 5 := ⟨(RX1, TX1, 40), "HeavierServes", rfl, by decide, Or.inr ⟨_, q383⟩, Or.inl rfl⟩
theorem fl_X18_26 : FL RX18 26 17 1 := ⟨(RX18, TX18, 3), "HeavierServes$Kept", rfl, by decide, Or.inl q1282, Or.inl rfl⟩
theorem ff_X18_26 : finF RX18 26 17 1 := fun q h => by cases h; exact ⟨rfl, rfl, "HeavierServes$Kept", q1282, Or.inl rfl⟩
theorem fl_X18_29 : FL RX18 29 0 1 := ⟨(RX1, TX1, 40), "HeavierServes", rfl, by decide, Or.inr ⟨_, q371⟩, Or.inl rfl⟩
theorem okT_X15 : ∀ j, j < 4 → okT (tF 14 j) = true := by decide +kernel
theorem okT_X18 : ∀ j, j < 3 → okT (tF 17 j) = true := by decide +kernel
theorem ff_X1_11 : finF RX1 11 0 0 := fun q h => by cases h; exact ⟨rfl, rfl, "HeavierServes", q369, Or.inl rfl⟩
theorem ff_X1_18 : finF RX1 18 0 1 := fun q h => by cases h; exact ⟨rfl, rfl, "HeavierServes", q373, Or.inl rfl⟩
theorem ff_X1_22 : finF RX1 22 0 2 := fun q h => by cases h; exact ⟨rfl, rfl, "HeavierServes", q378, Or.inl rfl⟩
theorem ff_X1_25 : finF RX1 25 0 3 := fun q h => by cases h; exact ⟨rfl, rfl, "HeavierServes", q379, Or.inl rfl⟩
theorem ff_X1_33 : finF RX1 33 0 9 := fun q h => by cases h; exact ⟨rfl, rfl, "HeavierServes", q388, Or.inl rfl⟩
theorem ff_X1_37 : finF RX1 37 0 11 := fun q h => by cases h; exact ⟨rfl, rfl, "HeavierServes", q390, Or.inl rfl⟩
theorem okT_X3 : ∀ j, j < 4 → okT (tF 2 j) = true := by decide +kernel
theorem fl_X1_42 : FL RX1 42 0 13 := ⟨(RX1, TX1, 40), "HeavierServes", rfl, by decide, Or.inl q392, Or.inl rfl⟩
theorem ff_X1_42 : finF RX1 42 0 13 := fun q h => by cases h; exact ⟨rfl, rfl, "HeavierServes", q392, Or.inl rfl⟩
theorem fl_X1_45 : FL RX1 45 0 14 := ⟨(RX1, TX1, 40), "HeavierServes", rfl, by decide, Or.inl q393, Or.inl rfl⟩
theorem ff_X1_45 : finF RX1 45 0 14 := fun q h => by cases h; exact ⟨rfl, rfl, "HeavierServes", q393, Or.inl rfl⟩
theorem okT_X4 : ∀ j, j < 1 → okT (tF 3 j) = true := by decide +kernel
theorem ff_X1_54 : finF RX1 54 0 16 := fun q h => by cases h; exact ⟨rfl, rfl, "HeavierServes", q399, Or.inl rfl⟩
theorem okT_X5 : ∀ j, j < 1 → okT (tF 4 j) = true := by decide +kernel
theorem ff_X1_61 : finF RX1 61 0 17 := fun q h => by cases h; exact ⟨rfl, rfl, "HeavierServes", q401, Or.inl rfl⟩
theorem okT_X6 : ∀ j, j < 4 → okT (tF 5 j) = true := by decide +kernel
theorem ff_X1_68 : finF RX1 68 0 18 := fun q h => by cases h; exact ⟨rfl, rfl, "HeavierServes", q402, Or.inl rfl⟩
theorem okT_X7 : ∀ j, j < 2 → okT (tF 6 j) = true := by decide +kernel
theorem ff_X1_75 : finF RX1 75 0 19 := fun q h => by cases h; exact ⟨rfl, rfl, "HeavierServes", q403, Or.inl rfl⟩
theorem okT_X8 : ∀ j, j < 3 → okT (tF 7 j) = true := by decide +kernel
theorem ff_X1_82 : finF RX1 82 0 20 := fun q h => by cases h; exact ⟨rfl, rfl, "HeavierServes", q404, Or.inl rfl⟩
theorem fl_X1_86 : FL RX1 86 0 23 := ⟨(RX1, TX1, 40), "HeavierServes", rfl, by decide, Or.inl q408, Or.inl rfl⟩
theorem ff_X1_86 : finF RX1 86 0 23 := fun q h => by cases h; exact ⟨rfl, rfl, "HeavierServes", q408, Or.inl rfl⟩
theorem ff_X1_89 : finF RX1 89 0 24 := fun q h => by cases h; exact ⟨rfl, rfl, "HeavierServes", q409, Or.inl rfl⟩
theorem okT_X9 : ∀ j, j < 2 → okT (tF 8 j) = true := by decide +kernel
theorem ff_X1_95 : finF RX1 95 0 25 := fun q h => by cases h; exact ⟨rfl, rfl, "HeavierServes", q410, Or.inl rfl⟩
theorem okT_X10 : ∀ j, j < 2 → okT (tF 9 j) = true := by decide +kernel
theorem ff_X1_102 : finF RX1 102 0 26 := fun q h => by cases h; exact ⟨rfl, rfl, "HeavierServes", q411, Or.inl rfl⟩
theorem okT_X11 : ∀ j, j < 3 → okT (tF 10 j) = true := by decide +kernel
theorem ff_X1_109 : finF RX1 109 0 27 := fun q h => by cases h; exact ⟨rfl, rfl, "HeavierServes", q412, Or.inl rfl⟩
theorem okT_X12 : ∀ j, j < 3 → okT (tF 11 j) = true := by decide +kernel
theorem ff_X1_116 : finF RX1 116 0 28 := fun q h => by cases h; exact ⟨rfl, rfl, "HeavierServes", q413, Or.inl rfl⟩
theorem okT_X13 : ∀ j, j < 2 → okT (tF 12 j) = true := by decide +kernel
theorem ff_X1_123 : finF RX1 123 0 29 := fun q h => by cases h; exact ⟨rfl, rfl, "HeavierServes", q414, Or.inl rfl⟩
theorem ff_X1_127 : finF RX1 127 0 30 := fun q h => by cases h; exact ⟨rfl, rfl, "HeavierServes", q415, Or.inl rfl⟩
theorem ff_X1_130 : finF RX1 130 0 31 := fun q h => by cases h; exact ⟨rfl, rfl, "HeavierServes", q416, Or.inl rfl⟩
theorem ff_X1_133 : finF RX1 133 0 33 := fun q h => by cases h; exact ⟨rfl, rfl, "HeavierServes", q418, Or.inl rfl⟩
theorem ff_X1_136 : finF RX1 136 0 34 := fun q h => by cases h; exact ⟨rfl, rfl, "HeavierServes", q419, Or.inl rfl⟩
theorem ff_X1_139 : finF RX1 139 0 36 := fun q h => by cases h; exact ⟨rfl, rfl, "HeavierServes", q421, Or.inl rfl⟩
theorem ff_X1_142 : finF RX1 142 0 37 := fun q h => by cases h; exact ⟨rfl, rfl, "HeavierServes", q422, Or.inl rfl⟩
theorem ff_X1_145 : finF RX1 145 0 38 := fun q h => by cases h; exact ⟨rfl, rfl, "HeavierServes", q423, Or.inl rfl⟩
theorem ff_X1_150 : finF RX1 150 0 39 := fun q h => by cases h; exact ⟨rfl, rfl, "HeavierServes", q424, Or.inl rfl⟩
theorem fl_X1_196 : FL RX1 196 14 1 := ⟨(RX15, TX15, 4), "HeavierServes$Words", rfl, by decide, Or.inl q537, Or.inl rfl⟩
theorem okT_X17 : ∀ j, j < 7 → okT (tF 16 j) = true := by decide +kernel
theorem fn_0_15 : finN 0 15 := fun q h => by cases h; rfl
theorem vy_J3_coder : VY yJ3_coder cJ3_coder 1 (some .byte) 0 := ⟨q757, q758, q95, q759, ⟨by decide +kernel, by decide +kernel, by decide +kernel⟩⟩
theorem sy_J5_checkIndex : SY yJ5_checkIndex cJ5_checkIndex 3 (some .int) 3 := ⟨q1564, q97, q1565, ⟨by decide +kernel, by decide +kernel, by decide +kernel⟩⟩
theorem sy_J3_checkIndex : SY yJ3_checkIndex cJ3_checkIndex 2 none 2 := ⟨q1561, q95, q1562, ⟨by decide +kernel, by decide +kernel, by decide +kernel⟩⟩
theorem vy_J3_isLatin1 : VY yJ3_isLatin1 cJ3_isLatin1 1 (some .boolean) 0 := ⟨q747, q748, q95, q749, ⟨by decide +kernel, by decide +kernel, by decide +kernel⟩⟩
theorem sy_J4_charAt : SY yJ4_charAt cJ4_charAt 2 (some .char) 2 := ⟨q1558, q96, q1559, ⟨by decide +kernel, by decide +kernel, by decide +kernel⟩⟩
theorem sy_J4_canEncode : SY yJ4_canEncode cJ4_canEncode 1 (some .boolean) 1 := ⟨q764, q96, q765, ⟨by decide +kernel, by decide +kernel, by decide +kernel⟩⟩
theorem sy_J0_max : SY yJ0_max cJ0_max 2 (some .int) 2 := ⟨q767, q90, q768, ⟨by decide +kernel, by decide +kernel, by decide +kernel⟩⟩
theorem sy_J0_min : SY yJ0_min cJ0_min 2 (some .int) 2 := ⟨q533, q90, q534, ⟨by decide +kernel, by decide +kernel, by decide +kernel⟩⟩
theorem sy_J4_indexOfChar : SY yJ4_indexOfChar cJ4_indexOfChar 6 (some .int) 4 := ⟨q771, q96, q772, ⟨by decide +kernel, by decide +kernel, by decide +kernel⟩⟩
theorem vy_J3_length : VY yJ3_length cJ3_length 1 (some .int) 0 := ⟨q753, q754, q95, q755, ⟨by decide +kernel, by decide +kernel, by decide +kernel⟩⟩
theorem sy_J4_indexOf : SY yJ4_indexOf cJ4_indexOf 4 (some .int) 4 := ⟨q761, q96, q762, ⟨by decide +kernel, by decide +kernel, by decide +kernel⟩⟩
theorem vy_J3_indexOf_2 : VY yJ3_indexOf_2 cJ3_indexOf_2 3 (some .int) 2 := ⟨q743, q744, q95, q745, ⟨by decide +kernel, by decide +kernel, by decide +kernel⟩⟩
theorem sy_X1_in : SY yX1_in cX1_in 6 (some .boolean) 3 := ⟨q515, q75, q516, ⟨by decide +kernel, by decide +kernel, by decide +kernel⟩⟩
theorem vy_X1_isOne : VY yX1_isOne cX1_isOne 2 (some .boolean) 1 := ⟨q850, qs8, q75, q851, ⟨by decide +kernel, by decide +kernel, by decide +kernel⟩⟩
theorem vy_X2_holds : VY yX2_holds cX2_holds 2 (some .boolean) 1 := ⟨q831, q832, q76, q833, ⟨by decide +kernel, by decide +kernel, by decide +kernel⟩⟩
theorem vy_X2_holding : VY yX2_holding cX2_holding 3 (some .int) 0 := ⟨q827, q828, q76, q829, ⟨by decide +kernel, by decide +kernel, by decide +kernel⟩⟩
theorem sy_J8_bitCount : SY yJ8_bitCount cJ8_bitCount 1 (some .int) 1 := ⟨q835, q101, q836, ⟨by decide +kernel, by decide +kernel, by decide +kernel⟩⟩
theorem sy_X1_has : SY yX1_has cX1_has 2 (some .boolean) 2 := ⟨q931, q75, q932, ⟨by decide +kernel, by decide +kernel, by decide +kernel⟩⟩
theorem vy_X8_isOf : VY yX8_isOf cX8_isOf 3 (some .boolean) 2 := ⟨q971, qs14, q82, q972, ⟨by decide +kernel, by decide +kernel, by decide +kernel⟩⟩
theorem vy_X2_fall : VY yX2_fall cX2_fall 4 (some .int) 1 := ⟨q1006, q1007, q76, q1008, ⟨by decide +kernel, by decide +kernel, by decide +kernel⟩⟩
theorem vy_X1_changeIn : VY yX1_changeIn cX1_changeIn 4 (some .int) 2 := ⟨q1011, qs17, q75, q1012, ⟨by decide +kernel, by decide +kernel, by decide +kernel⟩⟩
theorem vy_X3_be : VY yX3_be cX3_be 2 none 1 := ⟨q661, q662, q77, q663, ⟨by decide +kernel, by decide +kernel, by decide +kernel⟩⟩
theorem vy_X2_be : VY yX2_be cX2_be 2 none 1 := ⟨q918, q919, q76, q920, ⟨by decide +kernel, by decide +kernel, by decide +kernel⟩⟩
theorem sy_X14_flag : SY yX14_flag cX14_flag 1 (some .int) 1 := ⟨q1545, q88, q1546, ⟨by decide +kernel, by decide +kernel, by decide +kernel⟩⟩
theorem vy_X14_holding : VY yX14_holding cX14_holding 4 (some .int) 1 := ⟨q1647, qs50, q88, q1648, ⟨by decide +kernel, by decide +kernel, by decide +kernel⟩⟩
theorem vy_X14_thingOf : VY yX14_thingOf cX14_thingOf 5 (some .int) 3 := ⟨q1643, qs49, q88, q1644, ⟨by decide +kernel, by decide +kernel, by decide +kernel⟩⟩
theorem sy_X14_worked : SY yX14_worked cX14_worked 3 (some .int) 3 := ⟨q1639, q88, q1640, ⟨by decide +kernel, by decide +kernel, by decide +kernel⟩⟩
theorem sy_X14_has : SY yX14_has cX14_has 2 (some .boolean) 2 := ⟨q1627, q88, q1628, ⟨by decide +kernel, by decide +kernel, by decide +kernel⟩⟩
theorem vy_X14_willOf : VY yX14_willOf cX14_willOf 6 (some .int) 2 := ⟨q1636, qs48, q88, q1637, ⟨by decide +kernel, by decide +kernel, by decide +kernel⟩⟩
theorem vy_X14_shows : VY yX14_shows cX14_shows 3 (some .int) 1 := ⟨q1631, qs47, q88, q1632, ⟨by decide +kernel, by decide +kernel, by decide +kernel⟩⟩
theorem vy_X14_falls : VY yX14_falls cX14_falls 4 (some .int) 1 := ⟨q1687, qs53, q88, q1688, ⟨by decide +kernel, by decide +kernel, by decide +kernel⟩⟩
theorem vy_X14_goes : VY yX14_goes cX14_goes 6 none 2 := ⟨q1683, qs52, q88, q1684, ⟨by decide +kernel, by decide +kernel, by decide +kernel⟩⟩
theorem vy_X14_willing : VY yX14_willing cX14_willing 4 (some .int) 1 := ⟨q1700, qs55, q88, q1701, ⟨by decide +kernel, by decide +kernel, by decide +kernel⟩⟩
theorem vy_X14_goesNext : VY yX14_goesNext cX14_goesNext 2 none 1 := ⟨q1762, qs61, q88, q1763, ⟨by decide +kernel, by decide +kernel, by decide +kernel⟩⟩
theorem vy_X14_goesBy : VY yX14_goesBy cX14_goesBy 4 none 2 := ⟨q1758, qs60, q88, q1759, ⟨by decide +kernel, by decide +kernel, by decide +kernel⟩⟩
theorem vy_X1_shows : VY yX1_shows cX1_shows 3 (some .int) 1 := ⟨q999, qs15, q75, q1000, ⟨by decide +kernel, by decide +kernel, by decide +kernel⟩⟩
theorem vy_X1_isShown : VY yX1_isShown cX1_isShown 4 (some .boolean) 2 := ⟨q1196, qs26, q75, q1197, ⟨by decide +kernel, by decide +kernel, by decide +kernel⟩⟩
theorem vy_X1_tell : VY yX1_tell cX1_tell 3 none 1 := ⟨q1015, qs18, q75, q1016, ⟨by decide +kernel, by decide +kernel, by decide +kernel⟩⟩
theorem vy_X1_liars : VY yX1_liars cX1_liars 3 (some .int) 0 := ⟨q1208, qs27, q75, q1209, ⟨by decide +kernel, by decide +kernel, by decide +kernel⟩⟩
theorem sy_X1_common : SY yX1_common cX1_common 4 (some .long) 2 := ⟨q1262, q75, q1263, ⟨by decide +kernel, by decide +kernel, by decide +kernel⟩⟩
theorem vy_X1_isAlive : VY yX1_isAlive cX1_isAlive 2 (some .boolean) 1 := ⟨q1042, qs19, q75, q1043, ⟨by decide +kernel, by decide +kernel, by decide +kernel⟩⟩
theorem vy_X1_remember : VY yX1_remember cX1_remember 2 none 0 := ⟨q915, qs9, q75, q916, ⟨by decide +kernel, by decide +kernel, by decide +kernel⟩⟩
theorem vy_X1_canBe : VY yX1_canBe cX1_canBe 3 (some .boolean) 1 := ⟨q1192, qs25, q75, q1193, ⟨by decide +kernel, by decide +kernel, by decide +kernel⟩⟩
theorem vy_X15_here : VY yX15_here cX15_here 1 (some .int) 0 := ⟨q628, q629, q89, q632, ⟨by decide +kernel, by decide +kernel, by decide +kernel⟩⟩
theorem vy_X15_need : VY yX15_need cX15_need 2 none 1 := ⟨q553, q554, q89, q557, ⟨by decide +kernel, by decide +kernel, by decide +kernel⟩⟩
theorem uy_X17_X15_X15_here : UY RX17 yX15_here yX15_here cX15_here 1 (some .int) 0 := ⟨q630, q631, q628, q89, q632, rfl, by decide +kernel, by decide +kernel, by decide +kernel⟩
theorem uy_X17_X15_X15_need : UY RX17 yX15_need yX15_need cX15_need 2 none 1 := ⟨q555, q556, q553, q89, q557, rfl, by decide +kernel, by decide +kernel, by decide +kernel⟩
theorem vy_X15_number : VY yX15_number cX15_number 6 (some .int) 3 := ⟨q622, q623, q89, q626, ⟨by decide +kernel, by decide +kernel, by decide +kernel⟩⟩
theorem vy_X1_add : VY yX1_add cX1_add 3 none 2 := ⟨q658, qs2, q75, q659, ⟨by decide +kernel, by decide +kernel, by decide +kernel⟩⟩
theorem iy_X15_init : IY yX15_init cX15_init 4 3 := ⟨q529, rfl, q89, q530, ⟨by decide +kernel, by decide +kernel, by decide +kernel⟩⟩
theorem sy_X14_puts : SY yX14_puts cX14_puts 3 none 2 := ⟨q1754, q88, q1755, ⟨by decide +kernel, by decide +kernel, by decide +kernel⟩⟩
theorem sy_X14_in : SY yX14_in cX14_in 6 (some .boolean) 3 := ⟨q1515, q88, q1516, ⟨by decide +kernel, by decide +kernel, by decide +kernel⟩⟩
theorem vy_X14_isPerson : VY yX14_isPerson cX14_isPerson 2 (some .boolean) 1 := ⟨q1596, qs42, q88, q1597, ⟨by decide +kernel, by decide +kernel, by decide +kernel⟩⟩
theorem vy_X14_starts : VY yX14_starts cX14_starts 2 none 0 := ⟨q1751, qs59, q88, q1752, ⟨by decide +kernel, by decide +kernel, by decide +kernel⟩⟩
theorem vy_X14_isSo : VY yX14_isSo cX14_isSo 5 (some .boolean) 1 := ⟨q1892, qs70, q88, q1893, ⟨by decide +kernel, by decide +kernel, by decide +kernel⟩⟩
theorem vy_X14_enters : VY yX14_enters cX14_enters 3 none 1 := ⟨q1691, qs54, q88, q1692, ⟨by decide +kernel, by decide +kernel, by decide +kernel⟩⟩
theorem vy_X14_isAlive : VY yX14_isAlive cX14_isAlive 2 (some .boolean) 1 := ⟨q1724, qs57, q88, q1725, ⟨by decide +kernel, by decide +kernel, by decide +kernel⟩⟩
theorem vy_J3_charAt : VY yJ3_charAt cJ3_charAt 2 (some .char) 1 := ⟨q1554, q1555, q95, q1556, ⟨by decide +kernel, by decide +kernel, by decide +kernel⟩⟩
theorem vy_X14_startsWith : VY yX14_startsWith cX14_startsWith 3 none 2 := ⟨q1823, qs65, q88, q1824, ⟨by decide +kernel, by decide +kernel, by decide +kernel⟩⟩
theorem sy_X14_areWeeks : SY yX14_areWeeks cX14_areWeeks 1 (some .boolean) 1 := ⟨q1747, q88, q1748, ⟨by decide +kernel, by decide +kernel, by decide +kernel⟩⟩
theorem vy_X14_servedBy : VY yX14_servedBy cX14_servedBy 4 (some .int) 1 := ⟨q1803, qs64, q88, q1804, ⟨by decide +kernel, by decide +kernel, by decide +kernel⟩⟩
theorem vy_X14_refuse : VY yX14_refuse cX14_refuse 1 (some .int) 0 := ⟨q1624, qs46, q88, q1625, ⟨by decide +kernel, by decide +kernel, by decide +kernel⟩⟩
theorem vy_X14_canBe : VY yX14_canBe cX14_canBe 5 (some .boolean) 2 := ⟨q1856, qs67, q88, q1857, ⟨by decide +kernel, by decide +kernel, by decide +kernel⟩⟩
theorem vy_X14_wrong : VY yX14_wrong cX14_wrong 3 (some .int) 0 := ⟨q1872, qs69, q88, q1873, ⟨by decide +kernel, by decide +kernel, by decide +kernel⟩⟩
theorem vy_X14_putsHabit : VY yX14_putsHabit cX14_putsHabit 4 none 2 := ⟨q1588, qs41, q88, q1589, ⟨by decide +kernel, by decide +kernel, by decide +kernel⟩⟩
theorem sy_X14_common : SY yX14_common cX14_common 4 (some .long) 2 := ⟨q1912, q88, q1913, ⟨by decide +kernel, by decide +kernel, by decide +kernel⟩⟩
theorem vy_X14_lawsThatHold : VY yX14_lawsThatHold cX14_lawsThatHold 3 (some .int) 0 := ⟨q1938, qs73, q88, q1939, ⟨by decide +kernel, by decide +kernel, by decide +kernel⟩⟩
theorem vy_X14_putsBy : VY yX14_putsBy cX14_putsBy 2 none 0 := ⟨q1679, qs51, q88, q1680, ⟨by decide +kernel, by decide +kernel, by decide +kernel⟩⟩
theorem vy_X14_tellsSpan : VY yX14_tellsSpan cX14_tellsSpan 4 none 3 := ⟨q1860, qs68, q88, q1861, ⟨by decide +kernel, by decide +kernel, by decide +kernel⟩⟩
theorem vy_X14_eats : VY yX14_eats cX14_eats 3 (some .int) 2 := ⟨q1728, qs58, q88, q1729, ⟨by decide +kernel, by decide +kernel, by decide +kernel⟩⟩
theorem vy_X14_weightsOf : VY yX14_weightsOf cX14_weightsOf 7 (some .int) 2 := ⟨q1852, qs66, q88, q1853, ⟨by decide +kernel, by decide +kernel, by decide +kernel⟩⟩
theorem vy_X14_isDigit : VY yX14_isDigit cX14_isDigit 1 (some .boolean) 0 := ⟨q1532, qs34, q88, q1533, ⟨by decide +kernel, by decide +kernel, by decide +kernel⟩⟩
theorem vy_X14_among : VY yX14_among cX14_among 3 (some .int) 1 := ⟨q1550, qs37, q88, q1551, ⟨by decide +kernel, by decide +kernel, by decide +kernel⟩⟩
theorem vy_X14_takes : VY yX14_takes cX14_takes 3 (some .boolean) 1 := ⟨q1542, qs36, q88, q1543, ⟨by decide +kernel, by decide +kernel, by decide +kernel⟩⟩
theorem vy_X14_number : VY yX14_number cX14_number 4 (some .int) 1 := ⟨q1538, qs35, q88, q1539, ⟨by decide +kernel, by decide +kernel, by decide +kernel⟩⟩
theorem vy_X14_begins : VY yX14_begins cX14_begins 3 (some .int) 1 := ⟨q1523, qs32, q88, q1524, ⟨by decide +kernel, by decide +kernel, by decide +kernel⟩⟩
theorem vy_X14_readsHabit : VY yX14_readsHabit cX14_readsHabit 4 (some .boolean) 1 := ⟨q1575, qs38, q88, q1576, ⟨by decide +kernel, by decide +kernel, by decide +kernel⟩⟩
theorem vy_X14_faultOf : VY yX14_faultOf cX14_faultOf 5 (some .int) 3 := ⟨q1580, qs39, q88, q1581, ⟨by decide +kernel, by decide +kernel, by decide +kernel⟩⟩
theorem sy_X14_areSixty : SY yX14_areSixty cX14_areSixty 1 (some .boolean) 1 := ⟨q1818, q88, q1819, ⟨by decide +kernel, by decide +kernel, by decide +kernel⟩⟩
theorem vy_X14_oddsOf : VY yX14_oddsOf cX14_oddsOf 10 none 2 := ⟨q1916, qs72, q88, q1917, ⟨by decide +kernel, by decide +kernel, by decide +kernel⟩⟩
theorem vy_X14_entersFraction : VY yX14_entersFraction cX14_entersFraction 7 none 2 := ⟨q1909, qs71, q88, q1910, ⟨by decide +kernel, by decide +kernel, by decide +kernel⟩⟩
theorem vy_X14_byPlans : VY yX14_byPlans cX14_byPlans 6 (some .int) 2 := ⟨q1795, qs63, q88, q1796, ⟨by decide +kernel, by decide +kernel, by decide +kernel⟩⟩
theorem vy_X14_plans : VY yX14_plans cX14_plans 8 (some .boolean) 2 := ⟨q1791, qs62, q88, q1792, ⟨by decide +kernel, by decide +kernel, by decide +kernel⟩⟩
theorem vy_X14_readsPerson : VY yX14_readsPerson cX14_readsPerson 2 (some .boolean) 0 := ⟨q1528, qs33, q88, q1529, ⟨by decide +kernel, by decide +kernel, by decide +kernel⟩⟩
theorem vy_X14_comes : VY yX14_comes cX14_comes 3 none 2 := ⟨q1584, qs40, q88, q1585, ⟨by decide +kernel, by decide +kernel, by decide +kernel⟩⟩
theorem vy_X14_readsWeek : VY yX14_readsWeek cX14_readsWeek 3 none 0 := ⟨q1708, qs56, q88, q1709, ⟨by decide +kernel, by decide +kernel, by decide +kernel⟩⟩
theorem vy_X17_sum : VY yX17_sum cX17_sum 5 (some .int) 1 := ⟨q708, qs4, q99, q709, ⟨by decide +kernel, by decide +kernel, by decide +kernel⟩⟩
theorem uy_X17_X17_X15_passes : UY RX17 ⟨"HeavierServes$Will", "passes", "(C)Z"⟩ yX15_passes cX15_passes 2 (some .boolean) 1 := ⟨q719, q721, q638, q89, q642, rfl, by decide +kernel, by decide +kernel, by decide +kernel⟩
theorem vy_X17_product : VY yX17_product cX17_product 5 (some .int) 1 := ⟨q712, qs5, q99, q713, ⟨by decide +kernel, by decide +kernel, by decide +kernel⟩⟩
theorem uy_X17_X17_X15_here : UY RX17 ⟨"HeavierServes$Will", "here", "()I"⟩ yX15_here cX15_here 1 (some .int) 0 := ⟨q723, q725, q628, q89, q632, rfl, by decide +kernel, by decide +kernel, by decide +kernel⟩
theorem vy_X17_thing : VY yX17_thing cX17_thing 3 (some .int) 1 := ⟨q716, qs6, q99, q717, ⟨by decide +kernel, by decide +kernel, by decide +kernel⟩⟩
theorem vy_J3_indexOf : VY yJ3_indexOf cJ3_indexOf 2 (some .int) 1 := ⟨q739, q740, q95, q741, ⟨by decide +kernel, by decide +kernel, by decide +kernel⟩⟩
theorem uy_X17_X17_X15_number : UY RX17 ⟨"HeavierServes$Will", "number", "(III)I"⟩ yX15_number cX15_number 6 (some .int) 3 := ⟨q734, q736, q622, q89, q626, rfl, by decide +kernel, by decide +kernel, by decide +kernel⟩
theorem uy_X17_X17_X15_need : UY RX17 ⟨"HeavierServes$Will", "need", "(Z)V"⟩ yX15_need cX15_need 2 none 1 := ⟨q727, q729, q553, q89, q557, rfl, by decide +kernel, by decide +kernel, by decide +kernel⟩
theorem vy_X17_held : VY yX17_held cX17_held 3 (some .int) 1 := ⟨q704, qs3, q99, q705, ⟨by decide +kernel, by decide +kernel, by decide +kernel⟩⟩
theorem vy_X17_letter : VY yX17_letter cX17_letter 3 (some .int) 1 := ⟨q824, qs7, q99, q825, ⟨by decide +kernel, by decide +kernel, by decide +kernel⟩⟩
theorem vy_X14_readsRank : VY yX14_readsRank cX14_readsRank 4 (some .boolean) 1 := ⟨q1604, qs43, q88, q1605, ⟨by decide +kernel, by decide +kernel, by decide +kernel⟩⟩
theorem vy_X14_codes : VY yX14_codes cX14_codes 2 none 1 := ⟨q1612, qs45, q88, q1613, ⟨by decide +kernel, by decide +kernel, by decide +kernel⟩⟩
theorem vy_X14_readsThing : VY yX14_readsThing cX14_readsThing 2 (some .boolean) 0 := ⟨q1608, qs44, q88, q1609, ⟨by decide +kernel, by decide +kernel, by decide +kernel⟩⟩
theorem vh_X17_of : VYW yX17_of cX17_of 6 (some .int) [(15, 21, 28, 34), (15, 21, 40, 0), (28, 32, 40, 0), (40, 42, 40, 0)] 2 := ⟨q955, q956, q99, q957, by decide +kernel, by decide +kernel, by decide +kernel⟩
theorem vy_X1_willOf : VY yX1_willOf cX1_willOf 3 (some .int) 2 := ⟨q952, qs12, q75, q953, ⟨by decide +kernel, by decide +kernel, by decide +kernel⟩⟩
theorem vy_X8_turn : VY yX8_turn cX8_turn 5 (some .int) 1 := ⟨q967, qs13, q82, q968, ⟨by decide +kernel, by decide +kernel, by decide +kernel⟩⟩
theorem vy_X4_stands : VY yX4_stands cX4_stands 3 (some .boolean) 2 := ⟨q947, q1945, q78, q949, ⟨by decide +kernel, by decide +kernel, by decide +kernel⟩⟩
theorem sy_J12_fill_2 : SY yJ12_fill_2 cJ12_fill_2 5 none 2 := ⟨q1252, q105, q1253, ⟨by decide +kernel, by decide +kernel, by decide +kernel⟩⟩
theorem vy_X1_findLikely : VY yX1_findLikely cX1_findLikely 10 none 2 := ⟨q1249, qs30, q75, q1250, ⟨by decide +kernel, by decide +kernel, by decide +kernel⟩⟩
theorem vy_X1_tellPart : VY yX1_tellPart cX1_tellPart 7 none 2 := ⟨q1259, qs31, q75, q1260, ⟨by decide +kernel, by decide +kernel, by decide +kernel⟩⟩
theorem vy_X1_comeTo : VY yX1_comeTo cX1_comeTo 4 none 2 := ⟨q1003, qs16, q75, q1004, ⟨by decide +kernel, by decide +kernel, by decide +kernel⟩⟩
theorem vy_X1_oddsOf : VY yX1_oddsOf cX1_oddsOf 9 (some .long) 3 := ⟨q1245, qs29, q75, q1246, ⟨by decide +kernel, by decide +kernel, by decide +kernel⟩⟩
theorem uy_X17_X17_X15_needEnd : UY RX17 ⟨"HeavierServes$Will", "needEnd", "()V"⟩ yX15_needEnd cX15_needEnd 1 none 0 := ⟨q841, q843, q651, q89, q655, rfl, by decide +kernel, by decide +kernel, by decide +kernel⟩
theorem vy_X1_heir : VY yX1_heir cX1_heir 5 (some .int) 2 := ⟨q928, qs11, q75, q929, ⟨by decide +kernel, by decide +kernel, by decide +kernel⟩⟩
theorem sy_J12_fill : SY yJ12_fill cJ12_fill 4 none 2 := ⟨q1098, q105, q1099, ⟨by decide +kernel, by decide +kernel, by decide +kernel⟩⟩
theorem vy_X1_goes : VY yX1_goes cX1_goes 3 none 2 := ⟨q924, qs10, q75, q925, ⟨by decide +kernel, by decide +kernel, by decide +kernel⟩⟩
theorem vy_X1_partiesBy : VY yX1_partiesBy cX1_partiesBy 4 none 2 := ⟨q1110, qs23, q75, q1111, ⟨by decide +kernel, by decide +kernel, by decide +kernel⟩⟩
theorem vy_X1_isSo : VY yX1_isSo cX1_isSo 5 (some .boolean) 1 := ⟨q1228, qs28, q75, q1229, ⟨by decide +kernel, by decide +kernel, by decide +kernel⟩⟩
theorem vy_X1_begin : VY yX1_begin cX1_begin 3 none 2 := ⟨q1136, qs24, q75, q1137, ⟨by decide +kernel, by decide +kernel, by decide +kernel⟩⟩
theorem vy_X1_canFollow : VY yX1_canFollow cX1_canFollow 4 (some .boolean) 2 := ⟨q1079, qs20, q75, q1080, ⟨by decide +kernel, by decide +kernel, by decide +kernel⟩⟩
theorem vy_X1_servesBy : VY yX1_servesBy cX1_servesBy 5 (some .int) 3 := ⟨q1088, qs21, q75, q1089, ⟨by decide +kernel, by decide +kernel, by decide +kernel⟩⟩
theorem vy_X1_takesAnother : VY yX1_takesAnother cX1_takesAnother 8 (some .boolean) 2 := ⟨q1102, qs22, q75, q1103, ⟨by decide +kernel, by decide +kernel, by decide +kernel⟩⟩
theorem sy_X1_fewestBy : SY yX1_fewestBy cX1_fewestBy 2 (some .int) 1 := ⟨q1122, q75, q1123, ⟨by decide +kernel, by decide +kernel, by decide +kernel⟩⟩
theorem vy_X11_isSo : VY yX11_isSo cX11_isSo 3 (some .boolean) 1 := ⟨q1142, q1946, q85, q1144, ⟨by decide +kernel, by decide +kernel, by decide +kernel⟩⟩
theorem iy_X2_init : IY yX2_init cX2_init 1 0 := ⟨q120, rfl, q76, q121, ⟨by decide +kernel, by decide +kernel, by decide +kernel⟩⟩
theorem iy_X18_init : IY yX18_init cX18_init 2 1 := ⟨q1274, rfl, q106, q1275, ⟨by decide +kernel, by decide +kernel, by decide +kernel⟩⟩
theorem iy_X3_init : IY yX3_init cX3_init 1 0 := ⟨q185, rfl, q77, q186, ⟨by decide +kernel, by decide +kernel, by decide +kernel⟩⟩
theorem iy_X4_init : IY yX4_init cX4_init 2 1 := ⟨q214, rfl, q78, q215, ⟨by decide +kernel, by decide +kernel, by decide +kernel⟩⟩
theorem iy_X5_init : IY yX5_init cX5_init 1 0 := ⟨q224, rfl, q79, q225, ⟨by decide +kernel, by decide +kernel, by decide +kernel⟩⟩
theorem iy_X6_init : IY yX6_init cX6_init 2 1 := ⟨q236, rfl, q80, q237, ⟨by decide +kernel, by decide +kernel, by decide +kernel⟩⟩
theorem iy_X7_init : IY yX7_init cX7_init 1 0 := ⟨q258, rfl, q81, q259, ⟨by decide +kernel, by decide +kernel, by decide +kernel⟩⟩
theorem iy_X8_init : IY yX8_init cX8_init 2 1 := ⟨q273, rfl, q82, q274, ⟨by decide +kernel, by decide +kernel, by decide +kernel⟩⟩
theorem iy_X9_init : IY yX9_init cX9_init 2 1 := ⟨q291, rfl, q83, q292, ⟨by decide +kernel, by decide +kernel, by decide +kernel⟩⟩
theorem iy_X10_init : IY yX10_init cX10_init 2 1 := ⟨q305, rfl, q84, q306, ⟨by decide +kernel, by decide +kernel, by decide +kernel⟩⟩
theorem iy_X11_init : IY yX11_init cX11_init 2 1 := ⟨q319, rfl, q85, q320, ⟨by decide +kernel, by decide +kernel, by decide +kernel⟩⟩
theorem iy_X12_init : IY yX12_init cX12_init 2 1 := ⟨q337, rfl, q86, q338, ⟨by decide +kernel, by decide +kernel, by decide +kernel⟩⟩
theorem iy_X13_init : IY yX13_init cX13_init 2 1 := ⟨q355, rfl, q87, q356, ⟨by decide +kernel, by decide +kernel, by decide +kernel⟩⟩
theorem iy_X16_init : IY yX16_init cX16_init 2 1 := ⟨q598, rfl, q93, q599, ⟨by decide +kernel, by decide +kernel, by decide +kernel⟩⟩
theorem vy_X1_words : VY yX1_words cX1_words 3 (some (.object "HeavierServes$Words")) 1 := ⟨q524, qs0, q75, q525, ⟨by decide +kernel, by decide +kernel, by decide +kernel⟩⟩
theorem vy_X15_habit : VY yX15_habit cX15_habit 3 none 1 := ⟨q644, q645, q89, q648, ⟨by decide +kernel, by decide +kernel, by decide +kernel⟩⟩
theorem vy_X15_needEnd : VY yX15_needEnd cX15_needEnd 1 none 0 := ⟨q651, q652, q89, q655, ⟨by decide +kernel, by decide +kernel, by decide +kernel⟩⟩
theorem vy_X15_passes : VY yX15_passes cX15_passes 2 (some .boolean) 1 := ⟨q638, q639, q89, q642, ⟨by decide +kernel, by decide +kernel, by decide +kernel⟩⟩
theorem iy_X17_init : IY yX17_init cX17_init 4 3 := ⟨q681, rfl, q99, q682, ⟨by decide +kernel, by decide +kernel, by decide +kernel⟩⟩
theorem vy_X17_read : VY yX17_read cX17_read 1 (some (.object "HeavierServes$Will")) 0 := ⟨q699, q700, q99, q701, ⟨by decide +kernel, by decide +kernel, by decide +kernel⟩⟩
theorem sy_X1_letters : SY yX1_letters cX1_letters 3 (some .int) 1 := ⟨q1027, q75, q1028, ⟨by decide +kernel, by decide +kernel, by decide +kernel⟩⟩
