/-! HEAP, tables: the classes, their fields by the places in each class's code (printed by gen/heap_tables.py) -/
set_option maxRecDepth 100000
theorem cl_1 : ClF 1 (RJ0, TJ0, 4) := ⟨by decide, by decide, rfl, in_J0, tyJ0, fun k hk => tyJ0_ok k hk, by decide +kernel, nmJ0⟩
theorem cl_2 : ClF 2 (RJ20, TJ20, 1) := ⟨by decide, by decide, rfl, in_J20, tyJ20, fun k hk => tyJ20_ok k hk, by decide +kernel, nmJ20⟩
theorem cl_3 : ClF 3 (RJ6, TJ6, 3) := ⟨by decide, by decide, rfl, in_J6, tyJ6, fun k hk => tyJ6_ok k hk, by decide +kernel, nmJ6⟩
theorem cl_4 : ClF 4 (RJ15, TJ15, 4) := ⟨by decide, by decide, rfl, in_J15, tyJ15, fun k hk => tyJ15_ok k hk, by decide +kernel, nmJ15⟩
theorem cl_6 : ClF 6 (RX1, TX1, 7) := ⟨by decide, by decide, rfl, in_X1, tyX1, fun k hk => tyX1_ok k hk, by decide +kernel, nmX1⟩
theorem cl_7 : ClF 7 (RX2, TX2, 5) := ⟨by decide, by decide, rfl, in_X2, tyX2, fun k hk => tyX2_ok k hk, by decide +kernel, nmX2⟩
theorem cl_8 : ClF 8 (RX3, TX3, 8) := ⟨by decide, by decide, rfl, in_X3, tyX3, fun k hk => tyX3_ok k hk, by decide +kernel, nmX3⟩
theorem cl_9 : ClF 9 (RX5, TX5, 5) := ⟨by decide, by decide, rfl, in_X5, tyX5, fun k hk => tyX5_ok k hk, by decide +kernel, nmX5⟩
theorem cl_10 : ClF 10 (RX6, TX6, 10) := ⟨by decide, by decide, rfl, in_X6, tyX6, fun k hk => tyX6_ok k hk, by decide +kernel, nmX6⟩
theorem cl_11 : ClF 11 (RX7, TX7, 7) := ⟨by decide, by decide, rfl, in_X7, tyX7, fun k hk => tyX7_ok k hk, by decide +kernel, nmX7⟩
theorem cl_12 : ClF 12 (RX8, TX8, 6) := ⟨by decide, by decide, rfl, in_X8, tyX8, fun k hk => tyX8_ok k hk, by decide +kernel, nmX8⟩
theorem cl_13 : ClF 13 (RX10, TX10, 4) := ⟨by decide, by decide, rfl, in_X10, tyX10, fun k hk => tyX10_ok k hk, by decide +kernel, nmX10⟩
theorem cl_14 : ClF 14 (RX11, TX11, 3) := ⟨by decide, by decide, rfl, in_X11, tyX11, fun k hk => tyX11_ok k hk, by decide +kernel, nmX11⟩
theorem cl_15 : ClF 15 (RX12, TX12, 3) := ⟨by decide, by decide, rfl, in_X12, tyX12, fun k hk => tyX12_ok k hk, by decide +kernel, nmX12⟩
theorem cl_16 : ClF 16 (RX14, TX14, 3) := ⟨by decide, by decide, rfl, in_X14, tyX14, fun k hk => tyX14_ok k hk, by decide +kernel, nmX14⟩
theorem cl_17 : ClF 17 (RX15, TX15, 2) := ⟨by decide, by decide, rfl, in_X15, tyX15, fun k hk => tyX15_ok k hk, by decide +kernel, nmX15⟩
theorem cl_18 : ClF 18 (RX16, TX16, 2) := ⟨by decide, by decide, rfl, in_X16, tyX16, fun k hk => tyX16_ok k hk, by decide +kernel, nmX16⟩
theorem cl_19 : ClF 19 (RX17, TX17, 4) := ⟨by decide, by decide, rfl, in_X17, tyX17, fun k hk => tyX17_ok k hk, by decide +kernel, nmX17⟩
theorem cl_20 : ClF 20 (RX18, TX18, 4) := ⟨by decide, by decide, rfl, in_X18, tyX18, fun k hk => tyX18_ok k hk, by decide +kernel, nmX18⟩
theorem cl_21 : ClF 21 (RX19, TX19, 1) := ⟨by decide, by decide, rfl, in_X19, tyX19, fun k hk => tyX19_ok k hk, by decide +kernel, nmX19⟩
theorem cl_22 : ClF 22 (RX20, TX20, 1) := ⟨by decide, by decide, rfl, in_X20, tyX20, fun k hk => tyX20_ok k hk, by decide +kernel, nmX20⟩
theorem cl_23 : ClF 23 (RX21, TX21, 2) := ⟨by decide, by decide, rfl, in_X21, tyX21, fun k hk => tyX21_ok k hk, by decide +kernel, nmX21⟩
theorem cl_24 : ClF 24 (RX22, TX22, 1) := ⟨by decide, by decide, rfl, in_X22, tyX22, fun k hk => tyX22_ok k hk, by decide +kernel, nmX22⟩
theorem cl_25 : ClF 25 (RX23, TX23, 3) := ⟨by decide, by decide, rfl, in_X23, tyX23, fun k hk => tyX23_ok k hk, by decide +kernel, nmX23⟩
theorem cl_26 : ClF 26 (RX24, TX24, 5) := ⟨by decide, by decide, rfl, in_X24, tyX24, fun k hk => tyX24_ok k hk, by decide +kernel, nmX24⟩
theorem cl_27 : ClF 27 (RX25, TX25, 2) := ⟨by decide, by decide, rfl, in_X25, tyX25, fun k hk => tyX25_ok k hk, by decide +kernel, nmX25⟩
theorem cl_28 : ClF 28 (RX26, TX26, 9) := ⟨by decide, by decide, rfl, in_X26, tyX26, fun k hk => tyX26_ok k hk, by decide +kernel, nmX26⟩
theorem cl_29 : ClF 29 (RX28, TX28, 3) := ⟨by decide, by decide, rfl, in_X28, tyX28, fun k hk => tyX28_ok k hk, by decide +kernel, nmX28⟩
theorem cl_30 : ClF 30 (RX29, TX29, 2) := ⟨by decide, by decide, rfl, in_X29, tyX29, fun k hk => tyX29_ok k hk, by decide +kernel, nmX29⟩
theorem cl_31 : ClF 31 (RX30, TX30, 5) := ⟨by decide, by decide, rfl, in_X30, tyX30, fun k hk => tyX30_ok k hk, by decide +kernel, nmX30⟩
theorem cl_32 : ClF 32 (RX31, TX31, 2) := ⟨by decide, by decide, rfl, in_X31, tyX31, fun k hk => tyX31_ok k hk, by decide +kernel, nmX31⟩
theorem cl_33 : ClF 33 (RX32, TX32, 4) := ⟨by decide, by decide, rfl, in_X32, tyX32, fun k hk => tyX32_ok k hk, by decide +kernel, nmX32⟩
theorem cl_34 : ClF 34 (RX33, TX33, 6) := ⟨by decide, by decide, rfl, in_X33, tyX33, fun k hk => tyX33_ok k hk, by decide +kernel, nmX33⟩
theorem cl_35 : ClF 35 (RX4, TX4, 118) := ⟨by decide, by decide, rfl, in_X4, tyX4, fun k hk => tyX4_ok k hk, by decide +kernel, nmX4⟩
theorem fH_J0_1048_J15 : FdH RJ0 4 2 1048 := ⟨_, _, cl_4, by decide, q1619, Or.inl rfl⟩
theorem fH_J0_9_J0 : FdH RJ0 1 0 9 := ⟨_, _, cl_1, by decide, q1841, Or.inl rfl⟩
theorem fH_J0_15_J0 : FdH RJ0 1 1 15 := ⟨_, _, cl_1, by decide, q1842, Or.inl rfl⟩
theorem fH_J0_19_J0 : FdH RJ0 1 2 19 := ⟨_, _, cl_1, by decide, q1843, Or.inl rfl⟩
theorem fH_J0_23_J0 : FdH RJ0 1 3 23 := ⟨_, _, cl_1, by decide, q1844, Or.inl rfl⟩
theorem fH_J14_15_J15 : FdH RJ14 4 0 15 := ⟨_, _, cl_4, by decide, q1617, Or.inl rfl⟩
theorem fH_J14_22_J15 : FdH RJ14 4 1 22 := ⟨_, _, cl_4, by decide, q1618, Or.inl rfl⟩
theorem fH_J14_79_J15 : FdH RJ14 4 3 79 := ⟨_, _, cl_4, by decide, q1620, Or.inl rfl⟩
theorem fH_J20_205_J20 : FdH RJ20 2 0 205 := ⟨_, _, cl_2, by decide, q765, Or.inl rfl⟩
theorem fH_J5_7_J6 : FdH RJ5 3 0 7 := ⟨_, _, cl_3, by decide, q476, Or.inl rfl⟩
theorem fH_J6_9_J6 : FdH RJ6 3 1 9 := ⟨_, _, cl_3, by decide, q474, Or.inl rfl⟩
theorem fH_J6_48_J6 : FdH RJ6 3 2 48 := ⟨_, _, cl_3, by decide, q475, Or.inl rfl⟩
theorem fH_J6_63_J6 : FdH RJ6 3 0 63 := ⟨_, _, cl_3, by decide, q477, Or.inr q478⟩
theorem fH_X1_137_X3 : FdH RX1 8 0 137 := ⟨_, _, cl_8, by decide, q398, Or.inl rfl⟩
theorem fH_X1_272_X3 : FdH RX1 8 2 272 := ⟨_, _, cl_8, by decide, q405, Or.inl rfl⟩
theorem fH_X1_279_X3 : FdH RX1 8 6 279 := ⟨_, _, cl_8, by decide, q413, Or.inl rfl⟩
theorem fH_X1_134_X2 : FdN RX1 7 0 134 := ⟨_, _, _, cl_7, by decide, q439, Or.inl rfl⟩
theorem fH_X1_190_X1 : FdH RX1 6 0 190 := ⟨_, _, cl_6, by decide, q486, Or.inl rfl⟩
theorem fH_X1_196_X1 : FdH RX1 6 1 196 := ⟨_, _, cl_6, by decide, q487, Or.inl rfl⟩
theorem fH_X1_233_X1 : FdH RX1 6 2 233 := ⟨_, _, cl_6, by decide, q488, Or.inl rfl⟩
theorem fH_X1_201_X1 : FdH RX1 6 3 201 := ⟨_, _, cl_6, by decide, q489, Or.inl rfl⟩
theorem fH_X1_206_X1 : FdH RX1 6 4 206 := ⟨_, _, cl_6, by decide, q490, Or.inl rfl⟩
theorem fH_X1_236_X1 : FdH RX1 6 5 236 := ⟨_, _, cl_6, by decide, q491, Or.inl rfl⟩
theorem fH_X1_437_X1 : FdH RX1 6 6 437 := ⟨_, _, cl_6, by decide, q492, Or.inl rfl⟩
theorem fH_X1_258_X5 : FdH RX1 9 0 258 := ⟨_, _, cl_9, by decide, q559, Or.inl rfl⟩
theorem fH_X1_117_X5 : FdH RX1 9 1 117 := ⟨_, _, cl_9, by decide, q565, Or.inl rfl⟩
theorem fH_X1_121_X5 : FdH RX1 9 2 121 := ⟨_, _, cl_9, by decide, q571, Or.inl rfl⟩
theorem fH_X1_131_X5 : FdH RX1 9 3 131 := ⟨_, _, cl_9, by decide, q575, Or.inl rfl⟩
theorem fH_X1_101_X5 : FdH RX1 9 4 101 := ⟨_, _, cl_9, by decide, q581, Or.inl rfl⟩
theorem fH_X1_348_X8 : FdH RX1 12 1 348 := ⟨_, _, cl_12, by decide, q622, Or.inl rfl⟩
theorem fH_X1_419_X8 : FdH RX1 12 2 419 := ⟨_, _, cl_12, by decide, q627, Or.inl rfl⟩
theorem fH_X1_226_X8 : FdH RX1 12 3 226 := ⟨_, _, cl_12, by decide, q630, Or.inl rfl⟩
theorem fH_X1_409_X8 : FdH RX1 12 4 409 := ⟨_, _, cl_12, by decide, q633, Or.inl rfl⟩
theorem fH_X1_412_X8 : FdH RX1 12 5 412 := ⟨_, _, cl_12, by decide, q635, Or.inl rfl⟩
theorem fH_X1_337_X7 : FdN RX1 11 6 337 := ⟨_, _, _, cl_11, by decide, q717, Or.inl rfl⟩
theorem fH_X1_360_X10 : FdH RX1 13 1 360 := ⟨_, _, cl_13, by decide, q880, Or.inl rfl⟩
theorem fH_X1_362_X10 : FdH RX1 13 2 362 := ⟨_, _, cl_13, by decide, q887, Or.inl rfl⟩
theorem fH_X1_151_X12 : FdH RX1 15 0 151 := ⟨_, _, cl_15, by decide, q958, Or.inl rfl⟩
theorem fH_X1_111_X6 : FdH RX1 10 1 111 := ⟨_, _, cl_10, by decide, q1333, Or.inl rfl⟩
theorem fH_X1_373_X26 : FdH RX1 28 6 373 := ⟨_, _, cl_28, by decide, q1453, Or.inl rfl⟩
theorem fH_X1_450_X31 : FdH RX1 32 0 450 := ⟨_, _, cl_32, by decide, q1521, Or.inl rfl⟩
theorem fH_X1_445_X31 : FdH RX1 32 1 445 := ⟨_, _, cl_32, by decide, q1523, Or.inl rfl⟩
theorem fH_X10_16_X10 : FdH RX10 13 0 16 := ⟨_, _, cl_13, by decide, q873, Or.inl rfl⟩
theorem fH_X10_20_X10 : FdH RX10 13 1 20 := ⟨_, _, cl_13, by decide, q876, Or.inl rfl⟩
theorem fH_X10_10_X10 : FdH RX10 13 2 10 := ⟨_, _, cl_13, by decide, q881, Or.inl rfl⟩
theorem fH_X11_7_X11 : FdH RX11 14 0 7 := ⟨_, _, cl_14, by decide, q917, Or.inl rfl⟩
theorem fH_X11_13_X11 : FdH RX11 14 1 13 := ⟨_, _, cl_14, by decide, q918, Or.inl rfl⟩
theorem fH_X11_16_X11 : FdH RX11 14 2 16 := ⟨_, _, cl_14, by decide, q919, Or.inl rfl⟩
theorem fH_X12_10_X12 : FdH RX12 15 0 10 := ⟨_, _, cl_15, by decide, q952, Or.inl rfl⟩
theorem fH_X13_7_X14 : FdH RX13 16 0 7 := ⟨_, _, cl_16, by decide, q1010, Or.inl rfl⟩
theorem fH_X13_7_X15 : FdH RX13 17 0 7 := ⟨_, _, cl_17, by decide, q1010, Or.inl rfl⟩
theorem fH_X13_7_X16 : FdH RX13 18 0 7 := ⟨_, _, cl_18, by decide, q1010, Or.inl rfl⟩
theorem fH_X13_7_X17 : FdH RX13 19 0 7 := ⟨_, _, cl_19, by decide, q1010, Or.inl rfl⟩
theorem fH_X14_18_X14 : FdH RX14 16 1 18 := ⟨_, _, cl_16, by decide, q998, Or.inl rfl⟩
theorem fH_X14_12_X14 : FdH RX14 16 2 12 := ⟨_, _, cl_16, by decide, q1003, Or.inl rfl⟩
theorem fH_X15_7_X15 : FdH RX15 17 1 7 := ⟨_, _, cl_17, by decide, q1046, Or.inl rfl⟩
theorem fH_X16_7_X16 : FdH RX16 18 1 7 := ⟨_, _, cl_18, by decide, q1060, Or.inl rfl⟩
theorem fH_X17_1_X14 : FdH RX17 16 0 1 := ⟨_, _, cl_16, by decide, q1009, Or.inl rfl⟩
theorem fH_X17_1_X15 : FdH RX17 17 0 1 := ⟨_, _, cl_17, by decide, q1009, Or.inl rfl⟩
theorem fH_X17_1_X16 : FdH RX17 18 0 1 := ⟨_, _, cl_18, by decide, q1009, Or.inl rfl⟩
theorem fH_X17_1_X17 : FdH RX17 19 0 1 := ⟨_, _, cl_19, by decide, q1009, Or.inl rfl⟩
theorem fH_X17_11_X17 : FdH RX17 19 1 11 := ⟨_, _, cl_19, by decide, q1079, Or.inl rfl⟩
theorem fH_X17_16_X17 : FdH RX17 19 2 16 := ⟨_, _, cl_19, by decide, q1083, Or.inl rfl⟩
theorem fH_X17_20_X17 : FdH RX17 19 3 20 := ⟨_, _, cl_19, by decide, q1088, Or.inl rfl⟩
theorem fH_X18_7_X18 : FdH RX18 20 0 7 := ⟨_, _, cl_20, by decide, q1114, Or.inl rfl⟩
theorem fH_X18_13_X18 : FdH RX18 20 1 13 := ⟨_, _, cl_20, by decide, q1115, Or.inl rfl⟩
theorem fH_X18_16_X18 : FdH RX18 20 2 16 := ⟨_, _, cl_20, by decide, q1116, Or.inl rfl⟩
theorem fH_X18_20_X18 : FdH RX18 20 3 20 := ⟨_, _, cl_20, by decide, q1117, Or.inl rfl⟩
theorem fH_X19_7_X19 : FdH RX19 21 0 7 := ⟨_, _, cl_21, by decide, q1133, Or.inl rfl⟩
theorem fH_X2_48_X3 : FdH RX2 8 0 48 := ⟨_, _, cl_8, by decide, q396, Or.inl rfl⟩
theorem fH_X2_45_X3 : FdH RX2 8 1 45 := ⟨_, _, cl_8, by decide, q400, Or.inl rfl⟩
theorem fH_X2_41_X3 : FdH RX2 8 2 41 := ⟨_, _, cl_8, by decide, q403, Or.inl rfl⟩
theorem fH_X2_11_X2 : FdH RX2 7 0 11 := ⟨_, _, cl_7, by decide, q436, Or.inl rfl⟩
theorem fH_X2_18_X2 : FdH RX2 7 1 18 := ⟨_, _, cl_7, by decide, q440, Or.inl rfl⟩
theorem fH_X2_24_X2 : FdH RX2 7 2 24 := ⟨_, _, cl_7, by decide, q441, Or.inl rfl⟩
theorem fH_X2_52_X2 : FdH RX2 7 3 52 := ⟨_, _, cl_7, by decide, q442, Or.inl rfl⟩
theorem fH_X2_56_X2 : FdH RX2 7 4 56 := ⟨_, _, cl_7, by decide, q443, Or.inl rfl⟩
theorem fH_X2_69_X5 : FdH RX2 9 0 69 := ⟨_, _, cl_9, by decide, q554, Or.inl rfl⟩
theorem fH_X2_90_X5 : FdH RX2 9 1 90 := ⟨_, _, cl_9, by decide, q564, Or.inl rfl⟩
theorem fH_X2_92_X5 : FdH RX2 9 2 92 := ⟨_, _, cl_9, by decide, q569, Or.inl rfl⟩
theorem fH_X2_95_X5 : FdH RX2 9 3 95 := ⟨_, _, cl_9, by decide, q574, Or.inl rfl⟩
theorem fH_X2_128_X8 : FdH RX2 12 1 128 := ⟨_, _, cl_12, by decide, q621, Or.inl rfl⟩
theorem fH_X2_112_X8 : FdH RX2 12 2 112 := ⟨_, _, cl_12, by decide, q626, Or.inl rfl⟩
theorem fH_X2_136_X10 : FdH RX2 13 1 136 := ⟨_, _, cl_13, by decide, q879, Or.inl rfl⟩
theorem fH_X20_7_X20 : FdH RX20 22 0 7 := ⟨_, _, cl_22, by decide, q1143, Or.inl rfl⟩
theorem fH_X21_7_X21 : FdH RX21 23 0 7 := ⟨_, _, cl_23, by decide, q1153, Or.inl rfl⟩
theorem fH_X21_13_X21 : FdH RX21 23 1 13 := ⟨_, _, cl_23, by decide, q1154, Or.inl rfl⟩
theorem fH_X22_7_X22 : FdH RX22 24 0 7 := ⟨_, _, cl_24, by decide, q1170, Or.inl rfl⟩
theorem fH_X23_7_X23 : FdH RX23 25 0 7 := ⟨_, _, cl_25, by decide, q1184, Or.inl rfl⟩
theorem fH_X23_13_X23 : FdH RX23 25 1 13 := ⟨_, _, cl_25, by decide, q1185, Or.inl rfl⟩
theorem fH_X23_17_X23 : FdH RX23 25 2 17 := ⟨_, _, cl_25, by decide, q1186, Or.inl rfl⟩
theorem fH_X24_17_X24 : FdH RX24 26 0 17 := ⟨_, _, cl_26, by decide, q2348, Or.inl rfl⟩
theorem fH_X24_22_X24 : FdH RX24 26 1 22 := ⟨_, _, cl_26, by decide, q2349, Or.inl rfl⟩
theorem fH_X24_26_X24 : FdH RX24 26 2 26 := ⟨_, _, cl_26, by decide, q2350, Or.inl rfl⟩
theorem fH_X24_13_X24 : FdH RX24 26 3 13 := ⟨_, _, cl_26, by decide, q2351, Or.inl rfl⟩
theorem fH_X24_29_X24 : FdH RX24 26 4 29 := ⟨_, _, cl_26, by decide, q2352, Or.inl rfl⟩
theorem fH_X25_21_X8 : FdH RX25 12 0 21 := ⟨_, _, cl_12, by decide, q613, Or.inl rfl⟩
theorem fH_X25_43_X10 : FdH RX25 13 2 43 := ⟨_, _, cl_13, by decide, q884, Or.inl rfl⟩
theorem fH_X25_46_X10 : FdH RX25 13 3 46 := ⟨_, _, cl_13, by decide, q892, Or.inl rfl⟩
theorem fH_X25_53_X12 : FdH RX25 15 0 53 := ⟨_, _, cl_15, by decide, q954, Or.inl rfl⟩
theorem fH_X25_102_X14 : FdH RX25 16 2 102 := ⟨_, _, cl_16, by decide, q1004, Or.inl rfl⟩
theorem fH_X25_123_X16 : FdH RX25 18 1 123 := ⟨_, _, cl_18, by decide, q1063, Or.inl rfl⟩
theorem fH_X25_110_X17 : FdH RX25 19 1 110 := ⟨_, _, cl_19, by decide, q1081, Or.inl rfl⟩
theorem fH_X25_114_X17 : FdH RX25 19 2 114 := ⟨_, _, cl_19, by decide, q1086, Or.inl rfl⟩
theorem fH_X25_118_X17 : FdH RX25 19 3 118 := ⟨_, _, cl_19, by decide, q1091, Or.inl rfl⟩
theorem fH_X25_15_X25 : FdH RX25 27 0 15 := ⟨_, _, cl_27, by decide, q2399, Or.inl rfl⟩
theorem fH_X25_9_X25 : FdH RX25 27 1 9 := ⟨_, _, cl_27, by decide, q2400, Or.inl rfl⟩
theorem fH_X26_203_X5 : FdH RX26 9 0 203 := ⟨_, _, cl_9, by decide, q557, Or.inl rfl⟩
theorem fH_X26_51_X5 : FdH RX26 9 4 51 := ⟨_, _, cl_9, by decide, q578, Or.inl rfl⟩
theorem fH_X26_73_X8 : FdH RX26 12 1 73 := ⟨_, _, cl_12, by decide, q617, Or.inl rfl⟩
theorem fH_X26_170_X10 : FdH RX26 13 1 170 := ⟨_, _, cl_13, by decide, q878, Or.inl rfl⟩
theorem fH_X26_226_X10 : FdH RX26 13 2 226 := ⟨_, _, cl_13, by decide, q886, Or.inl rfl⟩
theorem fH_X26_94_X10 : FdH RX26 13 3 94 := ⟨_, _, cl_13, by decide, q889, Or.inl rfl⟩
theorem fH_X26_121_X12 : FdH RX26 15 0 121 := ⟨_, _, cl_15, by decide, q956, Or.inl rfl⟩
theorem fH_X26_218_X14 : FdH RX26 16 1 218 := ⟨_, _, cl_16, by decide, q1001, Or.inl rfl⟩
theorem fH_X26_223_X14 : FdH RX26 16 2 223 := ⟨_, _, cl_16, by decide, q1007, Or.inl rfl⟩
theorem fH_X26_148_X14 : FdH RX26 16 0 148 := ⟨_, _, cl_16, by decide, q1011, Or.inl rfl⟩
theorem fH_X26_148_X15 : FdH RX26 17 0 148 := ⟨_, _, cl_17, by decide, q1011, Or.inl rfl⟩
theorem fH_X26_148_X16 : FdH RX26 18 0 148 := ⟨_, _, cl_18, by decide, q1011, Or.inl rfl⟩
theorem fH_X26_148_X17 : FdH RX26 19 0 148 := ⟨_, _, cl_19, by decide, q1011, Or.inl rfl⟩
theorem fH_X26_206_X15 : FdH RX26 17 1 206 := ⟨_, _, cl_17, by decide, q1049, Or.inl rfl⟩
theorem fH_X26_192_X16 : FdH RX26 18 1 192 := ⟨_, _, cl_18, by decide, q1064, Or.inl rfl⟩
theorem fH_X26_215_X17 : FdH RX26 19 1 215 := ⟨_, _, cl_19, by decide, q1082, Or.inl rfl⟩
theorem fH_X26_209_X17 : FdH RX26 19 2 209 := ⟨_, _, cl_19, by decide, q1087, Or.inl rfl⟩
theorem fH_X26_212_X17 : FdH RX26 19 3 212 := ⟨_, _, cl_19, by decide, q1092, Or.inl rfl⟩
theorem fH_X26_56_X6 : FdH RX26 10 1 56 := ⟨_, _, cl_10, by decide, q1327, Or.inl rfl⟩
theorem fH_X26_30_X26 : FdH RX26 28 0 30 := ⟨_, _, cl_28, by decide, q1446, Or.inl rfl⟩
theorem fH_X26_40_X26 : FdH RX26 28 1 40 := ⟨_, _, cl_28, by decide, q1447, Or.inl rfl⟩
theorem fH_X26_11_X26 : FdH RX26 28 2 11 := ⟨_, _, cl_28, by decide, q1448, Or.inl rfl⟩
theorem fH_X26_15_X26 : FdH RX26 28 3 15 := ⟨_, _, cl_28, by decide, q1449, Or.inl rfl⟩
theorem fH_X26_101_X26 : FdH RX26 28 4 101 := ⟨_, _, cl_28, by decide, q1450, Or.inl rfl⟩
theorem fH_X26_19_X26 : FdH RX26 28 5 19 := ⟨_, _, cl_28, by decide, q1451, Or.inl rfl⟩
theorem fH_X26_26_X26 : FdH RX26 28 6 26 := ⟨_, _, cl_28, by decide, q1452, Or.inl rfl⟩
theorem fH_X26_43_X26 : FdH RX26 28 7 43 := ⟨_, _, cl_28, by decide, q1454, Or.inl rfl⟩
theorem fH_X26_90_X26 : FdH RX26 28 8 90 := ⟨_, _, cl_28, by decide, q1455, Or.inl rfl⟩
theorem fH_X27_22_X5 : FdH RX27 9 4 22 := ⟨_, _, cl_9, by decide, q579, Or.inl rfl⟩
theorem fH_X27_31_X6 : FdH RX27 10 1 31 := ⟨_, _, cl_10, by decide, q1329, Or.inl rfl⟩
theorem fH_X27_7_X28 : FdH RX27 29 0 7 := ⟨_, _, cl_29, by decide, q2591, Or.inl rfl⟩
theorem fH_X27_7_X29 : FdH RX27 30 0 7 := ⟨_, _, cl_30, by decide, q2591, Or.inl rfl⟩
theorem fH_X27_7_X30 : FdH RX27 31 0 7 := ⟨_, _, cl_31, by decide, q2591, Or.inl rfl⟩
theorem fH_X27_13_X28 : FdH RX27 29 1 13 := ⟨_, _, cl_29, by decide, q2598, Or.inl rfl⟩
theorem fH_X27_13_X29 : FdH RX27 30 1 13 := ⟨_, _, cl_30, by decide, q2598, Or.inl rfl⟩
theorem fH_X27_13_X30 : FdH RX27 31 1 13 := ⟨_, _, cl_31, by decide, q2598, Or.inl rfl⟩
theorem fH_X28_71_X6 : FdH RX28 10 1 71 := ⟨_, _, cl_10, by decide, q1328, Or.inl rfl⟩
theorem fH_X28_9_X28 : FdH RX28 29 2 9 := ⟨_, _, cl_29, by decide, q2590, Or.inl rfl⟩
theorem fH_X28_43_X28 : FdH RX28 29 0 43 := ⟨_, _, cl_29, by decide, q2596, Or.inr q2597⟩
theorem fH_X28_47_X28 : FdH RX28 29 1 47 := ⟨_, _, cl_29, by decide, q2603, Or.inr q2604⟩
theorem fH_X29_142_X5 : FdH RX29 9 0 142 := ⟨_, _, cl_9, by decide, q553, Or.inl rfl⟩
theorem fH_X29_79_X5 : FdH RX29 9 1 79 := ⟨_, _, cl_9, by decide, q561, Or.inl rfl⟩
theorem fH_X29_95_X5 : FdH RX29 9 2 95 := ⟨_, _, cl_9, by decide, q567, Or.inl rfl⟩
theorem fH_X29_21_X8 : FdH RX29 12 1 21 := ⟨_, _, cl_12, by decide, q618, Or.inl rfl⟩
theorem fH_X29_39_X10 : FdH RX29 13 3 39 := ⟨_, _, cl_13, by decide, q890, Or.inl rfl⟩
theorem fH_X29_145_X6 : FdH RX29 10 1 145 := ⟨_, _, cl_10, by decide, q1330, Or.inl rfl⟩
theorem fH_X29_162_X6 : FdN RX29 10 9 162 := ⟨_, _, _, cl_10, by decide, q1341, Or.inl rfl⟩
theorem fH_X29_9_X29 : FdH RX29 30 0 9 := ⟨_, _, cl_30, by decide, q2592, Or.inr q2593⟩
theorem fH_X29_43_X29 : FdH RX29 30 1 43 := ⟨_, _, cl_30, by decide, q2601, Or.inr q2602⟩
theorem fH_X3_9_X3 : FdH RX3 8 0 9 := ⟨_, _, cl_8, by decide, q395, Or.inl rfl⟩
theorem fH_X3_15_X3 : FdH RX3 8 1 15 := ⟨_, _, cl_8, by decide, q399, Or.inl rfl⟩
theorem fH_X3_62_X3 : FdH RX3 8 2 62 := ⟨_, _, cl_8, by decide, q402, Or.inl rfl⟩
theorem fH_X3_25_X3 : FdH RX3 8 3 25 := ⟨_, _, cl_8, by decide, q406, Or.inl rfl⟩
theorem fH_X3_29_X3 : FdH RX3 8 4 29 := ⟨_, _, cl_8, by decide, q408, Or.inl rfl⟩
theorem fH_X3_32_X3 : FdH RX3 8 5 32 := ⟨_, _, cl_8, by decide, q410, Or.inl rfl⟩
theorem fH_X3_35_X3 : FdH RX3 8 6 35 := ⟨_, _, cl_8, by decide, q412, Or.inl rfl⟩
theorem fH_X3_80_X3 : FdH RX3 8 7 80 := ⟨_, _, cl_8, by decide, q415, Or.inl rfl⟩
theorem fH_X30_112_X3 : FdH RX30 8 1 112 := ⟨_, _, cl_8, by decide, q401, Or.inl rfl⟩
theorem fH_X30_117_X3 : FdH RX30 8 2 117 := ⟨_, _, cl_8, by decide, q404, Or.inl rfl⟩
theorem fH_X30_109_X2 : FdN RX30 7 0 109 := ⟨_, _, _, cl_7, by decide, q437, Or.inl rfl⟩
theorem fH_X30_189_X5 : FdH RX30 9 0 189 := ⟨_, _, cl_9, by decide, q558, Or.inl rfl⟩
theorem fH_X30_91_X5 : FdH RX30 9 1 91 := ⟨_, _, cl_9, by decide, q562, Or.inl rfl⟩
theorem fH_X30_208_X5 : FdH RX30 9 2 208 := ⟨_, _, cl_9, by decide, q570, Or.inl rfl⟩
theorem fH_X30_86_X5 : FdH RX30 9 4 86 := ⟨_, _, cl_9, by decide, q580, Or.inl rfl⟩
theorem fH_X30_175_X8 : FdH RX30 12 2 175 := ⟨_, _, cl_12, by decide, q625, Or.inl rfl⟩
theorem fH_X30_95_X10 : FdH RX30 13 0 95 := ⟨_, _, cl_13, by decide, q875, Or.inl rfl⟩
theorem fH_X30_100_X10 : FdH RX30 13 3 100 := ⟨_, _, cl_13, by decide, q893, Or.inl rfl⟩
theorem fH_X30_104_X12 : FdH RX30 15 1 104 := ⟨_, _, cl_15, by decide, q960, Or.inl rfl⟩
theorem fH_X30_124_X12 : FdH RX30 15 2 124 := ⟨_, _, cl_15, by decide, q962, Or.inl rfl⟩
theorem fH_X30_196_X6 : FdH RX30 10 1 196 := ⟨_, _, cl_10, by decide, q1332, Or.inl rfl⟩
theorem fH_X30_19_X30 : FdH RX30 31 0 19 := ⟨_, _, cl_31, by decide, q2594, Or.inr q2595⟩
theorem fH_X30_22_X30 : FdH RX30 31 1 22 := ⟨_, _, cl_31, by decide, q2599, Or.inr q2600⟩
theorem fH_X30_9_X30 : FdH RX30 31 2 9 := ⟨_, _, cl_31, by decide, q2643, Or.inl rfl⟩
theorem fH_X30_48_X30 : FdH RX30 31 3 48 := ⟨_, _, cl_31, by decide, q2644, Or.inl rfl⟩
theorem fH_X30_51_X30 : FdH RX30 31 4 51 := ⟨_, _, cl_31, by decide, q2645, Or.inl rfl⟩
theorem fH_X31_12_X31 : FdH RX31 32 0 12 := ⟨_, _, cl_32, by decide, q1520, Or.inl rfl⟩
theorem fH_X31_16_X31 : FdH RX31 32 1 16 := ⟨_, _, cl_32, by decide, q1522, Or.inl rfl⟩
theorem fH_X32_30_X8 : FdH RX32 12 1 30 := ⟨_, _, cl_12, by decide, q619, Or.inl rfl⟩
theorem fH_X32_9_X32 : FdH RX32 33 0 9 := ⟨_, _, cl_33, by decide, q2677, Or.inl rfl⟩
theorem fH_X32_21_X32 : FdH RX32 33 1 21 := ⟨_, _, cl_33, by decide, q2679, Or.inl rfl⟩
theorem fH_X33_207_X3 : FdH RX33 8 0 207 := ⟨_, _, cl_8, by decide, q397, Or.inl rfl⟩
theorem fH_X33_201_X2 : FdN RX33 7 0 201 := ⟨_, _, _, cl_7, by decide, q438, Or.inl rfl⟩
theorem fH_X33_161_X5 : FdH RX33 9 0 161 := ⟨_, _, cl_9, by decide, q555, Or.inl rfl⟩
theorem fH_X33_205_X5 : FdH RX33 9 1 205 := ⟨_, _, cl_9, by decide, q563, Or.inl rfl⟩
theorem fH_X33_218_X5 : FdH RX33 9 2 218 := ⟨_, _, cl_9, by decide, q568, Or.inl rfl⟩
theorem fH_X33_213_X5 : FdH RX33 9 3 213 := ⟨_, _, cl_9, by decide, q573, Or.inl rfl⟩
theorem fH_X33_34_X10 : FdH RX33 13 0 34 := ⟨_, _, cl_13, by decide, q874, Or.inl rfl⟩
theorem fH_X33_41_X10 : FdH RX33 13 2 41 := ⟨_, _, cl_13, by decide, q882, Or.inl rfl⟩
theorem fH_X33_23_X10 : FdH RX33 13 3 23 := ⟨_, _, cl_13, by decide, q888, Or.inl rfl⟩
theorem fH_X33_72_X12 : FdH RX33 15 0 72 := ⟨_, _, cl_15, by decide, q953, Or.inl rfl⟩
theorem fH_X33_29_X12 : FdH RX33 15 1 29 := ⟨_, _, cl_15, by decide, q959, Or.inl rfl⟩
theorem fH_X33_229_X14 : FdH RX33 16 1 229 := ⟨_, _, cl_16, by decide, q1000, Or.inl rfl⟩
theorem fH_X33_235_X14 : FdH RX33 16 2 235 := ⟨_, _, cl_16, by decide, q1006, Or.inl rfl⟩
theorem fH_X33_194_X15 : FdH RX33 17 1 194 := ⟨_, _, cl_17, by decide, q1047, Or.inl rfl⟩
theorem fH_X33_183_X16 : FdH RX33 18 1 183 := ⟨_, _, cl_18, by decide, q1061, Or.inl rfl⟩
theorem fH_X33_167_X17 : FdH RX33 19 1 167 := ⟨_, _, cl_19, by decide, q1080, Or.inl rfl⟩
theorem fH_X33_170_X17 : FdH RX33 19 2 170 := ⟨_, _, cl_19, by decide, q1084, Or.inl rfl⟩
theorem fH_X33_174_X17 : FdH RX33 19 3 174 := ⟨_, _, cl_19, by decide, q1089, Or.inl rfl⟩
theorem fH_X33_120_X6 : FdH RX33 10 1 120 := ⟨_, _, cl_10, by decide, q1331, Or.inl rfl⟩
theorem fH_X33_151_X32 : FdN RX33 33 0 151 := ⟨_, _, _, cl_33, by decide, q2678, Or.inl rfl⟩
theorem fH_X33_116_X32 : FdN RX33 33 1 116 := ⟨_, _, _, cl_33, by decide, q2680, Or.inl rfl⟩
theorem fH_X33_81_X32 : FdN RX33 33 2 81 := ⟨_, _, _, cl_33, by decide, q2681, Or.inl rfl⟩
theorem fH_X33_60_X32 : FdN RX33 33 3 60 := ⟨_, _, _, cl_33, by decide, q2682, Or.inl rfl⟩
theorem fH_X33_15_X33 : FdH RX33 34 0 15 := ⟨_, _, cl_34, by decide, q2712, Or.inl rfl⟩
theorem fH_X33_19_X33 : FdH RX33 34 1 19 := ⟨_, _, cl_34, by decide, q2713, Or.inl rfl⟩
theorem fH_X33_37_X33 : FdH RX33 34 2 37 := ⟨_, _, cl_34, by decide, q2714, Or.inl rfl⟩
theorem fH_X33_75_X33 : FdH RX33 34 3 75 := ⟨_, _, cl_34, by decide, q2715, Or.inl rfl⟩
theorem fH_X33_68_X33 : FdH RX33 34 4 68 := ⟨_, _, cl_34, by decide, q2716, Or.inl rfl⟩
theorem fH_X33_3_X33 : FdH RX33 34 5 3 := ⟨_, _, cl_34, by decide, q2717, Or.inl rfl⟩
theorem fH_X5_31_X3 : FdH RX5 8 3 31 := ⟨_, _, cl_8, by decide, q407, Or.inl rfl⟩
theorem fH_X5_32_X3 : FdH RX5 8 4 32 := ⟨_, _, cl_8, by decide, q409, Or.inl rfl⟩
theorem fH_X5_33_X3 : FdH RX5 8 5 33 := ⟨_, _, cl_8, by decide, q411, Or.inl rfl⟩
theorem fH_X5_9_X3 : FdN RX5 8 7 9 := ⟨_, _, _, cl_8, by decide, q414, Or.inl rfl⟩
theorem fH_X5_18_X5 : FdH RX5 9 0 18 := ⟨_, _, cl_9, by decide, q552, Or.inl rfl⟩
theorem fH_X5_22_X5 : FdH RX5 9 1 22 := ⟨_, _, cl_9, by decide, q560, Or.inl rfl⟩
theorem fH_X5_25_X5 : FdH RX5 9 2 25 := ⟨_, _, cl_9, by decide, q566, Or.inl rfl⟩
theorem fH_X5_28_X5 : FdH RX5 9 3 28 := ⟨_, _, cl_9, by decide, q572, Or.inl rfl⟩
theorem fH_X5_15_X5 : FdH RX5 9 4 15 := ⟨_, _, cl_9, by decide, q576, Or.inl rfl⟩
theorem fH_X6_191_X5 : FdH RX6 9 0 191 := ⟨_, _, cl_9, by decide, q556, Or.inl rfl⟩
theorem fH_X6_47_X5 : FdH RX6 9 4 47 := ⟨_, _, cl_9, by decide, q577, Or.inl rfl⟩
theorem fH_X6_56_X8 : FdH RX6 12 1 56 := ⟨_, _, cl_12, by decide, q616, Or.inl rfl⟩
theorem fH_X6_82_X10 : FdH RX6 13 1 82 := ⟨_, _, cl_13, by decide, q877, Or.inl rfl⟩
theorem fH_X6_93_X10 : FdH RX6 13 2 93 := ⟨_, _, cl_13, by decide, q883, Or.inl rfl⟩
theorem fH_X6_101_X10 : FdH RX6 13 3 101 := ⟨_, _, cl_13, by decide, q891, Or.inl rfl⟩
theorem fH_X6_112_X12 : FdH RX6 15 0 112 := ⟨_, _, cl_15, by decide, q955, Or.inl rfl⟩
theorem fH_X6_180_X14 : FdH RX6 16 1 180 := ⟨_, _, cl_16, by decide, q999, Or.inl rfl⟩
theorem fH_X6_184_X14 : FdH RX6 16 2 184 := ⟨_, _, cl_16, by decide, q1005, Or.inl rfl⟩
theorem fH_X6_194_X15 : FdH RX6 17 1 194 := ⟨_, _, cl_17, by decide, q1048, Or.inl rfl⟩
theorem fH_X6_175_X16 : FdH RX6 18 1 175 := ⟨_, _, cl_18, by decide, q1062, Or.inl rfl⟩
theorem fH_X6_166_X17 : FdH RX6 19 2 166 := ⟨_, _, cl_19, by decide, q1085, Or.inl rfl⟩
theorem fH_X6_170_X17 : FdH RX6 19 3 170 := ⟨_, _, cl_19, by decide, q1090, Or.inl rfl⟩
theorem fH_X6_26_X6 : FdH RX6 10 0 26 := ⟨_, _, cl_10, by decide, q1325, Or.inl rfl⟩
theorem fH_X6_11_X6 : FdH RX6 10 1 11 := ⟨_, _, cl_10, by decide, q1326, Or.inl rfl⟩
theorem fH_X6_19_X6 : FdH RX6 10 2 19 := ⟨_, _, cl_10, by decide, q1334, Or.inl rfl⟩
theorem fH_X6_23_X6 : FdH RX6 10 3 23 := ⟨_, _, cl_10, by decide, q1335, Or.inl rfl⟩
theorem fH_X6_81_X6 : FdH RX6 10 4 81 := ⟨_, _, cl_10, by decide, q1336, Or.inl rfl⟩
theorem fH_X6_77_X6 : FdH RX6 10 5 77 := ⟨_, _, cl_10, by decide, q1337, Or.inl rfl⟩
theorem fH_X6_38_X6 : FdH RX6 10 6 38 := ⟨_, _, cl_10, by decide, q1338, Or.inl rfl⟩
theorem fH_X6_30_X6 : FdH RX6 10 7 30 := ⟨_, _, cl_10, by decide, q1339, Or.inl rfl⟩
theorem fH_X6_34_X6 : FdH RX6 10 8 34 := ⟨_, _, cl_10, by decide, q1340, Or.inl rfl⟩
theorem fH_X6_200_X6 : FdH RX6 10 9 200 := ⟨_, _, cl_10, by decide, q1342, Or.inl rfl⟩
theorem fH_X7_84_X8 : FdH RX7 12 0 84 := ⟨_, _, cl_12, by decide, q614, Or.inl rfl⟩
theorem fH_X7_106_X8 : FdH RX7 12 1 106 := ⟨_, _, cl_12, by decide, q620, Or.inl rfl⟩
theorem fH_X7_75_X8 : FdH RX7 12 2 75 := ⟨_, _, cl_12, by decide, q624, Or.inl rfl⟩
theorem fH_X7_43_X8 : FdH RX7 12 3 43 := ⟨_, _, cl_12, by decide, q629, Or.inl rfl⟩
theorem fH_X7_91_X8 : FdH RX7 12 4 91 := ⟨_, _, cl_12, by decide, q632, Or.inl rfl⟩
theorem fH_X7_109_X8 : FdH RX7 12 5 109 := ⟨_, _, cl_12, by decide, q634, Or.inl rfl⟩
theorem fH_X7_33_X7 : FdH RX7 11 0 33 := ⟨_, _, cl_11, by decide, q710, Or.inl rfl⟩
theorem fH_X7_25_X7 : FdH RX7 11 1 25 := ⟨_, _, cl_11, by decide, q711, Or.inl rfl⟩
theorem fH_X7_12_X7 : FdH RX7 11 2 12 := ⟨_, _, cl_11, by decide, q712, Or.inl rfl⟩
theorem fH_X7_21_X7 : FdH RX7 11 3 21 := ⟨_, _, cl_11, by decide, q713, Or.inl rfl⟩
theorem fH_X7_37_X7 : FdH RX7 11 4 37 := ⟨_, _, cl_11, by decide, q714, Or.inl rfl⟩
theorem fH_X7_29_X7 : FdH RX7 11 5 29 := ⟨_, _, cl_11, by decide, q715, Or.inl rfl⟩
theorem fH_X7_40_X7 : FdH RX7 11 6 40 := ⟨_, _, cl_11, by decide, q716, Or.inl rfl⟩
theorem fH_X7_116_X10 : FdH RX7 13 2 116 := ⟨_, _, cl_13, by decide, q885, Or.inl rfl⟩
theorem fH_X7_101_X10 : FdH RX7 13 3 101 := ⟨_, _, cl_13, by decide, q894, Or.inl rfl⟩
theorem fH_X7_130_X12 : FdH RX7 15 0 130 := ⟨_, _, cl_15, by decide, q957, Or.inl rfl⟩
theorem fH_X7_136_X12 : FdH RX7 15 1 136 := ⟨_, _, cl_15, by decide, q961, Or.inl rfl⟩
theorem fH_X7_133_X12 : FdH RX7 15 2 133 := ⟨_, _, cl_15, by decide, q963, Or.inl rfl⟩
theorem fH_X7_184_X14 : FdH RX7 16 1 184 := ⟨_, _, cl_16, by decide, q1002, Or.inl rfl⟩
theorem fH_X7_202_X14 : FdH RX7 16 2 202 := ⟨_, _, cl_16, by decide, q1008, Or.inl rfl⟩
theorem fH_X7_229_X14 : FdH RX7 16 0 229 := ⟨_, _, cl_16, by decide, q1012, Or.inl rfl⟩
theorem fH_X7_229_X15 : FdH RX7 17 0 229 := ⟨_, _, cl_17, by decide, q1012, Or.inl rfl⟩
theorem fH_X7_229_X16 : FdH RX7 18 0 229 := ⟨_, _, cl_18, by decide, q1012, Or.inl rfl⟩
theorem fH_X7_229_X17 : FdH RX7 19 0 229 := ⟨_, _, cl_19, by decide, q1012, Or.inl rfl⟩
theorem fH_X8_10_X8 : FdH RX8 12 0 10 := ⟨_, _, cl_12, by decide, q612, Or.inl rfl⟩
theorem fH_X8_16_X8 : FdH RX8 12 1 16 := ⟨_, _, cl_12, by decide, q615, Or.inl rfl⟩
theorem fH_X8_19_X8 : FdH RX8 12 2 19 := ⟨_, _, cl_12, by decide, q623, Or.inl rfl⟩
theorem fH_X8_22_X8 : FdH RX8 12 3 22 := ⟨_, _, cl_12, by decide, q628, Or.inl rfl⟩
theorem fH_X8_25_X8 : FdH RX8 12 4 25 := ⟨_, _, cl_12, by decide, q631, Or.inl rfl⟩
section MaF
variable {C : Cx} {cc : ByteArray} {nL : Nat} {own : String} {E : EA} {l : Launch} {fr ty : Nat} {v : Int} {h0 hF h : AH} {ret : Option FieldType} {nm : String} {ε : Prop}
theorem Ma.ga (M : Ma C cc nL own E l fr h0 hF ty v ret nm) : Ga C cc nL own E h0 := M.1.1
theorem Ma.rm (M : Ma C cc nL own E l fr h0 hF ty v ret nm) : Rm C hF h0 := M.1.2.2.2.1
theorem Ma.kb (M : Ma C cc nL own E l fr h0 hF ty v ret nm) : KB E C.1.2.2.2.2 := M.1.2.1.2.1
theorem Ma.ao {Cn : String} (hc : Cn ∈ aoL) (M : Ma C cc nL own E l fr h0 hF ty v ret nm) : va_AO Cn C.1.2.2.2.2 := M.1.2.1.2.2.2.1 _ hc
theorem Ma.aoa {t : FieldType} (hc : t ∈ aaL) (M : Ma C cc nL own E l fr h0 hF ty v ret nm) : (Cond.arrayOver (.array t)).before C.2.1.2.1 C.1.2.2.2.2 = true := (M.1.2.1.2.2.2.2.1 _ hc).use
theorem Ma.nam (M : Ma C cc nL own E l fr h0 hF ty v ret nm) : C.2.1.2.2.2.1.name = nm := M.1.2.2.2.2.2.2
theorem Old.at {a : Int} {t : Nat} (hO : Old h0 h) (hT : TH h0) (ht : aT h0 a = t) (t0 : t ≠ 0) : aT h a = t := by
  have h1 : a < aN h0 := by
    obtain ⟨q, -, hq⟩ := hT.pos (a := a) (by rw [ht]; exact t0)
    exact hq
  rw [hO.2.2 a h1, ht]
end MaF
section XS
variable {C : Cx} {cc : ByteArray} {nL : Nat} {own : String} {z : Zs} {lv : LV} {pc : Nat} {st : List TV}
theorem x_tabK (G : Gz C z cc nL own) {dflt lo hi off : Int} {offs : Array Int} {len : Nat} {a k : Int} (hd : decode cc pc = .ok (.tableswitch dflt lo hi offs, len)) (ra : InR a) (q : a = k) (tgt : Nat) (h1 : (decide (lo ≤ k) && decide (k ≤ hi)) = true) (ho : offs[(k - lo).toNat]? = some off) (ht : (pc : Int) + off = (tgt : Int)) (kk : X C z lv tgt st) : X C z lv pc ((0, a) :: st) := by
  subst q
  rw [Bool.and_eq_true, decide_eq_true_eq, decide_eq_true_eq] at h1
  exact x_table G hd ra tgt (by rw [if_pos h1]; exact ⟨off, ho, ht⟩) kk
theorem x_tabD (G : Gz C z cc nL own) {dflt lo hi : Int} {offs : Array Int} {len : Nat} {a : Int} (hd : decode cc pc = .ok (.tableswitch dflt lo hi offs, len)) (ra : InR a) (tgt : Nat) (h1 : ¬ (lo ≤ a ∧ a ≤ hi)) (ht : (pc : Int) + dflt = (tgt : Int)) (kk : X C z lv tgt st) : X C z lv pc ((0, a) :: st) :=
  x_table G hd ra tgt (by rw [if_neg h1]; exact ht) kk
end XS
