/-! the model's fields, its constructor -/
set_option maxRecDepth 100000
theorem fH_X4_7_X4 : FdH RX4 35 0 7 := ⟨_, _, cl_35, by decide, q2806, Or.inl rfl⟩
theorem fH_X4_13_X4 : FdH RX4 35 1 13 := ⟨_, _, cl_35, by decide, q2807, Or.inl rfl⟩
theorem fH_X4_16_X4 : FdH RX4 35 2 16 := ⟨_, _, cl_35, by decide, q2808, Or.inl rfl⟩
theorem fH_X4_19_X4 : FdH RX4 35 3 19 := ⟨_, _, cl_35, by decide, q2809, Or.inl rfl⟩
theorem fH_X4_249_X4 : FdH RX4 35 4 249 := ⟨_, _, cl_35, by decide, q2810, Or.inl rfl⟩
theorem fH_X4_22_X4 : FdH RX4 35 5 22 := ⟨_, _, cl_35, by decide, q2811, Or.inl rfl⟩
theorem fH_X4_640_X4 : FdH RX4 35 6 640 := ⟨_, _, cl_35, by decide, q2812, Or.inl rfl⟩
theorem fH_X4_757_X4 : FdH RX4 35 7 757 := ⟨_, _, cl_35, by decide, q2813, Or.inl rfl⟩
theorem fH_X4_25_X4 : FdH RX4 35 8 25 := ⟨_, _, cl_35, by decide, q2814, Or.inl rfl⟩
theorem fH_X4_28_X4 : FdH RX4 35 9 28 := ⟨_, _, cl_35, by decide, q2815, Or.inl rfl⟩
theorem fH_X4_31_X4 : FdH RX4 35 10 31 := ⟨_, _, cl_35, by decide, q2816, Or.inl rfl⟩
theorem fH_X4_34_X4 : FdH RX4 35 11 34 := ⟨_, _, cl_35, by decide, q2817, Or.inl rfl⟩
theorem fH_X4_37_X4 : FdH RX4 35 12 37 := ⟨_, _, cl_35, by decide, q2818, Or.inl rfl⟩
theorem fH_X4_40_X4 : FdH RX4 35 13 40 := ⟨_, _, cl_35, by decide, q2819, Or.inl rfl⟩
theorem fH_X4_760_X4 : FdH RX4 35 14 760 := ⟨_, _, cl_35, by decide, q2820, Or.inl rfl⟩
theorem fH_X4_253_X4 : FdH RX4 35 15 253 := ⟨_, _, cl_35, by decide, q2821, Or.inl rfl⟩
theorem fH_X4_43_X4 : FdH RX4 35 16 43 := ⟨_, _, cl_35, by decide, q2822, Or.inl rfl⟩
theorem fH_X4_46_X4 : FdH RX4 35 17 46 := ⟨_, _, cl_35, by decide, q2823, Or.inl rfl⟩
theorem fH_X4_49_X4 : FdH RX4 35 18 49 := ⟨_, _, cl_35, by decide, q2824, Or.inl rfl⟩
theorem fH_X4_52_X4 : FdH RX4 35 19 52 := ⟨_, _, cl_35, by decide, q2825, Or.inl rfl⟩
theorem fH_X4_55_X4 : FdH RX4 35 20 55 := ⟨_, _, cl_35, by decide, q2826, Or.inl rfl⟩
theorem fH_X4_58_X4 : FdH RX4 35 21 58 := ⟨_, _, cl_35, by decide, q2827, Or.inl rfl⟩
theorem fH_X4_62_X4 : FdH RX4 35 22 62 := ⟨_, _, cl_35, by decide, q2828, Or.inl rfl⟩
theorem fH_X4_268_X4 : FdH RX4 35 23 268 := ⟨_, _, cl_35, by decide, q2829, Or.inl rfl⟩
theorem fH_X4_65_X4 : FdH RX4 35 24 65 := ⟨_, _, cl_35, by decide, q2830, Or.inl rfl⟩
theorem fH_X4_438_X4 : FdH RX4 35 25 438 := ⟨_, _, cl_35, by decide, q2831, Or.inl rfl⟩
theorem fH_X4_355_X4 : FdH RX4 35 26 355 := ⟨_, _, cl_35, by decide, q2832, Or.inl rfl⟩
theorem fH_X4_315_X4 : FdH RX4 35 27 315 := ⟨_, _, cl_35, by decide, q2833, Or.inl rfl⟩
theorem fH_X4_68_X4 : FdH RX4 35 28 68 := ⟨_, _, cl_35, by decide, q2834, Or.inl rfl⟩
theorem fH_X4_71_X4 : FdH RX4 35 29 71 := ⟨_, _, cl_35, by decide, q2835, Or.inl rfl⟩
theorem fH_X4_74_X4 : FdH RX4 35 30 74 := ⟨_, _, cl_35, by decide, q2836, Or.inl rfl⟩
theorem fH_X4_77_X4 : FdH RX4 35 31 77 := ⟨_, _, cl_35, by decide, q2837, Or.inl rfl⟩
theorem fH_X4_80_X4 : FdH RX4 35 32 80 := ⟨_, _, cl_35, by decide, q2838, Or.inl rfl⟩
theorem fH_X4_83_X4 : FdH RX4 35 33 83 := ⟨_, _, cl_35, by decide, q2839, Or.inl rfl⟩
theorem fH_X4_86_X4 : FdH RX4 35 34 86 := ⟨_, _, cl_35, by decide, q2840, Or.inl rfl⟩
theorem fH_X4_89_X4 : FdH RX4 35 35 89 := ⟨_, _, cl_35, by decide, q2841, Or.inl rfl⟩
theorem fH_X4_92_X4 : FdH RX4 35 36 92 := ⟨_, _, cl_35, by decide, q2842, Or.inl rfl⟩
theorem fH_X4_318_X4 : FdH RX4 35 37 318 := ⟨_, _, cl_35, by decide, q2843, Or.inl rfl⟩
theorem fH_X4_95_X4 : FdH RX4 35 38 95 := ⟨_, _, cl_35, by decide, q2844, Or.inl rfl⟩
theorem fH_X4_98_X4 : FdH RX4 35 39 98 := ⟨_, _, cl_35, by decide, q2845, Or.inl rfl⟩
theorem fH_X4_101_X4 : FdH RX4 35 40 101 := ⟨_, _, cl_35, by decide, q2846, Or.inl rfl⟩
theorem fH_X4_395_X4 : FdH RX4 35 41 395 := ⟨_, _, cl_35, by decide, q2847, Or.inl rfl⟩
theorem fH_X4_104_X4 : FdH RX4 35 42 104 := ⟨_, _, cl_35, by decide, q2848, Or.inl rfl⟩
theorem fH_X4_107_X4 : FdH RX4 35 43 107 := ⟨_, _, cl_35, by decide, q2849, Or.inl rfl⟩
theorem fH_X4_110_X4 : FdH RX4 35 44 110 := ⟨_, _, cl_35, by decide, q2850, Or.inl rfl⟩
theorem fH_X4_113_X4 : FdH RX4 35 45 113 := ⟨_, _, cl_35, by decide, q2851, Or.inl rfl⟩
theorem fH_X4_426_X4 : FdH RX4 35 46 426 := ⟨_, _, cl_35, by decide, q2852, Or.inl rfl⟩
theorem fH_X4_116_X4 : FdH RX4 35 47 116 := ⟨_, _, cl_35, by decide, q2853, Or.inl rfl⟩
theorem fH_X4_382_X4 : FdH RX4 35 48 382 := ⟨_, _, cl_35, by decide, q2854, Or.inl rfl⟩
theorem fH_X4_385_X4 : FdH RX4 35 49 385 := ⟨_, _, cl_35, by decide, q2855, Or.inl rfl⟩
theorem fH_X4_119_X4 : FdH RX4 35 50 119 := ⟨_, _, cl_35, by decide, q2856, Or.inl rfl⟩
theorem fH_X4_321_X4 : FdH RX4 35 51 321 := ⟨_, _, cl_35, by decide, q2857, Or.inl rfl⟩
theorem fH_X4_122_X4 : FdH RX4 35 52 122 := ⟨_, _, cl_35, by decide, q2858, Or.inl rfl⟩
theorem fH_X4_324_X4 : FdH RX4 35 53 324 := ⟨_, _, cl_35, by decide, q2859, Or.inl rfl⟩
theorem fH_X4_339_X4 : FdH RX4 35 54 339 := ⟨_, _, cl_35, by decide, q2860, Or.inl rfl⟩
theorem fH_X4_125_X4 : FdH RX4 35 55 125 := ⟨_, _, cl_35, by decide, q2861, Or.inl rfl⟩
theorem fH_X4_128_X4 : FdH RX4 35 56 128 := ⟨_, _, cl_35, by decide, q2862, Or.inl rfl⟩
theorem fH_X4_131_X4 : FdH RX4 35 57 131 := ⟨_, _, cl_35, by decide, q2863, Or.inl rfl⟩
theorem fH_X4_365_X4 : FdH RX4 35 58 365 := ⟨_, _, cl_35, by decide, q2864, Or.inl rfl⟩
theorem fH_X4_379_X4 : FdH RX4 35 59 379 := ⟨_, _, cl_35, by decide, q2865, Or.inl rfl⟩
theorem fH_X4_342_X4 : FdH RX4 35 60 342 := ⟨_, _, cl_35, by decide, q2866, Or.inl rfl⟩
theorem fH_X4_134_X4 : FdH RX4 35 61 134 := ⟨_, _, cl_35, by decide, q2867, Or.inl rfl⟩
theorem fH_X4_137_X4 : FdH RX4 35 62 137 := ⟨_, _, cl_35, by decide, q2868, Or.inl rfl⟩
theorem fH_X4_368_X4 : FdH RX4 35 63 368 := ⟨_, _, cl_35, by decide, q2869, Or.inl rfl⟩
theorem fH_X4_140_X4 : FdH RX4 35 64 140 := ⟨_, _, cl_35, by decide, q2870, Or.inl rfl⟩
theorem fH_X4_143_X4 : FdH RX4 35 65 143 := ⟨_, _, cl_35, by decide, q2871, Or.inl rfl⟩
theorem fH_X4_146_X4 : FdH RX4 35 66 146 := ⟨_, _, cl_35, by decide, q2872, Or.inl rfl⟩
theorem fH_X4_149_X4 : FdH RX4 35 67 149 := ⟨_, _, cl_35, by decide, q2873, Or.inl rfl⟩
theorem fH_X4_152_X4 : FdH RX4 35 68 152 := ⟨_, _, cl_35, by decide, q2874, Or.inl rfl⟩
theorem fH_X4_155_X4 : FdH RX4 35 69 155 := ⟨_, _, cl_35, by decide, q2875, Or.inl rfl⟩
theorem fH_X4_158_X4 : FdH RX4 35 70 158 := ⟨_, _, cl_35, by decide, q2876, Or.inl rfl⟩
theorem fH_X4_456_X4 : FdH RX4 35 71 456 := ⟨_, _, cl_35, by decide, q2877, Or.inl rfl⟩
theorem fH_X4_161_X4 : FdH RX4 35 72 161 := ⟨_, _, cl_35, by decide, q2878, Or.inl rfl⟩
theorem fH_X4_450_X4 : FdH RX4 35 73 450 := ⟨_, _, cl_35, by decide, q2879, Or.inl rfl⟩
theorem fH_X4_164_X4 : FdH RX4 35 74 164 := ⟨_, _, cl_35, by decide, q2880, Or.inl rfl⟩
theorem fH_X4_167_X4 : FdH RX4 35 75 167 := ⟨_, _, cl_35, by decide, q2881, Or.inl rfl⟩
theorem fH_X4_170_X4 : FdH RX4 35 76 170 := ⟨_, _, cl_35, by decide, q2882, Or.inl rfl⟩
theorem fH_X4_173_X4 : FdH RX4 35 77 173 := ⟨_, _, cl_35, by decide, q2883, Or.inl rfl⟩
theorem fH_X4_502_X4 : FdH RX4 35 78 502 := ⟨_, _, cl_35, by decide, q2884, Or.inl rfl⟩
theorem fH_X4_176_X4 : FdH RX4 35 79 176 := ⟨_, _, cl_35, by decide, q2885, Or.inl rfl⟩
theorem fH_X4_537_X4 : FdH RX4 35 80 537 := ⟨_, _, cl_35, by decide, q2886, Or.inl rfl⟩
theorem fH_X4_179_X4 : FdH RX4 35 81 179 := ⟨_, _, cl_35, by decide, q2887, Or.inl rfl⟩
theorem fH_X4_553_X4 : FdH RX4 35 82 553 := ⟨_, _, cl_35, by decide, q2888, Or.inl rfl⟩
theorem fH_X4_182_X4 : FdH RX4 35 83 182 := ⟨_, _, cl_35, by decide, q2889, Or.inl rfl⟩
theorem fH_X4_556_X4 : FdH RX4 35 84 556 := ⟨_, _, cl_35, by decide, q2890, Or.inl rfl⟩
theorem fH_X4_186_X4 : FdH RX4 35 85 186 := ⟨_, _, cl_35, by decide, q2891, Or.inl rfl⟩
theorem fH_X4_189_X4 : FdH RX4 35 86 189 := ⟨_, _, cl_35, by decide, q2892, Or.inl rfl⟩
theorem fH_X4_559_X4 : FdH RX4 35 87 559 := ⟨_, _, cl_35, by decide, q2893, Or.inl rfl⟩
theorem fH_X4_562_X4 : FdH RX4 35 88 562 := ⟨_, _, cl_35, by decide, q2894, Or.inl rfl⟩
theorem fH_X4_192_X4 : FdH RX4 35 89 192 := ⟨_, _, cl_35, by decide, q2895, Or.inl rfl⟩
theorem fH_X4_195_X4 : FdH RX4 35 90 195 := ⟨_, _, cl_35, by decide, q2896, Or.inl rfl⟩
theorem fH_X4_618_X4 : FdH RX4 35 91 618 := ⟨_, _, cl_35, by decide, q2897, Or.inl rfl⟩
theorem fH_X4_615_X4 : FdH RX4 35 92 615 := ⟨_, _, cl_35, by decide, q2898, Or.inl rfl⟩
theorem fH_X4_198_X4 : FdH RX4 35 93 198 := ⟨_, _, cl_35, by decide, q2899, Or.inl rfl⟩
theorem fH_X4_646_X4 : FdH RX4 35 94 646 := ⟨_, _, cl_35, by decide, q2900, Or.inl rfl⟩
theorem fH_X4_201_X4 : FdH RX4 35 95 201 := ⟨_, _, cl_35, by decide, q2901, Or.inl rfl⟩
theorem fH_X4_204_X4 : FdH RX4 35 96 204 := ⟨_, _, cl_35, by decide, q2902, Or.inl rfl⟩
theorem fH_X4_207_X4 : FdH RX4 35 97 207 := ⟨_, _, cl_35, by decide, q2903, Or.inl rfl⟩
theorem fH_X4_210_X4 : FdH RX4 35 98 210 := ⟨_, _, cl_35, by decide, q2904, Or.inl rfl⟩
theorem fH_X4_213_X4 : FdH RX4 35 99 213 := ⟨_, _, cl_35, by decide, q2905, Or.inl rfl⟩
theorem fH_X4_216_X4 : FdH RX4 35 100 216 := ⟨_, _, cl_35, by decide, q2906, Or.inl rfl⟩
theorem fH_X4_664_X4 : FdH RX4 35 101 664 := ⟨_, _, cl_35, by decide, q2907, Or.inl rfl⟩
theorem fH_X4_667_X4 : FdH RX4 35 102 667 := ⟨_, _, cl_35, by decide, q2908, Or.inl rfl⟩
theorem fH_X4_219_X4 : FdH RX4 35 103 219 := ⟨_, _, cl_35, by decide, q2909, Or.inl rfl⟩
theorem fH_X4_670_X4 : FdH RX4 35 104 670 := ⟨_, _, cl_35, by decide, q2910, Or.inl rfl⟩
theorem fH_X4_679_X4 : FdH RX4 35 105 679 := ⟨_, _, cl_35, by decide, q2911, Or.inl rfl⟩
theorem fH_X4_682_X4 : FdH RX4 35 106 682 := ⟨_, _, cl_35, by decide, q2912, Or.inl rfl⟩
theorem fH_X4_685_X4 : FdH RX4 35 107 685 := ⟨_, _, cl_35, by decide, q2913, Or.inl rfl⟩
theorem fH_X4_222_X4 : FdH RX4 35 108 222 := ⟨_, _, cl_35, by decide, q2914, Or.inl rfl⟩
theorem fH_X4_225_X4 : FdH RX4 35 109 225 := ⟨_, _, cl_35, by decide, q2915, Or.inl rfl⟩
theorem fH_X4_228_X4 : FdH RX4 35 110 228 := ⟨_, _, cl_35, by decide, q2916, Or.inl rfl⟩
theorem fH_X4_231_X4 : FdH RX4 35 111 231 := ⟨_, _, cl_35, by decide, q2917, Or.inl rfl⟩
theorem fH_X4_234_X4 : FdH RX4 35 112 234 := ⟨_, _, cl_35, by decide, q2918, Or.inl rfl⟩
theorem fH_X4_237_X4 : FdH RX4 35 113 237 := ⟨_, _, cl_35, by decide, q2919, Or.inl rfl⟩
theorem fH_X4_240_X4 : FdH RX4 35 114 240 := ⟨_, _, cl_35, by decide, q2920, Or.inl rfl⟩
theorem fH_X4_243_X4 : FdH RX4 35 115 243 := ⟨_, _, cl_35, by decide, q2921, Or.inl rfl⟩
theorem fH_X4_246_X4 : FdH RX4 35 116 246 := ⟨_, _, cl_35, by decide, q2922, Or.inl rfl⟩
theorem fH_X4_781_X4 : FdH RX4 35 117 781 := ⟨_, _, cl_35, by decide, q2923, Or.inl rfl⟩
set_option maxRecDepth 100000
set_option linter.unusedVariables false
def A_X4_init (h : AH) (this : Int) : Option (AH) :=
  (nwa h 64 576).bind fun (v1, h2) =>
  (pf h2 35 0 this v1).bind fun h3 =>
  (nwa h3 64 24).bind fun (v4, h5) =>
  (pf h5 35 1 this v4).bind fun h6 =>
  (nwa h6 64 576).bind fun (v7, h8) =>
  (pf h8 35 2 this v7).bind fun h9 =>
  (nwa h9 64 24).bind fun (v10, h11) =>
  (pf h11 35 3 this v10).bind fun h12 =>
  (nwa h12 64 6).bind fun (v13, h14) =>
  (pf h14 35 5 this v13).bind fun h15 =>
  (nwa h15 64 3).bind fun (v16, h17) =>
  (pf h17 35 8 this v16).bind fun h18 =>
  (nwa h18 64 3).bind fun (v19, h20) =>
  (pf h20 35 9 this v19).bind fun h21 =>
  (nwa h21 64 3).bind fun (v22, h23) =>
  (pf h23 35 10 this v22).bind fun h24 =>
  (nwa h24 64 3).bind fun (v25, h26) =>
  (pf h26 35 11 this v25).bind fun h27 =>
  (nwa h27 64 18).bind fun (v28, h29) =>
  (pf h29 35 12 this v28).bind fun h30 =>
  (nwa h30 64 3).bind fun (v31, h32) =>
  (pf h32 35 13 this v31).bind fun h33 =>
  (nwa h33 64 600).bind fun (v34, h35) =>
  (pf h35 35 16 this v34).bind fun h36 =>
  (nwa h36 64 600).bind fun (v37, h38) =>
  (pf h38 35 17 this v37).bind fun h39 =>
  (nwa h39 64 600).bind fun (v40, h41) =>
  (pf h41 35 18 this v40).bind fun h42 =>
  (nwa h42 64 600).bind fun (v43, h44) =>
  (pf h44 35 19 this v43).bind fun h45 =>
  (nwa h45 64 3).bind fun (v46, h47) =>
  (pf h47 35 20 this v46).bind fun h48 =>
  (nwa h48 65 24).bind fun (v49, h50) =>
  (pf h50 35 21 this v49).bind fun h51 =>
  (nwa h51 65 576).bind fun (v52, h53) =>
  (pf h53 35 22 this v52).bind fun h54 =>
  (nwa h54 64 210).bind fun (v55, h56) =>
  (pf h56 35 24 this v55).bind fun h57 =>
  (nwa h57 64 1600).bind fun (v58, h59) =>
  (pf h59 35 28 this v58).bind fun h60 =>
  (nwa h60 64 1600).bind fun (v61, h62) =>
  (pf h62 35 29 this v61).bind fun h63 =>
  (nwa h63 64 1600).bind fun (v64, h65) =>
  (pf h65 35 30 this v64).bind fun h66 =>
  (nwa h66 64 1600).bind fun (v67, h68) =>
  (pf h68 35 31 this v67).bind fun h69 =>
  (nwa h69 64 1600).bind fun (v70, h71) =>
  (pf h71 35 32 this v70).bind fun h72 =>
  (nwa h72 64 1600).bind fun (v73, h74) =>
  (pf h74 35 33 this v73).bind fun h75 =>
  (nwa h75 64 1600).bind fun (v76, h77) =>
  (pf h77 35 34 this v76).bind fun h78 =>
  (nwa h78 64 1600).bind fun (v79, h80) =>
  (pf h80 35 35 this v79).bind fun h81 =>
  (nwa h81 64 1600).bind fun (v82, h83) =>
  (pf h83 35 36 this v82).bind fun h84 =>
  (nwa h84 64 600).bind fun (v85, h86) =>
  (pf h86 35 38 this v85).bind fun h87 =>
  (nwa h87 64 600).bind fun (v88, h89) =>
  (pf h89 35 39 this v88).bind fun h90 =>
  (nwa h90 64 600).bind fun (v91, h92) =>
  (pf h92 35 40 this v91).bind fun h93 =>
  (nwa h93 64 210).bind fun (v94, h95) =>
  (pf h95 35 42 this v94).bind fun h96 =>
  (nwa h96 64 210).bind fun (v97, h98) =>
  (pf h98 35 43 this v97).bind fun h99 =>
  (nwa h99 64 210).bind fun (v100, h101) =>
  (pf h101 35 44 this v100).bind fun h102 =>
  (nwa h102 64 210).bind fun (v103, h104) =>
  (pf h104 35 45 this v103).bind fun h105 =>
  (nwa h105 64 210).bind fun (v106, h107) =>
  (pf h107 35 47 this v106).bind fun h108 =>
  (nwa h108 64 420).bind fun (v109, h110) =>
  (pf h110 35 50 this v109).bind fun h111 =>
  (nwa h111 64 420).bind fun (v112, h113) =>
  (pf h113 35 52 this v112).bind fun h114 =>
  (nwa h114 64 210).bind fun (v115, h116) =>
  (pf h116 35 55 this v115).bind fun h117 =>
  (nwa h117 64 210).bind fun (v118, h119) =>
  (pf h119 35 56 this v118).bind fun h120 =>
  (nwa h120 65 210).bind fun (v121, h122) =>
  (pf h122 35 57 this v121).bind fun h123 =>
  (nwa h123 64 210).bind fun (v124, h125) =>
  (pf h125 35 61 this v124).bind fun h126 =>
  (nwa h126 64 210).bind fun (v127, h128) =>
  (pf h128 35 62 this v127).bind fun h129 =>
  (nwa h129 64 3).bind fun (v130, h131) =>
  (pf h131 35 64 this v130).bind fun h132 =>
  (nwa h132 64 3).bind fun (v133, h134) =>
  (pf h134 35 65 this v133).bind fun h135 =>
  (nwa h135 64 600).bind fun (v136, h137) =>
  (pf h137 35 66 this v136).bind fun h138 =>
  (nwa h138 64 600).bind fun (v139, h140) =>
  (pf h140 35 67 this v139).bind fun h141 =>
  (nwa h141 64 600).bind fun (v142, h143) =>
  (pf h143 35 68 this v142).bind fun h144 =>
  (nwa h144 64 4).bind fun (v145, h146) =>
  (pf h146 35 69 this v145).bind fun h147 =>
  (nwa h147 64 1600).bind fun (v148, h149) =>
  (pf h149 35 70 this v148).bind fun h150 =>
  (nwa h150 64 3200).bind fun (v151, h152) =>
  (pf h152 35 72 this v151).bind fun h153 =>
  (nwa h153 64 600).bind fun (v154, h155) =>
  (pf h155 35 74 this v154).bind fun h156 =>
  (nwa h156 64 1600).bind fun (v157, h158) =>
  (pf h158 35 75 this v157).bind fun h159 =>
  (nwa h159 64 2200).bind fun (v160, h161) =>
  (pf h161 35 76 this v160).bind fun h162 =>
  (nwa h162 64 2200).bind fun (v163, h164) =>
  (pf h164 35 77 this v163).bind fun h165 =>
  (nwa h165 64 2000).bind fun (v166, h167) =>
  (pf h167 35 79 this v166).bind fun h168 =>
  (nwa h168 64 4000).bind fun (v169, h170) =>
  (pf h170 35 81 this v169).bind fun h171 =>
  (nwa h171 67 2000).bind fun (v172, h173) =>
  (pf h173 35 83 this v172).bind fun h174 =>
  (nwa h174 67 2400).bind fun (v175, h176) =>
  (pf h176 35 85 this v175).bind fun h177 =>
  (nwa h177 64 5).bind fun (v178, h179) =>
  (pf h179 35 86 this v178).bind fun h180 =>
  (nwa h180 64 3751).bind fun (v181, h182) =>
  (pf h182 35 89 this v181).bind fun h183 =>
  (nwa h183 64 10).bind fun (v184, h185) =>
  (pf h185 35 90 this v184).bind fun h186 =>
  (nwa h186 64 800).bind fun (v187, h188) =>
  (pf h188 35 93 this v187).bind fun h189 =>
  (nwa h189 64 210).bind fun (v190, h191) =>
  (pf h191 35 95 this v190).bind fun h192 =>
  (nwa h192 64 210).bind fun (v193, h194) =>
  (pf h194 35 96 this v193).bind fun h195 =>
  (nwa h195 64 576).bind fun (v196, h197) =>
  (pf h197 35 97 this v196).bind fun h198 =>
  (nwa h198 64 24).bind fun (v199, h200) =>
  (pf h200 35 98 this v199).bind fun h201 =>
  (nwa h201 64 1200).bind fun (v202, h203) =>
  (pf h203 35 99 this v202).bind fun h204 =>
  (nwa h204 64 24).bind fun (v205, h206) =>
  (pf h206 35 100 this v205).bind fun h207 =>
  (nwa h207 64 120).bind fun (v208, h209) =>
  (pf h209 35 103 this v208).bind fun h210 =>
  (nwa h210 64 600).bind fun (v211, h212) =>
  (pf h212 35 108 this v211).bind fun h213 =>
  (nwa h213 64 600).bind fun (v214, h215) =>
  (pf h215 35 109 this v214).bind fun h216 =>
  (nwa h216 65 600).bind fun (v217, h218) =>
  (pf h218 35 110 this v217).bind fun h219 =>
  (nwa h219 64 24).bind fun (v220, h221) =>
  (pf h221 35 111 this v220).bind fun h222 =>
  (nwa h222 64 24).bind fun (v223, h224) =>
  (pf h224 35 112 this v223).bind fun h225 =>
  (nwa h225 64 601).bind fun (v226, h227) =>
  (pf h227 35 113 this v226).bind fun h228 =>
  (nwa h228 64 601).bind fun (v229, h230) =>
  (pf h230 35 114 this v229).bind fun h231 =>
  (nwa h231 65 8).bind fun (v232, h233) =>
  (pf h233 35 115 this v232).bind fun h234 =>
  (nwa h234 64 24).bind fun (v235, h236) =>
  (pf h236 35 116 this v235).bind fun h237 =>
  (pf h237 35 4 this 0).bind fun h238 =>
  some h238
theorem ck_X4_init : CkA yX4_init 0 := ⟨by decide, by decide, by decide +kernel⟩
abbrev Z_X4_init (C : Cx) (l : Launch) (E : EA) (h : AH) (hZ : AH) (h1 : AH) : Zs := zA (Ma C cX4_init 1 RX4 E l 1 h hZ 6 0 none yX4_init.name) (Ea hZ 6 0) E hZ h h1
theorem T_X4_init {l : Launch} {E : EA} (C0 : Cx) (hE : ∀ i, TI 5 (E.2.2 i)) (h : AH) (hT : TH h) (this : Int) (h_this : TI 5 this) (ht : aT h this = 35) {hZ : AH} (e : A_X4_init h this = some hZ) : MetA l yX4_init cX4_init 1 none 1 E h [(2, this)] 6 0 hZ ∧ Old h hZ ∧ TH hZ ∧ TIr 6 0 := by
  unfold A_X4_init at e
  refine a_start (own := RX4) C0 [(2, this)] hT rfl rfl rfl (fun C => ?_)
  have hO := Old.rf h
  show X C (Z_X4_init C l E h hZ h) [(0, (2, this))] 0 []
  refine x_aload_n Ma.x dX4_init_0 0 rfl ?_
  refine a_objInit Ma.b hT ht (by decide) rfl rfl dX4_init_1 q2805 q280 q281 ?_
  refine x_aload_n Ma.x dX4_init_4 0 rfl ?_
  refine x_sip Ma.x dX4_init_5 rfl ?_
  refine h_newa Ma.ga Ma.rm nA_I hT hO dX4_init_8 e (fun v1 h2 tv1 gv1 Th2 Oh2 e => ?_)
  refine g_putF Ma.ga fH_X4_7_X4 (c := 5) (kd := 2) rfl rfl (IsFin.of rfl) (fun m => (Ma.nam m).trans rfl) Th2 Oh2 tv1 dX4_init_10 e (fun h3 Th3 Oh3 _ e => ?_)
  refine x_aload_n Ma.x dX4_init_13 0 rfl ?_
  refine x_bip Ma.x dX4_init_14 rfl ?_
  refine h_newa Ma.ga Ma.rm nA_I Th3 Oh3 dX4_init_16 e (fun v4 h5 tv4 gv4 Th5 Oh5 e => ?_)
  refine g_putF Ma.ga fH_X4_13_X4 (c := 5) (kd := 2) rfl rfl (IsFin.of rfl) (fun m => (Ma.nam m).trans rfl) Th5 Oh5 tv4 dX4_init_18 e (fun h6 Th6 Oh6 _ e => ?_)
  refine x_aload_n Ma.x dX4_init_21 0 rfl ?_
  refine x_sip Ma.x dX4_init_22 rfl ?_
  refine h_newa Ma.ga Ma.rm nA_I Th6 Oh6 dX4_init_25 e (fun v7 h8 tv7 gv7 Th8 Oh8 e => ?_)
  refine g_putF Ma.ga fH_X4_16_X4 (c := 5) (kd := 2) rfl rfl (IsFin.of rfl) (fun m => (Ma.nam m).trans rfl) Th8 Oh8 tv7 dX4_init_27 e (fun h9 Th9 Oh9 _ e => ?_)
  refine x_aload_n Ma.x dX4_init_30 0 rfl ?_
  refine x_bip Ma.x dX4_init_31 rfl ?_
  refine h_newa Ma.ga Ma.rm nA_I Th9 Oh9 dX4_init_33 e (fun v10 h11 tv10 gv10 Th11 Oh11 e => ?_)
  refine g_putF Ma.ga fH_X4_19_X4 (c := 5) (kd := 2) rfl rfl (IsFin.of rfl) (fun m => (Ma.nam m).trans rfl) Th11 Oh11 tv10 dX4_init_35 e (fun h12 Th12 Oh12 _ e => ?_)
  refine x_aload_n Ma.x dX4_init_38 0 rfl ?_
  refine x_bip Ma.x dX4_init_39 rfl ?_
  refine h_newa Ma.ga Ma.rm nA_I Th12 Oh12 dX4_init_41 e (fun v13 h14 tv13 gv13 Th14 Oh14 e => ?_)
  refine g_putF Ma.ga fH_X4_22_X4 (c := 5) (kd := 2) rfl rfl (IsFin.of rfl) (fun m => (Ma.nam m).trans rfl) Th14 Oh14 tv13 dX4_init_43 e (fun h15 Th15 Oh15 _ e => ?_)
  refine x_aload_n Ma.x dX4_init_46 0 rfl ?_
  refine x_iconst Ma.x dX4_init_47 ?_
  refine h_newa Ma.ga Ma.rm nA_I Th15 Oh15 dX4_init_48 e (fun v16 h17 tv16 gv16 Th17 Oh17 e => ?_)
  refine g_putF Ma.ga fH_X4_25_X4 (c := 5) (kd := 2) rfl rfl (IsFin.of rfl) (fun m => (Ma.nam m).trans rfl) Th17 Oh17 tv16 dX4_init_50 e (fun h18 Th18 Oh18 _ e => ?_)
  refine x_aload_n Ma.x dX4_init_53 0 rfl ?_
  refine x_iconst Ma.x dX4_init_54 ?_
  refine h_newa Ma.ga Ma.rm nA_I Th18 Oh18 dX4_init_55 e (fun v19 h20 tv19 gv19 Th20 Oh20 e => ?_)
  refine g_putF Ma.ga fH_X4_28_X4 (c := 5) (kd := 2) rfl rfl (IsFin.of rfl) (fun m => (Ma.nam m).trans rfl) Th20 Oh20 tv19 dX4_init_57 e (fun h21 Th21 Oh21 _ e => ?_)
  refine x_aload_n Ma.x dX4_init_60 0 rfl ?_
  refine x_iconst Ma.x dX4_init_61 ?_
  refine h_newa Ma.ga Ma.rm nA_I Th21 Oh21 dX4_init_62 e (fun v22 h23 tv22 gv22 Th23 Oh23 e => ?_)
  refine g_putF Ma.ga fH_X4_31_X4 (c := 5) (kd := 2) rfl rfl (IsFin.of rfl) (fun m => (Ma.nam m).trans rfl) Th23 Oh23 tv22 dX4_init_64 e (fun h24 Th24 Oh24 _ e => ?_)
  refine x_aload_n Ma.x dX4_init_67 0 rfl ?_
  refine x_iconst Ma.x dX4_init_68 ?_
  refine h_newa Ma.ga Ma.rm nA_I Th24 Oh24 dX4_init_69 e (fun v25 h26 tv25 gv25 Th26 Oh26 e => ?_)
  refine g_putF Ma.ga fH_X4_34_X4 (c := 5) (kd := 2) rfl rfl (IsFin.of rfl) (fun m => (Ma.nam m).trans rfl) Th26 Oh26 tv25 dX4_init_71 e (fun h27 Th27 Oh27 _ e => ?_)
  refine x_aload_n Ma.x dX4_init_74 0 rfl ?_
  refine x_bip Ma.x dX4_init_75 rfl ?_
  refine h_newa Ma.ga Ma.rm nA_I Th27 Oh27 dX4_init_77 e (fun v28 h29 tv28 gv28 Th29 Oh29 e => ?_)
  refine g_putF Ma.ga fH_X4_37_X4 (c := 5) (kd := 2) rfl rfl (IsFin.of rfl) (fun m => (Ma.nam m).trans rfl) Th29 Oh29 tv28 dX4_init_79 e (fun h30 Th30 Oh30 _ e => ?_)
  refine x_aload_n Ma.x dX4_init_82 0 rfl ?_
  refine x_iconst Ma.x dX4_init_83 ?_
  refine h_newa Ma.ga Ma.rm nA_I Th30 Oh30 dX4_init_84 e (fun v31 h32 tv31 gv31 Th32 Oh32 e => ?_)
  refine g_putF Ma.ga fH_X4_40_X4 (c := 5) (kd := 2) rfl rfl (IsFin.of rfl) (fun m => (Ma.nam m).trans rfl) Th32 Oh32 tv31 dX4_init_86 e (fun h33 Th33 Oh33 _ e => ?_)
  refine x_aload_n Ma.x dX4_init_89 0 rfl ?_
  refine x_sip Ma.x dX4_init_90 rfl ?_
  refine h_newa Ma.ga Ma.rm nA_I Th33 Oh33 dX4_init_93 e (fun v34 h35 tv34 gv34 Th35 Oh35 e => ?_)
  refine g_putF Ma.ga fH_X4_43_X4 (c := 5) (kd := 2) rfl rfl (IsFin.of rfl) (fun m => (Ma.nam m).trans rfl) Th35 Oh35 tv34 dX4_init_95 e (fun h36 Th36 Oh36 _ e => ?_)
  refine x_aload_n Ma.x dX4_init_98 0 rfl ?_
  refine x_sip Ma.x dX4_init_99 rfl ?_
  refine h_newa Ma.ga Ma.rm nA_I Th36 Oh36 dX4_init_102 e (fun v37 h38 tv37 gv37 Th38 Oh38 e => ?_)
  refine g_putF Ma.ga fH_X4_46_X4 (c := 5) (kd := 2) rfl rfl (IsFin.of rfl) (fun m => (Ma.nam m).trans rfl) Th38 Oh38 tv37 dX4_init_104 e (fun h39 Th39 Oh39 _ e => ?_)
  refine x_aload_n Ma.x dX4_init_107 0 rfl ?_
  refine x_sip Ma.x dX4_init_108 rfl ?_
  refine h_newa Ma.ga Ma.rm nA_I Th39 Oh39 dX4_init_111 e (fun v40 h41 tv40 gv40 Th41 Oh41 e => ?_)
  refine g_putF Ma.ga fH_X4_49_X4 (c := 5) (kd := 2) rfl rfl (IsFin.of rfl) (fun m => (Ma.nam m).trans rfl) Th41 Oh41 tv40 dX4_init_113 e (fun h42 Th42 Oh42 _ e => ?_)
  refine x_aload_n Ma.x dX4_init_116 0 rfl ?_
  refine x_sip Ma.x dX4_init_117 rfl ?_
  refine h_newa Ma.ga Ma.rm nA_I Th42 Oh42 dX4_init_120 e (fun v43 h44 tv43 gv43 Th44 Oh44 e => ?_)
  refine g_putF Ma.ga fH_X4_52_X4 (c := 5) (kd := 2) rfl rfl (IsFin.of rfl) (fun m => (Ma.nam m).trans rfl) Th44 Oh44 tv43 dX4_init_122 e (fun h45 Th45 Oh45 _ e => ?_)
  refine x_aload_n Ma.x dX4_init_125 0 rfl ?_
  refine x_iconst Ma.x dX4_init_126 ?_
  refine h_newa Ma.ga Ma.rm nA_I Th45 Oh45 dX4_init_127 e (fun v46 h47 tv46 gv46 Th47 Oh47 e => ?_)
  refine g_putF Ma.ga fH_X4_55_X4 (c := 5) (kd := 2) rfl rfl (IsFin.of rfl) (fun m => (Ma.nam m).trans rfl) Th47 Oh47 tv46 dX4_init_129 e (fun h48 Th48 Oh48 _ e => ?_)
  refine x_aload_n Ma.x dX4_init_132 0 rfl ?_
  refine x_bip Ma.x dX4_init_133 rfl ?_
  refine h_newa Ma.ga Ma.rm nA_Z Th48 Oh48 dX4_init_135 e (fun v49 h50 tv49 gv49 Th50 Oh50 e => ?_)
  refine g_putF Ma.ga fH_X4_58_X4 (c := 5) (kd := 2) rfl rfl (IsFin.of rfl) (fun m => (Ma.nam m).trans rfl) Th50 Oh50 tv49 dX4_init_137 e (fun h51 Th51 Oh51 _ e => ?_)
  refine x_aload_n Ma.x dX4_init_140 0 rfl ?_
  refine x_sip Ma.x dX4_init_141 rfl ?_
  refine h_newa Ma.ga Ma.rm nA_Z Th51 Oh51 dX4_init_144 e (fun v52 h53 tv52 gv52 Th53 Oh53 e => ?_)
  refine g_putF Ma.ga fH_X4_62_X4 (c := 5) (kd := 2) rfl rfl (IsFin.of rfl) (fun m => (Ma.nam m).trans rfl) Th53 Oh53 tv52 dX4_init_146 e (fun h54 Th54 Oh54 _ e => ?_)
  refine x_aload_n Ma.x dX4_init_149 0 rfl ?_
  refine x_sip Ma.x dX4_init_150 rfl ?_
  refine h_newa Ma.ga Ma.rm nA_I Th54 Oh54 dX4_init_153 e (fun v55 h56 tv55 gv55 Th56 Oh56 e => ?_)
  refine g_putF Ma.ga fH_X4_65_X4 (c := 5) (kd := 2) rfl rfl (IsFin.of rfl) (fun m => (Ma.nam m).trans rfl) Th56 Oh56 tv55 dX4_init_155 e (fun h57 Th57 Oh57 _ e => ?_)
  refine x_aload_n Ma.x dX4_init_158 0 rfl ?_
  refine x_sip Ma.x dX4_init_159 rfl ?_
  refine h_newa Ma.ga Ma.rm nA_I Th57 Oh57 dX4_init_162 e (fun v58 h59 tv58 gv58 Th59 Oh59 e => ?_)
  refine g_putF Ma.ga fH_X4_68_X4 (c := 5) (kd := 2) rfl rfl (IsFin.of rfl) (fun m => (Ma.nam m).trans rfl) Th59 Oh59 tv58 dX4_init_164 e (fun h60 Th60 Oh60 _ e => ?_)
  refine x_aload_n Ma.x dX4_init_167 0 rfl ?_
  refine x_sip Ma.x dX4_init_168 rfl ?_
  refine h_newa Ma.ga Ma.rm nA_I Th60 Oh60 dX4_init_171 e (fun v61 h62 tv61 gv61 Th62 Oh62 e => ?_)
  refine g_putF Ma.ga fH_X4_71_X4 (c := 5) (kd := 2) rfl rfl (IsFin.of rfl) (fun m => (Ma.nam m).trans rfl) Th62 Oh62 tv61 dX4_init_173 e (fun h63 Th63 Oh63 _ e => ?_)
  refine x_aload_n Ma.x dX4_init_176 0 rfl ?_
  refine x_sip Ma.x dX4_init_177 rfl ?_
  refine h_newa Ma.ga Ma.rm nA_I Th63 Oh63 dX4_init_180 e (fun v64 h65 tv64 gv64 Th65 Oh65 e => ?_)
  refine g_putF Ma.ga fH_X4_74_X4 (c := 5) (kd := 2) rfl rfl (IsFin.of rfl) (fun m => (Ma.nam m).trans rfl) Th65 Oh65 tv64 dX4_init_182 e (fun h66 Th66 Oh66 _ e => ?_)
  refine x_aload_n Ma.x dX4_init_185 0 rfl ?_
  refine x_sip Ma.x dX4_init_186 rfl ?_
  refine h_newa Ma.ga Ma.rm nA_I Th66 Oh66 dX4_init_189 e (fun v67 h68 tv67 gv67 Th68 Oh68 e => ?_)
  refine g_putF Ma.ga fH_X4_77_X4 (c := 5) (kd := 2) rfl rfl (IsFin.of rfl) (fun m => (Ma.nam m).trans rfl) Th68 Oh68 tv67 dX4_init_191 e (fun h69 Th69 Oh69 _ e => ?_)
  refine x_aload_n Ma.x dX4_init_194 0 rfl ?_
  refine x_sip Ma.x dX4_init_195 rfl ?_
  refine h_newa Ma.ga Ma.rm nA_I Th69 Oh69 dX4_init_198 e (fun v70 h71 tv70 gv70 Th71 Oh71 e => ?_)
  refine g_putF Ma.ga fH_X4_80_X4 (c := 5) (kd := 2) rfl rfl (IsFin.of rfl) (fun m => (Ma.nam m).trans rfl) Th71 Oh71 tv70 dX4_init_200 e (fun h72 Th72 Oh72 _ e => ?_)
  refine x_aload_n Ma.x dX4_init_203 0 rfl ?_
  refine x_sip Ma.x dX4_init_204 rfl ?_
  refine h_newa Ma.ga Ma.rm nA_I Th72 Oh72 dX4_init_207 e (fun v73 h74 tv73 gv73 Th74 Oh74 e => ?_)
  refine g_putF Ma.ga fH_X4_83_X4 (c := 5) (kd := 2) rfl rfl (IsFin.of rfl) (fun m => (Ma.nam m).trans rfl) Th74 Oh74 tv73 dX4_init_209 e (fun h75 Th75 Oh75 _ e => ?_)
  refine x_aload_n Ma.x dX4_init_212 0 rfl ?_
  refine x_sip Ma.x dX4_init_213 rfl ?_
  refine h_newa Ma.ga Ma.rm nA_I Th75 Oh75 dX4_init_216 e (fun v76 h77 tv76 gv76 Th77 Oh77 e => ?_)
  refine g_putF Ma.ga fH_X4_86_X4 (c := 5) (kd := 2) rfl rfl (IsFin.of rfl) (fun m => (Ma.nam m).trans rfl) Th77 Oh77 tv76 dX4_init_218 e (fun h78 Th78 Oh78 _ e => ?_)
  refine x_aload_n Ma.x dX4_init_221 0 rfl ?_
  refine x_sip Ma.x dX4_init_222 rfl ?_
  refine h_newa Ma.ga Ma.rm nA_I Th78 Oh78 dX4_init_225 e (fun v79 h80 tv79 gv79 Th80 Oh80 e => ?_)
  refine g_putF Ma.ga fH_X4_89_X4 (c := 5) (kd := 2) rfl rfl (IsFin.of rfl) (fun m => (Ma.nam m).trans rfl) Th80 Oh80 tv79 dX4_init_227 e (fun h81 Th81 Oh81 _ e => ?_)
  refine x_aload_n Ma.x dX4_init_230 0 rfl ?_
  refine x_sip Ma.x dX4_init_231 rfl ?_
  refine h_newa Ma.ga Ma.rm nA_I Th81 Oh81 dX4_init_234 e (fun v82 h83 tv82 gv82 Th83 Oh83 e => ?_)
  refine g_putF Ma.ga fH_X4_92_X4 (c := 5) (kd := 2) rfl rfl (IsFin.of rfl) (fun m => (Ma.nam m).trans rfl) Th83 Oh83 tv82 dX4_init_236 e (fun h84 Th84 Oh84 _ e => ?_)
  refine x_aload_n Ma.x dX4_init_239 0 rfl ?_
  refine x_sip Ma.x dX4_init_240 rfl ?_
  refine h_newa Ma.ga Ma.rm nA_I Th84 Oh84 dX4_init_243 e (fun v85 h86 tv85 gv85 Th86 Oh86 e => ?_)
  refine g_putF Ma.ga fH_X4_95_X4 (c := 5) (kd := 2) rfl rfl (IsFin.of rfl) (fun m => (Ma.nam m).trans rfl) Th86 Oh86 tv85 dX4_init_245 e (fun h87 Th87 Oh87 _ e => ?_)
  refine x_aload_n Ma.x dX4_init_248 0 rfl ?_
  refine x_sip Ma.x dX4_init_249 rfl ?_
  refine h_newa Ma.ga Ma.rm nA_I Th87 Oh87 dX4_init_252 e (fun v88 h89 tv88 gv88 Th89 Oh89 e => ?_)
  refine g_putF Ma.ga fH_X4_98_X4 (c := 5) (kd := 2) rfl rfl (IsFin.of rfl) (fun m => (Ma.nam m).trans rfl) Th89 Oh89 tv88 dX4_init_254 e (fun h90 Th90 Oh90 _ e => ?_)
  refine x_aload_n Ma.x dX4_init_257 0 rfl ?_
  refine x_sip Ma.x dX4_init_258 rfl ?_
  refine h_newa Ma.ga Ma.rm nA_I Th90 Oh90 dX4_init_261 e (fun v91 h92 tv91 gv91 Th92 Oh92 e => ?_)
  refine g_putF Ma.ga fH_X4_101_X4 (c := 5) (kd := 2) rfl rfl (IsFin.of rfl) (fun m => (Ma.nam m).trans rfl) Th92 Oh92 tv91 dX4_init_263 e (fun h93 Th93 Oh93 _ e => ?_)
  refine x_aload_n Ma.x dX4_init_266 0 rfl ?_
  refine x_sip Ma.x dX4_init_267 rfl ?_
  refine h_newa Ma.ga Ma.rm nA_I Th93 Oh93 dX4_init_270 e (fun v94 h95 tv94 gv94 Th95 Oh95 e => ?_)
  refine g_putF Ma.ga fH_X4_104_X4 (c := 5) (kd := 2) rfl rfl (IsFin.of rfl) (fun m => (Ma.nam m).trans rfl) Th95 Oh95 tv94 dX4_init_272 e (fun h96 Th96 Oh96 _ e => ?_)
  refine x_aload_n Ma.x dX4_init_275 0 rfl ?_
  refine x_sip Ma.x dX4_init_276 rfl ?_
  refine h_newa Ma.ga Ma.rm nA_I Th96 Oh96 dX4_init_279 e (fun v97 h98 tv97 gv97 Th98 Oh98 e => ?_)
  refine g_putF Ma.ga fH_X4_107_X4 (c := 5) (kd := 2) rfl rfl (IsFin.of rfl) (fun m => (Ma.nam m).trans rfl) Th98 Oh98 tv97 dX4_init_281 e (fun h99 Th99 Oh99 _ e => ?_)
  refine x_aload_n Ma.x dX4_init_284 0 rfl ?_
  refine x_sip Ma.x dX4_init_285 rfl ?_
  refine h_newa Ma.ga Ma.rm nA_I Th99 Oh99 dX4_init_288 e (fun v100 h101 tv100 gv100 Th101 Oh101 e => ?_)
  refine g_putF Ma.ga fH_X4_110_X4 (c := 5) (kd := 2) rfl rfl (IsFin.of rfl) (fun m => (Ma.nam m).trans rfl) Th101 Oh101 tv100 dX4_init_290 e (fun h102 Th102 Oh102 _ e => ?_)
  refine x_aload_n Ma.x dX4_init_293 0 rfl ?_
  refine x_sip Ma.x dX4_init_294 rfl ?_
  refine h_newa Ma.ga Ma.rm nA_I Th102 Oh102 dX4_init_297 e (fun v103 h104 tv103 gv103 Th104 Oh104 e => ?_)
  refine g_putF Ma.ga fH_X4_113_X4 (c := 5) (kd := 2) rfl rfl (IsFin.of rfl) (fun m => (Ma.nam m).trans rfl) Th104 Oh104 tv103 dX4_init_299 e (fun h105 Th105 Oh105 _ e => ?_)
  refine x_aload_n Ma.x dX4_init_302 0 rfl ?_
  refine x_sip Ma.x dX4_init_303 rfl ?_
  refine h_newa Ma.ga Ma.rm nA_I Th105 Oh105 dX4_init_306 e (fun v106 h107 tv106 gv106 Th107 Oh107 e => ?_)
  refine g_putF Ma.ga fH_X4_116_X4 (c := 5) (kd := 2) rfl rfl (IsFin.of rfl) (fun m => (Ma.nam m).trans rfl) Th107 Oh107 tv106 dX4_init_308 e (fun h108 Th108 Oh108 _ e => ?_)
  refine x_aload_n Ma.x dX4_init_311 0 rfl ?_
  refine x_sip Ma.x dX4_init_312 rfl ?_
  refine h_newa Ma.ga Ma.rm nA_I Th108 Oh108 dX4_init_315 e (fun v109 h110 tv109 gv109 Th110 Oh110 e => ?_)
  refine g_putF Ma.ga fH_X4_119_X4 (c := 5) (kd := 2) rfl rfl (IsFin.of rfl) (fun m => (Ma.nam m).trans rfl) Th110 Oh110 tv109 dX4_init_317 e (fun h111 Th111 Oh111 _ e => ?_)
  refine x_aload_n Ma.x dX4_init_320 0 rfl ?_
  refine x_sip Ma.x dX4_init_321 rfl ?_
  refine h_newa Ma.ga Ma.rm nA_I Th111 Oh111 dX4_init_324 e (fun v112 h113 tv112 gv112 Th113 Oh113 e => ?_)
  refine g_putF Ma.ga fH_X4_122_X4 (c := 5) (kd := 2) rfl rfl (IsFin.of rfl) (fun m => (Ma.nam m).trans rfl) Th113 Oh113 tv112 dX4_init_326 e (fun h114 Th114 Oh114 _ e => ?_)
  refine x_aload_n Ma.x dX4_init_329 0 rfl ?_
  refine x_sip Ma.x dX4_init_330 rfl ?_
  refine h_newa Ma.ga Ma.rm nA_I Th114 Oh114 dX4_init_333 e (fun v115 h116 tv115 gv115 Th116 Oh116 e => ?_)
  refine g_putF Ma.ga fH_X4_125_X4 (c := 5) (kd := 2) rfl rfl (IsFin.of rfl) (fun m => (Ma.nam m).trans rfl) Th116 Oh116 tv115 dX4_init_335 e (fun h117 Th117 Oh117 _ e => ?_)
  refine x_aload_n Ma.x dX4_init_338 0 rfl ?_
  refine x_sip Ma.x dX4_init_339 rfl ?_
  refine h_newa Ma.ga Ma.rm nA_I Th117 Oh117 dX4_init_342 e (fun v118 h119 tv118 gv118 Th119 Oh119 e => ?_)
  refine g_putF Ma.ga fH_X4_128_X4 (c := 5) (kd := 2) rfl rfl (IsFin.of rfl) (fun m => (Ma.nam m).trans rfl) Th119 Oh119 tv118 dX4_init_344 e (fun h120 Th120 Oh120 _ e => ?_)
  refine x_aload_n Ma.x dX4_init_347 0 rfl ?_
  refine x_sip Ma.x dX4_init_348 rfl ?_
  refine h_newa Ma.ga Ma.rm nA_Z Th120 Oh120 dX4_init_351 e (fun v121 h122 tv121 gv121 Th122 Oh122 e => ?_)
  refine g_putF Ma.ga fH_X4_131_X4 (c := 5) (kd := 2) rfl rfl (IsFin.of rfl) (fun m => (Ma.nam m).trans rfl) Th122 Oh122 tv121 dX4_init_353 e (fun h123 Th123 Oh123 _ e => ?_)
  refine x_aload_n Ma.x dX4_init_356 0 rfl ?_
  refine x_sip Ma.x dX4_init_357 rfl ?_
  refine h_newa Ma.ga Ma.rm nA_I Th123 Oh123 dX4_init_360 e (fun v124 h125 tv124 gv124 Th125 Oh125 e => ?_)
  refine g_putF Ma.ga fH_X4_134_X4 (c := 5) (kd := 2) rfl rfl (IsFin.of rfl) (fun m => (Ma.nam m).trans rfl) Th125 Oh125 tv124 dX4_init_362 e (fun h126 Th126 Oh126 _ e => ?_)
  refine x_aload_n Ma.x dX4_init_365 0 rfl ?_
  refine x_sip Ma.x dX4_init_366 rfl ?_
  refine h_newa Ma.ga Ma.rm nA_I Th126 Oh126 dX4_init_369 e (fun v127 h128 tv127 gv127 Th128 Oh128 e => ?_)
  refine g_putF Ma.ga fH_X4_137_X4 (c := 5) (kd := 2) rfl rfl (IsFin.of rfl) (fun m => (Ma.nam m).trans rfl) Th128 Oh128 tv127 dX4_init_371 e (fun h129 Th129 Oh129 _ e => ?_)
  refine x_aload_n Ma.x dX4_init_374 0 rfl ?_
  refine x_iconst Ma.x dX4_init_375 ?_
  refine h_newa Ma.ga Ma.rm nA_I Th129 Oh129 dX4_init_376 e (fun v130 h131 tv130 gv130 Th131 Oh131 e => ?_)
  refine g_putF Ma.ga fH_X4_140_X4 (c := 5) (kd := 2) rfl rfl (IsFin.of rfl) (fun m => (Ma.nam m).trans rfl) Th131 Oh131 tv130 dX4_init_378 e (fun h132 Th132 Oh132 _ e => ?_)
  refine x_aload_n Ma.x dX4_init_381 0 rfl ?_
  refine x_iconst Ma.x dX4_init_382 ?_
  refine h_newa Ma.ga Ma.rm nA_I Th132 Oh132 dX4_init_383 e (fun v133 h134 tv133 gv133 Th134 Oh134 e => ?_)
  refine g_putF Ma.ga fH_X4_143_X4 (c := 5) (kd := 2) rfl rfl (IsFin.of rfl) (fun m => (Ma.nam m).trans rfl) Th134 Oh134 tv133 dX4_init_385 e (fun h135 Th135 Oh135 _ e => ?_)
  refine x_aload_n Ma.x dX4_init_388 0 rfl ?_
  refine x_sip Ma.x dX4_init_389 rfl ?_
  refine h_newa Ma.ga Ma.rm nA_I Th135 Oh135 dX4_init_392 e (fun v136 h137 tv136 gv136 Th137 Oh137 e => ?_)
  refine g_putF Ma.ga fH_X4_146_X4 (c := 5) (kd := 2) rfl rfl (IsFin.of rfl) (fun m => (Ma.nam m).trans rfl) Th137 Oh137 tv136 dX4_init_394 e (fun h138 Th138 Oh138 _ e => ?_)
  refine x_aload_n Ma.x dX4_init_397 0 rfl ?_
  refine x_sip Ma.x dX4_init_398 rfl ?_
  refine h_newa Ma.ga Ma.rm nA_I Th138 Oh138 dX4_init_401 e (fun v139 h140 tv139 gv139 Th140 Oh140 e => ?_)
  refine g_putF Ma.ga fH_X4_149_X4 (c := 5) (kd := 2) rfl rfl (IsFin.of rfl) (fun m => (Ma.nam m).trans rfl) Th140 Oh140 tv139 dX4_init_403 e (fun h141 Th141 Oh141 _ e => ?_)
  refine x_aload_n Ma.x dX4_init_406 0 rfl ?_
  refine x_sip Ma.x dX4_init_407 rfl ?_
  refine h_newa Ma.ga Ma.rm nA_I Th141 Oh141 dX4_init_410 e (fun v142 h143 tv142 gv142 Th143 Oh143 e => ?_)
  refine g_putF Ma.ga fH_X4_152_X4 (c := 5) (kd := 2) rfl rfl (IsFin.of rfl) (fun m => (Ma.nam m).trans rfl) Th143 Oh143 tv142 dX4_init_412 e (fun h144 Th144 Oh144 _ e => ?_)
  refine x_aload_n Ma.x dX4_init_415 0 rfl ?_
  refine x_iconst Ma.x dX4_init_416 ?_
  refine h_newa Ma.ga Ma.rm nA_I Th144 Oh144 dX4_init_417 e (fun v145 h146 tv145 gv145 Th146 Oh146 e => ?_)
  refine g_putF Ma.ga fH_X4_155_X4 (c := 5) (kd := 2) rfl rfl (IsFin.of rfl) (fun m => (Ma.nam m).trans rfl) Th146 Oh146 tv145 dX4_init_419 e (fun h147 Th147 Oh147 _ e => ?_)
  refine x_aload_n Ma.x dX4_init_422 0 rfl ?_
  refine x_sip Ma.x dX4_init_423 rfl ?_
  refine h_newa Ma.ga Ma.rm nA_I Th147 Oh147 dX4_init_426 e (fun v148 h149 tv148 gv148 Th149 Oh149 e => ?_)
  refine g_putF Ma.ga fH_X4_158_X4 (c := 5) (kd := 2) rfl rfl (IsFin.of rfl) (fun m => (Ma.nam m).trans rfl) Th149 Oh149 tv148 dX4_init_428 e (fun h150 Th150 Oh150 _ e => ?_)
  refine x_aload_n Ma.x dX4_init_431 0 rfl ?_
  refine x_sip Ma.x dX4_init_432 rfl ?_
  refine h_newa Ma.ga Ma.rm nA_I Th150 Oh150 dX4_init_435 e (fun v151 h152 tv151 gv151 Th152 Oh152 e => ?_)
  refine g_putF Ma.ga fH_X4_161_X4 (c := 5) (kd := 2) rfl rfl (IsFin.of rfl) (fun m => (Ma.nam m).trans rfl) Th152 Oh152 tv151 dX4_init_437 e (fun h153 Th153 Oh153 _ e => ?_)
  refine x_aload_n Ma.x dX4_init_440 0 rfl ?_
  refine x_sip Ma.x dX4_init_441 rfl ?_
  refine h_newa Ma.ga Ma.rm nA_I Th153 Oh153 dX4_init_444 e (fun v154 h155 tv154 gv154 Th155 Oh155 e => ?_)
  refine g_putF Ma.ga fH_X4_164_X4 (c := 5) (kd := 2) rfl rfl (IsFin.of rfl) (fun m => (Ma.nam m).trans rfl) Th155 Oh155 tv154 dX4_init_446 e (fun h156 Th156 Oh156 _ e => ?_)
  refine x_aload_n Ma.x dX4_init_449 0 rfl ?_
  refine x_sip Ma.x dX4_init_450 rfl ?_
  refine h_newa Ma.ga Ma.rm nA_I Th156 Oh156 dX4_init_453 e (fun v157 h158 tv157 gv157 Th158 Oh158 e => ?_)
  refine g_putF Ma.ga fH_X4_167_X4 (c := 5) (kd := 2) rfl rfl (IsFin.of rfl) (fun m => (Ma.nam m).trans rfl) Th158 Oh158 tv157 dX4_init_455 e (fun h159 Th159 Oh159 _ e => ?_)
  refine x_aload_n Ma.x dX4_init_458 0 rfl ?_
  refine x_sip Ma.x dX4_init_459 rfl ?_
  refine h_newa Ma.ga Ma.rm nA_I Th159 Oh159 dX4_init_462 e (fun v160 h161 tv160 gv160 Th161 Oh161 e => ?_)
  refine g_putF Ma.ga fH_X4_170_X4 (c := 5) (kd := 2) rfl rfl (IsFin.of rfl) (fun m => (Ma.nam m).trans rfl) Th161 Oh161 tv160 dX4_init_464 e (fun h162 Th162 Oh162 _ e => ?_)
  refine x_aload_n Ma.x dX4_init_467 0 rfl ?_
  refine x_sip Ma.x dX4_init_468 rfl ?_
  refine h_newa Ma.ga Ma.rm nA_I Th162 Oh162 dX4_init_471 e (fun v163 h164 tv163 gv163 Th164 Oh164 e => ?_)
  refine g_putF Ma.ga fH_X4_173_X4 (c := 5) (kd := 2) rfl rfl (IsFin.of rfl) (fun m => (Ma.nam m).trans rfl) Th164 Oh164 tv163 dX4_init_473 e (fun h165 Th165 Oh165 _ e => ?_)
  refine x_aload_n Ma.x dX4_init_476 0 rfl ?_
  refine x_sip Ma.x dX4_init_477 rfl ?_
  refine h_newa Ma.ga Ma.rm nA_I Th165 Oh165 dX4_init_480 e (fun v166 h167 tv166 gv166 Th167 Oh167 e => ?_)
  refine g_putF Ma.ga fH_X4_176_X4 (c := 5) (kd := 2) rfl rfl (IsFin.of rfl) (fun m => (Ma.nam m).trans rfl) Th167 Oh167 tv166 dX4_init_482 e (fun h168 Th168 Oh168 _ e => ?_)
  refine x_aload_n Ma.x dX4_init_485 0 rfl ?_
  refine x_sip Ma.x dX4_init_486 rfl ?_
  refine h_newa Ma.ga Ma.rm nA_I Th168 Oh168 dX4_init_489 e (fun v169 h170 tv169 gv169 Th170 Oh170 e => ?_)
  refine g_putF Ma.ga fH_X4_179_X4 (c := 5) (kd := 2) rfl rfl (IsFin.of rfl) (fun m => (Ma.nam m).trans rfl) Th170 Oh170 tv169 dX4_init_491 e (fun h171 Th171 Oh171 _ e => ?_)
  refine x_aload_n Ma.x dX4_init_494 0 rfl ?_
  refine x_sip Ma.x dX4_init_495 rfl ?_
  refine h_newa Ma.ga Ma.rm nA_J Th171 Oh171 dX4_init_498 e (fun v172 h173 tv172 gv172 Th173 Oh173 e => ?_)
  refine g_putF Ma.ga fH_X4_182_X4 (c := 5) (kd := 2) rfl rfl (IsFin.of rfl) (fun m => (Ma.nam m).trans rfl) Th173 Oh173 tv172 dX4_init_500 e (fun h174 Th174 Oh174 _ e => ?_)
  refine x_aload_n Ma.x dX4_init_503 0 rfl ?_
  refine x_sip Ma.x dX4_init_504 rfl ?_
  refine h_newa Ma.ga Ma.rm nA_J Th174 Oh174 dX4_init_507 e (fun v175 h176 tv175 gv175 Th176 Oh176 e => ?_)
  refine g_putF Ma.ga fH_X4_186_X4 (c := 5) (kd := 2) rfl rfl (IsFin.of rfl) (fun m => (Ma.nam m).trans rfl) Th176 Oh176 tv175 dX4_init_509 e (fun h177 Th177 Oh177 _ e => ?_)
  refine x_aload_n Ma.x dX4_init_512 0 rfl ?_
  refine x_iconst Ma.x dX4_init_513 ?_
  refine h_newa Ma.ga Ma.rm nA_I Th177 Oh177 dX4_init_514 e (fun v178 h179 tv178 gv178 Th179 Oh179 e => ?_)
  refine g_putF Ma.ga fH_X4_189_X4 (c := 5) (kd := 2) rfl rfl (IsFin.of rfl) (fun m => (Ma.nam m).trans rfl) Th179 Oh179 tv178 dX4_init_516 e (fun h180 Th180 Oh180 _ e => ?_)
  refine x_aload_n Ma.x dX4_init_519 0 rfl ?_
  refine x_sip Ma.x dX4_init_520 rfl ?_
  refine h_newa Ma.ga Ma.rm nA_I Th180 Oh180 dX4_init_523 e (fun v181 h182 tv181 gv181 Th182 Oh182 e => ?_)
  refine g_putF Ma.ga fH_X4_192_X4 (c := 5) (kd := 2) rfl rfl (IsFin.of rfl) (fun m => (Ma.nam m).trans rfl) Th182 Oh182 tv181 dX4_init_525 e (fun h183 Th183 Oh183 _ e => ?_)
  refine x_aload_n Ma.x dX4_init_528 0 rfl ?_
  refine x_bip Ma.x dX4_init_529 rfl ?_
  refine h_newa Ma.ga Ma.rm nA_I Th183 Oh183 dX4_init_531 e (fun v184 h185 tv184 gv184 Th185 Oh185 e => ?_)
  refine g_putF Ma.ga fH_X4_195_X4 (c := 5) (kd := 2) rfl rfl (IsFin.of rfl) (fun m => (Ma.nam m).trans rfl) Th185 Oh185 tv184 dX4_init_533 e (fun h186 Th186 Oh186 _ e => ?_)
  refine x_aload_n Ma.x dX4_init_536 0 rfl ?_
  refine x_sip Ma.x dX4_init_537 rfl ?_
  refine h_newa Ma.ga Ma.rm nA_I Th186 Oh186 dX4_init_540 e (fun v187 h188 tv187 gv187 Th188 Oh188 e => ?_)
  refine g_putF Ma.ga fH_X4_198_X4 (c := 5) (kd := 2) rfl rfl (IsFin.of rfl) (fun m => (Ma.nam m).trans rfl) Th188 Oh188 tv187 dX4_init_542 e (fun h189 Th189 Oh189 _ e => ?_)
  refine x_aload_n Ma.x dX4_init_545 0 rfl ?_
  refine x_sip Ma.x dX4_init_546 rfl ?_
  refine h_newa Ma.ga Ma.rm nA_I Th189 Oh189 dX4_init_549 e (fun v190 h191 tv190 gv190 Th191 Oh191 e => ?_)
  refine g_putF Ma.ga fH_X4_201_X4 (c := 5) (kd := 2) rfl rfl (IsFin.of rfl) (fun m => (Ma.nam m).trans rfl) Th191 Oh191 tv190 dX4_init_551 e (fun h192 Th192 Oh192 _ e => ?_)
  refine x_aload_n Ma.x dX4_init_554 0 rfl ?_
  refine x_sip Ma.x dX4_init_555 rfl ?_
  refine h_newa Ma.ga Ma.rm nA_I Th192 Oh192 dX4_init_558 e (fun v193 h194 tv193 gv193 Th194 Oh194 e => ?_)
  refine g_putF Ma.ga fH_X4_204_X4 (c := 5) (kd := 2) rfl rfl (IsFin.of rfl) (fun m => (Ma.nam m).trans rfl) Th194 Oh194 tv193 dX4_init_560 e (fun h195 Th195 Oh195 _ e => ?_)
  refine x_aload_n Ma.x dX4_init_563 0 rfl ?_
  refine x_sip Ma.x dX4_init_564 rfl ?_
  refine h_newa Ma.ga Ma.rm nA_I Th195 Oh195 dX4_init_567 e (fun v196 h197 tv196 gv196 Th197 Oh197 e => ?_)
  refine g_putF Ma.ga fH_X4_207_X4 (c := 5) (kd := 2) rfl rfl (IsFin.of rfl) (fun m => (Ma.nam m).trans rfl) Th197 Oh197 tv196 dX4_init_569 e (fun h198 Th198 Oh198 _ e => ?_)
  refine x_aload_n Ma.x dX4_init_572 0 rfl ?_
  refine x_bip Ma.x dX4_init_573 rfl ?_
  refine h_newa Ma.ga Ma.rm nA_I Th198 Oh198 dX4_init_575 e (fun v199 h200 tv199 gv199 Th200 Oh200 e => ?_)
  refine g_putF Ma.ga fH_X4_210_X4 (c := 5) (kd := 2) rfl rfl (IsFin.of rfl) (fun m => (Ma.nam m).trans rfl) Th200 Oh200 tv199 dX4_init_577 e (fun h201 Th201 Oh201 _ e => ?_)
  refine x_aload_n Ma.x dX4_init_580 0 rfl ?_
  refine x_sip Ma.x dX4_init_581 rfl ?_
  refine h_newa Ma.ga Ma.rm nA_I Th201 Oh201 dX4_init_584 e (fun v202 h203 tv202 gv202 Th203 Oh203 e => ?_)
  refine g_putF Ma.ga fH_X4_213_X4 (c := 5) (kd := 2) rfl rfl (IsFin.of rfl) (fun m => (Ma.nam m).trans rfl) Th203 Oh203 tv202 dX4_init_586 e (fun h204 Th204 Oh204 _ e => ?_)
  refine x_aload_n Ma.x dX4_init_589 0 rfl ?_
  refine x_bip Ma.x dX4_init_590 rfl ?_
  refine h_newa Ma.ga Ma.rm nA_I Th204 Oh204 dX4_init_592 e (fun v205 h206 tv205 gv205 Th206 Oh206 e => ?_)
  refine g_putF Ma.ga fH_X4_216_X4 (c := 5) (kd := 2) rfl rfl (IsFin.of rfl) (fun m => (Ma.nam m).trans rfl) Th206 Oh206 tv205 dX4_init_594 e (fun h207 Th207 Oh207 _ e => ?_)
  refine x_aload_n Ma.x dX4_init_597 0 rfl ?_
  refine x_bip Ma.x dX4_init_598 rfl ?_
  refine h_newa Ma.ga Ma.rm nA_I Th207 Oh207 dX4_init_600 e (fun v208 h209 tv208 gv208 Th209 Oh209 e => ?_)
  refine g_putF Ma.ga fH_X4_219_X4 (c := 5) (kd := 2) rfl rfl (IsFin.of rfl) (fun m => (Ma.nam m).trans rfl) Th209 Oh209 tv208 dX4_init_602 e (fun h210 Th210 Oh210 _ e => ?_)
  refine x_aload_n Ma.x dX4_init_605 0 rfl ?_
  refine x_sip Ma.x dX4_init_606 rfl ?_
  refine h_newa Ma.ga Ma.rm nA_I Th210 Oh210 dX4_init_609 e (fun v211 h212 tv211 gv211 Th212 Oh212 e => ?_)
  refine g_putF Ma.ga fH_X4_222_X4 (c := 5) (kd := 2) rfl rfl (IsFin.of rfl) (fun m => (Ma.nam m).trans rfl) Th212 Oh212 tv211 dX4_init_611 e (fun h213 Th213 Oh213 _ e => ?_)
  refine x_aload_n Ma.x dX4_init_614 0 rfl ?_
  refine x_sip Ma.x dX4_init_615 rfl ?_
  refine h_newa Ma.ga Ma.rm nA_I Th213 Oh213 dX4_init_618 e (fun v214 h215 tv214 gv214 Th215 Oh215 e => ?_)
  refine g_putF Ma.ga fH_X4_225_X4 (c := 5) (kd := 2) rfl rfl (IsFin.of rfl) (fun m => (Ma.nam m).trans rfl) Th215 Oh215 tv214 dX4_init_620 e (fun h216 Th216 Oh216 _ e => ?_)
  refine x_aload_n Ma.x dX4_init_623 0 rfl ?_
  refine x_sip Ma.x dX4_init_624 rfl ?_
  refine h_newa Ma.ga Ma.rm nA_Z Th216 Oh216 dX4_init_627 e (fun v217 h218 tv217 gv217 Th218 Oh218 e => ?_)
  refine g_putF Ma.ga fH_X4_228_X4 (c := 5) (kd := 2) rfl rfl (IsFin.of rfl) (fun m => (Ma.nam m).trans rfl) Th218 Oh218 tv217 dX4_init_629 e (fun h219 Th219 Oh219 _ e => ?_)
  refine x_aload_n Ma.x dX4_init_632 0 rfl ?_
  refine x_bip Ma.x dX4_init_633 rfl ?_
  refine h_newa Ma.ga Ma.rm nA_I Th219 Oh219 dX4_init_635 e (fun v220 h221 tv220 gv220 Th221 Oh221 e => ?_)
  refine g_putF Ma.ga fH_X4_231_X4 (c := 5) (kd := 2) rfl rfl (IsFin.of rfl) (fun m => (Ma.nam m).trans rfl) Th221 Oh221 tv220 dX4_init_637 e (fun h222 Th222 Oh222 _ e => ?_)
  refine x_aload_n Ma.x dX4_init_640 0 rfl ?_
  refine x_bip Ma.x dX4_init_641 rfl ?_
  refine h_newa Ma.ga Ma.rm nA_I Th222 Oh222 dX4_init_643 e (fun v223 h224 tv223 gv223 Th224 Oh224 e => ?_)
  refine g_putF Ma.ga fH_X4_234_X4 (c := 5) (kd := 2) rfl rfl (IsFin.of rfl) (fun m => (Ma.nam m).trans rfl) Th224 Oh224 tv223 dX4_init_645 e (fun h225 Th225 Oh225 _ e => ?_)
  refine x_aload_n Ma.x dX4_init_648 0 rfl ?_
  refine x_sip Ma.x dX4_init_649 rfl ?_
  refine h_newa Ma.ga Ma.rm nA_I Th225 Oh225 dX4_init_652 e (fun v226 h227 tv226 gv226 Th227 Oh227 e => ?_)
  refine g_putF Ma.ga fH_X4_237_X4 (c := 5) (kd := 2) rfl rfl (IsFin.of rfl) (fun m => (Ma.nam m).trans rfl) Th227 Oh227 tv226 dX4_init_654 e (fun h228 Th228 Oh228 _ e => ?_)
  refine x_aload_n Ma.x dX4_init_657 0 rfl ?_
  refine x_sip Ma.x dX4_init_658 rfl ?_
  refine h_newa Ma.ga Ma.rm nA_I Th228 Oh228 dX4_init_661 e (fun v229 h230 tv229 gv229 Th230 Oh230 e => ?_)
  refine g_putF Ma.ga fH_X4_240_X4 (c := 5) (kd := 2) rfl rfl (IsFin.of rfl) (fun m => (Ma.nam m).trans rfl) Th230 Oh230 tv229 dX4_init_663 e (fun h231 Th231 Oh231 _ e => ?_)
  refine x_aload_n Ma.x dX4_init_666 0 rfl ?_
  refine x_bip Ma.x dX4_init_667 rfl ?_
  refine h_newa Ma.ga Ma.rm nA_Z Th231 Oh231 dX4_init_669 e (fun v232 h233 tv232 gv232 Th233 Oh233 e => ?_)
  refine g_putF Ma.ga fH_X4_243_X4 (c := 5) (kd := 2) rfl rfl (IsFin.of rfl) (fun m => (Ma.nam m).trans rfl) Th233 Oh233 tv232 dX4_init_671 e (fun h234 Th234 Oh234 _ e => ?_)
  refine x_aload_n Ma.x dX4_init_674 0 rfl ?_
  refine x_bip Ma.x dX4_init_675 rfl ?_
  refine h_newa Ma.ga Ma.rm nA_I Th234 Oh234 dX4_init_677 e (fun v235 h236 tv235 gv235 Th236 Oh236 e => ?_)
  refine g_putF Ma.ga fH_X4_246_X4 (c := 5) (kd := 2) rfl rfl (IsFin.of rfl) (fun m => (Ma.nam m).trans rfl) Th236 Oh236 tv235 dX4_init_679 e (fun h237 Th237 Oh237 _ e => ?_)
  refine x_aload_n Ma.x dX4_init_682 0 rfl ?_
  refine x_iconst Ma.x dX4_init_683 ?_
  refine g_put Ma.ga fH_X4_249_X4 (c := 0) (kd := 0) rfl rfl (NoFin.of rfl) Th237 Oh237 (litI rfl) dX4_init_684 e (fun h238 Th238 Oh238 _ e => ?_)
  exact a_retv dX4_init_687 (Option.some.inj e) Th238
