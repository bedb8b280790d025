/-! F: fields of the model, read and written (printed by gen/mac.py) -/
set_option maxRecDepth 100000
set_option linter.unusedVariables false
theorem up_o {s : MS} {k d : Nat} {i j v : Int} (h : ¬ (d = k ∧ j = i)) : up s k i v d j = s d j := if_neg h
section Fields
variable {s : MS} {i v : Int}
theorem rd_0 (h0 : 0 ≤ i) (h1 : i < 576) : rdc s 0 i = some (s 0 i) := rdc_e ⟨h0, h1⟩
theorem wt_0 (h0 : 0 ≤ i) (h1 : i < 576) : wrc s 0 i v = some (up s 0 i v) := wrc_e ⟨h0, h1⟩
theorem rd_1 (h0 : 0 ≤ i) (h1 : i < 24) : rdc s 1 i = some (s 1 i) := rdc_e ⟨h0, h1⟩
theorem wt_1 (h0 : 0 ≤ i) (h1 : i < 24) : wrc s 1 i v = some (up s 1 i v) := wrc_e ⟨h0, h1⟩
theorem rd_2 (h0 : 0 ≤ i) (h1 : i < 576) : rdc s 2 i = some (s 2 i) := rdc_e ⟨h0, h1⟩
theorem wt_2 (h0 : 0 ≤ i) (h1 : i < 576) : wrc s 2 i v = some (up s 2 i v) := wrc_e ⟨h0, h1⟩
theorem rd_3 (h0 : 0 ≤ i) (h1 : i < 24) : rdc s 3 i = some (s 3 i) := rdc_e ⟨h0, h1⟩
theorem wt_3 (h0 : 0 ≤ i) (h1 : i < 24) : wrc s 3 i v = some (up s 3 i v) := wrc_e ⟨h0, h1⟩
theorem rd_5 (h0 : 0 ≤ i) (h1 : i < 6) : rdc s 5 i = some (s 5 i) := rdc_e ⟨h0, h1⟩
theorem wt_5 (h0 : 0 ≤ i) (h1 : i < 6) : wrc s 5 i v = some (up s 5 i v) := wrc_e ⟨h0, h1⟩
theorem rd_8 (h0 : 0 ≤ i) (h1 : i < 3) : rdc s 8 i = some (s 8 i) := rdc_e ⟨h0, h1⟩
theorem wt_8 (h0 : 0 ≤ i) (h1 : i < 3) : wrc s 8 i v = some (up s 8 i v) := wrc_e ⟨h0, h1⟩
theorem rd_9 (h0 : 0 ≤ i) (h1 : i < 3) : rdc s 9 i = some (s 9 i) := rdc_e ⟨h0, h1⟩
theorem wt_9 (h0 : 0 ≤ i) (h1 : i < 3) : wrc s 9 i v = some (up s 9 i v) := wrc_e ⟨h0, h1⟩
theorem rd_10 (h0 : 0 ≤ i) (h1 : i < 3) : rdc s 10 i = some (s 10 i) := rdc_e ⟨h0, h1⟩
theorem wt_10 (h0 : 0 ≤ i) (h1 : i < 3) : wrc s 10 i v = some (up s 10 i v) := wrc_e ⟨h0, h1⟩
theorem rd_11 (h0 : 0 ≤ i) (h1 : i < 3) : rdc s 11 i = some (s 11 i) := rdc_e ⟨h0, h1⟩
theorem wt_11 (h0 : 0 ≤ i) (h1 : i < 3) : wrc s 11 i v = some (up s 11 i v) := wrc_e ⟨h0, h1⟩
theorem rd_12 (h0 : 0 ≤ i) (h1 : i < 18) : rdc s 12 i = some (s 12 i) := rdc_e ⟨h0, h1⟩
theorem wt_12 (h0 : 0 ≤ i) (h1 : i < 18) : wrc s 12 i v = some (up s 12 i v) := wrc_e ⟨h0, h1⟩
theorem rd_13 (h0 : 0 ≤ i) (h1 : i < 3) : rdc s 13 i = some (s 13 i) := rdc_e ⟨h0, h1⟩
theorem wt_13 (h0 : 0 ≤ i) (h1 : i < 3) : wrc s 13 i v = some (up s 13 i v) := wrc_e ⟨h0, h1⟩
theorem rd_16 (h0 : 0 ≤ i) (h1 : i < 600) : rdc s 16 i = some (s 16 i) := rdc_e ⟨h0, h1⟩
theorem wt_16 (h0 : 0 ≤ i) (h1 : i < 600) : wrc s 16 i v = some (up s 16 i v) := wrc_e ⟨h0, h1⟩
theorem rd_17 (h0 : 0 ≤ i) (h1 : i < 600) : rdc s 17 i = some (s 17 i) := rdc_e ⟨h0, h1⟩
theorem wt_17 (h0 : 0 ≤ i) (h1 : i < 600) : wrc s 17 i v = some (up s 17 i v) := wrc_e ⟨h0, h1⟩
theorem rd_18 (h0 : 0 ≤ i) (h1 : i < 600) : rdc s 18 i = some (s 18 i) := rdc_e ⟨h0, h1⟩
theorem wt_18 (h0 : 0 ≤ i) (h1 : i < 600) : wrc s 18 i v = some (up s 18 i v) := wrc_e ⟨h0, h1⟩
theorem rd_19 (h0 : 0 ≤ i) (h1 : i < 600) : rdc s 19 i = some (s 19 i) := rdc_e ⟨h0, h1⟩
theorem wt_19 (h0 : 0 ≤ i) (h1 : i < 600) : wrc s 19 i v = some (up s 19 i v) := wrc_e ⟨h0, h1⟩
theorem rd_20 (h0 : 0 ≤ i) (h1 : i < 3) : rdc s 20 i = some (s 20 i) := rdc_e ⟨h0, h1⟩
theorem wt_20 (h0 : 0 ≤ i) (h1 : i < 3) : wrc s 20 i v = some (up s 20 i v) := wrc_e ⟨h0, h1⟩
theorem rd_21 (h0 : 0 ≤ i) (h1 : i < 24) : rdc s 21 i = some (s 21 i) := rdc_e ⟨h0, h1⟩
theorem wt_21 (h0 : 0 ≤ i) (h1 : i < 24) : wrc s 21 i v = some (up s 21 i v) := wrc_e ⟨h0, h1⟩
theorem rd_22 (h0 : 0 ≤ i) (h1 : i < 576) : rdc s 22 i = some (s 22 i) := rdc_e ⟨h0, h1⟩
theorem wt_22 (h0 : 0 ≤ i) (h1 : i < 576) : wrc s 22 i v = some (up s 22 i v) := wrc_e ⟨h0, h1⟩
theorem rd_24 (h0 : 0 ≤ i) (h1 : i < 210) : rdc s 24 i = some (s 24 i) := rdc_e ⟨h0, h1⟩
theorem wt_24 (h0 : 0 ≤ i) (h1 : i < 210) : wrc s 24 i v = some (up s 24 i v) := wrc_e ⟨h0, h1⟩
theorem rd_28 (h0 : 0 ≤ i) (h1 : i < 1600) : rdc s 28 i = some (s 28 i) := rdc_e ⟨h0, h1⟩
theorem wt_28 (h0 : 0 ≤ i) (h1 : i < 1600) : wrc s 28 i v = some (up s 28 i v) := wrc_e ⟨h0, h1⟩
theorem rd_29 (h0 : 0 ≤ i) (h1 : i < 1600) : rdc s 29 i = some (s 29 i) := rdc_e ⟨h0, h1⟩
theorem wt_29 (h0 : 0 ≤ i) (h1 : i < 1600) : wrc s 29 i v = some (up s 29 i v) := wrc_e ⟨h0, h1⟩
theorem rd_30 (h0 : 0 ≤ i) (h1 : i < 1600) : rdc s 30 i = some (s 30 i) := rdc_e ⟨h0, h1⟩
theorem wt_30 (h0 : 0 ≤ i) (h1 : i < 1600) : wrc s 30 i v = some (up s 30 i v) := wrc_e ⟨h0, h1⟩
theorem rd_31 (h0 : 0 ≤ i) (h1 : i < 1600) : rdc s 31 i = some (s 31 i) := rdc_e ⟨h0, h1⟩
theorem wt_31 (h0 : 0 ≤ i) (h1 : i < 1600) : wrc s 31 i v = some (up s 31 i v) := wrc_e ⟨h0, h1⟩
theorem rd_32 (h0 : 0 ≤ i) (h1 : i < 1600) : rdc s 32 i = some (s 32 i) := rdc_e ⟨h0, h1⟩
theorem wt_32 (h0 : 0 ≤ i) (h1 : i < 1600) : wrc s 32 i v = some (up s 32 i v) := wrc_e ⟨h0, h1⟩
theorem rd_33 (h0 : 0 ≤ i) (h1 : i < 1600) : rdc s 33 i = some (s 33 i) := rdc_e ⟨h0, h1⟩
theorem wt_33 (h0 : 0 ≤ i) (h1 : i < 1600) : wrc s 33 i v = some (up s 33 i v) := wrc_e ⟨h0, h1⟩
theorem rd_34 (h0 : 0 ≤ i) (h1 : i < 1600) : rdc s 34 i = some (s 34 i) := rdc_e ⟨h0, h1⟩
theorem wt_34 (h0 : 0 ≤ i) (h1 : i < 1600) : wrc s 34 i v = some (up s 34 i v) := wrc_e ⟨h0, h1⟩
theorem rd_35 (h0 : 0 ≤ i) (h1 : i < 1600) : rdc s 35 i = some (s 35 i) := rdc_e ⟨h0, h1⟩
theorem wt_35 (h0 : 0 ≤ i) (h1 : i < 1600) : wrc s 35 i v = some (up s 35 i v) := wrc_e ⟨h0, h1⟩
theorem rd_36 (h0 : 0 ≤ i) (h1 : i < 1600) : rdc s 36 i = some (s 36 i) := rdc_e ⟨h0, h1⟩
theorem wt_36 (h0 : 0 ≤ i) (h1 : i < 1600) : wrc s 36 i v = some (up s 36 i v) := wrc_e ⟨h0, h1⟩
theorem rd_38 (h0 : 0 ≤ i) (h1 : i < 600) : rdc s 38 i = some (s 38 i) := rdc_e ⟨h0, h1⟩
theorem wt_38 (h0 : 0 ≤ i) (h1 : i < 600) : wrc s 38 i v = some (up s 38 i v) := wrc_e ⟨h0, h1⟩
theorem rd_39 (h0 : 0 ≤ i) (h1 : i < 600) : rdc s 39 i = some (s 39 i) := rdc_e ⟨h0, h1⟩
theorem wt_39 (h0 : 0 ≤ i) (h1 : i < 600) : wrc s 39 i v = some (up s 39 i v) := wrc_e ⟨h0, h1⟩
theorem rd_40 (h0 : 0 ≤ i) (h1 : i < 600) : rdc s 40 i = some (s 40 i) := rdc_e ⟨h0, h1⟩
theorem wt_40 (h0 : 0 ≤ i) (h1 : i < 600) : wrc s 40 i v = some (up s 40 i v) := wrc_e ⟨h0, h1⟩
theorem rd_42 (h0 : 0 ≤ i) (h1 : i < 210) : rdc s 42 i = some (s 42 i) := rdc_e ⟨h0, h1⟩
theorem wt_42 (h0 : 0 ≤ i) (h1 : i < 210) : wrc s 42 i v = some (up s 42 i v) := wrc_e ⟨h0, h1⟩
theorem rd_43 (h0 : 0 ≤ i) (h1 : i < 210) : rdc s 43 i = some (s 43 i) := rdc_e ⟨h0, h1⟩
theorem wt_43 (h0 : 0 ≤ i) (h1 : i < 210) : wrc s 43 i v = some (up s 43 i v) := wrc_e ⟨h0, h1⟩
theorem rd_44 (h0 : 0 ≤ i) (h1 : i < 210) : rdc s 44 i = some (s 44 i) := rdc_e ⟨h0, h1⟩
theorem wt_44 (h0 : 0 ≤ i) (h1 : i < 210) : wrc s 44 i v = some (up s 44 i v) := wrc_e ⟨h0, h1⟩
theorem rd_45 (h0 : 0 ≤ i) (h1 : i < 210) : rdc s 45 i = some (s 45 i) := rdc_e ⟨h0, h1⟩
theorem wt_45 (h0 : 0 ≤ i) (h1 : i < 210) : wrc s 45 i v = some (up s 45 i v) := wrc_e ⟨h0, h1⟩
theorem rd_47 (h0 : 0 ≤ i) (h1 : i < 210) : rdc s 47 i = some (s 47 i) := rdc_e ⟨h0, h1⟩
theorem wt_47 (h0 : 0 ≤ i) (h1 : i < 210) : wrc s 47 i v = some (up s 47 i v) := wrc_e ⟨h0, h1⟩
theorem rd_50 (h0 : 0 ≤ i) (h1 : i < 420) : rdc s 50 i = some (s 50 i) := rdc_e ⟨h0, h1⟩
theorem wt_50 (h0 : 0 ≤ i) (h1 : i < 420) : wrc s 50 i v = some (up s 50 i v) := wrc_e ⟨h0, h1⟩
theorem rd_52 (h0 : 0 ≤ i) (h1 : i < 420) : rdc s 52 i = some (s 52 i) := rdc_e ⟨h0, h1⟩
theorem wt_52 (h0 : 0 ≤ i) (h1 : i < 420) : wrc s 52 i v = some (up s 52 i v) := wrc_e ⟨h0, h1⟩
theorem rd_55 (h0 : 0 ≤ i) (h1 : i < 210) : rdc s 55 i = some (s 55 i) := rdc_e ⟨h0, h1⟩
theorem wt_55 (h0 : 0 ≤ i) (h1 : i < 210) : wrc s 55 i v = some (up s 55 i v) := wrc_e ⟨h0, h1⟩
theorem rd_56 (h0 : 0 ≤ i) (h1 : i < 210) : rdc s 56 i = some (s 56 i) := rdc_e ⟨h0, h1⟩
theorem wt_56 (h0 : 0 ≤ i) (h1 : i < 210) : wrc s 56 i v = some (up s 56 i v) := wrc_e ⟨h0, h1⟩
theorem rd_57 (h0 : 0 ≤ i) (h1 : i < 210) : rdc s 57 i = some (s 57 i) := rdc_e ⟨h0, h1⟩
theorem wt_57 (h0 : 0 ≤ i) (h1 : i < 210) : wrc s 57 i v = some (up s 57 i v) := wrc_e ⟨h0, h1⟩
theorem rd_61 (h0 : 0 ≤ i) (h1 : i < 210) : rdc s 61 i = some (s 61 i) := rdc_e ⟨h0, h1⟩
theorem wt_61 (h0 : 0 ≤ i) (h1 : i < 210) : wrc s 61 i v = some (up s 61 i v) := wrc_e ⟨h0, h1⟩
theorem rd_62 (h0 : 0 ≤ i) (h1 : i < 210) : rdc s 62 i = some (s 62 i) := rdc_e ⟨h0, h1⟩
theorem wt_62 (h0 : 0 ≤ i) (h1 : i < 210) : wrc s 62 i v = some (up s 62 i v) := wrc_e ⟨h0, h1⟩
theorem rd_64 (h0 : 0 ≤ i) (h1 : i < 3) : rdc s 64 i = some (s 64 i) := rdc_e ⟨h0, h1⟩
theorem wt_64 (h0 : 0 ≤ i) (h1 : i < 3) : wrc s 64 i v = some (up s 64 i v) := wrc_e ⟨h0, h1⟩
theorem rd_65 (h0 : 0 ≤ i) (h1 : i < 3) : rdc s 65 i = some (s 65 i) := rdc_e ⟨h0, h1⟩
theorem wt_65 (h0 : 0 ≤ i) (h1 : i < 3) : wrc s 65 i v = some (up s 65 i v) := wrc_e ⟨h0, h1⟩
theorem rd_66 (h0 : 0 ≤ i) (h1 : i < 600) : rdc s 66 i = some (s 66 i) := rdc_e ⟨h0, h1⟩
theorem wt_66 (h0 : 0 ≤ i) (h1 : i < 600) : wrc s 66 i v = some (up s 66 i v) := wrc_e ⟨h0, h1⟩
theorem rd_67 (h0 : 0 ≤ i) (h1 : i < 600) : rdc s 67 i = some (s 67 i) := rdc_e ⟨h0, h1⟩
theorem wt_67 (h0 : 0 ≤ i) (h1 : i < 600) : wrc s 67 i v = some (up s 67 i v) := wrc_e ⟨h0, h1⟩
theorem rd_68 (h0 : 0 ≤ i) (h1 : i < 600) : rdc s 68 i = some (s 68 i) := rdc_e ⟨h0, h1⟩
theorem wt_68 (h0 : 0 ≤ i) (h1 : i < 600) : wrc s 68 i v = some (up s 68 i v) := wrc_e ⟨h0, h1⟩
theorem rd_69 (h0 : 0 ≤ i) (h1 : i < 4) : rdc s 69 i = some (s 69 i) := rdc_e ⟨h0, h1⟩
theorem wt_69 (h0 : 0 ≤ i) (h1 : i < 4) : wrc s 69 i v = some (up s 69 i v) := wrc_e ⟨h0, h1⟩
theorem rd_70 (h0 : 0 ≤ i) (h1 : i < 1600) : rdc s 70 i = some (s 70 i) := rdc_e ⟨h0, h1⟩
theorem wt_70 (h0 : 0 ≤ i) (h1 : i < 1600) : wrc s 70 i v = some (up s 70 i v) := wrc_e ⟨h0, h1⟩
theorem rd_72 (h0 : 0 ≤ i) (h1 : i < 3200) : rdc s 72 i = some (s 72 i) := rdc_e ⟨h0, h1⟩
theorem wt_72 (h0 : 0 ≤ i) (h1 : i < 3200) : wrc s 72 i v = some (up s 72 i v) := wrc_e ⟨h0, h1⟩
theorem rd_74 (h0 : 0 ≤ i) (h1 : i < 600) : rdc s 74 i = some (s 74 i) := rdc_e ⟨h0, h1⟩
theorem wt_74 (h0 : 0 ≤ i) (h1 : i < 600) : wrc s 74 i v = some (up s 74 i v) := wrc_e ⟨h0, h1⟩
theorem rd_75 (h0 : 0 ≤ i) (h1 : i < 1600) : rdc s 75 i = some (s 75 i) := rdc_e ⟨h0, h1⟩
theorem wt_75 (h0 : 0 ≤ i) (h1 : i < 1600) : wrc s 75 i v = some (up s 75 i v) := wrc_e ⟨h0, h1⟩
theorem rd_76 (h0 : 0 ≤ i) (h1 : i < 2200) : rdc s 76 i = some (s 76 i) := rdc_e ⟨h0, h1⟩
theorem wt_76 (h0 : 0 ≤ i) (h1 : i < 2200) : wrc s 76 i v = some (up s 76 i v) := wrc_e ⟨h0, h1⟩
theorem rd_77 (h0 : 0 ≤ i) (h1 : i < 2200) : rdc s 77 i = some (s 77 i) := rdc_e ⟨h0, h1⟩
theorem wt_77 (h0 : 0 ≤ i) (h1 : i < 2200) : wrc s 77 i v = some (up s 77 i v) := wrc_e ⟨h0, h1⟩
theorem rd_79 (h0 : 0 ≤ i) (h1 : i < 2000) : rdc s 79 i = some (s 79 i) := rdc_e ⟨h0, h1⟩
theorem wt_79 (h0 : 0 ≤ i) (h1 : i < 2000) : wrc s 79 i v = some (up s 79 i v) := wrc_e ⟨h0, h1⟩
theorem rd_81 (h0 : 0 ≤ i) (h1 : i < 4000) : rdc s 81 i = some (s 81 i) := rdc_e ⟨h0, h1⟩
theorem wt_81 (h0 : 0 ≤ i) (h1 : i < 4000) : wrc s 81 i v = some (up s 81 i v) := wrc_e ⟨h0, h1⟩
theorem rd_83 (h0 : 0 ≤ i) (h1 : i < 2000) : rdc s 83 i = some (s 83 i) := rdc_e ⟨h0, h1⟩
theorem wt_83 (h0 : 0 ≤ i) (h1 : i < 2000) : wrc s 83 i v = some (up s 83 i v) := wrc_e ⟨h0, h1⟩
theorem rd_85 (h0 : 0 ≤ i) (h1 : i < 2400) : rdc s 85 i = some (s 85 i) := rdc_e ⟨h0, h1⟩
theorem wt_85 (h0 : 0 ≤ i) (h1 : i < 2400) : wrc s 85 i v = some (up s 85 i v) := wrc_e ⟨h0, h1⟩
theorem rd_86 (h0 : 0 ≤ i) (h1 : i < 5) : rdc s 86 i = some (s 86 i) := rdc_e ⟨h0, h1⟩
theorem wt_86 (h0 : 0 ≤ i) (h1 : i < 5) : wrc s 86 i v = some (up s 86 i v) := wrc_e ⟨h0, h1⟩
theorem rd_89 (h0 : 0 ≤ i) (h1 : i < 3751) : rdc s 89 i = some (s 89 i) := rdc_e ⟨h0, h1⟩
theorem wt_89 (h0 : 0 ≤ i) (h1 : i < 3751) : wrc s 89 i v = some (up s 89 i v) := wrc_e ⟨h0, h1⟩
theorem rd_90 (h0 : 0 ≤ i) (h1 : i < 10) : rdc s 90 i = some (s 90 i) := rdc_e ⟨h0, h1⟩
theorem wt_90 (h0 : 0 ≤ i) (h1 : i < 10) : wrc s 90 i v = some (up s 90 i v) := wrc_e ⟨h0, h1⟩
theorem rd_93 (h0 : 0 ≤ i) (h1 : i < 800) : rdc s 93 i = some (s 93 i) := rdc_e ⟨h0, h1⟩
theorem wt_93 (h0 : 0 ≤ i) (h1 : i < 800) : wrc s 93 i v = some (up s 93 i v) := wrc_e ⟨h0, h1⟩
theorem rd_95 (h0 : 0 ≤ i) (h1 : i < 210) : rdc s 95 i = some (s 95 i) := rdc_e ⟨h0, h1⟩
theorem wt_95 (h0 : 0 ≤ i) (h1 : i < 210) : wrc s 95 i v = some (up s 95 i v) := wrc_e ⟨h0, h1⟩
theorem rd_96 (h0 : 0 ≤ i) (h1 : i < 210) : rdc s 96 i = some (s 96 i) := rdc_e ⟨h0, h1⟩
theorem wt_96 (h0 : 0 ≤ i) (h1 : i < 210) : wrc s 96 i v = some (up s 96 i v) := wrc_e ⟨h0, h1⟩
theorem rd_97 (h0 : 0 ≤ i) (h1 : i < 576) : rdc s 97 i = some (s 97 i) := rdc_e ⟨h0, h1⟩
theorem wt_97 (h0 : 0 ≤ i) (h1 : i < 576) : wrc s 97 i v = some (up s 97 i v) := wrc_e ⟨h0, h1⟩
theorem rd_98 (h0 : 0 ≤ i) (h1 : i < 24) : rdc s 98 i = some (s 98 i) := rdc_e ⟨h0, h1⟩
theorem wt_98 (h0 : 0 ≤ i) (h1 : i < 24) : wrc s 98 i v = some (up s 98 i v) := wrc_e ⟨h0, h1⟩
theorem rd_99 (h0 : 0 ≤ i) (h1 : i < 1200) : rdc s 99 i = some (s 99 i) := rdc_e ⟨h0, h1⟩
theorem wt_99 (h0 : 0 ≤ i) (h1 : i < 1200) : wrc s 99 i v = some (up s 99 i v) := wrc_e ⟨h0, h1⟩
theorem rd_100 (h0 : 0 ≤ i) (h1 : i < 24) : rdc s 100 i = some (s 100 i) := rdc_e ⟨h0, h1⟩
theorem wt_100 (h0 : 0 ≤ i) (h1 : i < 24) : wrc s 100 i v = some (up s 100 i v) := wrc_e ⟨h0, h1⟩
theorem rd_103 (h0 : 0 ≤ i) (h1 : i < 120) : rdc s 103 i = some (s 103 i) := rdc_e ⟨h0, h1⟩
theorem wt_103 (h0 : 0 ≤ i) (h1 : i < 120) : wrc s 103 i v = some (up s 103 i v) := wrc_e ⟨h0, h1⟩
theorem rd_108 (h0 : 0 ≤ i) (h1 : i < 600) : rdc s 108 i = some (s 108 i) := rdc_e ⟨h0, h1⟩
theorem wt_108 (h0 : 0 ≤ i) (h1 : i < 600) : wrc s 108 i v = some (up s 108 i v) := wrc_e ⟨h0, h1⟩
theorem rd_109 (h0 : 0 ≤ i) (h1 : i < 600) : rdc s 109 i = some (s 109 i) := rdc_e ⟨h0, h1⟩
theorem wt_109 (h0 : 0 ≤ i) (h1 : i < 600) : wrc s 109 i v = some (up s 109 i v) := wrc_e ⟨h0, h1⟩
theorem rd_110 (h0 : 0 ≤ i) (h1 : i < 600) : rdc s 110 i = some (s 110 i) := rdc_e ⟨h0, h1⟩
theorem wt_110 (h0 : 0 ≤ i) (h1 : i < 600) : wrc s 110 i v = some (up s 110 i v) := wrc_e ⟨h0, h1⟩
theorem rd_111 (h0 : 0 ≤ i) (h1 : i < 24) : rdc s 111 i = some (s 111 i) := rdc_e ⟨h0, h1⟩
theorem wt_111 (h0 : 0 ≤ i) (h1 : i < 24) : wrc s 111 i v = some (up s 111 i v) := wrc_e ⟨h0, h1⟩
theorem rd_112 (h0 : 0 ≤ i) (h1 : i < 24) : rdc s 112 i = some (s 112 i) := rdc_e ⟨h0, h1⟩
theorem wt_112 (h0 : 0 ≤ i) (h1 : i < 24) : wrc s 112 i v = some (up s 112 i v) := wrc_e ⟨h0, h1⟩
theorem rd_113 (h0 : 0 ≤ i) (h1 : i < 601) : rdc s 113 i = some (s 113 i) := rdc_e ⟨h0, h1⟩
theorem wt_113 (h0 : 0 ≤ i) (h1 : i < 601) : wrc s 113 i v = some (up s 113 i v) := wrc_e ⟨h0, h1⟩
theorem rd_114 (h0 : 0 ≤ i) (h1 : i < 601) : rdc s 114 i = some (s 114 i) := rdc_e ⟨h0, h1⟩
theorem wt_114 (h0 : 0 ≤ i) (h1 : i < 601) : wrc s 114 i v = some (up s 114 i v) := wrc_e ⟨h0, h1⟩
theorem rd_115 (h0 : 0 ≤ i) (h1 : i < 8) : rdc s 115 i = some (s 115 i) := rdc_e ⟨h0, h1⟩
theorem wt_115 (h0 : 0 ≤ i) (h1 : i < 8) : wrc s 115 i v = some (up s 115 i v) := wrc_e ⟨h0, h1⟩
theorem rd_116 (h0 : 0 ≤ i) (h1 : i < 24) : rdc s 116 i = some (s 116 i) := rdc_e ⟨h0, h1⟩
theorem wt_116 (h0 : 0 ≤ i) (h1 : i < 24) : wrc s 116 i v = some (up s 116 i v) := wrc_e ⟨h0, h1⟩
end Fields
