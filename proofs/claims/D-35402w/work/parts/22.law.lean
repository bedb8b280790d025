/-! methods over objects as functions over the abstract heap, and their walks (printed by gen/heapg.py) -/
set_option maxRecDepth 100000
set_option linter.unusedVariables false
theorem ck_X4_back : CkA yX4_back 1 := ⟨by decide, by decide, by decide +kernel⟩
theorem ck_X4_binding : CkA yX4_binding 2 := ⟨by decide, by decide, by decide +kernel⟩
theorem ck_X4_bindingAnew : CkA yX4_bindingAnew 2 := ⟨by decide, by decide, by decide +kernel⟩
theorem ck_X4_carryOut : CkA yX4_carryOut 0 := ⟨by decide, by decide, by decide +kernel⟩
theorem ck_X4_charAt : CkA yX4_charAt 3 := ⟨by decide, by decide, by decide +kernel⟩
theorem ck_X4_clear : CkA yX4_clear 2 := ⟨by decide, by decide, by decide +kernel⟩
theorem ck_X4_clearName : CkA yX4_clearName 0 := ⟨by decide, by decide, by decide +kernel⟩
theorem ck_X4_clearPlan : CkA yX4_clearPlan 0 := ⟨by decide, by decide, by decide +kernel⟩
theorem ck_X4_colour : CkA yX4_colour 3 := ⟨by decide, by decide, by decide +kernel⟩
theorem ck_X4_completionAt : CkA yX4_completionAt 3 := ⟨by decide, by decide, by decide +kernel⟩
theorem ck_X4_completions : CkA yX4_completions 2 := ⟨by decide, by decide, by decide +kernel⟩
theorem ck_X4_erase : CkA yX4_erase 3 := ⟨by decide, by decide, by decide +kernel⟩
theorem ck_X4_errorAt : CkA yX4_errorAt 2 := ⟨by decide, by decide, by decide +kernel⟩
theorem ck_X4_errors : CkA yX4_errors 1 := ⟨by decide, by decide, by decide +kernel⟩
theorem ck_X4_fold : CkA yX4_fold 2 := ⟨by decide, by decide, by decide +kernel⟩
theorem ck_X4_functionAt : CkA yX4_functionAt 2 := ⟨by decide, by decide, by decide +kernel⟩
theorem ck_X4_functions : CkA yX4_functions 1 := ⟨by decide, by decide, by decide +kernel⟩
theorem ck_X4_insert : CkA yX4_insert 4 := ⟨by decide, by decide, by decide +kernel⟩
theorem ck_X4_length : CkA yX4_length 2 := ⟨by decide, by decide, by decide +kernel⟩
theorem ck_X4_may : CkA yX4_may 2 := ⟨by decide, by decide, by decide +kernel⟩
theorem ck_X4_partner : CkA yX4_partner 2 := ⟨by decide, by decide, by decide +kernel⟩
theorem ck_X4_paste : CkA yX4_paste 3 := ⟨by decide, by decide, by decide +kernel⟩
theorem ck_X4_planInline : CkA yX4_planInline 2 := ⟨by decide, by decide, by decide +kernel⟩
theorem ck_X4_planMove : CkA yX4_planMove 3 := ⟨by decide, by decide, by decide +kernel⟩
theorem ck_X4_planRename : CkA yX4_planRename 2 := ⟨by decide, by decide, by decide +kernel⟩
theorem ck_X4_reason : CkA yX4_reason 0 := ⟨by decide, by decide, by decide +kernel⟩
theorem ck_X4_relexed : CkA yX4_relexed 0 := ⟨by decide, by decide, by decide +kernel⟩
theorem ck_X4_repair : CkA yX4_repair 2 := ⟨by decide, by decide, by decide +kernel⟩
theorem ck_X4_run : CkA yX4_run 4 := ⟨by decide, by decide, by decide +kernel⟩
theorem ck_X4_save : CkA yX4_save 1 := ⟨by decide, by decide, by decide +kernel⟩
theorem ck_X4_spell : CkA yX4_spell 1 := ⟨by decide, by decide, by decide +kernel⟩
theorem ck_X4_thrown : CkA yX4_thrown 0 := ⟨by decide, by decide, by decide +kernel⟩
theorem ck_X4_token : CkA yX4_token 2 := ⟨by decide, by decide, by decide +kernel⟩
theorem ck_X4_tokenAnew : CkA yX4_tokenAnew 2 := ⟨by decide, by decide, by decide +kernel⟩
theorem ck_X4_tokens : CkA yX4_tokens 1 := ⟨by decide, by decide, by decide +kernel⟩
theorem ck_X4_tree : CkA yX4_tree 1 := ⟨by decide, by decide, by decide +kernel⟩
theorem ck_X4_typeErrorAt : CkA yX4_typeErrorAt 1 := ⟨by decide, by decide, by decide +kernel⟩
theorem ck_X4_typeErrors : CkA yX4_typeErrors 0 := ⟨by decide, by decide, by decide +kernel⟩
theorem ck_X4_typeOf : CkA yX4_typeOf 2 := ⟨by decide, by decide, by decide +kernel⟩
def B_L_law_23 (k : Nat → Int) (p0_ : Int) (v1 : Int) (v4 : Int) (v7 : Int) (rec13 : (Int × AH) → Option (Sum (Int × AH) (AH))) : (Int × AH) → Option (Sum (Int × AH) (AH)) := fun (l4_9, h10) =>
  (al h10 79 p0_).bind fun v14 =>
  if (wr (v14 - 5)) < l4_9 then
    some (.inr h10)
  else
    (ga h10 79 p0_ l4_9).bind fun v15 =>
    jn (α := AH) (fun h16 =>
      bd1 (wr (l4_9 + 5)) fun l4_18 =>
      rec13 (l4_18, h16)) fun j19 =>
    if (and32 v15 63) = 0 then
      (ga h10 79 p0_ (wr (l4_9 + 1))).bind fun v20 =>
      (ga h10 79 p0_ (wr (l4_9 + 2))).bind fun v21 =>
      (ga h10 79 p0_ (wr (l4_9 + 3))).bind fun v22 =>
      (ga h10 79 p0_ (wr (l4_9 + 4))).bind fun v23 =>
      (A_X0_insert k h10 v1 v20 v21 v22 (chr v23) v7).bind fun (v24, h25) =>
      (ga h25 79 p0_ (wr (l4_9 + 1))).bind fun v26 =>
      (ga h25 79 p0_ (wr (l4_9 + 2))).bind fun v27 =>
      (ga h25 79 p0_ (wr (l4_9 + 3))).bind fun v28 =>
      (ga h25 79 p0_ (wr (l4_9 + 4))).bind fun v29 =>
      (mcv k h25 v4 0 (M_insert (sgm h25 v4) v26 v27 v28 (chr v29))).bind fun (v30, h31) =>
      (mcv k h31 v4 0 ((M_thrown (sgm h31 v4)).bind fun u => some (u, sgm h31 v4))).bind fun (v32, h33) =>
      if v32 = v24 then
        if v24 = 0 then
          (ga h33 67 v7 0).bind fun v34 =>
          if (cmp64 v34 v30) = 0 then
            j19 h33
          else
            some (.inl (0, h33))
        else
          j19 h33
      else
        some (.inl (0, h33))
    else
    if (and32 v15 63) = 1 then
      (ga h10 79 p0_ (wr (l4_9 + 1))).bind fun v35 =>
      (ga h10 79 p0_ (wr (l4_9 + 2))).bind fun v36 =>
      (ga h10 79 p0_ (wr (l4_9 + 3))).bind fun v37 =>
      (A_X0_erase k h10 v1 v35 v36 v37 v7).bind fun (v38, h39) =>
      (ga h39 79 p0_ (wr (l4_9 + 1))).bind fun v40 =>
      (ga h39 79 p0_ (wr (l4_9 + 2))).bind fun v41 =>
      (ga h39 79 p0_ (wr (l4_9 + 3))).bind fun v42 =>
      (mcv k h39 v4 2 (M_erase (sgm h39 v4) v40 v41 v42)).bind fun (v43, h44) =>
      (mcv k h44 v4 0 ((M_thrown (sgm h44 v4)).bind fun u => some (u, sgm h44 v4))).bind fun (v45, h46) =>
      if v45 = v38 then
        if v38 = 0 then
          (ga h46 67 v7 0).bind fun v47 =>
          if (cmp64 v47 v43) = 0 then
            j19 h46
          else
            some (.inl (0, h46))
        else
          j19 h46
      else
        some (.inl (0, h46))
    else
    if (and32 v15 63) = 2 then
      (ga h10 79 p0_ (wr (l4_9 + 1))).bind fun v48 =>
      (ga h10 79 p0_ (wr (l4_9 + 2))).bind fun v49 =>
      (ga h10 79 p0_ (wr (l4_9 + 3))).bind fun v50 =>
      (A_X0_paste k h10 v1 v48 v49 v50 v7).bind fun (v51, h52) =>
      (ga h52 79 p0_ (wr (l4_9 + 1))).bind fun v53 =>
      (ga h52 79 p0_ (wr (l4_9 + 2))).bind fun v54 =>
      (ga h52 79 p0_ (wr (l4_9 + 3))).bind fun v55 =>
      (mcv k h52 v4 0 (M_paste (sgm h52 v4) v53 v54 v55)).bind fun (v56, h57) =>
      (mcv k h57 v4 0 ((M_thrown (sgm h57 v4)).bind fun u => some (u, sgm h57 v4))).bind fun (v58, h59) =>
      if v58 = v51 then
        if v51 = 0 then
          (ga h59 67 v7 0).bind fun v60 =>
          if (cmp64 v60 v56) = 0 then
            j19 h59
          else
            some (.inl (0, h59))
        else
          j19 h59
      else
        some (.inl (0, h59))
    else
    if (and32 v15 63) = 3 then
      (ga h10 79 p0_ (wr (l4_9 + 1))).bind fun v61 =>
      (ga h10 79 p0_ (wr (l4_9 + 2))).bind fun v62 =>
      (A_X0_clear k h10 v1 v61 v62 v7).bind fun (v63, h64) =>
      (ga h64 79 p0_ (wr (l4_9 + 1))).bind fun v65 =>
      (ga h64 79 p0_ (wr (l4_9 + 2))).bind fun v66 =>
      (mcv k h64 v4 0 (M_clear (sgm h64 v4) v65 v66)).bind fun (v67, h68) =>
      (mcv k h68 v4 0 ((M_thrown (sgm h68 v4)).bind fun u => some (u, sgm h68 v4))).bind fun (v69, h70) =>
      if v69 = v63 then
        if v63 = 0 then
          (ga h70 67 v7 0).bind fun v71 =>
          if (cmp64 v71 v67) = 0 then
            j19 h70
          else
            some (.inl (0, h70))
        else
          j19 h70
      else
        some (.inl (0, h70))
    else
    if (and32 v15 63) = 4 then
      (ga h10 79 p0_ (wr (l4_9 + 1))).bind fun v72 =>
      (A_X0_save h10 v1 v72 v7).bind fun (v73, h74) =>
      (ga h74 79 p0_ (wr (l4_9 + 1))).bind fun v75 =>
      (mcv k h74 v4 0 (M_save (sgm h74 v4) v75)).bind fun (v76, h77) =>
      (mcv k h77 v4 0 ((M_thrown (sgm h77 v4)).bind fun u => some (u, sgm h77 v4))).bind fun (v78, h79) =>
      if v78 = v73 then
        if v73 = 0 then
          (ga h79 67 v7 0).bind fun v80 =>
          if (cmp64 v80 v76) = 0 then
            j19 h79
          else
            some (.inl (0, h79))
        else
          j19 h79
      else
        some (.inl (0, h79))
    else
    if (and32 v15 63) = 5 then
      (ga h10 79 p0_ (wr (l4_9 + 1))).bind fun v81 =>
      (A_X0_back k h10 v1 v81 v7).bind fun (v82, h83) =>
      (ga h83 79 p0_ (wr (l4_9 + 1))).bind fun v84 =>
      (mcv k h83 v4 0 (M_back (sgm h83 v4) v84)).bind fun (v85, h86) =>
      (mcv k h86 v4 0 ((M_thrown (sgm h86 v4)).bind fun u => some (u, sgm h86 v4))).bind fun (v87, h88) =>
      if v87 = v82 then
        if v82 = 0 then
          (ga h88 67 v7 0).bind fun v89 =>
          if (cmp64 v89 v85) = 0 then
            j19 h88
          else
            some (.inl (0, h88))
        else
          j19 h88
      else
        some (.inl (0, h88))
    else
    if (and32 v15 63) = 6 then
      (ga h10 79 p0_ (wr (l4_9 + 1))).bind fun v90 =>
      (ga h10 79 p0_ (wr (l4_9 + 2))).bind fun v91 =>
      (ga h10 79 p0_ (wr (l4_9 + 3))).bind fun v92 =>
      (A_X0_charAt k h10 v1 v90 v91 v92 v7).bind fun (v93, h94) =>
      (ga h94 79 p0_ (wr (l4_9 + 1))).bind fun v95 =>
      (ga h94 79 p0_ (wr (l4_9 + 2))).bind fun v96 =>
      (ga h94 79 p0_ (wr (l4_9 + 3))).bind fun v97 =>
      (mcv k h94 v4 2 (M_charAt (sgm h94 v4) v95 v96 v97)).bind fun (v98, h99) =>
      (mcv k h99 v4 0 ((M_thrown (sgm h99 v4)).bind fun u => some (u, sgm h99 v4))).bind fun (v100, h101) =>
      if v100 = v93 then
        if v93 = 0 then
          (ga h101 67 v7 0).bind fun v102 =>
          if (cmp64 v102 v98) = 0 then
            j19 h101
          else
            some (.inl (0, h101))
        else
          j19 h101
      else
        some (.inl (0, h101))
    else
    if (and32 v15 63) = 7 then
      (ga h10 79 p0_ (wr (l4_9 + 1))).bind fun v103 =>
      (ga h10 79 p0_ (wr (l4_9 + 2))).bind fun v104 =>
      (A_X0_length h10 v1 v103 v104 v7).bind fun (v105, h106) =>
      (ga h106 79 p0_ (wr (l4_9 + 1))).bind fun v107 =>
      (ga h106 79 p0_ (wr (l4_9 + 2))).bind fun v108 =>
      (mcv k h106 v4 0 (M_length (sgm h106 v4) v107 v108)).bind fun (v109, h110) =>
      (mcv k h110 v4 0 ((M_thrown (sgm h110 v4)).bind fun u => some (u, sgm h110 v4))).bind fun (v111, h112) =>
      if v111 = v105 then
        if v105 = 0 then
          (ga h112 67 v7 0).bind fun v113 =>
          if (cmp64 v113 v109) = 0 then
            j19 h112
          else
            some (.inl (0, h112))
        else
          j19 h112
      else
        some (.inl (0, h112))
    else
    if (and32 v15 63) = 8 then
      (tgc h10 6 v1).bind fun _ =>
      (A_X1_relexed h10 v1).bind fun v115 =>
      (mcv k h10 v4 0 (M_relexed (sgm h10 v4))).bind fun (v116, h117) =>
      if v115 = v116 then
        j19 h117
      else
        some (.inl (0, h117))
    else
    if (and32 v15 63) = 9 then
      (ga h10 79 p0_ (wr (l4_9 + 1))).bind fun v118 =>
      (A_X0_tokens h10 v1 v118 v7).bind fun (v119, h120) =>
      (ga h120 79 p0_ (wr (l4_9 + 1))).bind fun v121 =>
      (mcv k h120 v4 0 (M_tokens (sgm h120 v4) v121)).bind fun (v122, h123) =>
      (mcv k h123 v4 0 ((M_thrown (sgm h123 v4)).bind fun u => some (u, sgm h123 v4))).bind fun (v124, h125) =>
      if v124 = v119 then
        if v119 = 0 then
          (ga h125 67 v7 0).bind fun v126 =>
          if (cmp64 v126 v122) = 0 then
            j19 h125
          else
            some (.inl (0, h125))
        else
          j19 h125
      else
        some (.inl (0, h125))
    else
    if (and32 v15 63) = 10 then
      (ga h10 79 p0_ (wr (l4_9 + 1))).bind fun v127 =>
      (ga h10 79 p0_ (wr (l4_9 + 2))).bind fun v128 =>
      (A_X0_token h10 v1 v127 v128 v7).bind fun (v129, h130) =>
      (ga h130 79 p0_ (wr (l4_9 + 1))).bind fun v131 =>
      (ga h130 79 p0_ (wr (l4_9 + 2))).bind fun v132 =>
      (mcv k h130 v4 0 (M_token (sgm h130 v4) v131 v132)).bind fun (v133, h134) =>
      (mcv k h134 v4 0 ((M_thrown (sgm h134 v4)).bind fun u => some (u, sgm h134 v4))).bind fun (v135, h136) =>
      if v135 = v129 then
        if v129 = 0 then
          (ga h136 67 v7 0).bind fun v137 =>
          if (cmp64 v137 v133) = 0 then
            j19 h136
          else
            some (.inl (0, h136))
        else
          j19 h136
      else
        some (.inl (0, h136))
    else
    if (and32 v15 63) = 11 then
      (ga h10 79 p0_ (wr (l4_9 + 1))).bind fun v138 =>
      (ga h10 79 p0_ (wr (l4_9 + 2))).bind fun v139 =>
      (A_X0_tokenAnew k h10 v1 v138 v139 v7).bind fun (v140, h141) =>
      (ga h141 79 p0_ (wr (l4_9 + 1))).bind fun v142 =>
      (ga h141 79 p0_ (wr (l4_9 + 2))).bind fun v143 =>
      (mcv k h141 v4 0 (M_tokenAnew (sgm h141 v4) v142 v143)).bind fun (v144, h145) =>
      (mcv k h145 v4 0 ((M_thrown (sgm h145 v4)).bind fun u => some (u, sgm h145 v4))).bind fun (v146, h147) =>
      if v146 = v140 then
        if v140 = 0 then
          (ga h147 67 v7 0).bind fun v148 =>
          if (cmp64 v148 v144) = 0 then
            j19 h147
          else
            some (.inl (0, h147))
        else
          j19 h147
      else
        some (.inl (0, h147))
    else
    if (and32 v15 63) = 12 then
      (ga h10 79 p0_ (wr (l4_9 + 1))).bind fun v149 =>
      (ga h10 79 p0_ (wr (l4_9 + 2))).bind fun v150 =>
      (ga h10 79 p0_ (wr (l4_9 + 3))).bind fun v151 =>
      (A_X0_colour k h10 v1 v149 v150 v151 v7).bind fun (v152, h153) =>
      (ga h153 79 p0_ (wr (l4_9 + 1))).bind fun v154 =>
      (ga h153 79 p0_ (wr (l4_9 + 2))).bind fun v155 =>
      (ga h153 79 p0_ (wr (l4_9 + 3))).bind fun v156 =>
      (mcv k h153 v4 0 (M_colour (sgm h153 v4) v154 v155 v156)).bind fun (v157, h158) =>
      (mcv k h158 v4 0 ((M_thrown (sgm h158 v4)).bind fun u => some (u, sgm h158 v4))).bind fun (v159, h160) =>
      if v159 = v152 then
        if v152 = 0 then
          (ga h160 67 v7 0).bind fun v161 =>
          if (cmp64 v161 v157) = 0 then
            j19 h160
          else
            some (.inl (0, h160))
        else
          j19 h160
      else
        some (.inl (0, h160))
    else
    if (and32 v15 63) = 13 then
      (ga h10 79 p0_ (wr (l4_9 + 1))).bind fun v162 =>
      (ga h10 79 p0_ (wr (l4_9 + 2))).bind fun v163 =>
      (A_X0_partner h10 v1 v162 v163 v7).bind fun (v164, h165) =>
      (ga h165 79 p0_ (wr (l4_9 + 1))).bind fun v166 =>
      (ga h165 79 p0_ (wr (l4_9 + 2))).bind fun v167 =>
      (mcv k h165 v4 0 (M_partner (sgm h165 v4) v166 v167)).bind fun (v168, h169) =>
      (mcv k h169 v4 0 ((M_thrown (sgm h169 v4)).bind fun u => some (u, sgm h169 v4))).bind fun (v170, h171) =>
      if v170 = v164 then
        if v164 = 0 then
          (ga h171 67 v7 0).bind fun v172 =>
          if (cmp64 v172 v168) = 0 then
            j19 h171
          else
            some (.inl (0, h171))
        else
          j19 h171
      else
        some (.inl (0, h171))
    else
    if (and32 v15 63) = 14 then
      (ga h10 79 p0_ (wr (l4_9 + 1))).bind fun v173 =>
      (ga h10 79 p0_ (wr (l4_9 + 2))).bind fun v174 =>
      (A_X0_fold h10 v1 v173 v174 v7).bind fun (v175, h176) =>
      (ga h176 79 p0_ (wr (l4_9 + 1))).bind fun v177 =>
      (ga h176 79 p0_ (wr (l4_9 + 2))).bind fun v178 =>
      (mcv k h176 v4 0 (M_fold (sgm h176 v4) v177 v178)).bind fun (v179, h180) =>
      (mcv k h180 v4 0 ((M_thrown (sgm h180 v4)).bind fun u => some (u, sgm h180 v4))).bind fun (v181, h182) =>
      if v181 = v175 then
        if v175 = 0 then
          (ga h182 67 v7 0).bind fun v183 =>
          if (cmp64 v183 v179) = 0 then
            j19 h182
          else
            some (.inl (0, h182))
        else
          j19 h182
      else
        some (.inl (0, h182))
    else
    if (and32 v15 63) = 15 then
      (ga h10 79 p0_ (wr (l4_9 + 1))).bind fun v184 =>
      (A_X0_errors k h10 v1 v184 v7).bind fun (v185, h186) =>
      (ga h186 79 p0_ (wr (l4_9 + 1))).bind fun v187 =>
      (mcv k h186 v4 0 (M_errors (sgm h186 v4) v187)).bind fun (v188, h189) =>
      (mcv k h189 v4 0 ((M_thrown (sgm h189 v4)).bind fun u => some (u, sgm h189 v4))).bind fun (v190, h191) =>
      if v190 = v185 then
        if v185 = 0 then
          (ga h191 67 v7 0).bind fun v192 =>
          if (cmp64 v192 v188) = 0 then
            j19 h191
          else
            some (.inl (0, h191))
        else
          j19 h191
      else
        some (.inl (0, h191))
    else
    if (and32 v15 63) = 16 then
      (ga h10 79 p0_ (wr (l4_9 + 1))).bind fun v193 =>
      (ga h10 79 p0_ (wr (l4_9 + 2))).bind fun v194 =>
      (A_X0_errorAt k h10 v1 v193 v194 v7).bind fun (v195, h196) =>
      (ga h196 79 p0_ (wr (l4_9 + 1))).bind fun v197 =>
      (ga h196 79 p0_ (wr (l4_9 + 2))).bind fun v198 =>
      (mcv k h196 v4 0 (M_errorAt (sgm h196 v4) v197 v198)).bind fun (v199, h200) =>
      (mcv k h200 v4 0 ((M_thrown (sgm h200 v4)).bind fun u => some (u, sgm h200 v4))).bind fun (v201, h202) =>
      if v201 = v195 then
        if v195 = 0 then
          (ga h202 67 v7 0).bind fun v203 =>
          if (cmp64 v203 v199) = 0 then
            j19 h202
          else
            some (.inl (0, h202))
        else
          j19 h202
      else
        some (.inl (0, h202))
    else
    if (and32 v15 63) = 17 then
      (ga h10 79 p0_ (wr (l4_9 + 1))).bind fun v204 =>
      (ga h10 79 p0_ (wr (l4_9 + 2))).bind fun v205 =>
      (A_X0_repair k h10 v1 v204 v205 v7).bind fun (v206, h207) =>
      (ga h207 79 p0_ (wr (l4_9 + 1))).bind fun v208 =>
      (ga h207 79 p0_ (wr (l4_9 + 2))).bind fun v209 =>
      (mcv k h207 v4 0 (M_repair (sgm h207 v4) v208 v209)).bind fun (v210, h211) =>
      (mcv k h211 v4 0 ((M_thrown (sgm h211 v4)).bind fun u => some (u, sgm h211 v4))).bind fun (v212, h213) =>
      if v212 = v206 then
        if v206 = 0 then
          (ga h213 67 v7 0).bind fun v214 =>
          if (cmp64 v214 v210) = 0 then
            j19 h213
          else
            some (.inl (0, h213))
        else
          j19 h213
      else
        some (.inl (0, h213))
    else
    if (and32 v15 63) = 18 then
      (ga h10 79 p0_ (wr (l4_9 + 1))).bind fun v215 =>
      (A_X0_tree k h10 v1 v215 v7).bind fun (v216, h217) =>
      (ga h217 79 p0_ (wr (l4_9 + 1))).bind fun v218 =>
      (mcv k h217 v4 4 (M_tree (sgm h217 v4) v218)).bind fun (v219, h220) =>
      (mcv k h220 v4 0 ((M_thrown (sgm h220 v4)).bind fun u => some (u, sgm h220 v4))).bind fun (v221, h222) =>
      if v221 = v216 then
        if v216 = 0 then
          (ga h222 67 v7 0).bind fun v223 =>
          if (cmp64 v223 v219) = 0 then
            j19 h222
          else
            some (.inl (0, h222))
        else
          j19 h222
      else
        some (.inl (0, h222))
    else
    if (and32 v15 63) = 19 then
      (ga h10 79 p0_ (wr (l4_9 + 1))).bind fun v224 =>
      (ga h10 79 p0_ (wr (l4_9 + 2))).bind fun v225 =>
      (A_X0_may k h10 v1 v224 v225 v7).bind fun (v226, h227) =>
      (ga h227 79 p0_ (wr (l4_9 + 1))).bind fun v228 =>
      (ga h227 79 p0_ (wr (l4_9 + 2))).bind fun v229 =>
      (mcv k h227 v4 0 (M_may (sgm h227 v4) v228 v229)).bind fun (v230, h231) =>
      (mcv k h231 v4 0 ((M_thrown (sgm h231 v4)).bind fun u => some (u, sgm h231 v4))).bind fun (v232, h233) =>
      if v232 = v226 then
        if v226 = 0 then
          (ga h233 67 v7 0).bind fun v234 =>
          if (cmp64 v234 v230) = 0 then
            j19 h233
          else
            some (.inl (0, h233))
        else
          j19 h233
      else
        some (.inl (0, h233))
    else
    if (and32 v15 63) = 20 then
      (ga h10 79 p0_ (wr (l4_9 + 1))).bind fun v235 =>
      (A_X0_functions k h10 v1 v235 v7).bind fun (v236, h237) =>
      (ga h237 79 p0_ (wr (l4_9 + 1))).bind fun v238 =>
      (mcv k h237 v4 0 (M_functions (sgm h237 v4) v238)).bind fun (v239, h240) =>
      (mcv k h240 v4 0 ((M_thrown (sgm h240 v4)).bind fun u => some (u, sgm h240 v4))).bind fun (v241, h242) =>
      if v241 = v236 then
        if v236 = 0 then
          (ga h242 67 v7 0).bind fun v243 =>
          if (cmp64 v243 v239) = 0 then
            j19 h242
          else
            some (.inl (0, h242))
        else
          j19 h242
      else
        some (.inl (0, h242))
    else
    if (and32 v15 63) = 21 then
      (ga h10 79 p0_ (wr (l4_9 + 1))).bind fun v244 =>
      (ga h10 79 p0_ (wr (l4_9 + 2))).bind fun v245 =>
      (A_X0_functionAt k h10 v1 v244 v245 v7).bind fun (v246, h247) =>
      (ga h247 79 p0_ (wr (l4_9 + 1))).bind fun v248 =>
      (ga h247 79 p0_ (wr (l4_9 + 2))).bind fun v249 =>
      (mcv k h247 v4 0 (M_functionAt (sgm h247 v4) v248 v249)).bind fun (v250, h251) =>
      (mcv k h251 v4 0 ((M_thrown (sgm h251 v4)).bind fun u => some (u, sgm h251 v4))).bind fun (v252, h253) =>
      if v252 = v246 then
        if v246 = 0 then
          (ga h253 67 v7 0).bind fun v254 =>
          if (cmp64 v254 v250) = 0 then
            j19 h253
          else
            some (.inl (0, h253))
        else
          j19 h253
      else
        some (.inl (0, h253))
    else
    if (and32 v15 63) = 22 then
      (ga h10 79 p0_ (wr (l4_9 + 1))).bind fun v255 =>
      (ga h10 79 p0_ (wr (l4_9 + 2))).bind fun v256 =>
      (A_X0_binding k h10 v1 v255 v256 v7).bind fun (v257, h258) =>
      (ga h258 79 p0_ (wr (l4_9 + 1))).bind fun v259 =>
      (ga h258 79 p0_ (wr (l4_9 + 2))).bind fun v260 =>
      (mcv k h258 v4 0 (M_binding (sgm h258 v4) v259 v260)).bind fun (v261, h262) =>
      (mcv k h262 v4 0 ((M_thrown (sgm h262 v4)).bind fun u => some (u, sgm h262 v4))).bind fun (v263, h264) =>
      if v263 = v257 then
        if v257 = 0 then
          (ga h264 67 v7 0).bind fun v265 =>
          if (cmp64 v265 v261) = 0 then
            j19 h264
          else
            some (.inl (0, h264))
        else
          j19 h264
      else
        some (.inl (0, h264))
    else
    if (and32 v15 63) = 23 then
      (ga h10 79 p0_ (wr (l4_9 + 1))).bind fun v266 =>
      (ga h10 79 p0_ (wr (l4_9 + 2))).bind fun v267 =>
      (A_X0_bindingAnew k h10 v1 v266 v267 v7).bind fun (v268, h269) =>
      (ga h269 79 p0_ (wr (l4_9 + 1))).bind fun v270 =>
      (ga h269 79 p0_ (wr (l4_9 + 2))).bind fun v271 =>
      (mcv k h269 v4 0 (M_bindingAnew (sgm h269 v4) v270 v271)).bind fun (v272, h273) =>
      (mcv k h273 v4 0 ((M_thrown (sgm h273 v4)).bind fun u => some (u, sgm h273 v4))).bind fun (v274, h275) =>
      if v274 = v268 then
        if v268 = 0 then
          (ga h275 67 v7 0).bind fun v276 =>
          if (cmp64 v276 v272) = 0 then
            j19 h275
          else
            some (.inl (0, h275))
        else
          j19 h275
      else
        some (.inl (0, h275))
    else
    if (and32 v15 63) = 24 then
      (ga h10 79 p0_ (wr (l4_9 + 1))).bind fun v277 =>
      (ga h10 79 p0_ (wr (l4_9 + 2))).bind fun v278 =>
      (A_X0_typeOf k h10 v1 v277 v278 v7).bind fun (v279, h280) =>
      (ga h280 79 p0_ (wr (l4_9 + 1))).bind fun v281 =>
      (ga h280 79 p0_ (wr (l4_9 + 2))).bind fun v282 =>
      (mcv k h280 v4 0 (M_typeOf (sgm h280 v4) v281 v282)).bind fun (v283, h284) =>
      (mcv k h284 v4 0 ((M_thrown (sgm h284 v4)).bind fun u => some (u, sgm h284 v4))).bind fun (v285, h286) =>
      if v285 = v279 then
        if v279 = 0 then
          (ga h286 67 v7 0).bind fun v287 =>
          if (cmp64 v287 v283) = 0 then
            j19 h286
          else
            some (.inl (0, h286))
        else
          j19 h286
      else
        some (.inl (0, h286))
    else
    if (and32 v15 63) = 25 then
      (tgc h10 6 v1).bind fun _ =>
      (A_X1_typeErrors k h10 v1).bind fun (v289, h290) =>
      (mcv k h290 v4 0 (M_typeErrors (sgm h290 v4))).bind fun (v291, h292) =>
      if v289 = v291 then
        j19 h292
      else
        some (.inl (0, h292))
    else
    if (and32 v15 63) = 26 then
      (ga h10 79 p0_ (wr (l4_9 + 1))).bind fun v293 =>
      (A_X0_typeErrorAt k h10 v1 v293 v7).bind fun (v294, h295) =>
      (ga h295 79 p0_ (wr (l4_9 + 1))).bind fun v296 =>
      (mcv k h295 v4 0 (M_typeErrorAt (sgm h295 v4) v296)).bind fun (v297, h298) =>
      (mcv k h298 v4 0 ((M_thrown (sgm h298 v4)).bind fun u => some (u, sgm h298 v4))).bind fun (v299, h300) =>
      if v299 = v294 then
        if v294 = 0 then
          (ga h300 67 v7 0).bind fun v301 =>
          if (cmp64 v301 v297) = 0 then
            j19 h300
          else
            some (.inl (0, h300))
        else
          j19 h300
      else
        some (.inl (0, h300))
    else
    if (and32 v15 63) = 27 then
      (ga h10 79 p0_ (wr (l4_9 + 1))).bind fun v302 =>
      (A_X0_spell k h10 v1 (chr v302) v7).bind fun (v303, h304) =>
      (ga h304 79 p0_ (wr (l4_9 + 1))).bind fun v305 =>
      (mcv k h304 v4 0 (M_spell (sgm h304 v4) (chr v305))).bind fun (v306, h307) =>
      (mcv k h307 v4 0 ((M_thrown (sgm h307 v4)).bind fun u => some (u, sgm h307 v4))).bind fun (v308, h309) =>
      if v308 = v303 then
        if v303 = 0 then
          (ga h309 67 v7 0).bind fun v310 =>
          if (cmp64 v310 v306) = 0 then
            j19 h309
          else
            some (.inl (0, h309))
        else
          j19 h309
      else
        some (.inl (0, h309))
    else
    if (and32 v15 63) = 28 then
      (tgc h10 6 v1).bind fun _ =>
      (A_X1_clearName k h10 v1).bind fun (v312, h313) =>
      (mcv k h313 v4 0 (M_clearName (sgm h313 v4))).bind fun (v314, h315) =>
      if v312 = v314 then
        j19 h315
      else
        some (.inl (0, h315))
    else
    if (and32 v15 63) = 29 then
      (ga h10 79 p0_ (wr (l4_9 + 1))).bind fun v316 =>
      (ga h10 79 p0_ (wr (l4_9 + 2))).bind fun v317 =>
      (A_X0_completions k h10 v1 v316 v317 v7).bind fun (v318, h319) =>
      (ga h319 79 p0_ (wr (l4_9 + 1))).bind fun v320 =>
      (ga h319 79 p0_ (wr (l4_9 + 2))).bind fun v321 =>
      (mcv k h319 v4 0 (M_completions (sgm h319 v4) v320 v321)).bind fun (v322, h323) =>
      (mcv k h323 v4 0 ((M_thrown (sgm h323 v4)).bind fun u => some (u, sgm h323 v4))).bind fun (v324, h325) =>
      if v324 = v318 then
        if v318 = 0 then
          (ga h325 67 v7 0).bind fun v326 =>
          if (cmp64 v326 v322) = 0 then
            j19 h325
          else
            some (.inl (0, h325))
        else
          j19 h325
      else
        some (.inl (0, h325))
    else
    if (and32 v15 63) = 30 then
      (ga h10 79 p0_ (wr (l4_9 + 1))).bind fun v327 =>
      (ga h10 79 p0_ (wr (l4_9 + 2))).bind fun v328 =>
      (ga h10 79 p0_ (wr (l4_9 + 3))).bind fun v329 =>
      (A_X0_completionAt k h10 v1 v327 v328 v329 v7).bind fun (v330, h331) =>
      (ga h331 79 p0_ (wr (l4_9 + 1))).bind fun v332 =>
      (ga h331 79 p0_ (wr (l4_9 + 2))).bind fun v333 =>
      (ga h331 79 p0_ (wr (l4_9 + 3))).bind fun v334 =>
      (mcv k h331 v4 0 (M_completionAt (sgm h331 v4) v332 v333 v334)).bind fun (v335, h336) =>
      (mcv k h336 v4 0 ((M_thrown (sgm h336 v4)).bind fun u => some (u, sgm h336 v4))).bind fun (v337, h338) =>
      if v337 = v330 then
        if v330 = 0 then
          (ga h338 67 v7 0).bind fun v339 =>
          if (cmp64 v339 v335) = 0 then
            j19 h338
          else
            some (.inl (0, h338))
        else
          j19 h338
      else
        some (.inl (0, h338))
    else
    if (and32 v15 63) = 31 then
      (ga h10 79 p0_ (wr (l4_9 + 1))).bind fun v340 =>
      (ga h10 79 p0_ (wr (l4_9 + 2))).bind fun v341 =>
      (A_X0_planRename k h10 v1 v340 v341 v7).bind fun (v342, h343) =>
      (ga h343 79 p0_ (wr (l4_9 + 1))).bind fun v344 =>
      (ga h343 79 p0_ (wr (l4_9 + 2))).bind fun v345 =>
      (mcv k h343 v4 0 (M_planRename (sgm h343 v4) v344 v345)).bind fun (v346, h347) =>
      (mcv k h347 v4 0 ((M_thrown (sgm h347 v4)).bind fun u => some (u, sgm h347 v4))).bind fun (v348, h349) =>
      if v348 = v342 then
        if v342 = 0 then
          (ga h349 67 v7 0).bind fun v350 =>
          if (cmp64 v350 v346) = 0 then
            j19 h349
          else
            some (.inl (0, h349))
        else
          j19 h349
      else
        some (.inl (0, h349))
    else
    if (and32 v15 63) = 32 then
      (ga h10 79 p0_ (wr (l4_9 + 1))).bind fun v351 =>
      (ga h10 79 p0_ (wr (l4_9 + 2))).bind fun v352 =>
      (A_X0_planInline k h10 v1 v351 v352 v7).bind fun (v353, h354) =>
      (ga h354 79 p0_ (wr (l4_9 + 1))).bind fun v355 =>
      (ga h354 79 p0_ (wr (l4_9 + 2))).bind fun v356 =>
      (mcv k h354 v4 0 (M_planInline (sgm h354 v4) v355 v356)).bind fun (v357, h358) =>
      (mcv k h358 v4 0 ((M_thrown (sgm h358 v4)).bind fun u => some (u, sgm h358 v4))).bind fun (v359, h360) =>
      if v359 = v353 then
        if v353 = 0 then
          (ga h360 67 v7 0).bind fun v361 =>
          if (cmp64 v361 v357) = 0 then
            j19 h360
          else
            some (.inl (0, h360))
        else
          j19 h360
      else
        some (.inl (0, h360))
    else
    if (and32 v15 63) = 33 then
      (ga h10 79 p0_ (wr (l4_9 + 1))).bind fun v362 =>
      (ga h10 79 p0_ (wr (l4_9 + 2))).bind fun v363 =>
      (ga h10 79 p0_ (wr (l4_9 + 3))).bind fun v364 =>
      (A_X0_planMove k h10 v1 v362 v363 v364 v7).bind fun (v365, h366) =>
      (ga h366 79 p0_ (wr (l4_9 + 1))).bind fun v367 =>
      (ga h366 79 p0_ (wr (l4_9 + 2))).bind fun v368 =>
      (ga h366 79 p0_ (wr (l4_9 + 3))).bind fun v369 =>
      (mcv k h366 v4 0 (M_planMove (sgm h366 v4) v367 v368 v369)).bind fun (v370, h371) =>
      (mcv k h371 v4 0 ((M_thrown (sgm h371 v4)).bind fun u => some (u, sgm h371 v4))).bind fun (v372, h373) =>
      if v372 = v365 then
        if v365 = 0 then
          (ga h373 67 v7 0).bind fun v374 =>
          if (cmp64 v374 v370) = 0 then
            j19 h373
          else
            some (.inl (0, h373))
        else
          j19 h373
      else
        some (.inl (0, h373))
    else
    if (and32 v15 63) = 34 then
      (tgc h10 6 v1).bind fun _ =>
      (A_X1_clearPlan h10 v1).bind fun (v376, h377) =>
      (mcv k h377 v4 0 (M_clearPlan (sgm h377 v4))).bind fun (v378, h379) =>
      if v376 = v378 then
        j19 h379
      else
        some (.inl (0, h379))
    else
    if (and32 v15 63) = 35 then
      (tgc h10 6 v1).bind fun _ =>
      (A_X1_reason k h10 v1).bind fun (v381, h382) =>
      (mcv k h382 v4 0 (M_reason (sgm h382 v4))).bind fun (v383, h384) =>
      if v381 = v383 then
        j19 h384
      else
        some (.inl (0, h384))
    else
    if (and32 v15 63) = 36 then
      (A_X0_carryOut k h10 v1 v7).bind fun (v385, h386) =>
      (mcv k h386 v4 0 (M_carryOut (sgm h386 v4))).bind fun (v387, h388) =>
      (mcv k h388 v4 0 ((M_thrown (sgm h388 v4)).bind fun u => some (u, sgm h388 v4))).bind fun (v389, h390) =>
      if v389 = v385 then
        if v385 = 0 then
          (ga h390 67 v7 0).bind fun v391 =>
          if (cmp64 v391 v387) = 0 then
            j19 h390
          else
            some (.inl (0, h390))
        else
          j19 h390
      else
        some (.inl (0, h390))
    else
    if (and32 v15 63) = 37 then
      (ga h10 79 p0_ (wr (l4_9 + 1))).bind fun v392 =>
      (ga h10 79 p0_ (wr (l4_9 + 2))).bind fun v393 =>
      (ga h10 79 p0_ (wr (l4_9 + 3))).bind fun v394 =>
      (ga h10 79 p0_ (wr (l4_9 + 4))).bind fun v395 =>
      (A_X0_run k h10 v1 v392 v393 v394 v395 v7).bind fun (v396, h397) =>
      (ga h397 79 p0_ (wr (l4_9 + 1))).bind fun v398 =>
      (ga h397 79 p0_ (wr (l4_9 + 2))).bind fun v399 =>
      (ga h397 79 p0_ (wr (l4_9 + 3))).bind fun v400 =>
      (ga h397 79 p0_ (wr (l4_9 + 4))).bind fun v401 =>
      (mcv k h397 v4 4 (M_run (sgm h397 v4) v398 v399 v400 v401)).bind fun (v402, h403) =>
      (mcv k h403 v4 0 ((M_thrown (sgm h403 v4)).bind fun u => some (u, sgm h403 v4))).bind fun (v404, h405) =>
      if v404 = v396 then
        if v396 = 0 then
          (ga h405 67 v7 0).bind fun v406 =>
          if (cmp64 v406 v402) = 0 then
            j19 h405
          else
            some (.inl (0, h405))
        else
          j19 h405
      else
        some (.inl (0, h405))
    else
    j19 h10
def A_L_law (k : Nat → Int) (h : AH) (p0_ : Int) : Option (Int × AH) :=
  bd1 (nwo h 6 7) fun (v1, h2) =>
  (A_X1_init k h2 v1).bind fun h3 =>
  bd1 (nwo h3 35 118) fun (v4, h5) =>
  (A_X4_init h5 v4).bind fun h6 =>
  (nwa h6 67 1).bind fun (v7, h8) =>
  sb (lp (B_L_law_23 k p0_ v1 v4 v7) FU (0, h8)) fun h11 =>
  some (1, h11)
abbrev Z_L_law (nm : String) (C : Cx) (l : Launch) (E : EA) (h : AH) (hZ : AH) (vZ : Int) (h1 : AH) : Zs := zA (Ma C cL_law 8 RX0 E l 1569 h hZ 1 vZ (some .boolean) nm) (Ea hZ 1 vZ) E hZ h h1
theorem X_L_law {l : Launch} {E : EA} (hE : ∀ i, TI 5 (E.2.2 i)) (hl9 : l.stackTraces = false) (nm : String) (C : Cx) (h : AH) (hT : TH h) (p0_ : Int) (h_p0_ : TI 5 p0_) {vZ : Int} {hZ : AH} (e : A_L_law E.2.2 h p0_ = some (vZ, hZ)) : X C (Z_L_law nm C l E h hZ vZ h) [(0, (2, p0_))] 0 [] := by
  unfold A_L_law at e
  have hO := Old.rf h
  refine h_new Ma.ga Ma.rm ⟨by decide, by decide, (RX1, TX1, 7), 7, rfl, rfl, q274, q275, q216, Or.inr cl_6⟩ hT hO dL_law_0 e (fun v1 h2 tv1 gv1 Th2 Oh2 e => ?_)
  refine x_dup Ma.x dL_law_3 rfl ?_
  obtain ⟨h3, e1, e⟩ := bds e
  refine a_callI Ma.b Th2 Oh2 [] [(2, v1)] [(2, v1)] (T_X1_init C hE h2 Th2 v1 tv1 gv1 e1) gv1 (by decide) dL_law_4 q276 q277 q216 q278 rfl ck_X1_init rfl rfl rfl rfl rfl (fun _ Th3 Oh3 => ?_)
  refine x_astore_n Ma.x (lv' := [(1, (2, v1)), (0, (2, p0_))]) dL_law_7 [0] rfl rfl (by decide) ?_
  refine h_new Ma.ga Ma.rm ⟨by decide, by decide, (RX4, TX4, 118), 118, rfl, rfl, q2800, q2801, q226, Or.inr cl_35⟩ Th3 Oh3 dL_law_8 e (fun v4 h5 tv4 gv4 Th5 Oh5 e => ?_)
  refine x_dup Ma.x dL_law_11 rfl ?_
  obtain ⟨h6, e1, e⟩ := bds e
  refine a_callI Ma.b Th5 Oh5 [] [(2, v4)] [(2, v4)] (T_X4_init C hE h5 Th5 v4 tv4 gv4 e1) gv4 (by decide) dL_law_12 q2802 q2803 q226 q2804 rfl ck_X4_init rfl rfl rfl rfl rfl (fun _ Th6 Oh6 => ?_)
  refine x_astore_n Ma.x (lv' := [(2, (2, v4)), (1, (2, v1)), (0, (2, p0_))]) dL_law_15 [0, 1] rfl rfl (by decide) ?_
  refine x_iconst Ma.x dL_law_16 ?_
  refine h_newa Ma.ga Ma.rm nA_J Th6 Oh6 dL_law_17 e (fun v7 h8 tv7 gv7 Th8 Oh8 e => ?_)
  refine x_astore_n Ma.x (lv' := [(3, (2, v7)), (2, (2, v4)), (1, (2, v1)), (0, (2, p0_))]) dL_law_19 [0, 1, 2] rfl rfl (by decide) ?_
  refine x_iconst Ma.x dL_law_20 ?_
  refine x_istore Ma.x (lv' := [(4, (0, 0)), (3, (2, v7)), (2, (2, v4)), (1, (2, v1)), (0, (2, p0_))]) dL_law_21 [0, 1, 2, 3] rfl rfl (by decide) ?_
  refine sb_rule e (Y := fun h11 => TH h11 → Old h h11 → X C (Z_L_law nm C l E h hZ vZ h11) [] 2521 []) ?_ ?_
  · rintro h11 e  Th11 Oh11
    refine x_iconst Ma.x dL_law_2521 ?_
    exact a_retz dL_law_2522 (congrArg Prod.fst (Option.some.inj e)) (congrArg Prod.snd (Option.some.inj e)) Th11 litZ1
  · intro tt hY12 e
    refine x_drop [4, 3, 2, 1, 0] rfl ((lp_rule (P := fun (l4_9, h10) => InR l4_9 → TH h10 → Old h h10 → X C (Z_L_law nm C l E h hZ vZ h10) [(0, (2, p0_)), (1, (2, v1)), (2, (2, v4)), (3, (2, v7)), (4, (0, l4_9))] 23 []) (fun rec13 ihrec13 => ?_) FU (0, h8) e) (litI rfl) Th8 Oh8)
    rintro ⟨l4_9, h10⟩ e tl4_9 Th10 Oh10
    dsimp only [B_L_law_23] at e
    refine x_iload Ma.x dL_law_23 4 rfl ?_
    refine x_aload_n Ma.x dL_law_25 0 rfl ?_
    refine h_len Ma.ga (t := 79) (by decide) rfl Th10 dL_law_26 e (fun v14 tv14 e => ?_)
    refine x_iconst Ma.x dL_law_27 ?_
    refine x_isub Ma.x dL_law_28 ?_
    refine x_icmp_gt Ma.x 2521 dL_law_29 rfl tl4_9 (wr_in _) e (fun e => ?_) (fun e => ?_)
    · cases e
      exact x_drop [] rfl (hY12 Th10 Oh10)
    · refine x_aload_n Ma.x dL_law_32 0 rfl ?_
      refine x_iload Ma.x dL_law_33 4 rfl ?_
      refine h_iald9 Ma.ga Th10 dL_law_35 e (fun v15 tv15 e => ?_)
      refine x_bip Ma.x dL_law_36 rfl ?_
      refine x_iand Ma.x dL_law_38 ?_
      refine jn_rule e (Y := fun h16 => TH h16 → Old h h16 → X C (Z_L_law nm C l E h hZ vZ h16) [(0, (2, p0_)), (1, (2, v1)), (2, (2, v4)), (3, (2, v7)), (4, (0, l4_9))] 2515 []) ?_ ?_
      · rintro h16 e  Th16 Oh16
        refine x_iincb Ma.x (fun l4_18 => [(4, (0, l4_18)), (0, (2, p0_)), (1, (2, v1)), (2, (2, v4)), (3, (2, v7))]) dL_law_2515 4 rfl [0, 1, 2, 3] (fun _ => rfl) rfl rfl e (fun l4_18 tl4_18 e => ?_)
        refine x_goto Ma.x 23 dL_law_2518 rfl ?_
        exact x_drop [1, 2, 3, 4, 0] rfl (ihrec13 (l4_18, h16) e tl4_18 Th16 Oh16)
      · intro j19 hj19 e
        by_cases q0 : (and32 v15 63) = 0
        · rw [if_pos q0] at e
          refine x_tabK Ma.x dL_law_39 (and32_in _ _) q0 204 (by decide) rfl rfl ?_
          refine x_aload_n Ma.x dL_law_204 1 rfl ?_
          refine x_aload_n Ma.x dL_law_205 0 rfl ?_
          refine x_iload Ma.x dL_law_206 4 rfl ?_
          refine x_iconst Ma.x dL_law_208 ?_
          refine x_iadd Ma.x dL_law_209 ?_
          refine h_iald9 Ma.ga Th10 dL_law_210 e (fun v20 tv20 e => ?_)
          refine x_aload_n Ma.x dL_law_211 0 rfl ?_
          refine x_iload Ma.x dL_law_212 4 rfl ?_
          refine x_iconst Ma.x dL_law_214 ?_
          refine x_iadd Ma.x dL_law_215 ?_
          refine h_iald9 Ma.ga Th10 dL_law_216 e (fun v21 tv21 e => ?_)
          refine x_aload_n Ma.x dL_law_217 0 rfl ?_
          refine x_iload Ma.x dL_law_218 4 rfl ?_
          refine x_iconst Ma.x dL_law_220 ?_
          refine x_iadd Ma.x dL_law_221 ?_
          refine h_iald9 Ma.ga Th10 dL_law_222 e (fun v22 tv22 e => ?_)
          refine x_aload_n Ma.x dL_law_223 0 rfl ?_
          refine x_iload Ma.x dL_law_224 4 rfl ?_
          refine x_iconst Ma.x dL_law_226 ?_
          refine x_iadd Ma.x dL_law_227 ?_
          refine h_iald9 Ma.ga Th10 dL_law_228 e (fun v23 tv23 e => ?_)
          refine x_i2c Ma.x dL_law_229 ?_
          refine x_aload_n Ma.x dL_law_230 3 rfl ?_
          obtain ⟨⟨v24, h25⟩, e1, e⟩ := bds e
          refine w_callS Ma.b Th10 Oh10 [(2, v1), (0, v20), (0, v21), (0, v22), (0, (chr v23)), (2, v7)] [] [(0, v24)] (T_X0_insert C hE hl9 h10 Th10 v1 v20 v21 v22 (chr v23) v7 tv1 tv20 tv21 tv22 (chr_ti _) tv7 e1) dL_law_231 q2080 q2081 q215 q2082 ck_X0_insert rfl rfl rfl rfl rfl (fun tv24 Th25 Oh25 => ?_)
          refine x_istore Ma.x (lv' := [(5, (0, v24)), (0, (2, p0_)), (1, (2, v1)), (2, (2, v4)), (3, (2, v7)), (4, (0, l4_9))]) dL_law_234 [0, 1, 2, 3, 4] rfl rfl (by decide) ?_
          refine x_aload_n Ma.x dL_law_236 3 rfl ?_
          refine x_aload_n Ma.x dL_law_237 1 rfl ?_
          refine x_iload Ma.x dL_law_238 5 rfl ?_
          refine x_iconst Ma.x dL_law_240 ?_
          refine x_iadd Ma.x dL_law_241 ?_
          refine h_iald9 Ma.ga Th25 dL_law_242 e (fun v26 tv26 e => ?_)
          refine x_aload_n Ma.x dL_law_243 1 rfl ?_
          refine x_iload Ma.x dL_law_244 5 rfl ?_
          refine x_iconst Ma.x dL_law_246 ?_
          refine x_iadd Ma.x dL_law_247 ?_
          refine h_iald9 Ma.ga Th25 dL_law_248 e (fun v27 tv27 e => ?_)
          refine x_aload_n Ma.x dL_law_249 1 rfl ?_
          refine x_iload Ma.x dL_law_250 5 rfl ?_
          refine x_iconst Ma.x dL_law_252 ?_
          refine x_iadd Ma.x dL_law_253 ?_
          refine h_iald9 Ma.ga Th25 dL_law_254 e (fun v28 tv28 e => ?_)
          refine x_aload_n Ma.x dL_law_255 1 rfl ?_
          refine x_iload Ma.x dL_law_256 5 rfl ?_
          refine x_iconst Ma.x dL_law_258 ?_
          refine x_iadd Ma.x dL_law_259 ?_
          refine h_iald9 Ma.ga Th25 dL_law_260 e (fun v29 tv29 e => ?_)
          refine x_i2c Ma.x dL_law_261 ?_
          obtain ⟨mok9, mex9, w9, s9, e1, v30, r9, h31, i9, e⟩ := m_bind2 e
          refine m_callV2 Ma.b Th25 Oh25 [(0, v26), (0, v27), (0, v28), (0, (chr v29))] [] [(0, v30)] rfl (fun mok n => S_insert (fd_mG Th25 mok) (sgm h25 v4) (tf_sgm Th25 mok) v26 v27 v28 (chr v29) tv26 tv27 tv28 (chr_ti _) e1) mok9 mex9 (by decide) r9 i9 dL_law_262 q3457 q3458 q3459 q226 q3460 ck_X4_insert rfl rfl rfl rfl rfl (fun tv30 Th31 Oh31 => ?_)
          refine x_istore Ma.x (lv' := [(6, (0, v30)), (5, (0, v24)), (0, (2, p0_)), (1, (2, v1)), (2, (2, v4)), (3, (2, v7)), (4, (0, l4_9))]) dL_law_265 [0, 1, 2, 3, 4, 5] rfl rfl (by decide) ?_
          refine x_aload_n Ma.x dL_law_267 4 rfl ?_
          obtain ⟨mok9, mex9, w9, s9, e1, v32, r9, h33, i9, e⟩ := m_bind2 e
          obtain ⟨u9, e2, e3⟩ := bds e1
          cases e3
          have e1 := e2
          refine m_callV2 Ma.b Th31 Oh31 [] [] [(0, v32)] rfl (fun mok n => S_thrown (fd_mG Th31 mok) (sgm h31 v4) (tf_sgm Th31 mok) e1) mok9 mex9 (by decide) r9 i9 dL_law_268 q3161 q3162 q3163 q226 q3164 ck_X4_thrown rfl rfl rfl rfl rfl (fun tv32 Th33 Oh33 => ?_)
          refine x_iload Ma.x dL_law_271 1 rfl ?_
          refine x_icmp_eq Ma.x 278 dL_law_273 rfl tv32 tv24 e (fun e => ?_) (fun e => ?_)
          · refine x_iload Ma.x dL_law_278 1 rfl ?_
            refine x_if_ne Ma.x 295 dL_law_280 rfl tv24 e (fun e => ?_) (fun e => ?_)
            · refine x_aload_n Ma.x dL_law_283 5 rfl ?_
              refine x_iconst Ma.x dL_law_284 ?_
              refine h_lald Ma.ga Th33 dL_law_285 e (fun v34 tv34 e => ?_)
              refine x_iload Ma.x dL_law_286 0 rfl ?_
              refine x_i2l Ma.x dL_law_288 tv30 ?_
              refine x_lcmp Ma.x dL_law_289 ?_
              refine x_if_eq Ma.x 295 dL_law_290 rfl (cmp64_in _ _) e (fun e => ?_) (fun e => ?_)
              · refine x_goto Ma.x 2515 dL_law_295 rfl ?_
                exact x_drop [2, 3, 4, 5, 6] rfl (hj19 h33 e Th33 Oh33)
              · refine x_iconst Ma.x dL_law_293 ?_
                have e := lfl e hY12
                exact a_retz dL_law_294 (congrArg Prod.fst (Option.some.inj e)) (congrArg Prod.snd (Option.some.inj e)) Th33 litZ0
            · refine x_goto Ma.x 2515 dL_law_295 rfl ?_
              exact x_drop [2, 3, 4, 5, 6] rfl (hj19 h33 e Th33 Oh33)
          · refine x_iconst Ma.x dL_law_276 ?_
            have e := lfl e hY12
            exact a_retz dL_law_277 (congrArg Prod.fst (Option.some.inj e)) (congrArg Prod.snd (Option.some.inj e)) Th33 litZ0
        rw [if_neg q0] at e
        by_cases q1 : (and32 v15 63) = 1
        · rw [if_pos q1] at e
          refine x_tabK Ma.x dL_law_39 (and32_in _ _) q1 298 (by decide) rfl rfl ?_
          refine x_aload_n Ma.x dL_law_298 1 rfl ?_
          refine x_aload_n Ma.x dL_law_299 0 rfl ?_
          refine x_iload Ma.x dL_law_300 4 rfl ?_
          refine x_iconst Ma.x dL_law_302 ?_
          refine x_iadd Ma.x dL_law_303 ?_
          refine h_iald9 Ma.ga Th10 dL_law_304 e (fun v35 tv35 e => ?_)
          refine x_aload_n Ma.x dL_law_305 0 rfl ?_
          refine x_iload Ma.x dL_law_306 4 rfl ?_
          refine x_iconst Ma.x dL_law_308 ?_
          refine x_iadd Ma.x dL_law_309 ?_
          refine h_iald9 Ma.ga Th10 dL_law_310 e (fun v36 tv36 e => ?_)
          refine x_aload_n Ma.x dL_law_311 0 rfl ?_
          refine x_iload Ma.x dL_law_312 4 rfl ?_
          refine x_iconst Ma.x dL_law_314 ?_
          refine x_iadd Ma.x dL_law_315 ?_
          refine h_iald9 Ma.ga Th10 dL_law_316 e (fun v37 tv37 e => ?_)
          refine x_aload_n Ma.x dL_law_317 3 rfl ?_
          obtain ⟨⟨v38, h39⟩, e1, e⟩ := bds e
          refine w_callS Ma.b Th10 Oh10 [(2, v1), (0, v35), (0, v36), (0, v37), (2, v7)] [] [(0, v38)] (T_X0_erase C hE hl9 h10 Th10 v1 v35 v36 v37 v7 tv1 tv35 tv36 tv37 tv7 e1) dL_law_318 q2163 q2164 q215 q2165 ck_X0_erase rfl rfl rfl rfl rfl (fun tv38 Th39 Oh39 => ?_)
          refine x_istore Ma.x (lv' := [(5, (0, v38)), (0, (2, p0_)), (1, (2, v1)), (2, (2, v4)), (3, (2, v7)), (4, (0, l4_9))]) dL_law_321 [0, 1, 2, 3, 4] rfl rfl (by decide) ?_
          refine x_aload_n Ma.x dL_law_323 3 rfl ?_
          refine x_aload_n Ma.x dL_law_324 1 rfl ?_
          refine x_iload Ma.x dL_law_325 5 rfl ?_
          refine x_iconst Ma.x dL_law_327 ?_
          refine x_iadd Ma.x dL_law_328 ?_
          refine h_iald9 Ma.ga Th39 dL_law_329 e (fun v40 tv40 e => ?_)
          refine x_aload_n Ma.x dL_law_330 1 rfl ?_
          refine x_iload Ma.x dL_law_331 5 rfl ?_
          refine x_iconst Ma.x dL_law_333 ?_
          refine x_iadd Ma.x dL_law_334 ?_
          refine h_iald9 Ma.ga Th39 dL_law_335 e (fun v41 tv41 e => ?_)
          refine x_aload_n Ma.x dL_law_336 1 rfl ?_
          refine x_iload Ma.x dL_law_337 5 rfl ?_
          refine x_iconst Ma.x dL_law_339 ?_
          refine x_iadd Ma.x dL_law_340 ?_
          refine h_iald9 Ma.ga Th39 dL_law_341 e (fun v42 tv42 e => ?_)
          obtain ⟨mok9, mex9, w9, s9, e1, v43, r9, h44, i9, e⟩ := m_bind2 e
          refine m_callV2 Ma.b Th39 Oh39 [(0, v40), (0, v41), (0, v42)] [] [(0, v43)] rfl (fun mok n => S_erase (fd_mG Th39 mok) (sgm h39 v4) (tf_sgm Th39 mok) v40 v41 v42 tv40 tv41 tv42 e1) mok9 mex9 (by decide) r9 i9 dL_law_342 q3476 q3477 q3478 q226 q3479 ck_X4_erase rfl rfl rfl rfl rfl (fun tv43 Th44 Oh44 => ?_)
          refine x_istore Ma.x (lv' := [(6, (0, v43)), (5, (0, v38)), (0, (2, p0_)), (1, (2, v1)), (2, (2, v4)), (3, (2, v7)), (4, (0, l4_9))]) dL_law_345 [0, 1, 2, 3, 4, 5] rfl rfl (by decide) ?_
          refine x_aload_n Ma.x dL_law_347 4 rfl ?_
          obtain ⟨mok9, mex9, w9, s9, e1, v45, r9, h46, i9, e⟩ := m_bind2 e
          obtain ⟨u9, e2, e3⟩ := bds e1
          cases e3
          have e1 := e2
          refine m_callV2 Ma.b Th44 Oh44 [] [] [(0, v45)] rfl (fun mok n => S_thrown (fd_mG Th44 mok) (sgm h44 v4) (tf_sgm Th44 mok) e1) mok9 mex9 (by decide) r9 i9 dL_law_348 q3161 q3162 q3163 q226 q3164 ck_X4_thrown rfl rfl rfl rfl rfl (fun tv45 Th46 Oh46 => ?_)
          refine x_iload Ma.x dL_law_351 1 rfl ?_
          refine x_icmp_eq Ma.x 358 dL_law_353 rfl tv45 tv38 e (fun e => ?_) (fun e => ?_)
          · refine x_iload Ma.x dL_law_358 1 rfl ?_
            refine x_if_ne Ma.x 375 dL_law_360 rfl tv38 e (fun e => ?_) (fun e => ?_)
            · refine x_aload_n Ma.x dL_law_363 5 rfl ?_
              refine x_iconst Ma.x dL_law_364 ?_
              refine h_lald Ma.ga Th46 dL_law_365 e (fun v47 tv47 e => ?_)
              refine x_iload Ma.x dL_law_366 0 rfl ?_
              refine x_i2l Ma.x dL_law_368 tv43.c ?_
              refine x_lcmp Ma.x dL_law_369 ?_
              refine x_if_eq Ma.x 375 dL_law_370 rfl (cmp64_in _ _) e (fun e => ?_) (fun e => ?_)
              · refine x_goto Ma.x 2515 dL_law_375 rfl ?_
                exact x_drop [2, 3, 4, 5, 6] rfl (hj19 h46 e Th46 Oh46)
              · refine x_iconst Ma.x dL_law_373 ?_
                have e := lfl e hY12
                exact a_retz dL_law_374 (congrArg Prod.fst (Option.some.inj e)) (congrArg Prod.snd (Option.some.inj e)) Th46 litZ0
            · refine x_goto Ma.x 2515 dL_law_375 rfl ?_
              exact x_drop [2, 3, 4, 5, 6] rfl (hj19 h46 e Th46 Oh46)
          · refine x_iconst Ma.x dL_law_356 ?_
            have e := lfl e hY12
            exact a_retz dL_law_357 (congrArg Prod.fst (Option.some.inj e)) (congrArg Prod.snd (Option.some.inj e)) Th46 litZ0
        rw [if_neg q1] at e
        by_cases q2 : (and32 v15 63) = 2
        · rw [if_pos q2] at e
          refine x_tabK Ma.x dL_law_39 (and32_in _ _) q2 378 (by decide) rfl rfl ?_
          refine x_aload_n Ma.x dL_law_378 1 rfl ?_
          refine x_aload_n Ma.x dL_law_379 0 rfl ?_
          refine x_iload Ma.x dL_law_380 4 rfl ?_
          refine x_iconst Ma.x dL_law_382 ?_
          refine x_iadd Ma.x dL_law_383 ?_
          refine h_iald9 Ma.ga Th10 dL_law_384 e (fun v48 tv48 e => ?_)
          refine x_aload_n Ma.x dL_law_385 0 rfl ?_
          refine x_iload Ma.x dL_law_386 4 rfl ?_
          refine x_iconst Ma.x dL_law_388 ?_
          refine x_iadd Ma.x dL_law_389 ?_
          refine h_iald9 Ma.ga Th10 dL_law_390 e (fun v49 tv49 e => ?_)
          refine x_aload_n Ma.x dL_law_391 0 rfl ?_
          refine x_iload Ma.x dL_law_392 4 rfl ?_
          refine x_iconst Ma.x dL_law_394 ?_
          refine x_iadd Ma.x dL_law_395 ?_
          refine h_iald9 Ma.ga Th10 dL_law_396 e (fun v50 tv50 e => ?_)
          refine x_aload_n Ma.x dL_law_397 3 rfl ?_
          obtain ⟨⟨v51, h52⟩, e1, e⟩ := bds e
          refine w_callS Ma.b Th10 Oh10 [(2, v1), (0, v48), (0, v49), (0, v50), (2, v7)] [] [(0, v51)] (T_X0_paste C hE hl9 h10 Th10 v1 v48 v49 v50 v7 tv1 tv48 tv49 tv50 tv7 e1) dL_law_398 q2170 q2171 q215 q2172 ck_X0_paste rfl rfl rfl rfl rfl (fun tv51 Th52 Oh52 => ?_)
          refine x_istore Ma.x (lv' := [(5, (0, v51)), (0, (2, p0_)), (1, (2, v1)), (2, (2, v4)), (3, (2, v7)), (4, (0, l4_9))]) dL_law_401 [0, 1, 2, 3, 4] rfl rfl (by decide) ?_
          refine x_aload_n Ma.x dL_law_403 3 rfl ?_
          refine x_aload_n Ma.x dL_law_404 1 rfl ?_
          refine x_iload Ma.x dL_law_405 5 rfl ?_
          refine x_iconst Ma.x dL_law_407 ?_
          refine x_iadd Ma.x dL_law_408 ?_
          refine h_iald9 Ma.ga Th52 dL_law_409 e (fun v53 tv53 e => ?_)
          refine x_aload_n Ma.x dL_law_410 1 rfl ?_
          refine x_iload Ma.x dL_law_411 5 rfl ?_
          refine x_iconst Ma.x dL_law_413 ?_
          refine x_iadd Ma.x dL_law_414 ?_
          refine h_iald9 Ma.ga Th52 dL_law_415 e (fun v54 tv54 e => ?_)
          refine x_aload_n Ma.x dL_law_416 1 rfl ?_
          refine x_iload Ma.x dL_law_417 5 rfl ?_
          refine x_iconst Ma.x dL_law_419 ?_
          refine x_iadd Ma.x dL_law_420 ?_
          refine h_iald9 Ma.ga Th52 dL_law_421 e (fun v55 tv55 e => ?_)
          obtain ⟨mok9, mex9, w9, s9, e1, v56, r9, h57, i9, e⟩ := m_bind2 e
          refine m_callV2 Ma.b Th52 Oh52 [(0, v53), (0, v54), (0, v55)] [] [(0, v56)] rfl (fun mok n => S_paste (fd_mG Th52 mok) (sgm h52 v4) (tf_sgm Th52 mok) v53 v54 v55 tv53 tv54 tv55 e1) mok9 mex9 (by decide) r9 i9 dL_law_422 q3480 q3481 q3482 q226 q3483 ck_X4_paste rfl rfl rfl rfl rfl (fun tv56 Th57 Oh57 => ?_)
          refine x_istore Ma.x (lv' := [(6, (0, v56)), (5, (0, v51)), (0, (2, p0_)), (1, (2, v1)), (2, (2, v4)), (3, (2, v7)), (4, (0, l4_9))]) dL_law_425 [0, 1, 2, 3, 4, 5] rfl rfl (by decide) ?_
          refine x_aload_n Ma.x dL_law_427 4 rfl ?_
          obtain ⟨mok9, mex9, w9, s9, e1, v58, r9, h59, i9, e⟩ := m_bind2 e
          obtain ⟨u9, e2, e3⟩ := bds e1
          cases e3
          have e1 := e2
          refine m_callV2 Ma.b Th57 Oh57 [] [] [(0, v58)] rfl (fun mok n => S_thrown (fd_mG Th57 mok) (sgm h57 v4) (tf_sgm Th57 mok) e1) mok9 mex9 (by decide) r9 i9 dL_law_428 q3161 q3162 q3163 q226 q3164 ck_X4_thrown rfl rfl rfl rfl rfl (fun tv58 Th59 Oh59 => ?_)
          refine x_iload Ma.x dL_law_431 1 rfl ?_
          refine x_icmp_eq Ma.x 438 dL_law_433 rfl tv58 tv51 e (fun e => ?_) (fun e => ?_)
          · refine x_iload Ma.x dL_law_438 1 rfl ?_
            refine x_if_ne Ma.x 455 dL_law_440 rfl tv51 e (fun e => ?_) (fun e => ?_)
            · refine x_aload_n Ma.x dL_law_443 5 rfl ?_
              refine x_iconst Ma.x dL_law_444 ?_
              refine h_lald Ma.ga Th59 dL_law_445 e (fun v60 tv60 e => ?_)
              refine x_iload Ma.x dL_law_446 0 rfl ?_
              refine x_i2l Ma.x dL_law_448 tv56 ?_
              refine x_lcmp Ma.x dL_law_449 ?_
              refine x_if_eq Ma.x 455 dL_law_450 rfl (cmp64_in _ _) e (fun e => ?_) (fun e => ?_)
              · refine x_goto Ma.x 2515 dL_law_455 rfl ?_
                exact x_drop [2, 3, 4, 5, 6] rfl (hj19 h59 e Th59 Oh59)
              · refine x_iconst Ma.x dL_law_453 ?_
                have e := lfl e hY12
                exact a_retz dL_law_454 (congrArg Prod.fst (Option.some.inj e)) (congrArg Prod.snd (Option.some.inj e)) Th59 litZ0
            · refine x_goto Ma.x 2515 dL_law_455 rfl ?_
              exact x_drop [2, 3, 4, 5, 6] rfl (hj19 h59 e Th59 Oh59)
          · refine x_iconst Ma.x dL_law_436 ?_
            have e := lfl e hY12
            exact a_retz dL_law_437 (congrArg Prod.fst (Option.some.inj e)) (congrArg Prod.snd (Option.some.inj e)) Th59 litZ0
        rw [if_neg q2] at e
        by_cases q3 : (and32 v15 63) = 3
        · rw [if_pos q3] at e
          refine x_tabK Ma.x dL_law_39 (and32_in _ _) q3 458 (by decide) rfl rfl ?_
          refine x_aload_n Ma.x dL_law_458 1 rfl ?_
          refine x_aload_n Ma.x dL_law_459 0 rfl ?_
          refine x_iload Ma.x dL_law_460 4 rfl ?_
          refine x_iconst Ma.x dL_law_462 ?_
          refine x_iadd Ma.x dL_law_463 ?_
          refine h_iald9 Ma.ga Th10 dL_law_464 e (fun v61 tv61 e => ?_)
          refine x_aload_n Ma.x dL_law_465 0 rfl ?_
          refine x_iload Ma.x dL_law_466 4 rfl ?_
          refine x_iconst Ma.x dL_law_468 ?_
          refine x_iadd Ma.x dL_law_469 ?_
          refine h_iald9 Ma.ga Th10 dL_law_470 e (fun v62 tv62 e => ?_)
          refine x_aload_n Ma.x dL_law_471 3 rfl ?_
          obtain ⟨⟨v63, h64⟩, e1, e⟩ := bds e
          refine w_callS Ma.b Th10 Oh10 [(2, v1), (0, v61), (0, v62), (2, v7)] [] [(0, v63)] (T_X0_clear C hE hl9 h10 Th10 v1 v61 v62 v7 tv1 tv61 tv62 tv7 e1) dL_law_472 q2204 q2205 q215 q2206 ck_X0_clear rfl rfl rfl rfl rfl (fun tv63 Th64 Oh64 => ?_)
          refine x_istore Ma.x (lv' := [(5, (0, v63)), (0, (2, p0_)), (1, (2, v1)), (2, (2, v4)), (3, (2, v7)), (4, (0, l4_9))]) dL_law_475 [0, 1, 2, 3, 4] rfl rfl (by decide) ?_
          refine x_aload_n Ma.x dL_law_477 3 rfl ?_
          refine x_aload_n Ma.x dL_law_478 1 rfl ?_
          refine x_iload Ma.x dL_law_479 5 rfl ?_
          refine x_iconst Ma.x dL_law_481 ?_
          refine x_iadd Ma.x dL_law_482 ?_
          refine h_iald9 Ma.ga Th64 dL_law_483 e (fun v65 tv65 e => ?_)
          refine x_aload_n Ma.x dL_law_484 1 rfl ?_
          refine x_iload Ma.x dL_law_485 5 rfl ?_
          refine x_iconst Ma.x dL_law_487 ?_
          refine x_iadd Ma.x dL_law_488 ?_
          refine h_iald9 Ma.ga Th64 dL_law_489 e (fun v66 tv66 e => ?_)
          obtain ⟨mok9, mex9, w9, s9, e1, v67, r9, h68, i9, e⟩ := m_bind2 e
          refine m_callV2 Ma.b Th64 Oh64 [(0, v65), (0, v66)] [] [(0, v67)] rfl (fun mok n => S_clear (fd_mG Th64 mok) (sgm h64 v4) (tf_sgm Th64 mok) v65 v66 tv65 tv66 e1) mok9 mex9 (by decide) r9 i9 dL_law_490 q3500 q3501 q3502 q226 q3503 ck_X4_clear rfl rfl rfl rfl rfl (fun tv67 Th68 Oh68 => ?_)
          refine x_istore Ma.x (lv' := [(6, (0, v67)), (5, (0, v63)), (0, (2, p0_)), (1, (2, v1)), (2, (2, v4)), (3, (2, v7)), (4, (0, l4_9))]) dL_law_493 [0, 1, 2, 3, 4, 5] rfl rfl (by decide) ?_
          refine x_aload_n Ma.x dL_law_495 4 rfl ?_
          obtain ⟨mok9, mex9, w9, s9, e1, v69, r9, h70, i9, e⟩ := m_bind2 e
          obtain ⟨u9, e2, e3⟩ := bds e1
          cases e3
          have e1 := e2
          refine m_callV2 Ma.b Th68 Oh68 [] [] [(0, v69)] rfl (fun mok n => S_thrown (fd_mG Th68 mok) (sgm h68 v4) (tf_sgm Th68 mok) e1) mok9 mex9 (by decide) r9 i9 dL_law_496 q3161 q3162 q3163 q226 q3164 ck_X4_thrown rfl rfl rfl rfl rfl (fun tv69 Th70 Oh70 => ?_)
          refine x_iload Ma.x dL_law_499 1 rfl ?_
          refine x_icmp_eq Ma.x 506 dL_law_501 rfl tv69 tv63 e (fun e => ?_) (fun e => ?_)
          · refine x_iload Ma.x dL_law_506 1 rfl ?_
            refine x_if_ne Ma.x 523 dL_law_508 rfl tv63 e (fun e => ?_) (fun e => ?_)
            · refine x_aload_n Ma.x dL_law_511 5 rfl ?_
              refine x_iconst Ma.x dL_law_512 ?_
              refine h_lald Ma.ga Th70 dL_law_513 e (fun v71 tv71 e => ?_)
              refine x_iload Ma.x dL_law_514 0 rfl ?_
              refine x_i2l Ma.x dL_law_516 tv67 ?_
              refine x_lcmp Ma.x dL_law_517 ?_
              refine x_if_eq Ma.x 523 dL_law_518 rfl (cmp64_in _ _) e (fun e => ?_) (fun e => ?_)
              · refine x_goto Ma.x 2515 dL_law_523 rfl ?_
                exact x_drop [2, 3, 4, 5, 6] rfl (hj19 h70 e Th70 Oh70)
              · refine x_iconst Ma.x dL_law_521 ?_
                have e := lfl e hY12
                exact a_retz dL_law_522 (congrArg Prod.fst (Option.some.inj e)) (congrArg Prod.snd (Option.some.inj e)) Th70 litZ0
            · refine x_goto Ma.x 2515 dL_law_523 rfl ?_
              exact x_drop [2, 3, 4, 5, 6] rfl (hj19 h70 e Th70 Oh70)
          · refine x_iconst Ma.x dL_law_504 ?_
            have e := lfl e hY12
            exact a_retz dL_law_505 (congrArg Prod.fst (Option.some.inj e)) (congrArg Prod.snd (Option.some.inj e)) Th70 litZ0
        rw [if_neg q3] at e
        by_cases q4 : (and32 v15 63) = 4
        · rw [if_pos q4] at e
          refine x_tabK Ma.x dL_law_39 (and32_in _ _) q4 526 (by decide) rfl rfl ?_
          refine x_aload_n Ma.x dL_law_526 1 rfl ?_
          refine x_aload_n Ma.x dL_law_527 0 rfl ?_
          refine x_iload Ma.x dL_law_528 4 rfl ?_
          refine x_iconst Ma.x dL_law_530 ?_
          refine x_iadd Ma.x dL_law_531 ?_
          refine h_iald9 Ma.ga Th10 dL_law_532 e (fun v72 tv72 e => ?_)
          refine x_aload_n Ma.x dL_law_533 3 rfl ?_
          obtain ⟨⟨v73, h74⟩, e1, e⟩ := bds e
          refine w_callS Ma.b Th10 Oh10 [(2, v1), (0, v72), (2, v7)] [] [(0, v73)] (T_X0_save C hE hl9 h10 Th10 v1 v72 v7 tv1 tv72 tv7 e1) dL_law_534 q2211 q2212 q215 q2213 ck_X0_save rfl rfl rfl rfl rfl (fun tv73 Th74 Oh74 => ?_)
          refine x_istore Ma.x (lv' := [(5, (0, v73)), (0, (2, p0_)), (1, (2, v1)), (2, (2, v4)), (3, (2, v7)), (4, (0, l4_9))]) dL_law_537 [0, 1, 2, 3, 4] rfl rfl (by decide) ?_
          refine x_aload_n Ma.x dL_law_539 3 rfl ?_
          refine x_aload_n Ma.x dL_law_540 1 rfl ?_
          refine x_iload Ma.x dL_law_541 5 rfl ?_
          refine x_iconst Ma.x dL_law_543 ?_
          refine x_iadd Ma.x dL_law_544 ?_
          refine h_iald9 Ma.ga Th74 dL_law_545 e (fun v75 tv75 e => ?_)
          obtain ⟨mok9, mex9, w9, s9, e1, v76, r9, h77, i9, e⟩ := m_bind2 e
          refine m_callV2 Ma.b Th74 Oh74 [(0, v75)] [] [(0, v76)] rfl (fun mok n => S_save (fd_mG Th74 mok) (sgm h74 v4) (tf_sgm Th74 mok) v75 tv75 e1) mok9 mex9 (by decide) r9 i9 dL_law_546 q3504 q3505 q3506 q226 q3507 ck_X4_save rfl rfl rfl rfl rfl (fun tv76 Th77 Oh77 => ?_)
          refine x_istore Ma.x (lv' := [(6, (0, v76)), (5, (0, v73)), (0, (2, p0_)), (1, (2, v1)), (2, (2, v4)), (3, (2, v7)), (4, (0, l4_9))]) dL_law_549 [0, 1, 2, 3, 4, 5] rfl rfl (by decide) ?_
          refine x_aload_n Ma.x dL_law_551 4 rfl ?_
          obtain ⟨mok9, mex9, w9, s9, e1, v78, r9, h79, i9, e⟩ := m_bind2 e
          obtain ⟨u9, e2, e3⟩ := bds e1
          cases e3
          have e1 := e2
          refine m_callV2 Ma.b Th77 Oh77 [] [] [(0, v78)] rfl (fun mok n => S_thrown (fd_mG Th77 mok) (sgm h77 v4) (tf_sgm Th77 mok) e1) mok9 mex9 (by decide) r9 i9 dL_law_552 q3161 q3162 q3163 q226 q3164 ck_X4_thrown rfl rfl rfl rfl rfl (fun tv78 Th79 Oh79 => ?_)
          refine x_iload Ma.x dL_law_555 1 rfl ?_
          refine x_icmp_eq Ma.x 562 dL_law_557 rfl tv78 tv73 e (fun e => ?_) (fun e => ?_)
          · refine x_iload Ma.x dL_law_562 1 rfl ?_
            refine x_if_ne Ma.x 579 dL_law_564 rfl tv73 e (fun e => ?_) (fun e => ?_)
            · refine x_aload_n Ma.x dL_law_567 5 rfl ?_
              refine x_iconst Ma.x dL_law_568 ?_
              refine h_lald Ma.ga Th79 dL_law_569 e (fun v80 tv80 e => ?_)
              refine x_iload Ma.x dL_law_570 0 rfl ?_
              refine x_i2l Ma.x dL_law_572 tv76 ?_
              refine x_lcmp Ma.x dL_law_573 ?_
              refine x_if_eq Ma.x 579 dL_law_574 rfl (cmp64_in _ _) e (fun e => ?_) (fun e => ?_)
              · refine x_goto Ma.x 2515 dL_law_579 rfl ?_
                exact x_drop [2, 3, 4, 5, 6] rfl (hj19 h79 e Th79 Oh79)
              · refine x_iconst Ma.x dL_law_577 ?_
                have e := lfl e hY12
                exact a_retz dL_law_578 (congrArg Prod.fst (Option.some.inj e)) (congrArg Prod.snd (Option.some.inj e)) Th79 litZ0
            · refine x_goto Ma.x 2515 dL_law_579 rfl ?_
              exact x_drop [2, 3, 4, 5, 6] rfl (hj19 h79 e Th79 Oh79)
          · refine x_iconst Ma.x dL_law_560 ?_
            have e := lfl e hY12
            exact a_retz dL_law_561 (congrArg Prod.fst (Option.some.inj e)) (congrArg Prod.snd (Option.some.inj e)) Th79 litZ0
        rw [if_neg q4] at e
        by_cases q5 : (and32 v15 63) = 5
        · rw [if_pos q5] at e
          refine x_tabK Ma.x dL_law_39 (and32_in _ _) q5 582 (by decide) rfl rfl ?_
          refine x_aload_n Ma.x dL_law_582 1 rfl ?_
          refine x_aload_n Ma.x dL_law_583 0 rfl ?_
          refine x_iload Ma.x dL_law_584 4 rfl ?_
          refine x_iconst Ma.x dL_law_586 ?_
          refine x_iadd Ma.x dL_law_587 ?_
          refine h_iald9 Ma.ga Th10 dL_law_588 e (fun v81 tv81 e => ?_)
          refine x_aload_n Ma.x dL_law_589 3 rfl ?_
          obtain ⟨⟨v82, h83⟩, e1, e⟩ := bds e
          refine w_callS Ma.b Th10 Oh10 [(2, v1), (0, v81), (2, v7)] [] [(0, v82)] (T_X0_back C hE hl9 h10 Th10 v1 v81 v7 tv1 tv81 tv7 e1) dL_law_590 q2218 q2219 q215 q2220 ck_X0_back rfl rfl rfl rfl rfl (fun tv82 Th83 Oh83 => ?_)
          refine x_istore Ma.x (lv' := [(5, (0, v82)), (0, (2, p0_)), (1, (2, v1)), (2, (2, v4)), (3, (2, v7)), (4, (0, l4_9))]) dL_law_593 [0, 1, 2, 3, 4] rfl rfl (by decide) ?_
          refine x_aload_n Ma.x dL_law_595 3 rfl ?_
          refine x_aload_n Ma.x dL_law_596 1 rfl ?_
          refine x_iload Ma.x dL_law_597 5 rfl ?_
          refine x_iconst Ma.x dL_law_599 ?_
          refine x_iadd Ma.x dL_law_600 ?_
          refine h_iald9 Ma.ga Th83 dL_law_601 e (fun v84 tv84 e => ?_)
          obtain ⟨mok9, mex9, w9, s9, e1, v85, r9, h86, i9, e⟩ := m_bind2 e
          refine m_callV2 Ma.b Th83 Oh83 [(0, v84)] [] [(0, v85)] rfl (fun mok n => S_back (fd_mG Th83 mok) (sgm h83 v4) (tf_sgm Th83 mok) v84 tv84 e1) mok9 mex9 (by decide) r9 i9 dL_law_602 q3515 q3516 q3517 q226 q3518 ck_X4_back rfl rfl rfl rfl rfl (fun tv85 Th86 Oh86 => ?_)
          refine x_istore Ma.x (lv' := [(6, (0, v85)), (5, (0, v82)), (0, (2, p0_)), (1, (2, v1)), (2, (2, v4)), (3, (2, v7)), (4, (0, l4_9))]) dL_law_605 [0, 1, 2, 3, 4, 5] rfl rfl (by decide) ?_
          refine x_aload_n Ma.x dL_law_607 4 rfl ?_
          obtain ⟨mok9, mex9, w9, s9, e1, v87, r9, h88, i9, e⟩ := m_bind2 e
          obtain ⟨u9, e2, e3⟩ := bds e1
          cases e3
          have e1 := e2
          refine m_callV2 Ma.b Th86 Oh86 [] [] [(0, v87)] rfl (fun mok n => S_thrown (fd_mG Th86 mok) (sgm h86 v4) (tf_sgm Th86 mok) e1) mok9 mex9 (by decide) r9 i9 dL_law_608 q3161 q3162 q3163 q226 q3164 ck_X4_thrown rfl rfl rfl rfl rfl (fun tv87 Th88 Oh88 => ?_)
          refine x_iload Ma.x dL_law_611 1 rfl ?_
          refine x_icmp_eq Ma.x 618 dL_law_613 rfl tv87 tv82 e (fun e => ?_) (fun e => ?_)
          · refine x_iload Ma.x dL_law_618 1 rfl ?_
            refine x_if_ne Ma.x 635 dL_law_620 rfl tv82 e (fun e => ?_) (fun e => ?_)
            · refine x_aload_n Ma.x dL_law_623 5 rfl ?_
              refine x_iconst Ma.x dL_law_624 ?_
              refine h_lald Ma.ga Th88 dL_law_625 e (fun v89 tv89 e => ?_)
              refine x_iload Ma.x dL_law_626 0 rfl ?_
              refine x_i2l Ma.x dL_law_628 tv85 ?_
              refine x_lcmp Ma.x dL_law_629 ?_
              refine x_if_eq Ma.x 635 dL_law_630 rfl (cmp64_in _ _) e (fun e => ?_) (fun e => ?_)
              · refine x_goto Ma.x 2515 dL_law_635 rfl ?_
                exact x_drop [2, 3, 4, 5, 6] rfl (hj19 h88 e Th88 Oh88)
              · refine x_iconst Ma.x dL_law_633 ?_
                have e := lfl e hY12
                exact a_retz dL_law_634 (congrArg Prod.fst (Option.some.inj e)) (congrArg Prod.snd (Option.some.inj e)) Th88 litZ0
            · refine x_goto Ma.x 2515 dL_law_635 rfl ?_
              exact x_drop [2, 3, 4, 5, 6] rfl (hj19 h88 e Th88 Oh88)
          · refine x_iconst Ma.x dL_law_616 ?_
            have e := lfl e hY12
            exact a_retz dL_law_617 (congrArg Prod.fst (Option.some.inj e)) (congrArg Prod.snd (Option.some.inj e)) Th88 litZ0
        rw [if_neg q5] at e
        by_cases q6 : (and32 v15 63) = 6
        · rw [if_pos q6] at e
          refine x_tabK Ma.x dL_law_39 (and32_in _ _) q6 638 (by decide) rfl rfl ?_
          refine x_aload_n Ma.x dL_law_638 1 rfl ?_
          refine x_aload_n Ma.x dL_law_639 0 rfl ?_
          refine x_iload Ma.x dL_law_640 4 rfl ?_
          refine x_iconst Ma.x dL_law_642 ?_
          refine x_iadd Ma.x dL_law_643 ?_
          refine h_iald9 Ma.ga Th10 dL_law_644 e (fun v90 tv90 e => ?_)
          refine x_aload_n Ma.x dL_law_645 0 rfl ?_
          refine x_iload Ma.x dL_law_646 4 rfl ?_
          refine x_iconst Ma.x dL_law_648 ?_
          refine x_iadd Ma.x dL_law_649 ?_
          refine h_iald9 Ma.ga Th10 dL_law_650 e (fun v91 tv91 e => ?_)
          refine x_aload_n Ma.x dL_law_651 0 rfl ?_
          refine x_iload Ma.x dL_law_652 4 rfl ?_
          refine x_iconst Ma.x dL_law_654 ?_
          refine x_iadd Ma.x dL_law_655 ?_
          refine h_iald9 Ma.ga Th10 dL_law_656 e (fun v92 tv92 e => ?_)
          refine x_aload_n Ma.x dL_law_657 3 rfl ?_
          obtain ⟨⟨v93, h94⟩, e1, e⟩ := bds e
          refine w_callS Ma.b Th10 Oh10 [(2, v1), (0, v90), (0, v91), (0, v92), (2, v7)] [] [(0, v93)] (T_X0_charAt C hE hl9 h10 Th10 v1 v90 v91 v92 v7 tv1 tv90 tv91 tv92 tv7 e1) dL_law_658 q2225 q2226 q215 q2227 ck_X0_charAt rfl rfl rfl rfl rfl (fun tv93 Th94 Oh94 => ?_)
          refine x_istore Ma.x (lv' := [(5, (0, v93)), (0, (2, p0_)), (1, (2, v1)), (2, (2, v4)), (3, (2, v7)), (4, (0, l4_9))]) dL_law_661 [0, 1, 2, 3, 4] rfl rfl (by decide) ?_
          refine x_aload_n Ma.x dL_law_663 3 rfl ?_
          refine x_aload_n Ma.x dL_law_664 1 rfl ?_
          refine x_iload Ma.x dL_law_665 5 rfl ?_
          refine x_iconst Ma.x dL_law_667 ?_
          refine x_iadd Ma.x dL_law_668 ?_
          refine h_iald9 Ma.ga Th94 dL_law_669 e (fun v95 tv95 e => ?_)
          refine x_aload_n Ma.x dL_law_670 1 rfl ?_
          refine x_iload Ma.x dL_law_671 5 rfl ?_
          refine x_iconst Ma.x dL_law_673 ?_
          refine x_iadd Ma.x dL_law_674 ?_
          refine h_iald9 Ma.ga Th94 dL_law_675 e (fun v96 tv96 e => ?_)
          refine x_aload_n Ma.x dL_law_676 1 rfl ?_
          refine x_iload Ma.x dL_law_677 5 rfl ?_
          refine x_iconst Ma.x dL_law_679 ?_
          refine x_iadd Ma.x dL_law_680 ?_
          refine h_iald9 Ma.ga Th94 dL_law_681 e (fun v97 tv97 e => ?_)
          obtain ⟨mok9, mex9, w9, s9, e1, v98, r9, h99, i9, e⟩ := m_bind2 e
          refine m_callV2 Ma.b Th94 Oh94 [(0, v95), (0, v96), (0, v97)] [] [(0, v98)] rfl (fun mok n => S_charAt (fd_mG Th94 mok) (sgm h94 v4) (tf_sgm Th94 mok) v95 v96 v97 tv95 tv96 tv97 e1) mok9 mex9 (by decide) r9 i9 dL_law_682 q3519 q3520 q3521 q226 q3522 ck_X4_charAt rfl rfl rfl rfl rfl (fun tv98 Th99 Oh99 => ?_)
          refine x_istore Ma.x (lv' := [(6, (0, v98)), (5, (0, v93)), (0, (2, p0_)), (1, (2, v1)), (2, (2, v4)), (3, (2, v7)), (4, (0, l4_9))]) dL_law_685 [0, 1, 2, 3, 4, 5] rfl rfl (by decide) ?_
          refine x_aload_n Ma.x dL_law_687 4 rfl ?_
          obtain ⟨mok9, mex9, w9, s9, e1, v100, r9, h101, i9, e⟩ := m_bind2 e
          obtain ⟨u9, e2, e3⟩ := bds e1
          cases e3
          have e1 := e2
          refine m_callV2 Ma.b Th99 Oh99 [] [] [(0, v100)] rfl (fun mok n => S_thrown (fd_mG Th99 mok) (sgm h99 v4) (tf_sgm Th99 mok) e1) mok9 mex9 (by decide) r9 i9 dL_law_688 q3161 q3162 q3163 q226 q3164 ck_X4_thrown rfl rfl rfl rfl rfl (fun tv100 Th101 Oh101 => ?_)
          refine x_iload Ma.x dL_law_691 1 rfl ?_
          refine x_icmp_eq Ma.x 698 dL_law_693 rfl tv100 tv93 e (fun e => ?_) (fun e => ?_)
          · refine x_iload Ma.x dL_law_698 1 rfl ?_
            refine x_if_ne Ma.x 715 dL_law_700 rfl tv93 e (fun e => ?_) (fun e => ?_)
            · refine x_aload_n Ma.x dL_law_703 5 rfl ?_
              refine x_iconst Ma.x dL_law_704 ?_
              refine h_lald Ma.ga Th101 dL_law_705 e (fun v102 tv102 e => ?_)
              refine x_iload Ma.x dL_law_706 0 rfl ?_
              refine x_i2l Ma.x dL_law_708 tv98.c ?_
              refine x_lcmp Ma.x dL_law_709 ?_
              refine x_if_eq Ma.x 715 dL_law_710 rfl (cmp64_in _ _) e (fun e => ?_) (fun e => ?_)
              · refine x_goto Ma.x 2515 dL_law_715 rfl ?_
                exact x_drop [2, 3, 4, 5, 6] rfl (hj19 h101 e Th101 Oh101)
              · refine x_iconst Ma.x dL_law_713 ?_
                have e := lfl e hY12
                exact a_retz dL_law_714 (congrArg Prod.fst (Option.some.inj e)) (congrArg Prod.snd (Option.some.inj e)) Th101 litZ0
            · refine x_goto Ma.x 2515 dL_law_715 rfl ?_
              exact x_drop [2, 3, 4, 5, 6] rfl (hj19 h101 e Th101 Oh101)
          · refine x_iconst Ma.x dL_law_696 ?_
            have e := lfl e hY12
            exact a_retz dL_law_697 (congrArg Prod.fst (Option.some.inj e)) (congrArg Prod.snd (Option.some.inj e)) Th101 litZ0
        rw [if_neg q6] at e
        by_cases q7 : (and32 v15 63) = 7
        · rw [if_pos q7] at e
          refine x_tabK Ma.x dL_law_39 (and32_in _ _) q7 718 (by decide) rfl rfl ?_
          refine x_aload_n Ma.x dL_law_718 1 rfl ?_
          refine x_aload_n Ma.x dL_law_719 0 rfl ?_
          refine x_iload Ma.x dL_law_720 4 rfl ?_
          refine x_iconst Ma.x dL_law_722 ?_
          refine x_iadd Ma.x dL_law_723 ?_
          refine h_iald9 Ma.ga Th10 dL_law_724 e (fun v103 tv103 e => ?_)
          refine x_aload_n Ma.x dL_law_725 0 rfl ?_
          refine x_iload Ma.x dL_law_726 4 rfl ?_
          refine x_iconst Ma.x dL_law_728 ?_
          refine x_iadd Ma.x dL_law_729 ?_
          refine h_iald9 Ma.ga Th10 dL_law_730 e (fun v104 tv104 e => ?_)
          refine x_aload_n Ma.x dL_law_731 3 rfl ?_
          obtain ⟨⟨v105, h106⟩, e1, e⟩ := bds e
          refine w_callS Ma.b Th10 Oh10 [(2, v1), (0, v103), (0, v104), (2, v7)] [] [(0, v105)] (T_X0_length C hE hl9 h10 Th10 v1 v103 v104 v7 tv1 tv103 tv104 tv7 e1) dL_law_732 q2232 q2233 q215 q2234 ck_X0_length rfl rfl rfl rfl rfl (fun tv105 Th106 Oh106 => ?_)
          refine x_istore Ma.x (lv' := [(5, (0, v105)), (0, (2, p0_)), (1, (2, v1)), (2, (2, v4)), (3, (2, v7)), (4, (0, l4_9))]) dL_law_735 [0, 1, 2, 3, 4] rfl rfl (by decide) ?_
          refine x_aload_n Ma.x dL_law_737 3 rfl ?_
          refine x_aload_n Ma.x dL_law_738 1 rfl ?_
          refine x_iload Ma.x dL_law_739 5 rfl ?_
          refine x_iconst Ma.x dL_law_741 ?_
          refine x_iadd Ma.x dL_law_742 ?_
          refine h_iald9 Ma.ga Th106 dL_law_743 e (fun v107 tv107 e => ?_)
          refine x_aload_n Ma.x dL_law_744 1 rfl ?_
          refine x_iload Ma.x dL_law_745 5 rfl ?_
          refine x_iconst Ma.x dL_law_747 ?_
          refine x_iadd Ma.x dL_law_748 ?_
          refine h_iald9 Ma.ga Th106 dL_law_749 e (fun v108 tv108 e => ?_)
          obtain ⟨mok9, mex9, w9, s9, e1, v109, r9, h110, i9, e⟩ := m_bind2 e
          refine m_callV2 Ma.b Th106 Oh106 [(0, v107), (0, v108)] [] [(0, v109)] rfl (fun mok n => S_length (fd_mG Th106 mok) (sgm h106 v4) (tf_sgm Th106 mok) v107 v108 tv107 tv108 e1) mok9 mex9 (by decide) r9 i9 dL_law_750 q3527 q3528 q3529 q226 q3530 ck_X4_length rfl rfl rfl rfl rfl (fun tv109 Th110 Oh110 => ?_)
          refine x_istore Ma.x (lv' := [(6, (0, v109)), (5, (0, v105)), (0, (2, p0_)), (1, (2, v1)), (2, (2, v4)), (3, (2, v7)), (4, (0, l4_9))]) dL_law_753 [0, 1, 2, 3, 4, 5] rfl rfl (by decide) ?_
          refine x_aload_n Ma.x dL_law_755 4 rfl ?_
          obtain ⟨mok9, mex9, w9, s9, e1, v111, r9, h112, i9, e⟩ := m_bind2 e
          obtain ⟨u9, e2, e3⟩ := bds e1
          cases e3
          have e1 := e2
          refine m_callV2 Ma.b Th110 Oh110 [] [] [(0, v111)] rfl (fun mok n => S_thrown (fd_mG Th110 mok) (sgm h110 v4) (tf_sgm Th110 mok) e1) mok9 mex9 (by decide) r9 i9 dL_law_756 q3161 q3162 q3163 q226 q3164 ck_X4_thrown rfl rfl rfl rfl rfl (fun tv111 Th112 Oh112 => ?_)
          refine x_iload Ma.x dL_law_759 1 rfl ?_
          refine x_icmp_eq Ma.x 766 dL_law_761 rfl tv111 tv105 e (fun e => ?_) (fun e => ?_)
          · refine x_iload Ma.x dL_law_766 1 rfl ?_
            refine x_if_ne Ma.x 783 dL_law_768 rfl tv105 e (fun e => ?_) (fun e => ?_)
            · refine x_aload_n Ma.x dL_law_771 5 rfl ?_
              refine x_iconst Ma.x dL_law_772 ?_
              refine h_lald Ma.ga Th112 dL_law_773 e (fun v113 tv113 e => ?_)
              refine x_iload Ma.x dL_law_774 0 rfl ?_
              refine x_i2l Ma.x dL_law_776 tv109 ?_
              refine x_lcmp Ma.x dL_law_777 ?_
              refine x_if_eq Ma.x 783 dL_law_778 rfl (cmp64_in _ _) e (fun e => ?_) (fun e => ?_)
              · refine x_goto Ma.x 2515 dL_law_783 rfl ?_
                exact x_drop [2, 3, 4, 5, 6] rfl (hj19 h112 e Th112 Oh112)
              · refine x_iconst Ma.x dL_law_781 ?_
                have e := lfl e hY12
                exact a_retz dL_law_782 (congrArg Prod.fst (Option.some.inj e)) (congrArg Prod.snd (Option.some.inj e)) Th112 litZ0
            · refine x_goto Ma.x 2515 dL_law_783 rfl ?_
              exact x_drop [2, 3, 4, 5, 6] rfl (hj19 h112 e Th112 Oh112)
          · refine x_iconst Ma.x dL_law_764 ?_
            have e := lfl e hY12
            exact a_retz dL_law_765 (congrArg Prod.fst (Option.some.inj e)) (congrArg Prod.snd (Option.some.inj e)) Th112 litZ0
        rw [if_neg q7] at e
        by_cases q8 : (and32 v15 63) = 8
        · rw [if_pos q8] at e
          refine x_tabK Ma.x dL_law_39 (and32_in _ _) q8 786 (by decide) rfl rfl ?_
          refine x_aload_n Ma.x dL_law_786 1 rfl ?_
          obtain ⟨q114, e⟩ := bds1 e
          obtain ⟨v115, e1, e⟩ := bds e
          refine a_callV Ma.b Th10 Oh10 [] [] [(0, v115)] (T_X1_relexed C hE h10 Th10 v1 tv1 (tgc_s q114) e1) (tgc_s q114) ⟨by decide, by decide, _, rfl, rfl⟩ dL_law_787 q508 q509 q510 q216 q511 ck_X1_relexed rfl rfl rfl rfl rfl (fun tv115 _ _ => ?_)
          refine x_aload_n Ma.x dL_law_790 2 rfl ?_
          obtain ⟨mok9, mex9, w9, s9, e1, v116, r9, h117, i9, e⟩ := m_bind2 e
          refine m_callV2 Ma.b Th10 Oh10 [] [(0, v115)] [(0, v116), (0, v115)] rfl (fun mok n => S_relexed (fd_mG Th10 mok) (sgm h10 v4) (tf_sgm Th10 mok) e1) mok9 mex9 (by decide) r9 i9 dL_law_791 q3531 q3532 q3533 q226 q3534 ck_X4_relexed rfl rfl rfl rfl rfl (fun tv116 Th117 Oh117 => ?_)
          refine x_icmp_eq Ma.x 2515 dL_law_794 rfl tv115 tv116 e (fun e => ?_) (fun e => ?_)
          · exact x_drop [0, 1, 2, 3, 4] rfl (hj19 h117 e Th117 Oh117)
          · refine x_iconst Ma.x dL_law_797 ?_
            have e := lfl e hY12
            exact a_retz dL_law_798 (congrArg Prod.fst (Option.some.inj e)) (congrArg Prod.snd (Option.some.inj e)) Th117 litZ0
        rw [if_neg q8] at e
        by_cases q9 : (and32 v15 63) = 9
        · rw [if_pos q9] at e
          refine x_tabK Ma.x dL_law_39 (and32_in _ _) q9 799 (by decide) rfl rfl ?_
          refine x_aload_n Ma.x dL_law_799 1 rfl ?_
          refine x_aload_n Ma.x dL_law_800 0 rfl ?_
          refine x_iload Ma.x dL_law_801 4 rfl ?_
          refine x_iconst Ma.x dL_law_803 ?_
          refine x_iadd Ma.x dL_law_804 ?_
          refine h_iald9 Ma.ga Th10 dL_law_805 e (fun v118 tv118 e => ?_)
          refine x_aload_n Ma.x dL_law_806 3 rfl ?_
          obtain ⟨⟨v119, h120⟩, e1, e⟩ := bds e
          refine w_callS Ma.b Th10 Oh10 [(2, v1), (0, v118), (2, v7)] [] [(0, v119)] (T_X0_tokens C hE hl9 h10 Th10 v1 v118 v7 tv1 tv118 tv7 e1) dL_law_807 q2239 q2240 q215 q2241 ck_X0_tokens rfl rfl rfl rfl rfl (fun tv119 Th120 Oh120 => ?_)
          refine x_istore Ma.x (lv' := [(5, (0, v119)), (0, (2, p0_)), (1, (2, v1)), (2, (2, v4)), (3, (2, v7)), (4, (0, l4_9))]) dL_law_810 [0, 1, 2, 3, 4] rfl rfl (by decide) ?_
          refine x_aload_n Ma.x dL_law_812 3 rfl ?_
          refine x_aload_n Ma.x dL_law_813 1 rfl ?_
          refine x_iload Ma.x dL_law_814 5 rfl ?_
          refine x_iconst Ma.x dL_law_816 ?_
          refine x_iadd Ma.x dL_law_817 ?_
          refine h_iald9 Ma.ga Th120 dL_law_818 e (fun v121 tv121 e => ?_)
          obtain ⟨mok9, mex9, w9, s9, e1, v122, r9, h123, i9, e⟩ := m_bind2 e
          refine m_callV2 Ma.b Th120 Oh120 [(0, v121)] [] [(0, v122)] rfl (fun mok n => S_tokens (fd_mG Th120 mok) (sgm h120 v4) (tf_sgm Th120 mok) v121 tv121 e1) mok9 mex9 (by decide) r9 i9 dL_law_819 q3535 q3536 q3537 q226 q3538 ck_X4_tokens rfl rfl rfl rfl rfl (fun tv122 Th123 Oh123 => ?_)
          refine x_istore Ma.x (lv' := [(6, (0, v122)), (5, (0, v119)), (0, (2, p0_)), (1, (2, v1)), (2, (2, v4)), (3, (2, v7)), (4, (0, l4_9))]) dL_law_822 [0, 1, 2, 3, 4, 5] rfl rfl (by decide) ?_
          refine x_aload_n Ma.x dL_law_824 4 rfl ?_
          obtain ⟨mok9, mex9, w9, s9, e1, v124, r9, h125, i9, e⟩ := m_bind2 e
          obtain ⟨u9, e2, e3⟩ := bds e1
          cases e3
          have e1 := e2
          refine m_callV2 Ma.b Th123 Oh123 [] [] [(0, v124)] rfl (fun mok n => S_thrown (fd_mG Th123 mok) (sgm h123 v4) (tf_sgm Th123 mok) e1) mok9 mex9 (by decide) r9 i9 dL_law_825 q3161 q3162 q3163 q226 q3164 ck_X4_thrown rfl rfl rfl rfl rfl (fun tv124 Th125 Oh125 => ?_)
          refine x_iload Ma.x dL_law_828 1 rfl ?_
          refine x_icmp_eq Ma.x 835 dL_law_830 rfl tv124 tv119 e (fun e => ?_) (fun e => ?_)
          · refine x_iload Ma.x dL_law_835 1 rfl ?_
            refine x_if_ne Ma.x 852 dL_law_837 rfl tv119 e (fun e => ?_) (fun e => ?_)
            · refine x_aload_n Ma.x dL_law_840 5 rfl ?_
              refine x_iconst Ma.x dL_law_841 ?_
              refine h_lald Ma.ga Th125 dL_law_842 e (fun v126 tv126 e => ?_)
              refine x_iload Ma.x dL_law_843 0 rfl ?_
              refine x_i2l Ma.x dL_law_845 tv122 ?_
              refine x_lcmp Ma.x dL_law_846 ?_
              refine x_if_eq Ma.x 852 dL_law_847 rfl (cmp64_in _ _) e (fun e => ?_) (fun e => ?_)
              · refine x_goto Ma.x 2515 dL_law_852 rfl ?_
                exact x_drop [2, 3, 4, 5, 6] rfl (hj19 h125 e Th125 Oh125)
              · refine x_iconst Ma.x dL_law_850 ?_
                have e := lfl e hY12
                exact a_retz dL_law_851 (congrArg Prod.fst (Option.some.inj e)) (congrArg Prod.snd (Option.some.inj e)) Th125 litZ0
            · refine x_goto Ma.x 2515 dL_law_852 rfl ?_
              exact x_drop [2, 3, 4, 5, 6] rfl (hj19 h125 e Th125 Oh125)
          · refine x_iconst Ma.x dL_law_833 ?_
            have e := lfl e hY12
            exact a_retz dL_law_834 (congrArg Prod.fst (Option.some.inj e)) (congrArg Prod.snd (Option.some.inj e)) Th125 litZ0
        rw [if_neg q9] at e
        by_cases q10 : (and32 v15 63) = 10
        · rw [if_pos q10] at e
          refine x_tabK Ma.x dL_law_39 (and32_in _ _) q10 855 (by decide) rfl rfl ?_
          refine x_aload_n Ma.x dL_law_855 1 rfl ?_
          refine x_aload_n Ma.x dL_law_856 0 rfl ?_
          refine x_iload Ma.x dL_law_857 4 rfl ?_
          refine x_iconst Ma.x dL_law_859 ?_
          refine x_iadd Ma.x dL_law_860 ?_
          refine h_iald9 Ma.ga Th10 dL_law_861 e (fun v127 tv127 e => ?_)
          refine x_aload_n Ma.x dL_law_862 0 rfl ?_
          refine x_iload Ma.x dL_law_863 4 rfl ?_
          refine x_iconst Ma.x dL_law_865 ?_
          refine x_iadd Ma.x dL_law_866 ?_
          refine h_iald9 Ma.ga Th10 dL_law_867 e (fun v128 tv128 e => ?_)
          refine x_aload_n Ma.x dL_law_868 3 rfl ?_
          obtain ⟨⟨v129, h130⟩, e1, e⟩ := bds e
          refine w_callS Ma.b Th10 Oh10 [(2, v1), (0, v127), (0, v128), (2, v7)] [] [(0, v129)] (T_X0_token C hE hl9 h10 Th10 v1 v127 v128 v7 tv1 tv127 tv128 tv7 e1) dL_law_869 q2246 q2247 q215 q2248 ck_X0_token rfl rfl rfl rfl rfl (fun tv129 Th130 Oh130 => ?_)
          refine x_istore Ma.x (lv' := [(5, (0, v129)), (0, (2, p0_)), (1, (2, v1)), (2, (2, v4)), (3, (2, v7)), (4, (0, l4_9))]) dL_law_872 [0, 1, 2, 3, 4] rfl rfl (by decide) ?_
          refine x_aload_n Ma.x dL_law_874 3 rfl ?_
          refine x_aload_n Ma.x dL_law_875 1 rfl ?_
          refine x_iload Ma.x dL_law_876 5 rfl ?_
          refine x_iconst Ma.x dL_law_878 ?_
          refine x_iadd Ma.x dL_law_879 ?_
          refine h_iald9 Ma.ga Th130 dL_law_880 e (fun v131 tv131 e => ?_)
          refine x_aload_n Ma.x dL_law_881 1 rfl ?_
          refine x_iload Ma.x dL_law_882 5 rfl ?_
          refine x_iconst Ma.x dL_law_884 ?_
          refine x_iadd Ma.x dL_law_885 ?_
          refine h_iald9 Ma.ga Th130 dL_law_886 e (fun v132 tv132 e => ?_)
          obtain ⟨mok9, mex9, w9, s9, e1, v133, r9, h134, i9, e⟩ := m_bind2 e
          refine m_callV2 Ma.b Th130 Oh130 [(0, v131), (0, v132)] [] [(0, v133)] rfl (fun mok n => S_token (fd_mG Th130 mok) (sgm h130 v4) (tf_sgm Th130 mok) v131 v132 tv131 tv132 e1) mok9 mex9 (by decide) r9 i9 dL_law_887 q3543 q3544 q3545 q226 q3546 ck_X4_token rfl rfl rfl rfl rfl (fun tv133 Th134 Oh134 => ?_)
          refine x_istore Ma.x (lv' := [(6, (0, v133)), (5, (0, v129)), (0, (2, p0_)), (1, (2, v1)), (2, (2, v4)), (3, (2, v7)), (4, (0, l4_9))]) dL_law_890 [0, 1, 2, 3, 4, 5] rfl rfl (by decide) ?_
          refine x_aload_n Ma.x dL_law_892 4 rfl ?_
          obtain ⟨mok9, mex9, w9, s9, e1, v135, r9, h136, i9, e⟩ := m_bind2 e
          obtain ⟨u9, e2, e3⟩ := bds e1
          cases e3
          have e1 := e2
          refine m_callV2 Ma.b Th134 Oh134 [] [] [(0, v135)] rfl (fun mok n => S_thrown (fd_mG Th134 mok) (sgm h134 v4) (tf_sgm Th134 mok) e1) mok9 mex9 (by decide) r9 i9 dL_law_893 q3161 q3162 q3163 q226 q3164 ck_X4_thrown rfl rfl rfl rfl rfl (fun tv135 Th136 Oh136 => ?_)
          refine x_iload Ma.x dL_law_896 1 rfl ?_
          refine x_icmp_eq Ma.x 903 dL_law_898 rfl tv135 tv129 e (fun e => ?_) (fun e => ?_)
          · refine x_iload Ma.x dL_law_903 1 rfl ?_
            refine x_if_ne Ma.x 920 dL_law_905 rfl tv129 e (fun e => ?_) (fun e => ?_)
            · refine x_aload_n Ma.x dL_law_908 5 rfl ?_
              refine x_iconst Ma.x dL_law_909 ?_
              refine h_lald Ma.ga Th136 dL_law_910 e (fun v137 tv137 e => ?_)
              refine x_iload Ma.x dL_law_911 0 rfl ?_
              refine x_i2l Ma.x dL_law_913 tv133 ?_
              refine x_lcmp Ma.x dL_law_914 ?_
              refine x_if_eq Ma.x 920 dL_law_915 rfl (cmp64_in _ _) e (fun e => ?_) (fun e => ?_)
              · refine x_goto Ma.x 2515 dL_law_920 rfl ?_
                exact x_drop [2, 3, 4, 5, 6] rfl (hj19 h136 e Th136 Oh136)
              · refine x_iconst Ma.x dL_law_918 ?_
                have e := lfl e hY12
                exact a_retz dL_law_919 (congrArg Prod.fst (Option.some.inj e)) (congrArg Prod.snd (Option.some.inj e)) Th136 litZ0
            · refine x_goto Ma.x 2515 dL_law_920 rfl ?_
              exact x_drop [2, 3, 4, 5, 6] rfl (hj19 h136 e Th136 Oh136)
          · refine x_iconst Ma.x dL_law_901 ?_
            have e := lfl e hY12
            exact a_retz dL_law_902 (congrArg Prod.fst (Option.some.inj e)) (congrArg Prod.snd (Option.some.inj e)) Th136 litZ0
        rw [if_neg q10] at e
        by_cases q11 : (and32 v15 63) = 11
        · rw [if_pos q11] at e
          refine x_tabK Ma.x dL_law_39 (and32_in _ _) q11 923 (by decide) rfl rfl ?_
          refine x_aload_n Ma.x dL_law_923 1 rfl ?_
          refine x_aload_n Ma.x dL_law_924 0 rfl ?_
          refine x_iload Ma.x dL_law_925 4 rfl ?_
          refine x_iconst Ma.x dL_law_927 ?_
          refine x_iadd Ma.x dL_law_928 ?_
          refine h_iald9 Ma.ga Th10 dL_law_929 e (fun v138 tv138 e => ?_)
          refine x_aload_n Ma.x dL_law_930 0 rfl ?_
          refine x_iload Ma.x dL_law_931 4 rfl ?_
          refine x_iconst Ma.x dL_law_933 ?_
          refine x_iadd Ma.x dL_law_934 ?_
          refine h_iald9 Ma.ga Th10 dL_law_935 e (fun v139 tv139 e => ?_)
          refine x_aload_n Ma.x dL_law_936 3 rfl ?_
          obtain ⟨⟨v140, h141⟩, e1, e⟩ := bds e
          refine w_callS Ma.b Th10 Oh10 [(2, v1), (0, v138), (0, v139), (2, v7)] [] [(0, v140)] (T_X0_tokenAnew C hE hl9 h10 Th10 v1 v138 v139 v7 tv1 tv138 tv139 tv7 e1) dL_law_937 q2260 q2261 q215 q2262 ck_X0_tokenAnew rfl rfl rfl rfl rfl (fun tv140 Th141 Oh141 => ?_)
          refine x_istore Ma.x (lv' := [(5, (0, v140)), (0, (2, p0_)), (1, (2, v1)), (2, (2, v4)), (3, (2, v7)), (4, (0, l4_9))]) dL_law_940 [0, 1, 2, 3, 4] rfl rfl (by decide) ?_
          refine x_aload_n Ma.x dL_law_942 3 rfl ?_
          refine x_aload_n Ma.x dL_law_943 1 rfl ?_
          refine x_iload Ma.x dL_law_944 5 rfl ?_
          refine x_iconst Ma.x dL_law_946 ?_
          refine x_iadd Ma.x dL_law_947 ?_
          refine h_iald9 Ma.ga Th141 dL_law_948 e (fun v142 tv142 e => ?_)
          refine x_aload_n Ma.x dL_law_949 1 rfl ?_
          refine x_iload Ma.x dL_law_950 5 rfl ?_
          refine x_iconst Ma.x dL_law_952 ?_
          refine x_iadd Ma.x dL_law_953 ?_
          refine h_iald9 Ma.ga Th141 dL_law_954 e (fun v143 tv143 e => ?_)
          obtain ⟨mok9, mex9, w9, s9, e1, v144, r9, h145, i9, e⟩ := m_bind2 e
          refine m_callV2 Ma.b Th141 Oh141 [(0, v142), (0, v143)] [] [(0, v144)] rfl (fun mok n => S_tokenAnew (fd_mG Th141 mok) (sgm h141 v4) (tf_sgm Th141 mok) v142 v143 tv142 tv143 e1) mok9 mex9 (by decide) r9 i9 dL_law_955 q3551 q3552 q3553 q226 q3554 ck_X4_tokenAnew rfl rfl rfl rfl rfl (fun tv144 Th145 Oh145 => ?_)
          refine x_istore Ma.x (lv' := [(6, (0, v144)), (5, (0, v140)), (0, (2, p0_)), (1, (2, v1)), (2, (2, v4)), (3, (2, v7)), (4, (0, l4_9))]) dL_law_958 [0, 1, 2, 3, 4, 5] rfl rfl (by decide) ?_
          refine x_aload_n Ma.x dL_law_960 4 rfl ?_
          obtain ⟨mok9, mex9, w9, s9, e1, v146, r9, h147, i9, e⟩ := m_bind2 e
          obtain ⟨u9, e2, e3⟩ := bds e1
          cases e3
          have e1 := e2
          refine m_callV2 Ma.b Th145 Oh145 [] [] [(0, v146)] rfl (fun mok n => S_thrown (fd_mG Th145 mok) (sgm h145 v4) (tf_sgm Th145 mok) e1) mok9 mex9 (by decide) r9 i9 dL_law_961 q3161 q3162 q3163 q226 q3164 ck_X4_thrown rfl rfl rfl rfl rfl (fun tv146 Th147 Oh147 => ?_)
          refine x_iload Ma.x dL_law_964 1 rfl ?_
          refine x_icmp_eq Ma.x 971 dL_law_966 rfl tv146 tv140 e (fun e => ?_) (fun e => ?_)
          · refine x_iload Ma.x dL_law_971 1 rfl ?_
            refine x_if_ne Ma.x 988 dL_law_973 rfl tv140 e (fun e => ?_) (fun e => ?_)
            · refine x_aload_n Ma.x dL_law_976 5 rfl ?_
              refine x_iconst Ma.x dL_law_977 ?_
              refine h_lald Ma.ga Th147 dL_law_978 e (fun v148 tv148 e => ?_)
              refine x_iload Ma.x dL_law_979 0 rfl ?_
              refine x_i2l Ma.x dL_law_981 tv144 ?_
              refine x_lcmp Ma.x dL_law_982 ?_
              refine x_if_eq Ma.x 988 dL_law_983 rfl (cmp64_in _ _) e (fun e => ?_) (fun e => ?_)
              · refine x_goto Ma.x 2515 dL_law_988 rfl ?_
                exact x_drop [2, 3, 4, 5, 6] rfl (hj19 h147 e Th147 Oh147)
              · refine x_iconst Ma.x dL_law_986 ?_
                have e := lfl e hY12
                exact a_retz dL_law_987 (congrArg Prod.fst (Option.some.inj e)) (congrArg Prod.snd (Option.some.inj e)) Th147 litZ0
            · refine x_goto Ma.x 2515 dL_law_988 rfl ?_
              exact x_drop [2, 3, 4, 5, 6] rfl (hj19 h147 e Th147 Oh147)
          · refine x_iconst Ma.x dL_law_969 ?_
            have e := lfl e hY12
            exact a_retz dL_law_970 (congrArg Prod.fst (Option.some.inj e)) (congrArg Prod.snd (Option.some.inj e)) Th147 litZ0
        rw [if_neg q11] at e
        by_cases q12 : (and32 v15 63) = 12
        · rw [if_pos q12] at e
          refine x_tabK Ma.x dL_law_39 (and32_in _ _) q12 991 (by decide) rfl rfl ?_
          refine x_aload_n Ma.x dL_law_991 1 rfl ?_
          refine x_aload_n Ma.x dL_law_992 0 rfl ?_
          refine x_iload Ma.x dL_law_993 4 rfl ?_
          refine x_iconst Ma.x dL_law_995 ?_
          refine x_iadd Ma.x dL_law_996 ?_
          refine h_iald9 Ma.ga Th10 dL_law_997 e (fun v149 tv149 e => ?_)
          refine x_aload_n Ma.x dL_law_998 0 rfl ?_
          refine x_iload Ma.x dL_law_999 4 rfl ?_
          refine x_iconst Ma.x dL_law_1001 ?_
          refine x_iadd Ma.x dL_law_1002 ?_
          refine h_iald9 Ma.ga Th10 dL_law_1003 e (fun v150 tv150 e => ?_)
          refine x_aload_n Ma.x dL_law_1004 0 rfl ?_
          refine x_iload Ma.x dL_law_1005 4 rfl ?_
          refine x_iconst Ma.x dL_law_1007 ?_
          refine x_iadd Ma.x dL_law_1008 ?_
          refine h_iald9 Ma.ga Th10 dL_law_1009 e (fun v151 tv151 e => ?_)
          refine x_aload_n Ma.x dL_law_1010 3 rfl ?_
          obtain ⟨⟨v152, h153⟩, e1, e⟩ := bds e
          refine w_callS Ma.b Th10 Oh10 [(2, v1), (0, v149), (0, v150), (0, v151), (2, v7)] [] [(0, v152)] (T_X0_colour C hE hl9 h10 Th10 v1 v149 v150 v151 v7 tv1 tv149 tv150 tv151 tv7 e1) dL_law_1011 q2273 q2274 q215 q2275 ck_X0_colour rfl rfl rfl rfl rfl (fun tv152 Th153 Oh153 => ?_)
          refine x_istore Ma.x (lv' := [(5, (0, v152)), (0, (2, p0_)), (1, (2, v1)), (2, (2, v4)), (3, (2, v7)), (4, (0, l4_9))]) dL_law_1014 [0, 1, 2, 3, 4] rfl rfl (by decide) ?_
          refine x_aload_n Ma.x dL_law_1016 3 rfl ?_
          refine x_aload_n Ma.x dL_law_1017 1 rfl ?_
          refine x_iload Ma.x dL_law_1018 5 rfl ?_
          refine x_iconst Ma.x dL_law_1020 ?_
          refine x_iadd Ma.x dL_law_1021 ?_
          refine h_iald9 Ma.ga Th153 dL_law_1022 e (fun v154 tv154 e => ?_)
          refine x_aload_n Ma.x dL_law_1023 1 rfl ?_
          refine x_iload Ma.x dL_law_1024 5 rfl ?_
          refine x_iconst Ma.x dL_law_1026 ?_
          refine x_iadd Ma.x dL_law_1027 ?_
          refine h_iald9 Ma.ga Th153 dL_law_1028 e (fun v155 tv155 e => ?_)
          refine x_aload_n Ma.x dL_law_1029 1 rfl ?_
          refine x_iload Ma.x dL_law_1030 5 rfl ?_
          refine x_iconst Ma.x dL_law_1032 ?_
          refine x_iadd Ma.x dL_law_1033 ?_
          refine h_iald9 Ma.ga Th153 dL_law_1034 e (fun v156 tv156 e => ?_)
          obtain ⟨mok9, mex9, w9, s9, e1, v157, r9, h158, i9, e⟩ := m_bind2 e
          refine m_callV2 Ma.b Th153 Oh153 [(0, v154), (0, v155), (0, v156)] [] [(0, v157)] rfl (fun mok n => S_colour (fd_mG Th153 mok) (sgm h153 v4) (tf_sgm Th153 mok) v154 v155 v156 tv154 tv155 tv156 e1) mok9 mex9 (by decide) r9 i9 dL_law_1035 q3556 q3557 q3558 q226 q3559 ck_X4_colour rfl rfl rfl rfl rfl (fun tv157 Th158 Oh158 => ?_)
          refine x_istore Ma.x (lv' := [(6, (0, v157)), (5, (0, v152)), (0, (2, p0_)), (1, (2, v1)), (2, (2, v4)), (3, (2, v7)), (4, (0, l4_9))]) dL_law_1038 [0, 1, 2, 3, 4, 5] rfl rfl (by decide) ?_
          refine x_aload_n Ma.x dL_law_1040 4 rfl ?_
          obtain ⟨mok9, mex9, w9, s9, e1, v159, r9, h160, i9, e⟩ := m_bind2 e
          obtain ⟨u9, e2, e3⟩ := bds e1
          cases e3
          have e1 := e2
          refine m_callV2 Ma.b Th158 Oh158 [] [] [(0, v159)] rfl (fun mok n => S_thrown (fd_mG Th158 mok) (sgm h158 v4) (tf_sgm Th158 mok) e1) mok9 mex9 (by decide) r9 i9 dL_law_1041 q3161 q3162 q3163 q226 q3164 ck_X4_thrown rfl rfl rfl rfl rfl (fun tv159 Th160 Oh160 => ?_)
          refine x_iload Ma.x dL_law_1044 1 rfl ?_
          refine x_icmp_eq Ma.x 1051 dL_law_1046 rfl tv159 tv152 e (fun e => ?_) (fun e => ?_)
          · refine x_iload Ma.x dL_law_1051 1 rfl ?_
            refine x_if_ne Ma.x 1068 dL_law_1053 rfl tv152 e (fun e => ?_) (fun e => ?_)
            · refine x_aload_n Ma.x dL_law_1056 5 rfl ?_
              refine x_iconst Ma.x dL_law_1057 ?_
              refine h_lald Ma.ga Th160 dL_law_1058 e (fun v161 tv161 e => ?_)
              refine x_iload Ma.x dL_law_1059 0 rfl ?_
              refine x_i2l Ma.x dL_law_1061 tv157 ?_
              refine x_lcmp Ma.x dL_law_1062 ?_
              refine x_if_eq Ma.x 1068 dL_law_1063 rfl (cmp64_in _ _) e (fun e => ?_) (fun e => ?_)
              · refine x_goto Ma.x 2515 dL_law_1068 rfl ?_
                exact x_drop [2, 3, 4, 5, 6] rfl (hj19 h160 e Th160 Oh160)
              · refine x_iconst Ma.x dL_law_1066 ?_
                have e := lfl e hY12
                exact a_retz dL_law_1067 (congrArg Prod.fst (Option.some.inj e)) (congrArg Prod.snd (Option.some.inj e)) Th160 litZ0
            · refine x_goto Ma.x 2515 dL_law_1068 rfl ?_
              exact x_drop [2, 3, 4, 5, 6] rfl (hj19 h160 e Th160 Oh160)
          · refine x_iconst Ma.x dL_law_1049 ?_
            have e := lfl e hY12
            exact a_retz dL_law_1050 (congrArg Prod.fst (Option.some.inj e)) (congrArg Prod.snd (Option.some.inj e)) Th160 litZ0
        rw [if_neg q12] at e
        by_cases q13 : (and32 v15 63) = 13
        · rw [if_pos q13] at e
          refine x_tabK Ma.x dL_law_39 (and32_in _ _) q13 1071 (by decide) rfl rfl ?_
          refine x_aload_n Ma.x dL_law_1071 1 rfl ?_
          refine x_aload_n Ma.x dL_law_1072 0 rfl ?_
          refine x_iload Ma.x dL_law_1073 4 rfl ?_
          refine x_iconst Ma.x dL_law_1075 ?_
          refine x_iadd Ma.x dL_law_1076 ?_
          refine h_iald9 Ma.ga Th10 dL_law_1077 e (fun v162 tv162 e => ?_)
          refine x_aload_n Ma.x dL_law_1078 0 rfl ?_
          refine x_iload Ma.x dL_law_1079 4 rfl ?_
          refine x_iconst Ma.x dL_law_1081 ?_
          refine x_iadd Ma.x dL_law_1082 ?_
          refine h_iald9 Ma.ga Th10 dL_law_1083 e (fun v163 tv163 e => ?_)
          refine x_aload_n Ma.x dL_law_1084 3 rfl ?_
          obtain ⟨⟨v164, h165⟩, e1, e⟩ := bds e
          refine w_callS Ma.b Th10 Oh10 [(2, v1), (0, v162), (0, v163), (2, v7)] [] [(0, v164)] (T_X0_partner C hE hl9 h10 Th10 v1 v162 v163 v7 tv1 tv162 tv163 tv7 e1) dL_law_1085 q2281 q2282 q215 q2283 ck_X0_partner rfl rfl rfl rfl rfl (fun tv164 Th165 Oh165 => ?_)
          refine x_istore Ma.x (lv' := [(5, (0, v164)), (0, (2, p0_)), (1, (2, v1)), (2, (2, v4)), (3, (2, v7)), (4, (0, l4_9))]) dL_law_1088 [0, 1, 2, 3, 4] rfl rfl (by decide) ?_
          refine x_aload_n Ma.x dL_law_1090 3 rfl ?_
          refine x_aload_n Ma.x dL_law_1091 1 rfl ?_
          refine x_iload Ma.x dL_law_1092 5 rfl ?_
          refine x_iconst Ma.x dL_law_1094 ?_
          refine x_iadd Ma.x dL_law_1095 ?_
          refine h_iald9 Ma.ga Th165 dL_law_1096 e (fun v166 tv166 e => ?_)
          refine x_aload_n Ma.x dL_law_1097 1 rfl ?_
          refine x_iload Ma.x dL_law_1098 5 rfl ?_
          refine x_iconst Ma.x dL_law_1100 ?_
          refine x_iadd Ma.x dL_law_1101 ?_
          refine h_iald9 Ma.ga Th165 dL_law_1102 e (fun v167 tv167 e => ?_)
          obtain ⟨mok9, mex9, w9, s9, e1, v168, r9, h169, i9, e⟩ := m_bind2 e
          refine m_callV2 Ma.b Th165 Oh165 [(0, v166), (0, v167)] [] [(0, v168)] rfl (fun mok n => S_partner (fd_mG Th165 mok) (sgm h165 v4) (tf_sgm Th165 mok) v166 v167 tv166 tv167 e1) mok9 mex9 (by decide) r9 i9 dL_law_1103 q3572 q3573 q3574 q226 q3575 ck_X4_partner rfl rfl rfl rfl rfl (fun tv168 Th169 Oh169 => ?_)
          refine x_istore Ma.x (lv' := [(6, (0, v168)), (5, (0, v164)), (0, (2, p0_)), (1, (2, v1)), (2, (2, v4)), (3, (2, v7)), (4, (0, l4_9))]) dL_law_1106 [0, 1, 2, 3, 4, 5] rfl rfl (by decide) ?_
          refine x_aload_n Ma.x dL_law_1108 4 rfl ?_
          obtain ⟨mok9, mex9, w9, s9, e1, v170, r9, h171, i9, e⟩ := m_bind2 e
          obtain ⟨u9, e2, e3⟩ := bds e1
          cases e3
          have e1 := e2
          refine m_callV2 Ma.b Th169 Oh169 [] [] [(0, v170)] rfl (fun mok n => S_thrown (fd_mG Th169 mok) (sgm h169 v4) (tf_sgm Th169 mok) e1) mok9 mex9 (by decide) r9 i9 dL_law_1109 q3161 q3162 q3163 q226 q3164 ck_X4_thrown rfl rfl rfl rfl rfl (fun tv170 Th171 Oh171 => ?_)
          refine x_iload Ma.x dL_law_1112 1 rfl ?_
          refine x_icmp_eq Ma.x 1119 dL_law_1114 rfl tv170 tv164 e (fun e => ?_) (fun e => ?_)
          · refine x_iload Ma.x dL_law_1119 1 rfl ?_
            refine x_if_ne Ma.x 1136 dL_law_1121 rfl tv164 e (fun e => ?_) (fun e => ?_)
            · refine x_aload_n Ma.x dL_law_1124 5 rfl ?_
              refine x_iconst Ma.x dL_law_1125 ?_
              refine h_lald Ma.ga Th171 dL_law_1126 e (fun v172 tv172 e => ?_)
              refine x_iload Ma.x dL_law_1127 0 rfl ?_
              refine x_i2l Ma.x dL_law_1129 tv168 ?_
              refine x_lcmp Ma.x dL_law_1130 ?_
              refine x_if_eq Ma.x 1136 dL_law_1131 rfl (cmp64_in _ _) e (fun e => ?_) (fun e => ?_)
              · refine x_goto Ma.x 2515 dL_law_1136 rfl ?_
                exact x_drop [2, 3, 4, 5, 6] rfl (hj19 h171 e Th171 Oh171)
              · refine x_iconst Ma.x dL_law_1134 ?_
                have e := lfl e hY12
                exact a_retz dL_law_1135 (congrArg Prod.fst (Option.some.inj e)) (congrArg Prod.snd (Option.some.inj e)) Th171 litZ0
            · refine x_goto Ma.x 2515 dL_law_1136 rfl ?_
              exact x_drop [2, 3, 4, 5, 6] rfl (hj19 h171 e Th171 Oh171)
          · refine x_iconst Ma.x dL_law_1117 ?_
            have e := lfl e hY12
            exact a_retz dL_law_1118 (congrArg Prod.fst (Option.some.inj e)) (congrArg Prod.snd (Option.some.inj e)) Th171 litZ0
        rw [if_neg q13] at e
        by_cases q14 : (and32 v15 63) = 14
        · rw [if_pos q14] at e
          refine x_tabK Ma.x dL_law_39 (and32_in _ _) q14 1139 (by decide) rfl rfl ?_
          refine x_aload_n Ma.x dL_law_1139 1 rfl ?_
          refine x_aload_n Ma.x dL_law_1140 0 rfl ?_
          refine x_iload Ma.x dL_law_1141 4 rfl ?_
          refine x_iconst Ma.x dL_law_1143 ?_
          refine x_iadd Ma.x dL_law_1144 ?_
          refine h_iald9 Ma.ga Th10 dL_law_1145 e (fun v173 tv173 e => ?_)
          refine x_aload_n Ma.x dL_law_1146 0 rfl ?_
          refine x_iload Ma.x dL_law_1147 4 rfl ?_
          refine x_iconst Ma.x dL_law_1149 ?_
          refine x_iadd Ma.x dL_law_1150 ?_
          refine h_iald9 Ma.ga Th10 dL_law_1151 e (fun v174 tv174 e => ?_)
          refine x_aload_n Ma.x dL_law_1152 3 rfl ?_
          obtain ⟨⟨v175, h176⟩, e1, e⟩ := bds e
          refine w_callS Ma.b Th10 Oh10 [(2, v1), (0, v173), (0, v174), (2, v7)] [] [(0, v175)] (T_X0_fold C hE hl9 h10 Th10 v1 v173 v174 v7 tv1 tv173 tv174 tv7 e1) dL_law_1153 q2291 q2292 q215 q2293 ck_X0_fold rfl rfl rfl rfl rfl (fun tv175 Th176 Oh176 => ?_)
          refine x_istore Ma.x (lv' := [(5, (0, v175)), (0, (2, p0_)), (1, (2, v1)), (2, (2, v4)), (3, (2, v7)), (4, (0, l4_9))]) dL_law_1156 [0, 1, 2, 3, 4] rfl rfl (by decide) ?_
          refine x_aload_n Ma.x dL_law_1158 3 rfl ?_
          refine x_aload_n Ma.x dL_law_1159 1 rfl ?_
          refine x_iload Ma.x dL_law_1160 5 rfl ?_
          refine x_iconst Ma.x dL_law_1162 ?_
          refine x_iadd Ma.x dL_law_1163 ?_
          refine h_iald9 Ma.ga Th176 dL_law_1164 e (fun v177 tv177 e => ?_)
          refine x_aload_n Ma.x dL_law_1165 1 rfl ?_
          refine x_iload Ma.x dL_law_1166 5 rfl ?_
          refine x_iconst Ma.x dL_law_1168 ?_
          refine x_iadd Ma.x dL_law_1169 ?_
          refine h_iald9 Ma.ga Th176 dL_law_1170 e (fun v178 tv178 e => ?_)
          obtain ⟨mok9, mex9, w9, s9, e1, v179, r9, h180, i9, e⟩ := m_bind2 e
          refine m_callV2 Ma.b Th176 Oh176 [(0, v177), (0, v178)] [] [(0, v179)] rfl (fun mok n => S_fold (fd_mG Th176 mok) (sgm h176 v4) (tf_sgm Th176 mok) v177 v178 tv177 tv178 e1) mok9 mex9 (by decide) r9 i9 dL_law_1171 q3580 q3581 q3582 q226 q3583 ck_X4_fold rfl rfl rfl rfl rfl (fun tv179 Th180 Oh180 => ?_)
          refine x_istore Ma.x (lv' := [(6, (0, v179)), (5, (0, v175)), (0, (2, p0_)), (1, (2, v1)), (2, (2, v4)), (3, (2, v7)), (4, (0, l4_9))]) dL_law_1174 [0, 1, 2, 3, 4, 5] rfl rfl (by decide) ?_
          refine x_aload_n Ma.x dL_law_1176 4 rfl ?_
          obtain ⟨mok9, mex9, w9, s9, e1, v181, r9, h182, i9, e⟩ := m_bind2 e
          obtain ⟨u9, e2, e3⟩ := bds e1
          cases e3
          have e1 := e2
          refine m_callV2 Ma.b Th180 Oh180 [] [] [(0, v181)] rfl (fun mok n => S_thrown (fd_mG Th180 mok) (sgm h180 v4) (tf_sgm Th180 mok) e1) mok9 mex9 (by decide) r9 i9 dL_law_1177 q3161 q3162 q3163 q226 q3164 ck_X4_thrown rfl rfl rfl rfl rfl (fun tv181 Th182 Oh182 => ?_)
          refine x_iload Ma.x dL_law_1180 1 rfl ?_
          refine x_icmp_eq Ma.x 1187 dL_law_1182 rfl tv181 tv175 e (fun e => ?_) (fun e => ?_)
          · refine x_iload Ma.x dL_law_1187 1 rfl ?_
            refine x_if_ne Ma.x 1204 dL_law_1189 rfl tv175 e (fun e => ?_) (fun e => ?_)
            · refine x_aload_n Ma.x dL_law_1192 5 rfl ?_
              refine x_iconst Ma.x dL_law_1193 ?_
              refine h_lald Ma.ga Th182 dL_law_1194 e (fun v183 tv183 e => ?_)
              refine x_iload Ma.x dL_law_1195 0 rfl ?_
              refine x_i2l Ma.x dL_law_1197 tv179 ?_
              refine x_lcmp Ma.x dL_law_1198 ?_
              refine x_if_eq Ma.x 1204 dL_law_1199 rfl (cmp64_in _ _) e (fun e => ?_) (fun e => ?_)
              · refine x_goto Ma.x 2515 dL_law_1204 rfl ?_
                exact x_drop [2, 3, 4, 5, 6] rfl (hj19 h182 e Th182 Oh182)
              · refine x_iconst Ma.x dL_law_1202 ?_
                have e := lfl e hY12
                exact a_retz dL_law_1203 (congrArg Prod.fst (Option.some.inj e)) (congrArg Prod.snd (Option.some.inj e)) Th182 litZ0
            · refine x_goto Ma.x 2515 dL_law_1204 rfl ?_
              exact x_drop [2, 3, 4, 5, 6] rfl (hj19 h182 e Th182 Oh182)
          · refine x_iconst Ma.x dL_law_1185 ?_
            have e := lfl e hY12
            exact a_retz dL_law_1186 (congrArg Prod.fst (Option.some.inj e)) (congrArg Prod.snd (Option.some.inj e)) Th182 litZ0
        rw [if_neg q14] at e
        by_cases q15 : (and32 v15 63) = 15
        · rw [if_pos q15] at e
          refine x_tabK Ma.x dL_law_39 (and32_in _ _) q15 1207 (by decide) rfl rfl ?_
          refine x_aload_n Ma.x dL_law_1207 1 rfl ?_
          refine x_aload_n Ma.x dL_law_1208 0 rfl ?_
          refine x_iload Ma.x dL_law_1209 4 rfl ?_
          refine x_iconst Ma.x dL_law_1211 ?_
          refine x_iadd Ma.x dL_law_1212 ?_
          refine h_iald9 Ma.ga Th10 dL_law_1213 e (fun v184 tv184 e => ?_)
          refine x_aload_n Ma.x dL_law_1214 3 rfl ?_
          obtain ⟨⟨v185, h186⟩, e1, e⟩ := bds e
          refine w_callS Ma.b Th10 Oh10 [(2, v1), (0, v184), (2, v7)] [] [(0, v185)] (T_X0_errors C hE hl9 h10 Th10 v1 v184 v7 tv1 tv184 tv7 e1) dL_law_1215 q2298 q2299 q215 q2300 ck_X0_errors rfl rfl rfl rfl rfl (fun tv185 Th186 Oh186 => ?_)
          refine x_istore Ma.x (lv' := [(5, (0, v185)), (0, (2, p0_)), (1, (2, v1)), (2, (2, v4)), (3, (2, v7)), (4, (0, l4_9))]) dL_law_1218 [0, 1, 2, 3, 4] rfl rfl (by decide) ?_
          refine x_aload_n Ma.x dL_law_1220 3 rfl ?_
          refine x_aload_n Ma.x dL_law_1221 1 rfl ?_
          refine x_iload Ma.x dL_law_1222 5 rfl ?_
          refine x_iconst Ma.x dL_law_1224 ?_
          refine x_iadd Ma.x dL_law_1225 ?_
          refine h_iald9 Ma.ga Th186 dL_law_1226 e (fun v187 tv187 e => ?_)
          obtain ⟨mok9, mex9, w9, s9, e1, v188, r9, h189, i9, e⟩ := m_bind2 e
          refine m_callV2 Ma.b Th186 Oh186 [(0, v187)] [] [(0, v188)] rfl (fun mok n => S_errors (fd_mG Th186 mok) (sgm h186 v4) (tf_sgm Th186 mok) v187 tv187 e1) mok9 mex9 (by decide) r9 i9 dL_law_1227 q3584 q3585 q3586 q226 q3587 ck_X4_errors rfl rfl rfl rfl rfl (fun tv188 Th189 Oh189 => ?_)
          refine x_istore Ma.x (lv' := [(6, (0, v188)), (5, (0, v185)), (0, (2, p0_)), (1, (2, v1)), (2, (2, v4)), (3, (2, v7)), (4, (0, l4_9))]) dL_law_1230 [0, 1, 2, 3, 4, 5] rfl rfl (by decide) ?_
          refine x_aload_n Ma.x dL_law_1232 4 rfl ?_
          obtain ⟨mok9, mex9, w9, s9, e1, v190, r9, h191, i9, e⟩ := m_bind2 e
          obtain ⟨u9, e2, e3⟩ := bds e1
          cases e3
          have e1 := e2
          refine m_callV2 Ma.b Th189 Oh189 [] [] [(0, v190)] rfl (fun mok n => S_thrown (fd_mG Th189 mok) (sgm h189 v4) (tf_sgm Th189 mok) e1) mok9 mex9 (by decide) r9 i9 dL_law_1233 q3161 q3162 q3163 q226 q3164 ck_X4_thrown rfl rfl rfl rfl rfl (fun tv190 Th191 Oh191 => ?_)
          refine x_iload Ma.x dL_law_1236 1 rfl ?_
          refine x_icmp_eq Ma.x 1243 dL_law_1238 rfl tv190 tv185 e (fun e => ?_) (fun e => ?_)
          · refine x_iload Ma.x dL_law_1243 1 rfl ?_
            refine x_if_ne Ma.x 1260 dL_law_1245 rfl tv185 e (fun e => ?_) (fun e => ?_)
            · refine x_aload_n Ma.x dL_law_1248 5 rfl ?_
              refine x_iconst Ma.x dL_law_1249 ?_
              refine h_lald Ma.ga Th191 dL_law_1250 e (fun v192 tv192 e => ?_)
              refine x_iload Ma.x dL_law_1251 0 rfl ?_
              refine x_i2l Ma.x dL_law_1253 tv188 ?_
              refine x_lcmp Ma.x dL_law_1254 ?_
              refine x_if_eq Ma.x 1260 dL_law_1255 rfl (cmp64_in _ _) e (fun e => ?_) (fun e => ?_)
              · refine x_goto Ma.x 2515 dL_law_1260 rfl ?_
                exact x_drop [2, 3, 4, 5, 6] rfl (hj19 h191 e Th191 Oh191)
              · refine x_iconst Ma.x dL_law_1258 ?_
                have e := lfl e hY12
                exact a_retz dL_law_1259 (congrArg Prod.fst (Option.some.inj e)) (congrArg Prod.snd (Option.some.inj e)) Th191 litZ0
            · refine x_goto Ma.x 2515 dL_law_1260 rfl ?_
              exact x_drop [2, 3, 4, 5, 6] rfl (hj19 h191 e Th191 Oh191)
          · refine x_iconst Ma.x dL_law_1241 ?_
            have e := lfl e hY12
            exact a_retz dL_law_1242 (congrArg Prod.fst (Option.some.inj e)) (congrArg Prod.snd (Option.some.inj e)) Th191 litZ0
        rw [if_neg q15] at e
        by_cases q16 : (and32 v15 63) = 16
        · rw [if_pos q16] at e
          refine x_tabK Ma.x dL_law_39 (and32_in _ _) q16 1263 (by decide) rfl rfl ?_
          refine x_aload_n Ma.x dL_law_1263 1 rfl ?_
          refine x_aload_n Ma.x dL_law_1264 0 rfl ?_
          refine x_iload Ma.x dL_law_1265 4 rfl ?_
          refine x_iconst Ma.x dL_law_1267 ?_
          refine x_iadd Ma.x dL_law_1268 ?_
          refine h_iald9 Ma.ga Th10 dL_law_1269 e (fun v193 tv193 e => ?_)
          refine x_aload_n Ma.x dL_law_1270 0 rfl ?_
          refine x_iload Ma.x dL_law_1271 4 rfl ?_
          refine x_iconst Ma.x dL_law_1273 ?_
          refine x_iadd Ma.x dL_law_1274 ?_
          refine h_iald9 Ma.ga Th10 dL_law_1275 e (fun v194 tv194 e => ?_)
          refine x_aload_n Ma.x dL_law_1276 3 rfl ?_
          obtain ⟨⟨v195, h196⟩, e1, e⟩ := bds e
          refine w_callS Ma.b Th10 Oh10 [(2, v1), (0, v193), (0, v194), (2, v7)] [] [(0, v195)] (T_X0_errorAt C hE hl9 h10 Th10 v1 v193 v194 v7 tv1 tv193 tv194 tv7 e1) dL_law_1277 q2306 q2307 q215 q2308 ck_X0_errorAt rfl rfl rfl rfl rfl (fun tv195 Th196 Oh196 => ?_)
          refine x_istore Ma.x (lv' := [(5, (0, v195)), (0, (2, p0_)), (1, (2, v1)), (2, (2, v4)), (3, (2, v7)), (4, (0, l4_9))]) dL_law_1280 [0, 1, 2, 3, 4] rfl rfl (by decide) ?_
          refine x_aload_n Ma.x dL_law_1282 3 rfl ?_
          refine x_aload_n Ma.x dL_law_1283 1 rfl ?_
          refine x_iload Ma.x dL_law_1284 5 rfl ?_
          refine x_iconst Ma.x dL_law_1286 ?_
          refine x_iadd Ma.x dL_law_1287 ?_
          refine h_iald9 Ma.ga Th196 dL_law_1288 e (fun v197 tv197 e => ?_)
          refine x_aload_n Ma.x dL_law_1289 1 rfl ?_
          refine x_iload Ma.x dL_law_1290 5 rfl ?_
          refine x_iconst Ma.x dL_law_1292 ?_
          refine x_iadd Ma.x dL_law_1293 ?_
          refine h_iald9 Ma.ga Th196 dL_law_1294 e (fun v198 tv198 e => ?_)
          obtain ⟨mok9, mex9, w9, s9, e1, v199, r9, h200, i9, e⟩ := m_bind2 e
          refine m_callV2 Ma.b Th196 Oh196 [(0, v197), (0, v198)] [] [(0, v199)] rfl (fun mok n => S_errorAt (fd_mG Th196 mok) (sgm h196 v4) (tf_sgm Th196 mok) v197 v198 tv197 tv198 e1) mok9 mex9 (by decide) r9 i9 dL_law_1295 q3588 q3589 q3590 q226 q3591 ck_X4_errorAt rfl rfl rfl rfl rfl (fun tv199 Th200 Oh200 => ?_)
          refine x_istore Ma.x (lv' := [(6, (0, v199)), (5, (0, v195)), (0, (2, p0_)), (1, (2, v1)), (2, (2, v4)), (3, (2, v7)), (4, (0, l4_9))]) dL_law_1298 [0, 1, 2, 3, 4, 5] rfl rfl (by decide) ?_
          refine x_aload_n Ma.x dL_law_1300 4 rfl ?_
          obtain ⟨mok9, mex9, w9, s9, e1, v201, r9, h202, i9, e⟩ := m_bind2 e
          obtain ⟨u9, e2, e3⟩ := bds e1
          cases e3
          have e1 := e2
          refine m_callV2 Ma.b Th200 Oh200 [] [] [(0, v201)] rfl (fun mok n => S_thrown (fd_mG Th200 mok) (sgm h200 v4) (tf_sgm Th200 mok) e1) mok9 mex9 (by decide) r9 i9 dL_law_1301 q3161 q3162 q3163 q226 q3164 ck_X4_thrown rfl rfl rfl rfl rfl (fun tv201 Th202 Oh202 => ?_)
          refine x_iload Ma.x dL_law_1304 1 rfl ?_
          refine x_icmp_eq Ma.x 1311 dL_law_1306 rfl tv201 tv195 e (fun e => ?_) (fun e => ?_)
          · refine x_iload Ma.x dL_law_1311 1 rfl ?_
            refine x_if_ne Ma.x 1328 dL_law_1313 rfl tv195 e (fun e => ?_) (fun e => ?_)
            · refine x_aload_n Ma.x dL_law_1316 5 rfl ?_
              refine x_iconst Ma.x dL_law_1317 ?_
              refine h_lald Ma.ga Th202 dL_law_1318 e (fun v203 tv203 e => ?_)
              refine x_iload Ma.x dL_law_1319 0 rfl ?_
              refine x_i2l Ma.x dL_law_1321 tv199 ?_
              refine x_lcmp Ma.x dL_law_1322 ?_
              refine x_if_eq Ma.x 1328 dL_law_1323 rfl (cmp64_in _ _) e (fun e => ?_) (fun e => ?_)
              · refine x_goto Ma.x 2515 dL_law_1328 rfl ?_
                exact x_drop [2, 3, 4, 5, 6] rfl (hj19 h202 e Th202 Oh202)
              · refine x_iconst Ma.x dL_law_1326 ?_
                have e := lfl e hY12
                exact a_retz dL_law_1327 (congrArg Prod.fst (Option.some.inj e)) (congrArg Prod.snd (Option.some.inj e)) Th202 litZ0
            · refine x_goto Ma.x 2515 dL_law_1328 rfl ?_
              exact x_drop [2, 3, 4, 5, 6] rfl (hj19 h202 e Th202 Oh202)
          · refine x_iconst Ma.x dL_law_1309 ?_
            have e := lfl e hY12
            exact a_retz dL_law_1310 (congrArg Prod.fst (Option.some.inj e)) (congrArg Prod.snd (Option.some.inj e)) Th202 litZ0
        rw [if_neg q16] at e
        by_cases q17 : (and32 v15 63) = 17
        · rw [if_pos q17] at e
          refine x_tabK Ma.x dL_law_39 (and32_in _ _) q17 1331 (by decide) rfl rfl ?_
          refine x_aload_n Ma.x dL_law_1331 1 rfl ?_
          refine x_aload_n Ma.x dL_law_1332 0 rfl ?_
          refine x_iload Ma.x dL_law_1333 4 rfl ?_
          refine x_iconst Ma.x dL_law_1335 ?_
          refine x_iadd Ma.x dL_law_1336 ?_
          refine h_iald9 Ma.ga Th10 dL_law_1337 e (fun v204 tv204 e => ?_)
          refine x_aload_n Ma.x dL_law_1338 0 rfl ?_
          refine x_iload Ma.x dL_law_1339 4 rfl ?_
          refine x_iconst Ma.x dL_law_1341 ?_
          refine x_iadd Ma.x dL_law_1342 ?_
          refine h_iald9 Ma.ga Th10 dL_law_1343 e (fun v205 tv205 e => ?_)
          refine x_aload_n Ma.x dL_law_1344 3 rfl ?_
          obtain ⟨⟨v206, h207⟩, e1, e⟩ := bds e
          refine w_callS Ma.b Th10 Oh10 [(2, v1), (0, v204), (0, v205), (2, v7)] [] [(0, v206)] (T_X0_repair C hE hl9 h10 Th10 v1 v204 v205 v7 tv1 tv204 tv205 tv7 e1) dL_law_1345 q2322 q2323 q215 q2324 ck_X0_repair rfl rfl rfl rfl rfl (fun tv206 Th207 Oh207 => ?_)
          refine x_istore Ma.x (lv' := [(5, (0, v206)), (0, (2, p0_)), (1, (2, v1)), (2, (2, v4)), (3, (2, v7)), (4, (0, l4_9))]) dL_law_1348 [0, 1, 2, 3, 4] rfl rfl (by decide) ?_
          refine x_aload_n Ma.x dL_law_1350 3 rfl ?_
          refine x_aload_n Ma.x dL_law_1351 1 rfl ?_
          refine x_iload Ma.x dL_law_1352 5 rfl ?_
          refine x_iconst Ma.x dL_law_1354 ?_
          refine x_iadd Ma.x dL_law_1355 ?_
          refine h_iald9 Ma.ga Th207 dL_law_1356 e (fun v208 tv208 e => ?_)
          refine x_aload_n Ma.x dL_law_1357 1 rfl ?_
          refine x_iload Ma.x dL_law_1358 5 rfl ?_
          refine x_iconst Ma.x dL_law_1360 ?_
          refine x_iadd Ma.x dL_law_1361 ?_
          refine h_iald9 Ma.ga Th207 dL_law_1362 e (fun v209 tv209 e => ?_)
          obtain ⟨mok9, mex9, w9, s9, e1, v210, r9, h211, i9, e⟩ := m_bind2 e
          refine m_callV2 Ma.b Th207 Oh207 [(0, v208), (0, v209)] [] [(0, v210)] rfl (fun mok n => S_repair (fd_mG Th207 mok) (sgm h207 v4) (tf_sgm Th207 mok) v208 v209 tv208 tv209 e1) mok9 mex9 (by decide) r9 i9 dL_law_1363 q3596 q3597 q3598 q226 q3599 ck_X4_repair rfl rfl rfl rfl rfl (fun tv210 Th211 Oh211 => ?_)
          refine x_istore Ma.x (lv' := [(6, (0, v210)), (5, (0, v206)), (0, (2, p0_)), (1, (2, v1)), (2, (2, v4)), (3, (2, v7)), (4, (0, l4_9))]) dL_law_1366 [0, 1, 2, 3, 4, 5] rfl rfl (by decide) ?_
          refine x_aload_n Ma.x dL_law_1368 4 rfl ?_
          obtain ⟨mok9, mex9, w9, s9, e1, v212, r9, h213, i9, e⟩ := m_bind2 e
          obtain ⟨u9, e2, e3⟩ := bds e1
          cases e3
          have e1 := e2
          refine m_callV2 Ma.b Th211 Oh211 [] [] [(0, v212)] rfl (fun mok n => S_thrown (fd_mG Th211 mok) (sgm h211 v4) (tf_sgm Th211 mok) e1) mok9 mex9 (by decide) r9 i9 dL_law_1369 q3161 q3162 q3163 q226 q3164 ck_X4_thrown rfl rfl rfl rfl rfl (fun tv212 Th213 Oh213 => ?_)
          refine x_iload Ma.x dL_law_1372 1 rfl ?_
          refine x_icmp_eq Ma.x 1379 dL_law_1374 rfl tv212 tv206 e (fun e => ?_) (fun e => ?_)
          · refine x_iload Ma.x dL_law_1379 1 rfl ?_
            refine x_if_ne Ma.x 1396 dL_law_1381 rfl tv206 e (fun e => ?_) (fun e => ?_)
            · refine x_aload_n Ma.x dL_law_1384 5 rfl ?_
              refine x_iconst Ma.x dL_law_1385 ?_
              refine h_lald Ma.ga Th213 dL_law_1386 e (fun v214 tv214 e => ?_)
              refine x_iload Ma.x dL_law_1387 0 rfl ?_
              refine x_i2l Ma.x dL_law_1389 tv210 ?_
              refine x_lcmp Ma.x dL_law_1390 ?_
              refine x_if_eq Ma.x 1396 dL_law_1391 rfl (cmp64_in _ _) e (fun e => ?_) (fun e => ?_)
              · refine x_goto Ma.x 2515 dL_law_1396 rfl ?_
                exact x_drop [2, 3, 4, 5, 6] rfl (hj19 h213 e Th213 Oh213)
              · refine x_iconst Ma.x dL_law_1394 ?_
                have e := lfl e hY12
                exact a_retz dL_law_1395 (congrArg Prod.fst (Option.some.inj e)) (congrArg Prod.snd (Option.some.inj e)) Th213 litZ0
            · refine x_goto Ma.x 2515 dL_law_1396 rfl ?_
              exact x_drop [2, 3, 4, 5, 6] rfl (hj19 h213 e Th213 Oh213)
          · refine x_iconst Ma.x dL_law_1377 ?_
            have e := lfl e hY12
            exact a_retz dL_law_1378 (congrArg Prod.fst (Option.some.inj e)) (congrArg Prod.snd (Option.some.inj e)) Th213 litZ0
        rw [if_neg q17] at e
        by_cases q18 : (and32 v15 63) = 18
        · rw [if_pos q18] at e
          refine x_tabK Ma.x dL_law_39 (and32_in _ _) q18 1399 (by decide) rfl rfl ?_
          refine x_aload_n Ma.x dL_law_1399 1 rfl ?_
          refine x_aload_n Ma.x dL_law_1400 0 rfl ?_
          refine x_iload Ma.x dL_law_1401 4 rfl ?_
          refine x_iconst Ma.x dL_law_1403 ?_
          refine x_iadd Ma.x dL_law_1404 ?_
          refine h_iald9 Ma.ga Th10 dL_law_1405 e (fun v215 tv215 e => ?_)
          refine x_aload_n Ma.x dL_law_1406 3 rfl ?_
          obtain ⟨⟨v216, h217⟩, e1, e⟩ := bds e
          refine w_callS Ma.b Th10 Oh10 [(2, v1), (0, v215), (2, v7)] [] [(0, v216)] (T_X0_tree C hE hl9 h10 Th10 v1 v215 v7 tv1 tv215 tv7 e1) dL_law_1407 q2385 q2386 q215 q2387 ck_X0_tree rfl rfl rfl rfl rfl (fun tv216 Th217 Oh217 => ?_)
          refine x_istore Ma.x (lv' := [(5, (0, v216)), (0, (2, p0_)), (1, (2, v1)), (2, (2, v4)), (3, (2, v7)), (4, (0, l4_9))]) dL_law_1410 [0, 1, 2, 3, 4] rfl rfl (by decide) ?_
          refine x_aload_n Ma.x dL_law_1412 3 rfl ?_
          refine x_aload_n Ma.x dL_law_1413 1 rfl ?_
          refine x_iload Ma.x dL_law_1414 5 rfl ?_
          refine x_iconst Ma.x dL_law_1416 ?_
          refine x_iadd Ma.x dL_law_1417 ?_
          refine h_iald9 Ma.ga Th217 dL_law_1418 e (fun v218 tv218 e => ?_)
          obtain ⟨mok9, mex9, w9, s9, e1, v219, r9, h220, i9, e⟩ := m_bind2 e
          refine m_callV2 Ma.b Th217 Oh217 [(0, v218)] [] [(1, v219)] rfl (fun mok n => S_tree (fd_mG Th217 mok) (sgm h217 v4) (tf_sgm Th217 mok) v218 tv218 e1) mok9 mex9 (by decide) r9 i9 dL_law_1419 q3627 q3628 q3629 q226 q3630 ck_X4_tree rfl rfl rfl rfl rfl (fun tv219 Th220 Oh220 => ?_)
          refine x_lstore Ma.x (lv' := [(6, (1, v219)), (5, (0, v216)), (0, (2, p0_)), (1, (2, v1)), (2, (2, v4)), (3, (2, v7)), (4, (0, l4_9))]) dL_law_1422 [0, 1, 2, 3, 4, 5] rfl rfl (by decide) ?_
          refine x_aload_n Ma.x dL_law_1424 4 rfl ?_
          obtain ⟨mok9, mex9, w9, s9, e1, v221, r9, h222, i9, e⟩ := m_bind2 e
          obtain ⟨u9, e2, e3⟩ := bds e1
          cases e3
          have e1 := e2
          refine m_callV2 Ma.b Th220 Oh220 [] [] [(0, v221)] rfl (fun mok n => S_thrown (fd_mG Th220 mok) (sgm h220 v4) (tf_sgm Th220 mok) e1) mok9 mex9 (by decide) r9 i9 dL_law_1425 q3161 q3162 q3163 q226 q3164 ck_X4_thrown rfl rfl rfl rfl rfl (fun tv221 Th222 Oh222 => ?_)
          refine x_iload Ma.x dL_law_1428 1 rfl ?_
          refine x_icmp_eq Ma.x 1435 dL_law_1430 rfl tv221 tv216 e (fun e => ?_) (fun e => ?_)
          · refine x_iload Ma.x dL_law_1435 1 rfl ?_
            refine x_if_ne Ma.x 1451 dL_law_1437 rfl tv216 e (fun e => ?_) (fun e => ?_)
            · refine x_aload_n Ma.x dL_law_1440 5 rfl ?_
              refine x_iconst Ma.x dL_law_1441 ?_
              refine h_lald Ma.ga Th222 dL_law_1442 e (fun v223 tv223 e => ?_)
              refine x_lload Ma.x dL_law_1443 0 rfl ?_
              refine x_lcmp Ma.x dL_law_1445 ?_
              refine x_if_eq Ma.x 1451 dL_law_1446 rfl (cmp64_in _ _) e (fun e => ?_) (fun e => ?_)
              · refine x_goto Ma.x 2515 dL_law_1451 rfl ?_
                exact x_drop [2, 3, 4, 5, 6] rfl (hj19 h222 e Th222 Oh222)
              · refine x_iconst Ma.x dL_law_1449 ?_
                have e := lfl e hY12
                exact a_retz dL_law_1450 (congrArg Prod.fst (Option.some.inj e)) (congrArg Prod.snd (Option.some.inj e)) Th222 litZ0
            · refine x_goto Ma.x 2515 dL_law_1451 rfl ?_
              exact x_drop [2, 3, 4, 5, 6] rfl (hj19 h222 e Th222 Oh222)
          · refine x_iconst Ma.x dL_law_1433 ?_
            have e := lfl e hY12
            exact a_retz dL_law_1434 (congrArg Prod.fst (Option.some.inj e)) (congrArg Prod.snd (Option.some.inj e)) Th222 litZ0
        rw [if_neg q18] at e
        by_cases q19 : (and32 v15 63) = 19
        · rw [if_pos q19] at e
          refine x_tabK Ma.x dL_law_39 (and32_in _ _) q19 1454 (by decide) rfl rfl ?_
          refine x_aload_n Ma.x dL_law_1454 1 rfl ?_
          refine x_aload_n Ma.x dL_law_1455 0 rfl ?_
          refine x_iload Ma.x dL_law_1456 4 rfl ?_
          refine x_iconst Ma.x dL_law_1458 ?_
          refine x_iadd Ma.x dL_law_1459 ?_
          refine h_iald9 Ma.ga Th10 dL_law_1460 e (fun v224 tv224 e => ?_)
          refine x_aload_n Ma.x dL_law_1461 0 rfl ?_
          refine x_iload Ma.x dL_law_1462 4 rfl ?_
          refine x_iconst Ma.x dL_law_1464 ?_
          refine x_iadd Ma.x dL_law_1465 ?_
          refine h_iald9 Ma.ga Th10 dL_law_1466 e (fun v225 tv225 e => ?_)
          refine x_aload_n Ma.x dL_law_1467 3 rfl ?_
          obtain ⟨⟨v226, h227⟩, e1, e⟩ := bds e
          refine w_callS Ma.b Th10 Oh10 [(2, v1), (0, v224), (0, v225), (2, v7)] [] [(0, v226)] (T_X0_may C hE hl9 h10 Th10 v1 v224 v225 v7 tv1 tv224 tv225 tv7 e1) dL_law_1468 q2454 q2455 q215 q2456 ck_X0_may rfl rfl rfl rfl rfl (fun tv226 Th227 Oh227 => ?_)
          refine x_istore Ma.x (lv' := [(5, (0, v226)), (0, (2, p0_)), (1, (2, v1)), (2, (2, v4)), (3, (2, v7)), (4, (0, l4_9))]) dL_law_1471 [0, 1, 2, 3, 4] rfl rfl (by decide) ?_
          refine x_aload_n Ma.x dL_law_1473 3 rfl ?_
          refine x_aload_n Ma.x dL_law_1474 1 rfl ?_
          refine x_iload Ma.x dL_law_1475 5 rfl ?_
          refine x_iconst Ma.x dL_law_1477 ?_
          refine x_iadd Ma.x dL_law_1478 ?_
          refine h_iald9 Ma.ga Th227 dL_law_1479 e (fun v228 tv228 e => ?_)
          refine x_aload_n Ma.x dL_law_1480 1 rfl ?_
          refine x_iload Ma.x dL_law_1481 5 rfl ?_
          refine x_iconst Ma.x dL_law_1483 ?_
          refine x_iadd Ma.x dL_law_1484 ?_
          refine h_iald9 Ma.ga Th227 dL_law_1485 e (fun v229 tv229 e => ?_)
          obtain ⟨mok9, mex9, w9, s9, e1, v230, r9, h231, i9, e⟩ := m_bind2 e
          refine m_callV2 Ma.b Th227 Oh227 [(0, v228), (0, v229)] [] [(0, v230)] rfl (fun mok n => S_may (fd_mG Th227 mok) (sgm h227 v4) (tf_sgm Th227 mok) v228 v229 tv228 tv229 e1) mok9 mex9 (by decide) r9 i9 dL_law_1486 q3649 q3650 q3651 q226 q3652 ck_X4_may rfl rfl rfl rfl rfl (fun tv230 Th231 Oh231 => ?_)
          refine x_istore Ma.x (lv' := [(6, (0, v230)), (5, (0, v226)), (0, (2, p0_)), (1, (2, v1)), (2, (2, v4)), (3, (2, v7)), (4, (0, l4_9))]) dL_law_1489 [0, 1, 2, 3, 4, 5] rfl rfl (by decide) ?_
          refine x_aload_n Ma.x dL_law_1491 4 rfl ?_
          obtain ⟨mok9, mex9, w9, s9, e1, v232, r9, h233, i9, e⟩ := m_bind2 e
          obtain ⟨u9, e2, e3⟩ := bds e1
          cases e3
          have e1 := e2
          refine m_callV2 Ma.b Th231 Oh231 [] [] [(0, v232)] rfl (fun mok n => S_thrown (fd_mG Th231 mok) (sgm h231 v4) (tf_sgm Th231 mok) e1) mok9 mex9 (by decide) r9 i9 dL_law_1492 q3161 q3162 q3163 q226 q3164 ck_X4_thrown rfl rfl rfl rfl rfl (fun tv232 Th233 Oh233 => ?_)
          refine x_iload Ma.x dL_law_1495 1 rfl ?_
          refine x_icmp_eq Ma.x 1502 dL_law_1497 rfl tv232 tv226 e (fun e => ?_) (fun e => ?_)
          · refine x_iload Ma.x dL_law_1502 1 rfl ?_
            refine x_if_ne Ma.x 1519 dL_law_1504 rfl tv226 e (fun e => ?_) (fun e => ?_)
            · refine x_aload_n Ma.x dL_law_1507 5 rfl ?_
              refine x_iconst Ma.x dL_law_1508 ?_
              refine h_lald Ma.ga Th233 dL_law_1509 e (fun v234 tv234 e => ?_)
              refine x_iload Ma.x dL_law_1510 0 rfl ?_
              refine x_i2l Ma.x dL_law_1512 tv230 ?_
              refine x_lcmp Ma.x dL_law_1513 ?_
              refine x_if_eq Ma.x 1519 dL_law_1514 rfl (cmp64_in _ _) e (fun e => ?_) (fun e => ?_)
              · refine x_goto Ma.x 2515 dL_law_1519 rfl ?_
                exact x_drop [2, 3, 4, 5, 6] rfl (hj19 h233 e Th233 Oh233)
              · refine x_iconst Ma.x dL_law_1517 ?_
                have e := lfl e hY12
                exact a_retz dL_law_1518 (congrArg Prod.fst (Option.some.inj e)) (congrArg Prod.snd (Option.some.inj e)) Th233 litZ0
            · refine x_goto Ma.x 2515 dL_law_1519 rfl ?_
              exact x_drop [2, 3, 4, 5, 6] rfl (hj19 h233 e Th233 Oh233)
          · refine x_iconst Ma.x dL_law_1500 ?_
            have e := lfl e hY12
            exact a_retz dL_law_1501 (congrArg Prod.fst (Option.some.inj e)) (congrArg Prod.snd (Option.some.inj e)) Th233 litZ0
        rw [if_neg q19] at e
        by_cases q20 : (and32 v15 63) = 20
        · rw [if_pos q20] at e
          refine x_tabK Ma.x dL_law_39 (and32_in _ _) q20 1522 (by decide) rfl rfl ?_
          refine x_aload_n Ma.x dL_law_1522 1 rfl ?_
          refine x_aload_n Ma.x dL_law_1523 0 rfl ?_
          refine x_iload Ma.x dL_law_1524 4 rfl ?_
          refine x_iconst Ma.x dL_law_1526 ?_
          refine x_iadd Ma.x dL_law_1527 ?_
          refine h_iald9 Ma.ga Th10 dL_law_1528 e (fun v235 tv235 e => ?_)
          refine x_aload_n Ma.x dL_law_1529 3 rfl ?_
          obtain ⟨⟨v236, h237⟩, e1, e⟩ := bds e
          refine w_callS Ma.b Th10 Oh10 [(2, v1), (0, v235), (2, v7)] [] [(0, v236)] (T_X0_functions C hE hl9 h10 Th10 v1 v235 v7 tv1 tv235 tv7 e1) dL_law_1530 q2474 q2475 q215 q2476 ck_X0_functions rfl rfl rfl rfl rfl (fun tv236 Th237 Oh237 => ?_)
          refine x_istore Ma.x (lv' := [(5, (0, v236)), (0, (2, p0_)), (1, (2, v1)), (2, (2, v4)), (3, (2, v7)), (4, (0, l4_9))]) dL_law_1533 [0, 1, 2, 3, 4] rfl rfl (by decide) ?_
          refine x_aload_n Ma.x dL_law_1535 3 rfl ?_
          refine x_aload_n Ma.x dL_law_1536 1 rfl ?_
          refine x_iload Ma.x dL_law_1537 5 rfl ?_
          refine x_iconst Ma.x dL_law_1539 ?_
          refine x_iadd Ma.x dL_law_1540 ?_
          refine h_iald9 Ma.ga Th237 dL_law_1541 e (fun v238 tv238 e => ?_)
          obtain ⟨mok9, mex9, w9, s9, e1, v239, r9, h240, i9, e⟩ := m_bind2 e
          refine m_callV2 Ma.b Th237 Oh237 [(0, v238)] [] [(0, v239)] rfl (fun mok n => S_functions (fd_mG Th237 mok) (sgm h237 v4) (tf_sgm Th237 mok) v238 tv238 e1) mok9 mex9 (by decide) r9 i9 dL_law_1542 q3657 q3658 q3659 q226 q3660 ck_X4_functions rfl rfl rfl rfl rfl (fun tv239 Th240 Oh240 => ?_)
          refine x_istore Ma.x (lv' := [(6, (0, v239)), (5, (0, v236)), (0, (2, p0_)), (1, (2, v1)), (2, (2, v4)), (3, (2, v7)), (4, (0, l4_9))]) dL_law_1545 [0, 1, 2, 3, 4, 5] rfl rfl (by decide) ?_
          refine x_aload_n Ma.x dL_law_1547 4 rfl ?_
          obtain ⟨mok9, mex9, w9, s9, e1, v241, r9, h242, i9, e⟩ := m_bind2 e
          obtain ⟨u9, e2, e3⟩ := bds e1
          cases e3
          have e1 := e2
          refine m_callV2 Ma.b Th240 Oh240 [] [] [(0, v241)] rfl (fun mok n => S_thrown (fd_mG Th240 mok) (sgm h240 v4) (tf_sgm Th240 mok) e1) mok9 mex9 (by decide) r9 i9 dL_law_1548 q3161 q3162 q3163 q226 q3164 ck_X4_thrown rfl rfl rfl rfl rfl (fun tv241 Th242 Oh242 => ?_)
          refine x_iload Ma.x dL_law_1551 1 rfl ?_
          refine x_icmp_eq Ma.x 1558 dL_law_1553 rfl tv241 tv236 e (fun e => ?_) (fun e => ?_)
          · refine x_iload Ma.x dL_law_1558 1 rfl ?_
            refine x_if_ne Ma.x 1575 dL_law_1560 rfl tv236 e (fun e => ?_) (fun e => ?_)
            · refine x_aload_n Ma.x dL_law_1563 5 rfl ?_
              refine x_iconst Ma.x dL_law_1564 ?_
              refine h_lald Ma.ga Th242 dL_law_1565 e (fun v243 tv243 e => ?_)
              refine x_iload Ma.x dL_law_1566 0 rfl ?_
              refine x_i2l Ma.x dL_law_1568 tv239 ?_
              refine x_lcmp Ma.x dL_law_1569 ?_
              refine x_if_eq Ma.x 1575 dL_law_1570 rfl (cmp64_in _ _) e (fun e => ?_) (fun e => ?_)
              · refine x_goto Ma.x 2515 dL_law_1575 rfl ?_
                exact x_drop [2, 3, 4, 5, 6] rfl (hj19 h242 e Th242 Oh242)
              · refine x_iconst Ma.x dL_law_1573 ?_
                have e := lfl e hY12
                exact a_retz dL_law_1574 (congrArg Prod.fst (Option.some.inj e)) (congrArg Prod.snd (Option.some.inj e)) Th242 litZ0
            · refine x_goto Ma.x 2515 dL_law_1575 rfl ?_
              exact x_drop [2, 3, 4, 5, 6] rfl (hj19 h242 e Th242 Oh242)
          · refine x_iconst Ma.x dL_law_1556 ?_
            have e := lfl e hY12
            exact a_retz dL_law_1557 (congrArg Prod.fst (Option.some.inj e)) (congrArg Prod.snd (Option.some.inj e)) Th242 litZ0
        rw [if_neg q20] at e
        by_cases q21 : (and32 v15 63) = 21
        · rw [if_pos q21] at e
          refine x_tabK Ma.x dL_law_39 (and32_in _ _) q21 1578 (by decide) rfl rfl ?_
          refine x_aload_n Ma.x dL_law_1578 1 rfl ?_
          refine x_aload_n Ma.x dL_law_1579 0 rfl ?_
          refine x_iload Ma.x dL_law_1580 4 rfl ?_
          refine x_iconst Ma.x dL_law_1582 ?_
          refine x_iadd Ma.x dL_law_1583 ?_
          refine h_iald9 Ma.ga Th10 dL_law_1584 e (fun v244 tv244 e => ?_)
          refine x_aload_n Ma.x dL_law_1585 0 rfl ?_
          refine x_iload Ma.x dL_law_1586 4 rfl ?_
          refine x_iconst Ma.x dL_law_1588 ?_
          refine x_iadd Ma.x dL_law_1589 ?_
          refine h_iald9 Ma.ga Th10 dL_law_1590 e (fun v245 tv245 e => ?_)
          refine x_aload_n Ma.x dL_law_1591 3 rfl ?_
          obtain ⟨⟨v246, h247⟩, e1, e⟩ := bds e
          refine w_callS Ma.b Th10 Oh10 [(2, v1), (0, v244), (0, v245), (2, v7)] [] [(0, v246)] (T_X0_functionAt C hE hl9 h10 Th10 v1 v244 v245 v7 tv1 tv244 tv245 tv7 e1) dL_law_1592 q2481 q2482 q215 q2483 ck_X0_functionAt rfl rfl rfl rfl rfl (fun tv246 Th247 Oh247 => ?_)
          refine x_istore Ma.x (lv' := [(5, (0, v246)), (0, (2, p0_)), (1, (2, v1)), (2, (2, v4)), (3, (2, v7)), (4, (0, l4_9))]) dL_law_1595 [0, 1, 2, 3, 4] rfl rfl (by decide) ?_
          refine x_aload_n Ma.x dL_law_1597 3 rfl ?_
          refine x_aload_n Ma.x dL_law_1598 1 rfl ?_
          refine x_iload Ma.x dL_law_1599 5 rfl ?_
          refine x_iconst Ma.x dL_law_1601 ?_
          refine x_iadd Ma.x dL_law_1602 ?_
          refine h_iald9 Ma.ga Th247 dL_law_1603 e (fun v248 tv248 e => ?_)
          refine x_aload_n Ma.x dL_law_1604 1 rfl ?_
          refine x_iload Ma.x dL_law_1605 5 rfl ?_
          refine x_iconst Ma.x dL_law_1607 ?_
          refine x_iadd Ma.x dL_law_1608 ?_
          refine h_iald9 Ma.ga Th247 dL_law_1609 e (fun v249 tv249 e => ?_)
          obtain ⟨mok9, mex9, w9, s9, e1, v250, r9, h251, i9, e⟩ := m_bind2 e
          refine m_callV2 Ma.b Th247 Oh247 [(0, v248), (0, v249)] [] [(0, v250)] rfl (fun mok n => S_functionAt (fd_mG Th247 mok) (sgm h247 v4) (tf_sgm Th247 mok) v248 v249 tv248 tv249 e1) mok9 mex9 (by decide) r9 i9 dL_law_1610 q3661 q3662 q3663 q226 q3664 ck_X4_functionAt rfl rfl rfl rfl rfl (fun tv250 Th251 Oh251 => ?_)
          refine x_istore Ma.x (lv' := [(6, (0, v250)), (5, (0, v246)), (0, (2, p0_)), (1, (2, v1)), (2, (2, v4)), (3, (2, v7)), (4, (0, l4_9))]) dL_law_1613 [0, 1, 2, 3, 4, 5] rfl rfl (by decide) ?_
          refine x_aload_n Ma.x dL_law_1615 4 rfl ?_
          obtain ⟨mok9, mex9, w9, s9, e1, v252, r9, h253, i9, e⟩ := m_bind2 e
          obtain ⟨u9, e2, e3⟩ := bds e1
          cases e3
          have e1 := e2
          refine m_callV2 Ma.b Th251 Oh251 [] [] [(0, v252)] rfl (fun mok n => S_thrown (fd_mG Th251 mok) (sgm h251 v4) (tf_sgm Th251 mok) e1) mok9 mex9 (by decide) r9 i9 dL_law_1616 q3161 q3162 q3163 q226 q3164 ck_X4_thrown rfl rfl rfl rfl rfl (fun tv252 Th253 Oh253 => ?_)
          refine x_iload Ma.x dL_law_1619 1 rfl ?_
          refine x_icmp_eq Ma.x 1626 dL_law_1621 rfl tv252 tv246 e (fun e => ?_) (fun e => ?_)
          · refine x_iload Ma.x dL_law_1626 1 rfl ?_
            refine x_if_ne Ma.x 1643 dL_law_1628 rfl tv246 e (fun e => ?_) (fun e => ?_)
            · refine x_aload_n Ma.x dL_law_1631 5 rfl ?_
              refine x_iconst Ma.x dL_law_1632 ?_
              refine h_lald Ma.ga Th253 dL_law_1633 e (fun v254 tv254 e => ?_)
              refine x_iload Ma.x dL_law_1634 0 rfl ?_
              refine x_i2l Ma.x dL_law_1636 tv250 ?_
              refine x_lcmp Ma.x dL_law_1637 ?_
              refine x_if_eq Ma.x 1643 dL_law_1638 rfl (cmp64_in _ _) e (fun e => ?_) (fun e => ?_)
              · refine x_goto Ma.x 2515 dL_law_1643 rfl ?_
                exact x_drop [2, 3, 4, 5, 6] rfl (hj19 h253 e Th253 Oh253)
              · refine x_iconst Ma.x dL_law_1641 ?_
                have e := lfl e hY12
                exact a_retz dL_law_1642 (congrArg Prod.fst (Option.some.inj e)) (congrArg Prod.snd (Option.some.inj e)) Th253 litZ0
            · refine x_goto Ma.x 2515 dL_law_1643 rfl ?_
              exact x_drop [2, 3, 4, 5, 6] rfl (hj19 h253 e Th253 Oh253)
          · refine x_iconst Ma.x dL_law_1624 ?_
            have e := lfl e hY12
            exact a_retz dL_law_1625 (congrArg Prod.fst (Option.some.inj e)) (congrArg Prod.snd (Option.some.inj e)) Th253 litZ0
        rw [if_neg q21] at e
        by_cases q22 : (and32 v15 63) = 22
        · rw [if_pos q22] at e
          refine x_tabK Ma.x dL_law_39 (and32_in _ _) q22 1646 (by decide) rfl rfl ?_
          refine x_aload_n Ma.x dL_law_1646 1 rfl ?_
          refine x_aload_n Ma.x dL_law_1647 0 rfl ?_
          refine x_iload Ma.x dL_law_1648 4 rfl ?_
          refine x_iconst Ma.x dL_law_1650 ?_
          refine x_iadd Ma.x dL_law_1651 ?_
          refine h_iald9 Ma.ga Th10 dL_law_1652 e (fun v255 tv255 e => ?_)
          refine x_aload_n Ma.x dL_law_1653 0 rfl ?_
          refine x_iload Ma.x dL_law_1654 4 rfl ?_
          refine x_iconst Ma.x dL_law_1656 ?_
          refine x_iadd Ma.x dL_law_1657 ?_
          refine h_iald9 Ma.ga Th10 dL_law_1658 e (fun v256 tv256 e => ?_)
          refine x_aload_n Ma.x dL_law_1659 3 rfl ?_
          obtain ⟨⟨v257, h258⟩, e1, e⟩ := bds e
          refine w_callS Ma.b Th10 Oh10 [(2, v1), (0, v255), (0, v256), (2, v7)] [] [(0, v257)] (T_X0_binding C hE hl9 h10 Th10 v1 v255 v256 v7 tv1 tv255 tv256 tv7 e1) dL_law_1660 q2494 q2495 q215 q2496 ck_X0_binding rfl rfl rfl rfl rfl (fun tv257 Th258 Oh258 => ?_)
          refine x_istore Ma.x (lv' := [(5, (0, v257)), (0, (2, p0_)), (1, (2, v1)), (2, (2, v4)), (3, (2, v7)), (4, (0, l4_9))]) dL_law_1663 [0, 1, 2, 3, 4] rfl rfl (by decide) ?_
          refine x_aload_n Ma.x dL_law_1665 3 rfl ?_
          refine x_aload_n Ma.x dL_law_1666 1 rfl ?_
          refine x_iload Ma.x dL_law_1667 5 rfl ?_
          refine x_iconst Ma.x dL_law_1669 ?_
          refine x_iadd Ma.x dL_law_1670 ?_
          refine h_iald9 Ma.ga Th258 dL_law_1671 e (fun v259 tv259 e => ?_)
          refine x_aload_n Ma.x dL_law_1672 1 rfl ?_
          refine x_iload Ma.x dL_law_1673 5 rfl ?_
          refine x_iconst Ma.x dL_law_1675 ?_
          refine x_iadd Ma.x dL_law_1676 ?_
          refine h_iald9 Ma.ga Th258 dL_law_1677 e (fun v260 tv260 e => ?_)
          obtain ⟨mok9, mex9, w9, s9, e1, v261, r9, h262, i9, e⟩ := m_bind2 e
          refine m_callV2 Ma.b Th258 Oh258 [(0, v259), (0, v260)] [] [(0, v261)] rfl (fun mok n => S_binding (fd_mG Th258 mok) (sgm h258 v4) (tf_sgm Th258 mok) v259 v260 tv259 tv260 e1) mok9 mex9 (by decide) r9 i9 dL_law_1678 q3665 q3666 q3667 q226 q3668 ck_X4_binding rfl rfl rfl rfl rfl (fun tv261 Th262 Oh262 => ?_)
          refine x_istore Ma.x (lv' := [(6, (0, v261)), (5, (0, v257)), (0, (2, p0_)), (1, (2, v1)), (2, (2, v4)), (3, (2, v7)), (4, (0, l4_9))]) dL_law_1681 [0, 1, 2, 3, 4, 5] rfl rfl (by decide) ?_
          refine x_aload_n Ma.x dL_law_1683 4 rfl ?_
          obtain ⟨mok9, mex9, w9, s9, e1, v263, r9, h264, i9, e⟩ := m_bind2 e
          obtain ⟨u9, e2, e3⟩ := bds e1
          cases e3
          have e1 := e2
          refine m_callV2 Ma.b Th262 Oh262 [] [] [(0, v263)] rfl (fun mok n => S_thrown (fd_mG Th262 mok) (sgm h262 v4) (tf_sgm Th262 mok) e1) mok9 mex9 (by decide) r9 i9 dL_law_1684 q3161 q3162 q3163 q226 q3164 ck_X4_thrown rfl rfl rfl rfl rfl (fun tv263 Th264 Oh264 => ?_)
          refine x_iload Ma.x dL_law_1687 1 rfl ?_
          refine x_icmp_eq Ma.x 1694 dL_law_1689 rfl tv263 tv257 e (fun e => ?_) (fun e => ?_)
          · refine x_iload Ma.x dL_law_1694 1 rfl ?_
            refine x_if_ne Ma.x 1711 dL_law_1696 rfl tv257 e (fun e => ?_) (fun e => ?_)
            · refine x_aload_n Ma.x dL_law_1699 5 rfl ?_
              refine x_iconst Ma.x dL_law_1700 ?_
              refine h_lald Ma.ga Th264 dL_law_1701 e (fun v265 tv265 e => ?_)
              refine x_iload Ma.x dL_law_1702 0 rfl ?_
              refine x_i2l Ma.x dL_law_1704 tv261 ?_
              refine x_lcmp Ma.x dL_law_1705 ?_
              refine x_if_eq Ma.x 1711 dL_law_1706 rfl (cmp64_in _ _) e (fun e => ?_) (fun e => ?_)
              · refine x_goto Ma.x 2515 dL_law_1711 rfl ?_
                exact x_drop [2, 3, 4, 5, 6] rfl (hj19 h264 e Th264 Oh264)
              · refine x_iconst Ma.x dL_law_1709 ?_
                have e := lfl e hY12
                exact a_retz dL_law_1710 (congrArg Prod.fst (Option.some.inj e)) (congrArg Prod.snd (Option.some.inj e)) Th264 litZ0
            · refine x_goto Ma.x 2515 dL_law_1711 rfl ?_
              exact x_drop [2, 3, 4, 5, 6] rfl (hj19 h264 e Th264 Oh264)
          · refine x_iconst Ma.x dL_law_1692 ?_
            have e := lfl e hY12
            exact a_retz dL_law_1693 (congrArg Prod.fst (Option.some.inj e)) (congrArg Prod.snd (Option.some.inj e)) Th264 litZ0
        rw [if_neg q22] at e
        by_cases q23 : (and32 v15 63) = 23
        · rw [if_pos q23] at e
          refine x_tabK Ma.x dL_law_39 (and32_in _ _) q23 1714 (by decide) rfl rfl ?_
          refine x_aload_n Ma.x dL_law_1714 1 rfl ?_
          refine x_aload_n Ma.x dL_law_1715 0 rfl ?_
          refine x_iload Ma.x dL_law_1716 4 rfl ?_
          refine x_iconst Ma.x dL_law_1718 ?_
          refine x_iadd Ma.x dL_law_1719 ?_
          refine h_iald9 Ma.ga Th10 dL_law_1720 e (fun v266 tv266 e => ?_)
          refine x_aload_n Ma.x dL_law_1721 0 rfl ?_
          refine x_iload Ma.x dL_law_1722 4 rfl ?_
          refine x_iconst Ma.x dL_law_1724 ?_
          refine x_iadd Ma.x dL_law_1725 ?_
          refine h_iald9 Ma.ga Th10 dL_law_1726 e (fun v267 tv267 e => ?_)
          refine x_aload_n Ma.x dL_law_1727 3 rfl ?_
          obtain ⟨⟨v268, h269⟩, e1, e⟩ := bds e
          refine w_callS Ma.b Th10 Oh10 [(2, v1), (0, v266), (0, v267), (2, v7)] [] [(0, v268)] (T_X0_bindingAnew C hE hl9 h10 Th10 v1 v266 v267 v7 tv1 tv266 tv267 tv7 e1) dL_law_1728 q2501 q2502 q215 q2503 ck_X0_bindingAnew rfl rfl rfl rfl rfl (fun tv268 Th269 Oh269 => ?_)
          refine x_istore Ma.x (lv' := [(5, (0, v268)), (0, (2, p0_)), (1, (2, v1)), (2, (2, v4)), (3, (2, v7)), (4, (0, l4_9))]) dL_law_1731 [0, 1, 2, 3, 4] rfl rfl (by decide) ?_
          refine x_aload_n Ma.x dL_law_1733 3 rfl ?_
          refine x_aload_n Ma.x dL_law_1734 1 rfl ?_
          refine x_iload Ma.x dL_law_1735 5 rfl ?_
          refine x_iconst Ma.x dL_law_1737 ?_
          refine x_iadd Ma.x dL_law_1738 ?_
          refine h_iald9 Ma.ga Th269 dL_law_1739 e (fun v270 tv270 e => ?_)
          refine x_aload_n Ma.x dL_law_1740 1 rfl ?_
          refine x_iload Ma.x dL_law_1741 5 rfl ?_
          refine x_iconst Ma.x dL_law_1743 ?_
          refine x_iadd Ma.x dL_law_1744 ?_
          refine h_iald9 Ma.ga Th269 dL_law_1745 e (fun v271 tv271 e => ?_)
          obtain ⟨mok9, mex9, w9, s9, e1, v272, r9, h273, i9, e⟩ := m_bind2 e
          refine m_callV2 Ma.b Th269 Oh269 [(0, v270), (0, v271)] [] [(0, v272)] rfl (fun mok n => S_bindingAnew (fd_mG Th269 mok) (sgm h269 v4) (tf_sgm Th269 mok) v270 v271 tv270 tv271 e1) mok9 mex9 (by decide) r9 i9 dL_law_1746 q3669 q3670 q3671 q226 q3672 ck_X4_bindingAnew rfl rfl rfl rfl rfl (fun tv272 Th273 Oh273 => ?_)
          refine x_istore Ma.x (lv' := [(6, (0, v272)), (5, (0, v268)), (0, (2, p0_)), (1, (2, v1)), (2, (2, v4)), (3, (2, v7)), (4, (0, l4_9))]) dL_law_1749 [0, 1, 2, 3, 4, 5] rfl rfl (by decide) ?_
          refine x_aload_n Ma.x dL_law_1751 4 rfl ?_
          obtain ⟨mok9, mex9, w9, s9, e1, v274, r9, h275, i9, e⟩ := m_bind2 e
          obtain ⟨u9, e2, e3⟩ := bds e1
          cases e3
          have e1 := e2
          refine m_callV2 Ma.b Th273 Oh273 [] [] [(0, v274)] rfl (fun mok n => S_thrown (fd_mG Th273 mok) (sgm h273 v4) (tf_sgm Th273 mok) e1) mok9 mex9 (by decide) r9 i9 dL_law_1752 q3161 q3162 q3163 q226 q3164 ck_X4_thrown rfl rfl rfl rfl rfl (fun tv274 Th275 Oh275 => ?_)
          refine x_iload Ma.x dL_law_1755 1 rfl ?_
          refine x_icmp_eq Ma.x 1762 dL_law_1757 rfl tv274 tv268 e (fun e => ?_) (fun e => ?_)
          · refine x_iload Ma.x dL_law_1762 1 rfl ?_
            refine x_if_ne Ma.x 1779 dL_law_1764 rfl tv268 e (fun e => ?_) (fun e => ?_)
            · refine x_aload_n Ma.x dL_law_1767 5 rfl ?_
              refine x_iconst Ma.x dL_law_1768 ?_
              refine h_lald Ma.ga Th275 dL_law_1769 e (fun v276 tv276 e => ?_)
              refine x_iload Ma.x dL_law_1770 0 rfl ?_
              refine x_i2l Ma.x dL_law_1772 tv272 ?_
              refine x_lcmp Ma.x dL_law_1773 ?_
              refine x_if_eq Ma.x 1779 dL_law_1774 rfl (cmp64_in _ _) e (fun e => ?_) (fun e => ?_)
              · refine x_goto Ma.x 2515 dL_law_1779 rfl ?_
                exact x_drop [2, 3, 4, 5, 6] rfl (hj19 h275 e Th275 Oh275)
              · refine x_iconst Ma.x dL_law_1777 ?_
                have e := lfl e hY12
                exact a_retz dL_law_1778 (congrArg Prod.fst (Option.some.inj e)) (congrArg Prod.snd (Option.some.inj e)) Th275 litZ0
            · refine x_goto Ma.x 2515 dL_law_1779 rfl ?_
              exact x_drop [2, 3, 4, 5, 6] rfl (hj19 h275 e Th275 Oh275)
          · refine x_iconst Ma.x dL_law_1760 ?_
            have e := lfl e hY12
            exact a_retz dL_law_1761 (congrArg Prod.fst (Option.some.inj e)) (congrArg Prod.snd (Option.some.inj e)) Th275 litZ0
        rw [if_neg q23] at e
        by_cases q24 : (and32 v15 63) = 24
        · rw [if_pos q24] at e
          refine x_tabK Ma.x dL_law_39 (and32_in _ _) q24 1782 (by decide) rfl rfl ?_
          refine x_aload_n Ma.x dL_law_1782 1 rfl ?_
          refine x_aload_n Ma.x dL_law_1783 0 rfl ?_
          refine x_iload Ma.x dL_law_1784 4 rfl ?_
          refine x_iconst Ma.x dL_law_1786 ?_
          refine x_iadd Ma.x dL_law_1787 ?_
          refine h_iald9 Ma.ga Th10 dL_law_1788 e (fun v277 tv277 e => ?_)
          refine x_aload_n Ma.x dL_law_1789 0 rfl ?_
          refine x_iload Ma.x dL_law_1790 4 rfl ?_
          refine x_iconst Ma.x dL_law_1792 ?_
          refine x_iadd Ma.x dL_law_1793 ?_
          refine h_iald9 Ma.ga Th10 dL_law_1794 e (fun v278 tv278 e => ?_)
          refine x_aload_n Ma.x dL_law_1795 3 rfl ?_
          obtain ⟨⟨v279, h280⟩, e1, e⟩ := bds e
          refine w_callS Ma.b Th10 Oh10 [(2, v1), (0, v277), (0, v278), (2, v7)] [] [(0, v279)] (T_X0_typeOf C hE hl9 h10 Th10 v1 v277 v278 v7 tv1 tv277 tv278 tv7 e1) dL_law_1796 q2508 q2509 q215 q2510 ck_X0_typeOf rfl rfl rfl rfl rfl (fun tv279 Th280 Oh280 => ?_)
          refine x_istore Ma.x (lv' := [(5, (0, v279)), (0, (2, p0_)), (1, (2, v1)), (2, (2, v4)), (3, (2, v7)), (4, (0, l4_9))]) dL_law_1799 [0, 1, 2, 3, 4] rfl rfl (by decide) ?_
          refine x_aload_n Ma.x dL_law_1801 3 rfl ?_
          refine x_aload_n Ma.x dL_law_1802 1 rfl ?_
          refine x_iload Ma.x dL_law_1803 5 rfl ?_
          refine x_iconst Ma.x dL_law_1805 ?_
          refine x_iadd Ma.x dL_law_1806 ?_
          refine h_iald9 Ma.ga Th280 dL_law_1807 e (fun v281 tv281 e => ?_)
          refine x_aload_n Ma.x dL_law_1808 1 rfl ?_
          refine x_iload Ma.x dL_law_1809 5 rfl ?_
          refine x_iconst Ma.x dL_law_1811 ?_
          refine x_iadd Ma.x dL_law_1812 ?_
          refine h_iald9 Ma.ga Th280 dL_law_1813 e (fun v282 tv282 e => ?_)
          obtain ⟨mok9, mex9, w9, s9, e1, v283, r9, h284, i9, e⟩ := m_bind2 e
          refine m_callV2 Ma.b Th280 Oh280 [(0, v281), (0, v282)] [] [(0, v283)] rfl (fun mok n => S_typeOf (fd_mG Th280 mok) (sgm h280 v4) (tf_sgm Th280 mok) v281 v282 tv281 tv282 e1) mok9 mex9 (by decide) r9 i9 dL_law_1814 q3674 q3675 q3676 q226 q3677 ck_X4_typeOf rfl rfl rfl rfl rfl (fun tv283 Th284 Oh284 => ?_)
          refine x_istore Ma.x (lv' := [(6, (0, v283)), (5, (0, v279)), (0, (2, p0_)), (1, (2, v1)), (2, (2, v4)), (3, (2, v7)), (4, (0, l4_9))]) dL_law_1817 [0, 1, 2, 3, 4, 5] rfl rfl (by decide) ?_
          refine x_aload_n Ma.x dL_law_1819 4 rfl ?_
          obtain ⟨mok9, mex9, w9, s9, e1, v285, r9, h286, i9, e⟩ := m_bind2 e
          obtain ⟨u9, e2, e3⟩ := bds e1
          cases e3
          have e1 := e2
          refine m_callV2 Ma.b Th284 Oh284 [] [] [(0, v285)] rfl (fun mok n => S_thrown (fd_mG Th284 mok) (sgm h284 v4) (tf_sgm Th284 mok) e1) mok9 mex9 (by decide) r9 i9 dL_law_1820 q3161 q3162 q3163 q226 q3164 ck_X4_thrown rfl rfl rfl rfl rfl (fun tv285 Th286 Oh286 => ?_)
          refine x_iload Ma.x dL_law_1823 1 rfl ?_
          refine x_icmp_eq Ma.x 1830 dL_law_1825 rfl tv285 tv279 e (fun e => ?_) (fun e => ?_)
          · refine x_iload Ma.x dL_law_1830 1 rfl ?_
            refine x_if_ne Ma.x 1847 dL_law_1832 rfl tv279 e (fun e => ?_) (fun e => ?_)
            · refine x_aload_n Ma.x dL_law_1835 5 rfl ?_
              refine x_iconst Ma.x dL_law_1836 ?_
              refine h_lald Ma.ga Th286 dL_law_1837 e (fun v287 tv287 e => ?_)
              refine x_iload Ma.x dL_law_1838 0 rfl ?_
              refine x_i2l Ma.x dL_law_1840 tv283 ?_
              refine x_lcmp Ma.x dL_law_1841 ?_
              refine x_if_eq Ma.x 1847 dL_law_1842 rfl (cmp64_in _ _) e (fun e => ?_) (fun e => ?_)
              · refine x_goto Ma.x 2515 dL_law_1847 rfl ?_
                exact x_drop [2, 3, 4, 5, 6] rfl (hj19 h286 e Th286 Oh286)
              · refine x_iconst Ma.x dL_law_1845 ?_
                have e := lfl e hY12
                exact a_retz dL_law_1846 (congrArg Prod.fst (Option.some.inj e)) (congrArg Prod.snd (Option.some.inj e)) Th286 litZ0
            · refine x_goto Ma.x 2515 dL_law_1847 rfl ?_
              exact x_drop [2, 3, 4, 5, 6] rfl (hj19 h286 e Th286 Oh286)
          · refine x_iconst Ma.x dL_law_1828 ?_
            have e := lfl e hY12
            exact a_retz dL_law_1829 (congrArg Prod.fst (Option.some.inj e)) (congrArg Prod.snd (Option.some.inj e)) Th286 litZ0
        rw [if_neg q24] at e
        by_cases q25 : (and32 v15 63) = 25
        · rw [if_pos q25] at e
          refine x_tabK Ma.x dL_law_39 (and32_in _ _) q25 1850 (by decide) rfl rfl ?_
          refine x_aload_n Ma.x dL_law_1850 1 rfl ?_
          obtain ⟨q288, e⟩ := bds1 e
          obtain ⟨⟨v289, h290⟩, e1, e⟩ := bds e
          refine a_callV Ma.b Th10 Oh10 [] [] [(0, v289)] (T_X1_typeErrors C hE hl9 h10 Th10 v1 tv1 (tgc_s q288) e1) (tgc_s q288) ⟨by decide, by decide, _, rfl, rfl⟩ dL_law_1851 q512 q513 q514 q216 q515 ck_X1_typeErrors rfl rfl rfl rfl rfl (fun tv289 Th290 Oh290 => ?_)
          refine x_aload_n Ma.x dL_law_1854 2 rfl ?_
          obtain ⟨mok9, mex9, w9, s9, e1, v291, r9, h292, i9, e⟩ := m_bind2 e
          refine m_callV2 Ma.b Th290 Oh290 [] [(0, v289)] [(0, v291), (0, v289)] rfl (fun mok n => S_typeErrors (fd_mG Th290 mok) (sgm h290 v4) (tf_sgm Th290 mok) e1) mok9 mex9 (by decide) r9 i9 dL_law_1855 q3713 q3714 q3715 q226 q3716 ck_X4_typeErrors rfl rfl rfl rfl rfl (fun tv291 Th292 Oh292 => ?_)
          refine x_icmp_eq Ma.x 2515 dL_law_1858 rfl tv289 tv291 e (fun e => ?_) (fun e => ?_)
          · exact x_drop [0, 1, 2, 3, 4] rfl (hj19 h292 e Th292 Oh292)
          · refine x_iconst Ma.x dL_law_1861 ?_
            have e := lfl e hY12
            exact a_retz dL_law_1862 (congrArg Prod.fst (Option.some.inj e)) (congrArg Prod.snd (Option.some.inj e)) Th292 litZ0
        rw [if_neg q25] at e
        by_cases q26 : (and32 v15 63) = 26
        · rw [if_pos q26] at e
          refine x_tabK Ma.x dL_law_39 (and32_in _ _) q26 1863 (by decide) rfl rfl ?_
          refine x_aload_n Ma.x dL_law_1863 1 rfl ?_
          refine x_aload_n Ma.x dL_law_1864 0 rfl ?_
          refine x_iload Ma.x dL_law_1865 4 rfl ?_
          refine x_iconst Ma.x dL_law_1867 ?_
          refine x_iadd Ma.x dL_law_1868 ?_
          refine h_iald9 Ma.ga Th10 dL_law_1869 e (fun v293 tv293 e => ?_)
          refine x_aload_n Ma.x dL_law_1870 3 rfl ?_
          obtain ⟨⟨v294, h295⟩, e1, e⟩ := bds e
          refine w_callS Ma.b Th10 Oh10 [(2, v1), (0, v293), (2, v7)] [] [(0, v294)] (T_X0_typeErrorAt C hE hl9 h10 Th10 v1 v293 v7 tv1 tv293 tv7 e1) dL_law_1871 q2519 q2520 q215 q2521 ck_X0_typeErrorAt rfl rfl rfl rfl rfl (fun tv294 Th295 Oh295 => ?_)
          refine x_istore Ma.x (lv' := [(5, (0, v294)), (0, (2, p0_)), (1, (2, v1)), (2, (2, v4)), (3, (2, v7)), (4, (0, l4_9))]) dL_law_1874 [0, 1, 2, 3, 4] rfl rfl (by decide) ?_
          refine x_aload_n Ma.x dL_law_1876 3 rfl ?_
          refine x_aload_n Ma.x dL_law_1877 1 rfl ?_
          refine x_iload Ma.x dL_law_1878 5 rfl ?_
          refine x_iconst Ma.x dL_law_1880 ?_
          refine x_iadd Ma.x dL_law_1881 ?_
          refine h_iald9 Ma.ga Th295 dL_law_1882 e (fun v296 tv296 e => ?_)
          obtain ⟨mok9, mex9, w9, s9, e1, v297, r9, h298, i9, e⟩ := m_bind2 e
          refine m_callV2 Ma.b Th295 Oh295 [(0, v296)] [] [(0, v297)] rfl (fun mok n => S_typeErrorAt (fd_mG Th295 mok) (sgm h295 v4) (tf_sgm Th295 mok) v296 tv296 e1) mok9 mex9 (by decide) r9 i9 dL_law_1883 q3717 q3718 q3719 q226 q3720 ck_X4_typeErrorAt rfl rfl rfl rfl rfl (fun tv297 Th298 Oh298 => ?_)
          refine x_istore Ma.x (lv' := [(6, (0, v297)), (5, (0, v294)), (0, (2, p0_)), (1, (2, v1)), (2, (2, v4)), (3, (2, v7)), (4, (0, l4_9))]) dL_law_1886 [0, 1, 2, 3, 4, 5] rfl rfl (by decide) ?_
          refine x_aload_n Ma.x dL_law_1888 4 rfl ?_
          obtain ⟨mok9, mex9, w9, s9, e1, v299, r9, h300, i9, e⟩ := m_bind2 e
          obtain ⟨u9, e2, e3⟩ := bds e1
          cases e3
          have e1 := e2
          refine m_callV2 Ma.b Th298 Oh298 [] [] [(0, v299)] rfl (fun mok n => S_thrown (fd_mG Th298 mok) (sgm h298 v4) (tf_sgm Th298 mok) e1) mok9 mex9 (by decide) r9 i9 dL_law_1889 q3161 q3162 q3163 q226 q3164 ck_X4_thrown rfl rfl rfl rfl rfl (fun tv299 Th300 Oh300 => ?_)
          refine x_iload Ma.x dL_law_1892 1 rfl ?_
          refine x_icmp_eq Ma.x 1899 dL_law_1894 rfl tv299 tv294 e (fun e => ?_) (fun e => ?_)
          · refine x_iload Ma.x dL_law_1899 1 rfl ?_
            refine x_if_ne Ma.x 1916 dL_law_1901 rfl tv294 e (fun e => ?_) (fun e => ?_)
            · refine x_aload_n Ma.x dL_law_1904 5 rfl ?_
              refine x_iconst Ma.x dL_law_1905 ?_
              refine h_lald Ma.ga Th300 dL_law_1906 e (fun v301 tv301 e => ?_)
              refine x_iload Ma.x dL_law_1907 0 rfl ?_
              refine x_i2l Ma.x dL_law_1909 tv297 ?_
              refine x_lcmp Ma.x dL_law_1910 ?_
              refine x_if_eq Ma.x 1916 dL_law_1911 rfl (cmp64_in _ _) e (fun e => ?_) (fun e => ?_)
              · refine x_goto Ma.x 2515 dL_law_1916 rfl ?_
                exact x_drop [2, 3, 4, 5, 6] rfl (hj19 h300 e Th300 Oh300)
              · refine x_iconst Ma.x dL_law_1914 ?_
                have e := lfl e hY12
                exact a_retz dL_law_1915 (congrArg Prod.fst (Option.some.inj e)) (congrArg Prod.snd (Option.some.inj e)) Th300 litZ0
            · refine x_goto Ma.x 2515 dL_law_1916 rfl ?_
              exact x_drop [2, 3, 4, 5, 6] rfl (hj19 h300 e Th300 Oh300)
          · refine x_iconst Ma.x dL_law_1897 ?_
            have e := lfl e hY12
            exact a_retz dL_law_1898 (congrArg Prod.fst (Option.some.inj e)) (congrArg Prod.snd (Option.some.inj e)) Th300 litZ0
        rw [if_neg q26] at e
        by_cases q27 : (and32 v15 63) = 27
        · rw [if_pos q27] at e
          refine x_tabK Ma.x dL_law_39 (and32_in _ _) q27 1919 (by decide) rfl rfl ?_
          refine x_aload_n Ma.x dL_law_1919 1 rfl ?_
          refine x_aload_n Ma.x dL_law_1920 0 rfl ?_
          refine x_iload Ma.x dL_law_1921 4 rfl ?_
          refine x_iconst Ma.x dL_law_1923 ?_
          refine x_iadd Ma.x dL_law_1924 ?_
          refine h_iald9 Ma.ga Th10 dL_law_1925 e (fun v302 tv302 e => ?_)
          refine x_i2c Ma.x dL_law_1926 ?_
          refine x_aload_n Ma.x dL_law_1927 3 rfl ?_
          obtain ⟨⟨v303, h304⟩, e1, e⟩ := bds e
          refine w_callS Ma.b Th10 Oh10 [(2, v1), (0, (chr v302)), (2, v7)] [] [(0, v303)] (T_X0_spell C hE hl9 h10 Th10 v1 (chr v302) v7 tv1 (chr_ti _) tv7 e1) dL_law_1928 q2528 q2529 q215 q2530 ck_X0_spell rfl rfl rfl rfl rfl (fun tv303 Th304 Oh304 => ?_)
          refine x_istore Ma.x (lv' := [(5, (0, v303)), (0, (2, p0_)), (1, (2, v1)), (2, (2, v4)), (3, (2, v7)), (4, (0, l4_9))]) dL_law_1931 [0, 1, 2, 3, 4] rfl rfl (by decide) ?_
          refine x_aload_n Ma.x dL_law_1933 3 rfl ?_
          refine x_aload_n Ma.x dL_law_1934 1 rfl ?_
          refine x_iload Ma.x dL_law_1935 5 rfl ?_
          refine x_iconst Ma.x dL_law_1937 ?_
          refine x_iadd Ma.x dL_law_1938 ?_
          refine h_iald9 Ma.ga Th304 dL_law_1939 e (fun v305 tv305 e => ?_)
          refine x_i2c Ma.x dL_law_1940 ?_
          obtain ⟨mok9, mex9, w9, s9, e1, v306, r9, h307, i9, e⟩ := m_bind2 e
          refine m_callV2 Ma.b Th304 Oh304 [(0, (chr v305))] [] [(0, v306)] rfl (fun mok n => S_spell (fd_mG Th304 mok) (sgm h304 v4) (tf_sgm Th304 mok) (chr v305) (chr_ti _) e1) mok9 mex9 (by decide) r9 i9 dL_law_1941 q3721 q3722 q3723 q226 q3724 ck_X4_spell rfl rfl rfl rfl rfl (fun tv306 Th307 Oh307 => ?_)
          refine x_istore Ma.x (lv' := [(6, (0, v306)), (5, (0, v303)), (0, (2, p0_)), (1, (2, v1)), (2, (2, v4)), (3, (2, v7)), (4, (0, l4_9))]) dL_law_1944 [0, 1, 2, 3, 4, 5] rfl rfl (by decide) ?_
          refine x_aload_n Ma.x dL_law_1946 4 rfl ?_
          obtain ⟨mok9, mex9, w9, s9, e1, v308, r9, h309, i9, e⟩ := m_bind2 e
          obtain ⟨u9, e2, e3⟩ := bds e1
          cases e3
          have e1 := e2
          refine m_callV2 Ma.b Th307 Oh307 [] [] [(0, v308)] rfl (fun mok n => S_thrown (fd_mG Th307 mok) (sgm h307 v4) (tf_sgm Th307 mok) e1) mok9 mex9 (by decide) r9 i9 dL_law_1947 q3161 q3162 q3163 q226 q3164 ck_X4_thrown rfl rfl rfl rfl rfl (fun tv308 Th309 Oh309 => ?_)
          refine x_iload Ma.x dL_law_1950 1 rfl ?_
          refine x_icmp_eq Ma.x 1957 dL_law_1952 rfl tv308 tv303 e (fun e => ?_) (fun e => ?_)
          · refine x_iload Ma.x dL_law_1957 1 rfl ?_
            refine x_if_ne Ma.x 1974 dL_law_1959 rfl tv303 e (fun e => ?_) (fun e => ?_)
            · refine x_aload_n Ma.x dL_law_1962 5 rfl ?_
              refine x_iconst Ma.x dL_law_1963 ?_
              refine h_lald Ma.ga Th309 dL_law_1964 e (fun v310 tv310 e => ?_)
              refine x_iload Ma.x dL_law_1965 0 rfl ?_
              refine x_i2l Ma.x dL_law_1967 tv306 ?_
              refine x_lcmp Ma.x dL_law_1968 ?_
              refine x_if_eq Ma.x 1974 dL_law_1969 rfl (cmp64_in _ _) e (fun e => ?_) (fun e => ?_)
              · refine x_goto Ma.x 2515 dL_law_1974 rfl ?_
                exact x_drop [2, 3, 4, 5, 6] rfl (hj19 h309 e Th309 Oh309)
              · refine x_iconst Ma.x dL_law_1972 ?_
                have e := lfl e hY12
                exact a_retz dL_law_1973 (congrArg Prod.fst (Option.some.inj e)) (congrArg Prod.snd (Option.some.inj e)) Th309 litZ0
            · refine x_goto Ma.x 2515 dL_law_1974 rfl ?_
              exact x_drop [2, 3, 4, 5, 6] rfl (hj19 h309 e Th309 Oh309)
          · refine x_iconst Ma.x dL_law_1955 ?_
            have e := lfl e hY12
            exact a_retz dL_law_1956 (congrArg Prod.fst (Option.some.inj e)) (congrArg Prod.snd (Option.some.inj e)) Th309 litZ0
        rw [if_neg q27] at e
        by_cases q28 : (and32 v15 63) = 28
        · rw [if_pos q28] at e
          refine x_tabK Ma.x dL_law_39 (and32_in _ _) q28 1977 (by decide) rfl rfl ?_
          refine x_aload_n Ma.x dL_law_1977 1 rfl ?_
          obtain ⟨q311, e⟩ := bds1 e
          obtain ⟨⟨v312, h313⟩, e1, e⟩ := bds e
          refine a_callV Ma.b Th10 Oh10 [] [] [(0, v312)] (T_X1_clearName C hE h10 Th10 v1 tv1 (tgc_s q311) e1) (tgc_s q311) ⟨by decide, by decide, _, rfl, rfl⟩ dL_law_1978 q1477 q1478 q1479 q216 q1480 ck_X1_clearName rfl rfl rfl rfl rfl (fun tv312 Th313 Oh313 => ?_)
          refine x_aload_n Ma.x dL_law_1981 2 rfl ?_
          obtain ⟨mok9, mex9, w9, s9, e1, v314, r9, h315, i9, e⟩ := m_bind2 e
          refine m_callV2 Ma.b Th313 Oh313 [] [(0, v312)] [(0, v314), (0, v312)] rfl (fun mok n => S_clearName (fd_mG Th313 mok) (sgm h313 v4) (tf_sgm Th313 mok) e1) mok9 mex9 (by decide) r9 i9 dL_law_1982 q3725 q3726 q3727 q226 q3728 ck_X4_clearName rfl rfl rfl rfl rfl (fun tv314 Th315 Oh315 => ?_)
          refine x_icmp_eq Ma.x 2515 dL_law_1985 rfl tv312 tv314 e (fun e => ?_) (fun e => ?_)
          · exact x_drop [0, 1, 2, 3, 4] rfl (hj19 h315 e Th315 Oh315)
          · refine x_iconst Ma.x dL_law_1988 ?_
            have e := lfl e hY12
            exact a_retz dL_law_1989 (congrArg Prod.fst (Option.some.inj e)) (congrArg Prod.snd (Option.some.inj e)) Th315 litZ0
        rw [if_neg q28] at e
        by_cases q29 : (and32 v15 63) = 29
        · rw [if_pos q29] at e
          refine x_tabK Ma.x dL_law_39 (and32_in _ _) q29 1990 (by decide) rfl rfl ?_
          refine x_aload_n Ma.x dL_law_1990 1 rfl ?_
          refine x_aload_n Ma.x dL_law_1991 0 rfl ?_
          refine x_iload Ma.x dL_law_1992 4 rfl ?_
          refine x_iconst Ma.x dL_law_1994 ?_
          refine x_iadd Ma.x dL_law_1995 ?_
          refine h_iald9 Ma.ga Th10 dL_law_1996 e (fun v316 tv316 e => ?_)
          refine x_aload_n Ma.x dL_law_1997 0 rfl ?_
          refine x_iload Ma.x dL_law_1998 4 rfl ?_
          refine x_iconst Ma.x dL_law_2000 ?_
          refine x_iadd Ma.x dL_law_2001 ?_
          refine h_iald9 Ma.ga Th10 dL_law_2002 e (fun v317 tv317 e => ?_)
          refine x_aload_n Ma.x dL_law_2003 3 rfl ?_
          obtain ⟨⟨v318, h319⟩, e1, e⟩ := bds e
          refine w_callS Ma.b Th10 Oh10 [(2, v1), (0, v316), (0, v317), (2, v7)] [] [(0, v318)] (T_X0_completions C hE hl9 h10 Th10 v1 v316 v317 v7 tv1 tv316 tv317 tv7 e1) dL_law_2004 q2535 q2536 q215 q2537 ck_X0_completions rfl rfl rfl rfl rfl (fun tv318 Th319 Oh319 => ?_)
          refine x_istore Ma.x (lv' := [(5, (0, v318)), (0, (2, p0_)), (1, (2, v1)), (2, (2, v4)), (3, (2, v7)), (4, (0, l4_9))]) dL_law_2007 [0, 1, 2, 3, 4] rfl rfl (by decide) ?_
          refine x_aload_n Ma.x dL_law_2009 3 rfl ?_
          refine x_aload_n Ma.x dL_law_2010 1 rfl ?_
          refine x_iload Ma.x dL_law_2011 5 rfl ?_
          refine x_iconst Ma.x dL_law_2013 ?_
          refine x_iadd Ma.x dL_law_2014 ?_
          refine h_iald9 Ma.ga Th319 dL_law_2015 e (fun v320 tv320 e => ?_)
          refine x_aload_n Ma.x dL_law_2016 1 rfl ?_
          refine x_iload Ma.x dL_law_2017 5 rfl ?_
          refine x_iconst Ma.x dL_law_2019 ?_
          refine x_iadd Ma.x dL_law_2020 ?_
          refine h_iald9 Ma.ga Th319 dL_law_2021 e (fun v321 tv321 e => ?_)
          obtain ⟨mok9, mex9, w9, s9, e1, v322, r9, h323, i9, e⟩ := m_bind2 e
          refine m_callV2 Ma.b Th319 Oh319 [(0, v320), (0, v321)] [] [(0, v322)] rfl (fun mok n => S_completions (fd_mG Th319 mok) (sgm h319 v4) (tf_sgm Th319 mok) v320 v321 tv320 tv321 e1) mok9 mex9 (by decide) r9 i9 dL_law_2022 q3729 q3730 q3731 q226 q3732 ck_X4_completions rfl rfl rfl rfl rfl (fun tv322 Th323 Oh323 => ?_)
          refine x_istore Ma.x (lv' := [(6, (0, v322)), (5, (0, v318)), (0, (2, p0_)), (1, (2, v1)), (2, (2, v4)), (3, (2, v7)), (4, (0, l4_9))]) dL_law_2025 [0, 1, 2, 3, 4, 5] rfl rfl (by decide) ?_
          refine x_aload_n Ma.x dL_law_2027 4 rfl ?_
          obtain ⟨mok9, mex9, w9, s9, e1, v324, r9, h325, i9, e⟩ := m_bind2 e
          obtain ⟨u9, e2, e3⟩ := bds e1
          cases e3
          have e1 := e2
          refine m_callV2 Ma.b Th323 Oh323 [] [] [(0, v324)] rfl (fun mok n => S_thrown (fd_mG Th323 mok) (sgm h323 v4) (tf_sgm Th323 mok) e1) mok9 mex9 (by decide) r9 i9 dL_law_2028 q3161 q3162 q3163 q226 q3164 ck_X4_thrown rfl rfl rfl rfl rfl (fun tv324 Th325 Oh325 => ?_)
          refine x_iload Ma.x dL_law_2031 1 rfl ?_
          refine x_icmp_eq Ma.x 2038 dL_law_2033 rfl tv324 tv318 e (fun e => ?_) (fun e => ?_)
          · refine x_iload Ma.x dL_law_2038 1 rfl ?_
            refine x_if_ne Ma.x 2055 dL_law_2040 rfl tv318 e (fun e => ?_) (fun e => ?_)
            · refine x_aload_n Ma.x dL_law_2043 5 rfl ?_
              refine x_iconst Ma.x dL_law_2044 ?_
              refine h_lald Ma.ga Th325 dL_law_2045 e (fun v326 tv326 e => ?_)
              refine x_iload Ma.x dL_law_2046 0 rfl ?_
              refine x_i2l Ma.x dL_law_2048 tv322 ?_
              refine x_lcmp Ma.x dL_law_2049 ?_
              refine x_if_eq Ma.x 2055 dL_law_2050 rfl (cmp64_in _ _) e (fun e => ?_) (fun e => ?_)
              · refine x_goto Ma.x 2515 dL_law_2055 rfl ?_
                exact x_drop [2, 3, 4, 5, 6] rfl (hj19 h325 e Th325 Oh325)
              · refine x_iconst Ma.x dL_law_2053 ?_
                have e := lfl e hY12
                exact a_retz dL_law_2054 (congrArg Prod.fst (Option.some.inj e)) (congrArg Prod.snd (Option.some.inj e)) Th325 litZ0
            · refine x_goto Ma.x 2515 dL_law_2055 rfl ?_
              exact x_drop [2, 3, 4, 5, 6] rfl (hj19 h325 e Th325 Oh325)
          · refine x_iconst Ma.x dL_law_2036 ?_
            have e := lfl e hY12
            exact a_retz dL_law_2037 (congrArg Prod.fst (Option.some.inj e)) (congrArg Prod.snd (Option.some.inj e)) Th325 litZ0
        rw [if_neg q29] at e
        by_cases q30 : (and32 v15 63) = 30
        · rw [if_pos q30] at e
          refine x_tabK Ma.x dL_law_39 (and32_in _ _) q30 2058 (by decide) rfl rfl ?_
          refine x_aload_n Ma.x dL_law_2058 1 rfl ?_
          refine x_aload_n Ma.x dL_law_2059 0 rfl ?_
          refine x_iload Ma.x dL_law_2060 4 rfl ?_
          refine x_iconst Ma.x dL_law_2062 ?_
          refine x_iadd Ma.x dL_law_2063 ?_
          refine h_iald9 Ma.ga Th10 dL_law_2064 e (fun v327 tv327 e => ?_)
          refine x_aload_n Ma.x dL_law_2065 0 rfl ?_
          refine x_iload Ma.x dL_law_2066 4 rfl ?_
          refine x_iconst Ma.x dL_law_2068 ?_
          refine x_iadd Ma.x dL_law_2069 ?_
          refine h_iald9 Ma.ga Th10 dL_law_2070 e (fun v328 tv328 e => ?_)
          refine x_aload_n Ma.x dL_law_2071 0 rfl ?_
          refine x_iload Ma.x dL_law_2072 4 rfl ?_
          refine x_iconst Ma.x dL_law_2074 ?_
          refine x_iadd Ma.x dL_law_2075 ?_
          refine h_iald9 Ma.ga Th10 dL_law_2076 e (fun v329 tv329 e => ?_)
          refine x_aload_n Ma.x dL_law_2077 3 rfl ?_
          obtain ⟨⟨v330, h331⟩, e1, e⟩ := bds e
          refine w_callS Ma.b Th10 Oh10 [(2, v1), (0, v327), (0, v328), (0, v329), (2, v7)] [] [(0, v330)] (T_X0_completionAt C hE hl9 h10 Th10 v1 v327 v328 v329 v7 tv1 tv327 tv328 tv329 tv7 e1) dL_law_2078 q2567 q2568 q215 q2569 ck_X0_completionAt rfl rfl rfl rfl rfl (fun tv330 Th331 Oh331 => ?_)
          refine x_istore Ma.x (lv' := [(5, (0, v330)), (0, (2, p0_)), (1, (2, v1)), (2, (2, v4)), (3, (2, v7)), (4, (0, l4_9))]) dL_law_2081 [0, 1, 2, 3, 4] rfl rfl (by decide) ?_
          refine x_aload_n Ma.x dL_law_2083 3 rfl ?_
          refine x_aload_n Ma.x dL_law_2084 1 rfl ?_
          refine x_iload Ma.x dL_law_2085 5 rfl ?_
          refine x_iconst Ma.x dL_law_2087 ?_
          refine x_iadd Ma.x dL_law_2088 ?_
          refine h_iald9 Ma.ga Th331 dL_law_2089 e (fun v332 tv332 e => ?_)
          refine x_aload_n Ma.x dL_law_2090 1 rfl ?_
          refine x_iload Ma.x dL_law_2091 5 rfl ?_
          refine x_iconst Ma.x dL_law_2093 ?_
          refine x_iadd Ma.x dL_law_2094 ?_
          refine h_iald9 Ma.ga Th331 dL_law_2095 e (fun v333 tv333 e => ?_)
          refine x_aload_n Ma.x dL_law_2096 1 rfl ?_
          refine x_iload Ma.x dL_law_2097 5 rfl ?_
          refine x_iconst Ma.x dL_law_2099 ?_
          refine x_iadd Ma.x dL_law_2100 ?_
          refine h_iald9 Ma.ga Th331 dL_law_2101 e (fun v334 tv334 e => ?_)
          obtain ⟨mok9, mex9, w9, s9, e1, v335, r9, h336, i9, e⟩ := m_bind2 e
          refine m_callV2 Ma.b Th331 Oh331 [(0, v332), (0, v333), (0, v334)] [] [(0, v335)] rfl (fun mok n => S_completionAt (fd_mG Th331 mok) (sgm h331 v4) (tf_sgm Th331 mok) v332 v333 v334 tv332 tv333 tv334 e1) mok9 mex9 (by decide) r9 i9 dL_law_2102 q3753 q3754 q3755 q226 q3756 ck_X4_completionAt rfl rfl rfl rfl rfl (fun tv335 Th336 Oh336 => ?_)
          refine x_istore Ma.x (lv' := [(6, (0, v335)), (5, (0, v330)), (0, (2, p0_)), (1, (2, v1)), (2, (2, v4)), (3, (2, v7)), (4, (0, l4_9))]) dL_law_2105 [0, 1, 2, 3, 4, 5] rfl rfl (by decide) ?_
          refine x_aload_n Ma.x dL_law_2107 4 rfl ?_
          obtain ⟨mok9, mex9, w9, s9, e1, v337, r9, h338, i9, e⟩ := m_bind2 e
          obtain ⟨u9, e2, e3⟩ := bds e1
          cases e3
          have e1 := e2
          refine m_callV2 Ma.b Th336 Oh336 [] [] [(0, v337)] rfl (fun mok n => S_thrown (fd_mG Th336 mok) (sgm h336 v4) (tf_sgm Th336 mok) e1) mok9 mex9 (by decide) r9 i9 dL_law_2108 q3161 q3162 q3163 q226 q3164 ck_X4_thrown rfl rfl rfl rfl rfl (fun tv337 Th338 Oh338 => ?_)
          refine x_iload Ma.x dL_law_2111 1 rfl ?_
          refine x_icmp_eq Ma.x 2118 dL_law_2113 rfl tv337 tv330 e (fun e => ?_) (fun e => ?_)
          · refine x_iload Ma.x dL_law_2118 1 rfl ?_
            refine x_if_ne Ma.x 2135 dL_law_2120 rfl tv330 e (fun e => ?_) (fun e => ?_)
            · refine x_aload_n Ma.x dL_law_2123 5 rfl ?_
              refine x_iconst Ma.x dL_law_2124 ?_
              refine h_lald Ma.ga Th338 dL_law_2125 e (fun v339 tv339 e => ?_)
              refine x_iload Ma.x dL_law_2126 0 rfl ?_
              refine x_i2l Ma.x dL_law_2128 tv335 ?_
              refine x_lcmp Ma.x dL_law_2129 ?_
              refine x_if_eq Ma.x 2135 dL_law_2130 rfl (cmp64_in _ _) e (fun e => ?_) (fun e => ?_)
              · refine x_goto Ma.x 2515 dL_law_2135 rfl ?_
                exact x_drop [2, 3, 4, 5, 6] rfl (hj19 h338 e Th338 Oh338)
              · refine x_iconst Ma.x dL_law_2133 ?_
                have e := lfl e hY12
                exact a_retz dL_law_2134 (congrArg Prod.fst (Option.some.inj e)) (congrArg Prod.snd (Option.some.inj e)) Th338 litZ0
            · refine x_goto Ma.x 2515 dL_law_2135 rfl ?_
              exact x_drop [2, 3, 4, 5, 6] rfl (hj19 h338 e Th338 Oh338)
          · refine x_iconst Ma.x dL_law_2116 ?_
            have e := lfl e hY12
            exact a_retz dL_law_2117 (congrArg Prod.fst (Option.some.inj e)) (congrArg Prod.snd (Option.some.inj e)) Th338 litZ0
        rw [if_neg q30] at e
        by_cases q31 : (and32 v15 63) = 31
        · rw [if_pos q31] at e
          refine x_tabK Ma.x dL_law_39 (and32_in _ _) q31 2138 (by decide) rfl rfl ?_
          refine x_aload_n Ma.x dL_law_2138 1 rfl ?_
          refine x_aload_n Ma.x dL_law_2139 0 rfl ?_
          refine x_iload Ma.x dL_law_2140 4 rfl ?_
          refine x_iconst Ma.x dL_law_2142 ?_
          refine x_iadd Ma.x dL_law_2143 ?_
          refine h_iald9 Ma.ga Th10 dL_law_2144 e (fun v340 tv340 e => ?_)
          refine x_aload_n Ma.x dL_law_2145 0 rfl ?_
          refine x_iload Ma.x dL_law_2146 4 rfl ?_
          refine x_iconst Ma.x dL_law_2148 ?_
          refine x_iadd Ma.x dL_law_2149 ?_
          refine h_iald9 Ma.ga Th10 dL_law_2150 e (fun v341 tv341 e => ?_)
          refine x_aload_n Ma.x dL_law_2151 3 rfl ?_
          obtain ⟨⟨v342, h343⟩, e1, e⟩ := bds e
          refine w_callS Ma.b Th10 Oh10 [(2, v1), (0, v340), (0, v341), (2, v7)] [] [(0, v342)] (T_X0_planRename C hE hl9 h10 Th10 v1 v340 v341 v7 tv1 tv340 tv341 tv7 e1) dL_law_2152 q2574 q2575 q215 q2576 ck_X0_planRename rfl rfl rfl rfl rfl (fun tv342 Th343 Oh343 => ?_)
          refine x_istore Ma.x (lv' := [(5, (0, v342)), (0, (2, p0_)), (1, (2, v1)), (2, (2, v4)), (3, (2, v7)), (4, (0, l4_9))]) dL_law_2155 [0, 1, 2, 3, 4] rfl rfl (by decide) ?_
          refine x_aload_n Ma.x dL_law_2157 3 rfl ?_
          refine x_aload_n Ma.x dL_law_2158 1 rfl ?_
          refine x_iload Ma.x dL_law_2159 5 rfl ?_
          refine x_iconst Ma.x dL_law_2161 ?_
          refine x_iadd Ma.x dL_law_2162 ?_
          refine h_iald9 Ma.ga Th343 dL_law_2163 e (fun v344 tv344 e => ?_)
          refine x_aload_n Ma.x dL_law_2164 1 rfl ?_
          refine x_iload Ma.x dL_law_2165 5 rfl ?_
          refine x_iconst Ma.x dL_law_2167 ?_
          refine x_iadd Ma.x dL_law_2168 ?_
          refine h_iald9 Ma.ga Th343 dL_law_2169 e (fun v345 tv345 e => ?_)
          obtain ⟨mok9, mex9, w9, s9, e1, v346, r9, h347, i9, e⟩ := m_bind2 e
          refine m_callV2 Ma.b Th343 Oh343 [(0, v344), (0, v345)] [] [(0, v346)] rfl (fun mok n => S_planRename (fd_mG Th343 mok) (sgm h343 v4) (tf_sgm Th343 mok) v344 v345 tv344 tv345 e1) mok9 mex9 (by decide) r9 i9 dL_law_2170 q3757 q3758 q3759 q226 q3760 ck_X4_planRename rfl rfl rfl rfl rfl (fun tv346 Th347 Oh347 => ?_)
          refine x_istore Ma.x (lv' := [(6, (0, v346)), (5, (0, v342)), (0, (2, p0_)), (1, (2, v1)), (2, (2, v4)), (3, (2, v7)), (4, (0, l4_9))]) dL_law_2173 [0, 1, 2, 3, 4, 5] rfl rfl (by decide) ?_
          refine x_aload_n Ma.x dL_law_2175 4 rfl ?_
          obtain ⟨mok9, mex9, w9, s9, e1, v348, r9, h349, i9, e⟩ := m_bind2 e
          obtain ⟨u9, e2, e3⟩ := bds e1
          cases e3
          have e1 := e2
          refine m_callV2 Ma.b Th347 Oh347 [] [] [(0, v348)] rfl (fun mok n => S_thrown (fd_mG Th347 mok) (sgm h347 v4) (tf_sgm Th347 mok) e1) mok9 mex9 (by decide) r9 i9 dL_law_2176 q3161 q3162 q3163 q226 q3164 ck_X4_thrown rfl rfl rfl rfl rfl (fun tv348 Th349 Oh349 => ?_)
          refine x_iload Ma.x dL_law_2179 1 rfl ?_
          refine x_icmp_eq Ma.x 2186 dL_law_2181 rfl tv348 tv342 e (fun e => ?_) (fun e => ?_)
          · refine x_iload Ma.x dL_law_2186 1 rfl ?_
            refine x_if_ne Ma.x 2203 dL_law_2188 rfl tv342 e (fun e => ?_) (fun e => ?_)
            · refine x_aload_n Ma.x dL_law_2191 5 rfl ?_
              refine x_iconst Ma.x dL_law_2192 ?_
              refine h_lald Ma.ga Th349 dL_law_2193 e (fun v350 tv350 e => ?_)
              refine x_iload Ma.x dL_law_2194 0 rfl ?_
              refine x_i2l Ma.x dL_law_2196 tv346 ?_
              refine x_lcmp Ma.x dL_law_2197 ?_
              refine x_if_eq Ma.x 2203 dL_law_2198 rfl (cmp64_in _ _) e (fun e => ?_) (fun e => ?_)
              · refine x_goto Ma.x 2515 dL_law_2203 rfl ?_
                exact x_drop [2, 3, 4, 5, 6] rfl (hj19 h349 e Th349 Oh349)
              · refine x_iconst Ma.x dL_law_2201 ?_
                have e := lfl e hY12
                exact a_retz dL_law_2202 (congrArg Prod.fst (Option.some.inj e)) (congrArg Prod.snd (Option.some.inj e)) Th349 litZ0
            · refine x_goto Ma.x 2515 dL_law_2203 rfl ?_
              exact x_drop [2, 3, 4, 5, 6] rfl (hj19 h349 e Th349 Oh349)
          · refine x_iconst Ma.x dL_law_2184 ?_
            have e := lfl e hY12
            exact a_retz dL_law_2185 (congrArg Prod.fst (Option.some.inj e)) (congrArg Prod.snd (Option.some.inj e)) Th349 litZ0
        rw [if_neg q31] at e
        by_cases q32 : (and32 v15 63) = 32
        · rw [if_pos q32] at e
          refine x_tabK Ma.x dL_law_39 (and32_in _ _) q32 2206 (by decide) rfl rfl ?_
          refine x_aload_n Ma.x dL_law_2206 1 rfl ?_
          refine x_aload_n Ma.x dL_law_2207 0 rfl ?_
          refine x_iload Ma.x dL_law_2208 4 rfl ?_
          refine x_iconst Ma.x dL_law_2210 ?_
          refine x_iadd Ma.x dL_law_2211 ?_
          refine h_iald9 Ma.ga Th10 dL_law_2212 e (fun v351 tv351 e => ?_)
          refine x_aload_n Ma.x dL_law_2213 0 rfl ?_
          refine x_iload Ma.x dL_law_2214 4 rfl ?_
          refine x_iconst Ma.x dL_law_2216 ?_
          refine x_iadd Ma.x dL_law_2217 ?_
          refine h_iald9 Ma.ga Th10 dL_law_2218 e (fun v352 tv352 e => ?_)
          refine x_aload_n Ma.x dL_law_2219 3 rfl ?_
          obtain ⟨⟨v353, h354⟩, e1, e⟩ := bds e
          refine w_callS Ma.b Th10 Oh10 [(2, v1), (0, v351), (0, v352), (2, v7)] [] [(0, v353)] (T_X0_planInline C hE hl9 h10 Th10 v1 v351 v352 v7 tv1 tv351 tv352 tv7 e1) dL_law_2220 q2616 q2617 q215 q2618 ck_X0_planInline rfl rfl rfl rfl rfl (fun tv353 Th354 Oh354 => ?_)
          refine x_istore Ma.x (lv' := [(5, (0, v353)), (0, (2, p0_)), (1, (2, v1)), (2, (2, v4)), (3, (2, v7)), (4, (0, l4_9))]) dL_law_2223 [0, 1, 2, 3, 4] rfl rfl (by decide) ?_
          refine x_aload_n Ma.x dL_law_2225 3 rfl ?_
          refine x_aload_n Ma.x dL_law_2226 1 rfl ?_
          refine x_iload Ma.x dL_law_2227 5 rfl ?_
          refine x_iconst Ma.x dL_law_2229 ?_
          refine x_iadd Ma.x dL_law_2230 ?_
          refine h_iald9 Ma.ga Th354 dL_law_2231 e (fun v355 tv355 e => ?_)
          refine x_aload_n Ma.x dL_law_2232 1 rfl ?_
          refine x_iload Ma.x dL_law_2233 5 rfl ?_
          refine x_iconst Ma.x dL_law_2235 ?_
          refine x_iadd Ma.x dL_law_2236 ?_
          refine h_iald9 Ma.ga Th354 dL_law_2237 e (fun v356 tv356 e => ?_)
          obtain ⟨mok9, mex9, w9, s9, e1, v357, r9, h358, i9, e⟩ := m_bind2 e
          refine m_callV2 Ma.b Th354 Oh354 [(0, v355), (0, v356)] [] [(0, v357)] rfl (fun mok n => S_planInline (fd_mG Th354 mok) (sgm h354 v4) (tf_sgm Th354 mok) v355 v356 tv355 tv356 e1) mok9 mex9 (by decide) r9 i9 dL_law_2238 q3765 q3766 q3767 q226 q3768 ck_X4_planInline rfl rfl rfl rfl rfl (fun tv357 Th358 Oh358 => ?_)
          refine x_istore Ma.x (lv' := [(6, (0, v357)), (5, (0, v353)), (0, (2, p0_)), (1, (2, v1)), (2, (2, v4)), (3, (2, v7)), (4, (0, l4_9))]) dL_law_2241 [0, 1, 2, 3, 4, 5] rfl rfl (by decide) ?_
          refine x_aload_n Ma.x dL_law_2243 4 rfl ?_
          obtain ⟨mok9, mex9, w9, s9, e1, v359, r9, h360, i9, e⟩ := m_bind2 e
          obtain ⟨u9, e2, e3⟩ := bds e1
          cases e3
          have e1 := e2
          refine m_callV2 Ma.b Th358 Oh358 [] [] [(0, v359)] rfl (fun mok n => S_thrown (fd_mG Th358 mok) (sgm h358 v4) (tf_sgm Th358 mok) e1) mok9 mex9 (by decide) r9 i9 dL_law_2244 q3161 q3162 q3163 q226 q3164 ck_X4_thrown rfl rfl rfl rfl rfl (fun tv359 Th360 Oh360 => ?_)
          refine x_iload Ma.x dL_law_2247 1 rfl ?_
          refine x_icmp_eq Ma.x 2254 dL_law_2249 rfl tv359 tv353 e (fun e => ?_) (fun e => ?_)
          · refine x_iload Ma.x dL_law_2254 1 rfl ?_
            refine x_if_ne Ma.x 2271 dL_law_2256 rfl tv353 e (fun e => ?_) (fun e => ?_)
            · refine x_aload_n Ma.x dL_law_2259 5 rfl ?_
              refine x_iconst Ma.x dL_law_2260 ?_
              refine h_lald Ma.ga Th360 dL_law_2261 e (fun v361 tv361 e => ?_)
              refine x_iload Ma.x dL_law_2262 0 rfl ?_
              refine x_i2l Ma.x dL_law_2264 tv357 ?_
              refine x_lcmp Ma.x dL_law_2265 ?_
              refine x_if_eq Ma.x 2271 dL_law_2266 rfl (cmp64_in _ _) e (fun e => ?_) (fun e => ?_)
              · refine x_goto Ma.x 2515 dL_law_2271 rfl ?_
                exact x_drop [2, 3, 4, 5, 6] rfl (hj19 h360 e Th360 Oh360)
              · refine x_iconst Ma.x dL_law_2269 ?_
                have e := lfl e hY12
                exact a_retz dL_law_2270 (congrArg Prod.fst (Option.some.inj e)) (congrArg Prod.snd (Option.some.inj e)) Th360 litZ0
            · refine x_goto Ma.x 2515 dL_law_2271 rfl ?_
              exact x_drop [2, 3, 4, 5, 6] rfl (hj19 h360 e Th360 Oh360)
          · refine x_iconst Ma.x dL_law_2252 ?_
            have e := lfl e hY12
            exact a_retz dL_law_2253 (congrArg Prod.fst (Option.some.inj e)) (congrArg Prod.snd (Option.some.inj e)) Th360 litZ0
        rw [if_neg q32] at e
        by_cases q33 : (and32 v15 63) = 33
        · rw [if_pos q33] at e
          refine x_tabK Ma.x dL_law_39 (and32_in _ _) q33 2274 (by decide) rfl rfl ?_
          refine x_aload_n Ma.x dL_law_2274 1 rfl ?_
          refine x_aload_n Ma.x dL_law_2275 0 rfl ?_
          refine x_iload Ma.x dL_law_2276 4 rfl ?_
          refine x_iconst Ma.x dL_law_2278 ?_
          refine x_iadd Ma.x dL_law_2279 ?_
          refine h_iald9 Ma.ga Th10 dL_law_2280 e (fun v362 tv362 e => ?_)
          refine x_aload_n Ma.x dL_law_2281 0 rfl ?_
          refine x_iload Ma.x dL_law_2282 4 rfl ?_
          refine x_iconst Ma.x dL_law_2284 ?_
          refine x_iadd Ma.x dL_law_2285 ?_
          refine h_iald9 Ma.ga Th10 dL_law_2286 e (fun v363 tv363 e => ?_)
          refine x_aload_n Ma.x dL_law_2287 0 rfl ?_
          refine x_iload Ma.x dL_law_2288 4 rfl ?_
          refine x_iconst Ma.x dL_law_2290 ?_
          refine x_iadd Ma.x dL_law_2291 ?_
          refine h_iald9 Ma.ga Th10 dL_law_2292 e (fun v364 tv364 e => ?_)
          refine x_aload_n Ma.x dL_law_2293 3 rfl ?_
          obtain ⟨⟨v365, h366⟩, e1, e⟩ := bds e
          refine w_callS Ma.b Th10 Oh10 [(2, v1), (0, v362), (0, v363), (0, v364), (2, v7)] [] [(0, v365)] (T_X0_planMove C hE hl9 h10 Th10 v1 v362 v363 v364 v7 tv1 tv362 tv363 tv364 tv7 e1) dL_law_2294 q2631 q2632 q215 q2633 ck_X0_planMove rfl rfl rfl rfl rfl (fun tv365 Th366 Oh366 => ?_)
          refine x_istore Ma.x (lv' := [(5, (0, v365)), (0, (2, p0_)), (1, (2, v1)), (2, (2, v4)), (3, (2, v7)), (4, (0, l4_9))]) dL_law_2297 [0, 1, 2, 3, 4] rfl rfl (by decide) ?_
          refine x_aload_n Ma.x dL_law_2299 3 rfl ?_
          refine x_aload_n Ma.x dL_law_2300 1 rfl ?_
          refine x_iload Ma.x dL_law_2301 5 rfl ?_
          refine x_iconst Ma.x dL_law_2303 ?_
          refine x_iadd Ma.x dL_law_2304 ?_
          refine h_iald9 Ma.ga Th366 dL_law_2305 e (fun v367 tv367 e => ?_)
          refine x_aload_n Ma.x dL_law_2306 1 rfl ?_
          refine x_iload Ma.x dL_law_2307 5 rfl ?_
          refine x_iconst Ma.x dL_law_2309 ?_
          refine x_iadd Ma.x dL_law_2310 ?_
          refine h_iald9 Ma.ga Th366 dL_law_2311 e (fun v368 tv368 e => ?_)
          refine x_aload_n Ma.x dL_law_2312 1 rfl ?_
          refine x_iload Ma.x dL_law_2313 5 rfl ?_
          refine x_iconst Ma.x dL_law_2315 ?_
          refine x_iadd Ma.x dL_law_2316 ?_
          refine h_iald9 Ma.ga Th366 dL_law_2317 e (fun v369 tv369 e => ?_)
          obtain ⟨mok9, mex9, w9, s9, e1, v370, r9, h371, i9, e⟩ := m_bind2 e
          refine m_callV2 Ma.b Th366 Oh366 [(0, v367), (0, v368), (0, v369)] [] [(0, v370)] rfl (fun mok n => S_planMove (fd_mG Th366 mok) (sgm h366 v4) (tf_sgm Th366 mok) v367 v368 v369 tv367 tv368 tv369 e1) mok9 mex9 (by decide) r9 i9 dL_law_2318 q3769 q3770 q3771 q226 q3772 ck_X4_planMove rfl rfl rfl rfl rfl (fun tv370 Th371 Oh371 => ?_)
          refine x_istore Ma.x (lv' := [(6, (0, v370)), (5, (0, v365)), (0, (2, p0_)), (1, (2, v1)), (2, (2, v4)), (3, (2, v7)), (4, (0, l4_9))]) dL_law_2321 [0, 1, 2, 3, 4, 5] rfl rfl (by decide) ?_
          refine x_aload_n Ma.x dL_law_2323 4 rfl ?_
          obtain ⟨mok9, mex9, w9, s9, e1, v372, r9, h373, i9, e⟩ := m_bind2 e
          obtain ⟨u9, e2, e3⟩ := bds e1
          cases e3
          have e1 := e2
          refine m_callV2 Ma.b Th371 Oh371 [] [] [(0, v372)] rfl (fun mok n => S_thrown (fd_mG Th371 mok) (sgm h371 v4) (tf_sgm Th371 mok) e1) mok9 mex9 (by decide) r9 i9 dL_law_2324 q3161 q3162 q3163 q226 q3164 ck_X4_thrown rfl rfl rfl rfl rfl (fun tv372 Th373 Oh373 => ?_)
          refine x_iload Ma.x dL_law_2327 1 rfl ?_
          refine x_icmp_eq Ma.x 2334 dL_law_2329 rfl tv372 tv365 e (fun e => ?_) (fun e => ?_)
          · refine x_iload Ma.x dL_law_2334 1 rfl ?_
            refine x_if_ne Ma.x 2351 dL_law_2336 rfl tv365 e (fun e => ?_) (fun e => ?_)
            · refine x_aload_n Ma.x dL_law_2339 5 rfl ?_
              refine x_iconst Ma.x dL_law_2340 ?_
              refine h_lald Ma.ga Th373 dL_law_2341 e (fun v374 tv374 e => ?_)
              refine x_iload Ma.x dL_law_2342 0 rfl ?_
              refine x_i2l Ma.x dL_law_2344 tv370 ?_
              refine x_lcmp Ma.x dL_law_2345 ?_
              refine x_if_eq Ma.x 2351 dL_law_2346 rfl (cmp64_in _ _) e (fun e => ?_) (fun e => ?_)
              · refine x_goto Ma.x 2515 dL_law_2351 rfl ?_
                exact x_drop [2, 3, 4, 5, 6] rfl (hj19 h373 e Th373 Oh373)
              · refine x_iconst Ma.x dL_law_2349 ?_
                have e := lfl e hY12
                exact a_retz dL_law_2350 (congrArg Prod.fst (Option.some.inj e)) (congrArg Prod.snd (Option.some.inj e)) Th373 litZ0
            · refine x_goto Ma.x 2515 dL_law_2351 rfl ?_
              exact x_drop [2, 3, 4, 5, 6] rfl (hj19 h373 e Th373 Oh373)
          · refine x_iconst Ma.x dL_law_2332 ?_
            have e := lfl e hY12
            exact a_retz dL_law_2333 (congrArg Prod.fst (Option.some.inj e)) (congrArg Prod.snd (Option.some.inj e)) Th373 litZ0
        rw [if_neg q33] at e
        by_cases q34 : (and32 v15 63) = 34
        · rw [if_pos q34] at e
          refine x_tabK Ma.x dL_law_39 (and32_in _ _) q34 2354 (by decide) rfl rfl ?_
          refine x_aload_n Ma.x dL_law_2354 1 rfl ?_
          obtain ⟨q375, e⟩ := bds1 e
          obtain ⟨⟨v376, h377⟩, e1, e⟩ := bds e
          refine a_callV Ma.b Th10 Oh10 [] [] [(0, v376)] (T_X1_clearPlan C hE h10 Th10 v1 tv1 (tgc_s q375) e1) (tgc_s q375) ⟨by decide, by decide, _, rfl, rfl⟩ dL_law_2355 q1481 q1482 q1483 q216 q1484 ck_X1_clearPlan rfl rfl rfl rfl rfl (fun tv376 Th377 Oh377 => ?_)
          refine x_aload_n Ma.x dL_law_2358 2 rfl ?_
          obtain ⟨mok9, mex9, w9, s9, e1, v378, r9, h379, i9, e⟩ := m_bind2 e
          refine m_callV2 Ma.b Th377 Oh377 [] [(0, v376)] [(0, v378), (0, v376)] rfl (fun mok n => S_clearPlan (fd_mG Th377 mok) (sgm h377 v4) (tf_sgm Th377 mok) e1) mok9 mex9 (by decide) r9 i9 dL_law_2359 q3773 q3774 q3775 q226 q3776 ck_X4_clearPlan rfl rfl rfl rfl rfl (fun tv378 Th379 Oh379 => ?_)
          refine x_icmp_eq Ma.x 2515 dL_law_2362 rfl tv376 tv378 e (fun e => ?_) (fun e => ?_)
          · exact x_drop [0, 1, 2, 3, 4] rfl (hj19 h379 e Th379 Oh379)
          · refine x_iconst Ma.x dL_law_2365 ?_
            have e := lfl e hY12
            exact a_retz dL_law_2366 (congrArg Prod.fst (Option.some.inj e)) (congrArg Prod.snd (Option.some.inj e)) Th379 litZ0
        rw [if_neg q34] at e
        by_cases q35 : (and32 v15 63) = 35
        · rw [if_pos q35] at e
          refine x_tabK Ma.x dL_law_39 (and32_in _ _) q35 2367 (by decide) rfl rfl ?_
          refine x_aload_n Ma.x dL_law_2367 1 rfl ?_
          obtain ⟨q380, e⟩ := bds1 e
          obtain ⟨⟨v381, h382⟩, e1, e⟩ := bds e
          refine a_callV Ma.b Th10 Oh10 [] [] [(0, v381)] (T_X1_reason C hE hl9 h10 Th10 v1 tv1 (tgc_s q380) e1) (tgc_s q380) ⟨by decide, by decide, _, rfl, rfl⟩ dL_law_2368 q1494 q1495 q1496 q216 q1497 ck_X1_reason rfl rfl rfl rfl rfl (fun tv381 Th382 Oh382 => ?_)
          refine x_aload_n Ma.x dL_law_2371 2 rfl ?_
          obtain ⟨mok9, mex9, w9, s9, e1, v383, r9, h384, i9, e⟩ := m_bind2 e
          refine m_callV2 Ma.b Th382 Oh382 [] [(0, v381)] [(0, v383), (0, v381)] rfl (fun mok n => S_reason (fd_mG Th382 mok) (sgm h382 v4) (tf_sgm Th382 mok) e1) mok9 mex9 (by decide) r9 i9 dL_law_2372 q3777 q3778 q3779 q226 q3780 ck_X4_reason rfl rfl rfl rfl rfl (fun tv383 Th384 Oh384 => ?_)
          refine x_icmp_eq Ma.x 2515 dL_law_2375 rfl tv381 tv383 e (fun e => ?_) (fun e => ?_)
          · exact x_drop [0, 1, 2, 3, 4] rfl (hj19 h384 e Th384 Oh384)
          · refine x_iconst Ma.x dL_law_2378 ?_
            have e := lfl e hY12
            exact a_retz dL_law_2379 (congrArg Prod.fst (Option.some.inj e)) (congrArg Prod.snd (Option.some.inj e)) Th384 litZ0
        rw [if_neg q35] at e
        by_cases q36 : (and32 v15 63) = 36
        · rw [if_pos q36] at e
          refine x_tabK Ma.x dL_law_39 (and32_in _ _) q36 2380 (by decide) rfl rfl ?_
          refine x_aload_n Ma.x dL_law_2380 1 rfl ?_
          refine x_aload_n Ma.x dL_law_2381 3 rfl ?_
          obtain ⟨⟨v385, h386⟩, e1, e⟩ := bds e
          refine w_callS Ma.b Th10 Oh10 [(2, v1), (2, v7)] [] [(0, v385)] (T_X0_carryOut C hE hl9 h10 Th10 v1 v7 tv1 tv7 e1) dL_law_2382 q2655 q2656 q215 q2657 ck_X0_carryOut rfl rfl rfl rfl rfl (fun tv385 Th386 Oh386 => ?_)
          refine x_istore Ma.x (lv' := [(5, (0, v385)), (0, (2, p0_)), (1, (2, v1)), (2, (2, v4)), (3, (2, v7)), (4, (0, l4_9))]) dL_law_2385 [0, 1, 2, 3, 4] rfl rfl (by decide) ?_
          refine x_aload_n Ma.x dL_law_2387 3 rfl ?_
          obtain ⟨mok9, mex9, w9, s9, e1, v387, r9, h388, i9, e⟩ := m_bind2 e
          refine m_callV2 Ma.b Th386 Oh386 [] [] [(0, v387)] rfl (fun mok n => S_carryOut (fd_mG Th386 mok) (sgm h386 v4) (tf_sgm Th386 mok) e1) mok9 mex9 (by decide) r9 i9 dL_law_2388 q3887 q3888 q3889 q226 q3890 ck_X4_carryOut rfl rfl rfl rfl rfl (fun tv387 Th388 Oh388 => ?_)
          refine x_istore Ma.x (lv' := [(6, (0, v387)), (5, (0, v385)), (0, (2, p0_)), (1, (2, v1)), (2, (2, v4)), (3, (2, v7)), (4, (0, l4_9))]) dL_law_2391 [0, 1, 2, 3, 4, 5] rfl rfl (by decide) ?_
          refine x_aload_n Ma.x dL_law_2393 4 rfl ?_
          obtain ⟨mok9, mex9, w9, s9, e1, v389, r9, h390, i9, e⟩ := m_bind2 e
          obtain ⟨u9, e2, e3⟩ := bds e1
          cases e3
          have e1 := e2
          refine m_callV2 Ma.b Th388 Oh388 [] [] [(0, v389)] rfl (fun mok n => S_thrown (fd_mG Th388 mok) (sgm h388 v4) (tf_sgm Th388 mok) e1) mok9 mex9 (by decide) r9 i9 dL_law_2394 q3161 q3162 q3163 q226 q3164 ck_X4_thrown rfl rfl rfl rfl rfl (fun tv389 Th390 Oh390 => ?_)
          refine x_iload Ma.x dL_law_2397 1 rfl ?_
          refine x_icmp_eq Ma.x 2404 dL_law_2399 rfl tv389 tv385 e (fun e => ?_) (fun e => ?_)
          · refine x_iload Ma.x dL_law_2404 1 rfl ?_
            refine x_if_ne Ma.x 2421 dL_law_2406 rfl tv385 e (fun e => ?_) (fun e => ?_)
            · refine x_aload_n Ma.x dL_law_2409 5 rfl ?_
              refine x_iconst Ma.x dL_law_2410 ?_
              refine h_lald Ma.ga Th390 dL_law_2411 e (fun v391 tv391 e => ?_)
              refine x_iload Ma.x dL_law_2412 0 rfl ?_
              refine x_i2l Ma.x dL_law_2414 tv387 ?_
              refine x_lcmp Ma.x dL_law_2415 ?_
              refine x_if_eq Ma.x 2421 dL_law_2416 rfl (cmp64_in _ _) e (fun e => ?_) (fun e => ?_)
              · refine x_goto Ma.x 2515 dL_law_2421 rfl ?_
                exact x_drop [2, 3, 4, 5, 6] rfl (hj19 h390 e Th390 Oh390)
              · refine x_iconst Ma.x dL_law_2419 ?_
                have e := lfl e hY12
                exact a_retz dL_law_2420 (congrArg Prod.fst (Option.some.inj e)) (congrArg Prod.snd (Option.some.inj e)) Th390 litZ0
            · refine x_goto Ma.x 2515 dL_law_2421 rfl ?_
              exact x_drop [2, 3, 4, 5, 6] rfl (hj19 h390 e Th390 Oh390)
          · refine x_iconst Ma.x dL_law_2402 ?_
            have e := lfl e hY12
            exact a_retz dL_law_2403 (congrArg Prod.fst (Option.some.inj e)) (congrArg Prod.snd (Option.some.inj e)) Th390 litZ0
        rw [if_neg q36] at e
        by_cases q37 : (and32 v15 63) = 37
        · rw [if_pos q37] at e
          refine x_tabK Ma.x dL_law_39 (and32_in _ _) q37 2424 (by decide) rfl rfl ?_
          refine x_aload_n Ma.x dL_law_2424 1 rfl ?_
          refine x_aload_n Ma.x dL_law_2425 0 rfl ?_
          refine x_iload Ma.x dL_law_2426 4 rfl ?_
          refine x_iconst Ma.x dL_law_2428 ?_
          refine x_iadd Ma.x dL_law_2429 ?_
          refine h_iald9 Ma.ga Th10 dL_law_2430 e (fun v392 tv392 e => ?_)
          refine x_aload_n Ma.x dL_law_2431 0 rfl ?_
          refine x_iload Ma.x dL_law_2432 4 rfl ?_
          refine x_iconst Ma.x dL_law_2434 ?_
          refine x_iadd Ma.x dL_law_2435 ?_
          refine h_iald9 Ma.ga Th10 dL_law_2436 e (fun v393 tv393 e => ?_)
          refine x_aload_n Ma.x dL_law_2437 0 rfl ?_
          refine x_iload Ma.x dL_law_2438 4 rfl ?_
          refine x_iconst Ma.x dL_law_2440 ?_
          refine x_iadd Ma.x dL_law_2441 ?_
          refine h_iald9 Ma.ga Th10 dL_law_2442 e (fun v394 tv394 e => ?_)
          refine x_aload_n Ma.x dL_law_2443 0 rfl ?_
          refine x_iload Ma.x dL_law_2444 4 rfl ?_
          refine x_iconst Ma.x dL_law_2446 ?_
          refine x_iadd Ma.x dL_law_2447 ?_
          refine h_iald9 Ma.ga Th10 dL_law_2448 e (fun v395 tv395 e => ?_)
          refine x_aload_n Ma.x dL_law_2449 3 rfl ?_
          obtain ⟨⟨v396, h397⟩, e1, e⟩ := bds e
          refine w_callS Ma.b Th10 Oh10 [(2, v1), (0, v392), (0, v393), (0, v394), (0, v395), (2, v7)] [] [(0, v396)] (T_X0_run C hE hl9 h10 Th10 v1 v392 v393 v394 v395 v7 tv1 tv392 tv393 tv394 tv395 tv7 e1) dL_law_2450 q2663 q2664 q215 q2665 ck_X0_run rfl rfl rfl rfl rfl (fun tv396 Th397 Oh397 => ?_)
          refine x_istore Ma.x (lv' := [(5, (0, v396)), (0, (2, p0_)), (1, (2, v1)), (2, (2, v4)), (3, (2, v7)), (4, (0, l4_9))]) dL_law_2453 [0, 1, 2, 3, 4] rfl rfl (by decide) ?_
          refine x_aload_n Ma.x dL_law_2455 3 rfl ?_
          refine x_aload_n Ma.x dL_law_2456 1 rfl ?_
          refine x_iload Ma.x dL_law_2457 5 rfl ?_
          refine x_iconst Ma.x dL_law_2459 ?_
          refine x_iadd Ma.x dL_law_2460 ?_
          refine h_iald9 Ma.ga Th397 dL_law_2461 e (fun v398 tv398 e => ?_)
          refine x_aload_n Ma.x dL_law_2462 1 rfl ?_
          refine x_iload Ma.x dL_law_2463 5 rfl ?_
          refine x_iconst Ma.x dL_law_2465 ?_
          refine x_iadd Ma.x dL_law_2466 ?_
          refine h_iald9 Ma.ga Th397 dL_law_2467 e (fun v399 tv399 e => ?_)
          refine x_aload_n Ma.x dL_law_2468 1 rfl ?_
          refine x_iload Ma.x dL_law_2469 5 rfl ?_
          refine x_iconst Ma.x dL_law_2471 ?_
          refine x_iadd Ma.x dL_law_2472 ?_
          refine h_iald9 Ma.ga Th397 dL_law_2473 e (fun v400 tv400 e => ?_)
          refine x_aload_n Ma.x dL_law_2474 1 rfl ?_
          refine x_iload Ma.x dL_law_2475 5 rfl ?_
          refine x_iconst Ma.x dL_law_2477 ?_
          refine x_iadd Ma.x dL_law_2478 ?_
          refine h_iald9 Ma.ga Th397 dL_law_2479 e (fun v401 tv401 e => ?_)
          obtain ⟨mok9, mex9, w9, s9, e1, v402, r9, h403, i9, e⟩ := m_bind2 e
          refine m_callV2 Ma.b Th397 Oh397 [(0, v398), (0, v399), (0, v400), (0, v401)] [] [(1, v402)] rfl (fun mok n => S_run (fd_mG Th397 mok) (sgm h397 v4) (tf_sgm Th397 mok) v398 v399 v400 v401 tv398 tv399 tv400 tv401 e1) mok9 mex9 (by decide) r9 i9 dL_law_2480 q3165 q3166 q3167 q226 q3168 ck_X4_run rfl rfl rfl rfl rfl (fun tv402 Th403 Oh403 => ?_)
          refine x_lstore Ma.x (lv' := [(6, (1, v402)), (5, (0, v396)), (0, (2, p0_)), (1, (2, v1)), (2, (2, v4)), (3, (2, v7)), (4, (0, l4_9))]) dL_law_2483 [0, 1, 2, 3, 4, 5] rfl rfl (by decide) ?_
          refine x_aload_n Ma.x dL_law_2485 4 rfl ?_
          obtain ⟨mok9, mex9, w9, s9, e1, v404, r9, h405, i9, e⟩ := m_bind2 e
          obtain ⟨u9, e2, e3⟩ := bds e1
          cases e3
          have e1 := e2
          refine m_callV2 Ma.b Th403 Oh403 [] [] [(0, v404)] rfl (fun mok n => S_thrown (fd_mG Th403 mok) (sgm h403 v4) (tf_sgm Th403 mok) e1) mok9 mex9 (by decide) r9 i9 dL_law_2486 q3161 q3162 q3163 q226 q3164 ck_X4_thrown rfl rfl rfl rfl rfl (fun tv404 Th405 Oh405 => ?_)
          refine x_iload Ma.x dL_law_2489 1 rfl ?_
          refine x_icmp_eq Ma.x 2496 dL_law_2491 rfl tv404 tv396 e (fun e => ?_) (fun e => ?_)
          · refine x_iload Ma.x dL_law_2496 1 rfl ?_
            refine x_if_ne Ma.x 2512 dL_law_2498 rfl tv396 e (fun e => ?_) (fun e => ?_)
            · refine x_aload_n Ma.x dL_law_2501 5 rfl ?_
              refine x_iconst Ma.x dL_law_2502 ?_
              refine h_lald Ma.ga Th405 dL_law_2503 e (fun v406 tv406 e => ?_)
              refine x_lload Ma.x dL_law_2504 0 rfl ?_
              refine x_lcmp Ma.x dL_law_2506 ?_
              refine x_if_eq Ma.x 2512 dL_law_2507 rfl (cmp64_in _ _) e (fun e => ?_) (fun e => ?_)
              · refine x_goto Ma.x 2515 dL_law_2512 rfl ?_
                exact x_drop [2, 3, 4, 5, 6] rfl (hj19 h405 e Th405 Oh405)
              · refine x_iconst Ma.x dL_law_2510 ?_
                have e := lfl e hY12
                exact a_retz dL_law_2511 (congrArg Prod.fst (Option.some.inj e)) (congrArg Prod.snd (Option.some.inj e)) Th405 litZ0
            · refine x_goto Ma.x 2515 dL_law_2512 rfl ?_
              exact x_drop [2, 3, 4, 5, 6] rfl (hj19 h405 e Th405 Oh405)
          · refine x_iconst Ma.x dL_law_2494 ?_
            have e := lfl e hY12
            exact a_retz dL_law_2495 (congrArg Prod.fst (Option.some.inj e)) (congrArg Prod.snd (Option.some.inj e)) Th405 litZ0
        rw [if_neg q37] at e
        refine x_tabD Ma.x dL_law_39 (and32_in _ _) 2515 (by omega) rfl ?_
        exact x_drop [0, 1, 2, 3, 4] rfl (hj19 h10 e Th10 Oh10)
