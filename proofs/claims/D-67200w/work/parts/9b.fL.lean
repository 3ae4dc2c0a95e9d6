/-! ===== the law as a function (printed by gen/lprint.py) ===== -/
noncomputable def lb_L_law_1 (n0 : Nat) (u0 : Nat → Int32) (s1 : Int32) : gx_M ((Int32) ⊕ ((Unit) ⊕ (Int32))) :=
  if ((nI n0) - 6) < s1 then
    gx_rt (.inr (.inl ()))
  else
    gx_bd (gx_sc n0 u0 s1) fun v2 =>
    if (v2 &&& 31) = 0 then
      gx_bd (gx_sc n0 u0 (s1 + 1)) fun v3 =>
      gx_bd (f_X0_nodes [1] v3) fun v4 =>
      gx_bd (gx_sc n0 u0 (s1 + 1)) fun v5 =>
      gx_bd (f_X16_nodes [2] v5) fun _ =>
      gx_bd (f_X16_thrown [2]) fun v6 =>
      if v6 = v4 then
        gx_rt (.inl ((s1 + 6) : Int32))
      else
        gx_rt (.inr (.inr 0))
    else
    if (v2 &&& 31) = 1 then
      gx_bd (gx_sc n0 u0 (s1 + 1)) fun v7 =>
      gx_bd (gx_sc n0 u0 (s1 + 2)) fun v8 =>
      gx_bd (gx_sc n0 u0 (s1 + 3)) fun v9 =>
      gx_bd (gx_sc n0 u0 (s1 + 4)) fun v10 =>
      gx_bd (gx_sc n0 u0 (s1 + 5)) fun v11 =>
      gx_bd (f_X0_feed [1] v7 v8 v9 v10 v11 [3]) fun v12 =>
      gx_bd (gx_sc n0 u0 (s1 + 1)) fun v13 =>
      gx_bd (gx_sc n0 u0 (s1 + 2)) fun v14 =>
      gx_bd (gx_sc n0 u0 (s1 + 3)) fun v15 =>
      gx_bd (gx_sc n0 u0 (s1 + 4)) fun v16 =>
      gx_bd (gx_sc n0 u0 (s1 + 5)) fun v17 =>
      gx_bd (f_X16_feed [2] v13 v14 v15 v16 v17) fun v18 =>
      gx_bd (f_X16_thrown [2]) fun v19 =>
      if v19 = v12 then
        if v12 = 0 then
          gx_bd (gx_la [3] 0) fun v20 =>
          if (lg_cmp v20 v18.toInt64) = 0 then
            gx_rt (.inl ((s1 + 6) : Int32))
          else
            gx_rt (.inr (.inr 0))
        else
          gx_rt (.inl ((s1 + 6) : Int32))
      else
        gx_rt (.inr (.inr 0))
    else
    if (v2 &&& 31) = 2 then
      gx_bd (gx_sc n0 u0 (s1 + 1)) fun v21 =>
      gx_bd (f_X0_end [1] v21 [3]) fun v22 =>
      gx_bd (gx_sc n0 u0 (s1 + 1)) fun v23 =>
      gx_bd (f_X16_end [2] v23) fun v24 =>
      gx_bd (f_X16_thrown [2]) fun v25 =>
      if v25 = v22 then
        if v22 = 0 then
          gx_bd (gx_la [3] 0) fun v26 =>
          if (lg_cmp v26 v24.toInt64) = 0 then
            gx_rt (.inl ((s1 + 6) : Int32))
          else
            gx_rt (.inr (.inr 0))
        else
          gx_rt (.inl ((s1 + 6) : Int32))
      else
        gx_rt (.inr (.inr 0))
    else
    if (v2 &&& 31) = 3 then
      gx_bd (gx_sc n0 u0 (s1 + 1)) fun v27 =>
      gx_bd (gx_sc n0 u0 (s1 + 2)) fun v28 =>
      gx_bd (gx_sc n0 u0 (s1 + 3)) fun v29 =>
      gx_bd (f_X0_when [1] v27 v28 v29) fun v30 =>
      gx_bd (gx_sc n0 u0 (s1 + 1)) fun v31 =>
      gx_bd (gx_sc n0 u0 (s1 + 2)) fun v32 =>
      gx_bd (gx_sc n0 u0 (s1 + 3)) fun v33 =>
      gx_bd (f_X16_when [2] v31 v32 v33) fun _ =>
      gx_bd (f_X16_thrown [2]) fun v34 =>
      if v34 = v30 then
        gx_rt (.inl ((s1 + 6) : Int32))
      else
        gx_rt (.inr (.inr 0))
    else
    if (v2 &&& 31) = 4 then
      gx_bd (gx_sc n0 u0 (s1 + 1)) fun v35 =>
      gx_bd (gx_sc n0 u0 (s1 + 2)) fun v36 =>
      gx_bd (f_X0_put [1] v35 v36) fun v37 =>
      gx_bd (gx_sc n0 u0 (s1 + 1)) fun v38 =>
      gx_bd (gx_sc n0 u0 (s1 + 2)) fun v39 =>
      gx_bd (f_X16_put [2] v38 v39) fun _ =>
      gx_bd (f_X16_thrown [2]) fun v40 =>
      if v40 = v37 then
        gx_rt (.inl ((s1 + 6) : Int32))
      else
        gx_rt (.inr (.inr 0))
    else
    if (v2 &&& 31) = 5 then
      gx_bd (gx_sc n0 u0 (s1 + 1)) fun v41 =>
      gx_bd (f_X0_erase [1] v41) fun v42 =>
      gx_bd (gx_sc n0 u0 (s1 + 1)) fun v43 =>
      gx_bd (f_X16_erase [2] v43) fun _ =>
      gx_bd (f_X16_thrown [2]) fun v44 =>
      if v44 = v42 then
        gx_rt (.inl ((s1 + 6) : Int32))
      else
        gx_rt (.inr (.inr 0))
    else
    if (v2 &&& 31) = 6 then
      gx_bd (gx_sc n0 u0 (s1 + 1)) fun v45 =>
      gx_bd (gx_sc n0 u0 (s1 + 2)) fun v46 =>
      gx_bd (gx_sc n0 u0 (s1 + 3)) fun v47 =>
      gx_bd (
        if v47 = 0 then
          gx_rt (0 : Int32)
        else
          gx_rt (1 : Int32)) fun j48 =>
      gx_bd (f_X0_lease [1] v45 v46 j48) fun v49 =>
      gx_bd (gx_sc n0 u0 (s1 + 1)) fun v50 =>
      gx_bd (gx_sc n0 u0 (s1 + 2)) fun v51 =>
      gx_bd (gx_sc n0 u0 (s1 + 3)) fun v52 =>
      gx_bd (
        if v52 = 0 then
          gx_rt (0 : Int32)
        else
          gx_rt (1 : Int32)) fun j53 =>
      gx_bd (f_X16_lease [2] v50 v51 j53) fun _ =>
      gx_bd (f_X16_thrown [2]) fun v54 =>
      if v54 = v49 then
        gx_rt (.inl ((s1 + 6) : Int32))
      else
        gx_rt (.inr (.inr 0))
    else
    if (v2 &&& 31) = 7 then
      gx_bd (gx_sc n0 u0 (s1 + 1)) fun v55 =>
      gx_bd (f_X0_propose [1] v55 [3]) fun v56 =>
      gx_bd (gx_sc n0 u0 (s1 + 1)) fun v57 =>
      gx_bd (f_X16_propose [2] v57) fun v58 =>
      gx_bd (f_X16_thrown [2]) fun v59 =>
      if v59 = v56 then
        if v56 = 0 then
          gx_bd (gx_la [3] 0) fun v60 =>
          if (lg_cmp v60 v58.toInt64) = 0 then
            gx_rt (.inl ((s1 + 6) : Int32))
          else
            gx_rt (.inr (.inr 0))
        else
          gx_rt (.inl ((s1 + 6) : Int32))
      else
        gx_rt (.inr (.inr 0))
    else
    if (v2 &&& 31) = 8 then
      gx_bd (f_X1_forget [1]) fun _ =>
      gx_bd (f_X16_forget [2]) fun _ =>
      gx_rt (.inl ((s1 + 6) : Int32))
    else
    if (v2 &&& 31) = 9 then
      gx_bd (gx_sc n0 u0 (s1 + 1)) fun v61 =>
      gx_bd (f_X0_rise [1] v61) fun v62 =>
      gx_bd (gx_sc n0 u0 (s1 + 1)) fun v63 =>
      gx_bd (f_X16_rise [2] v63) fun _ =>
      gx_bd (f_X16_thrown [2]) fun v64 =>
      if v64 = v62 then
        gx_rt (.inl ((s1 + 6) : Int32))
      else
        gx_rt (.inr (.inr 0))
    else
    if (v2 &&& 31) = 10 then
      gx_bd (gx_sc n0 u0 (s1 + 1)) fun v65 =>
      gx_bd (f_X0_beat [1] v65) fun v66 =>
      gx_bd (gx_sc n0 u0 (s1 + 1)) fun v67 =>
      gx_bd (f_X16_beat [2] v67) fun _ =>
      gx_bd (f_X16_thrown [2]) fun v68 =>
      if v68 = v66 then
        gx_rt (.inl ((s1 + 6) : Int32))
      else
        gx_rt (.inr (.inr 0))
    else
    if (v2 &&& 31) = 11 then
      gx_bd (gx_sc n0 u0 (s1 + 1)) fun v69 =>
      gx_bd (f_X0_sync [1] v69 [3]) fun v70 =>
      gx_bd (gx_sc n0 u0 (s1 + 1)) fun v71 =>
      gx_bd (f_X16_sync [2] v71) fun v72 =>
      gx_bd (f_X16_thrown [2]) fun v73 =>
      if v73 = v70 then
        if v70 = 0 then
          gx_bd (gx_la [3] 0) fun v74 =>
          if (lg_cmp v74 v72.toInt64) = 0 then
            gx_rt (.inl ((s1 + 6) : Int32))
          else
            gx_rt (.inr (.inr 0))
        else
          gx_rt (.inl ((s1 + 6) : Int32))
      else
        gx_rt (.inr (.inr 0))
    else
    if (v2 &&& 31) = 12 then
      gx_bd (gx_sc n0 u0 (s1 + 1)) fun v75 =>
      gx_bd (gx_sc n0 u0 (s1 + 2)) fun v76 =>
      gx_bd (f_X0_crash [1] v75 v76) fun v77 =>
      gx_bd (gx_sc n0 u0 (s1 + 1)) fun v78 =>
      gx_bd (gx_sc n0 u0 (s1 + 2)) fun v79 =>
      gx_bd (f_X16_crash [2] v78 v79) fun _ =>
      gx_bd (f_X16_thrown [2]) fun v80 =>
      if v80 = v77 then
        gx_rt (.inl ((s1 + 6) : Int32))
      else
        gx_rt (.inr (.inr 0))
    else
    if (v2 &&& 31) = 13 then
      gx_bd (gx_sc n0 u0 (s1 + 1)) fun v81 =>
      gx_bd (f_X0_start [1] v81) fun v82 =>
      gx_bd (gx_sc n0 u0 (s1 + 1)) fun v83 =>
      gx_bd (f_X16_start [2] v83) fun _ =>
      gx_bd (f_X16_thrown [2]) fun v84 =>
      if v84 = v82 then
        gx_rt (.inl ((s1 + 6) : Int32))
      else
        gx_rt (.inr (.inr 0))
    else
    if (v2 &&& 31) = 14 then
      gx_bd (gx_sc n0 u0 (s1 + 1)) fun v85 =>
      gx_bd (gx_sc n0 u0 (s1 + 2)) fun v86 =>
      gx_bd (
        if v86 = 0 then
          gx_rt (0 : Int32)
        else
          gx_rt (1 : Int32)) fun j87 =>
      gx_bd (f_X0_deliver [1] v85 j87) fun v88 =>
      gx_bd (gx_sc n0 u0 (s1 + 1)) fun v89 =>
      gx_bd (gx_sc n0 u0 (s1 + 2)) fun v90 =>
      gx_bd (
        if v90 = 0 then
          gx_rt (0 : Int32)
        else
          gx_rt (1 : Int32)) fun j91 =>
      gx_bd (f_X16_deliver [2] v89 j91) fun _ =>
      gx_bd (f_X16_thrown [2]) fun v92 =>
      if v92 = v88 then
        gx_rt (.inl ((s1 + 6) : Int32))
      else
        gx_rt (.inr (.inr 0))
    else
    if (v2 &&& 31) = 15 then
      gx_bd (gx_sc n0 u0 (s1 + 1)) fun v93 =>
      gx_bd (f_X0_lose [1] v93) fun v94 =>
      gx_bd (gx_sc n0 u0 (s1 + 1)) fun v95 =>
      gx_bd (f_X16_lose [2] v95) fun _ =>
      gx_bd (f_X16_thrown [2]) fun v96 =>
      if v96 = v94 then
        gx_rt (.inl ((s1 + 6) : Int32))
      else
        gx_rt (.inr (.inr 0))
    else
    if (v2 &&& 31) = 16 then
      gx_bd (gx_sc n0 u0 (s1 + 1)) fun v97 =>
      gx_bd (f_X0_snapshot [1] v97 [3]) fun v98 =>
      gx_bd (gx_sc n0 u0 (s1 + 1)) fun v99 =>
      gx_bd (f_X16_snapshot_2 [2] v99) fun v100 =>
      gx_bd (f_X16_thrown [2]) fun v101 =>
      if v101 = v98 then
        if v98 = 0 then
          gx_bd (gx_la [3] 0) fun v102 =>
          if (lg_cmp v102 v100.toInt64) = 0 then
            gx_rt (.inl ((s1 + 6) : Int32))
          else
            gx_rt (.inr (.inr 0))
        else
          gx_rt (.inl ((s1 + 6) : Int32))
      else
        gx_rt (.inr (.inr 0))
    else
    if (v2 &&& 31) = 17 then
      gx_bd (gx_sc n0 u0 (s1 + 1)) fun v103 =>
      gx_bd (f_X0_read [1] v103 [3]) fun v104 =>
      gx_bd (gx_sc n0 u0 (s1 + 1)) fun v105 =>
      gx_bd (f_X16_read [2] v105) fun v106 =>
      gx_bd (f_X16_thrown [2]) fun v107 =>
      if v107 = v104 then
        if v104 = 0 then
          gx_bd (gx_la [3] 0) fun v108 =>
          if (lg_cmp v108 v106.toInt64) = 0 then
            gx_rt (.inl ((s1 + 6) : Int32))
          else
            gx_rt (.inr (.inr 0))
        else
          gx_rt (.inl ((s1 + 6) : Int32))
      else
        gx_rt (.inr (.inr 0))
    else
    if (v2 &&& 31) = 18 then
      gx_bd (gx_sc n0 u0 (s1 + 1)) fun v109 =>
      gx_bd (gx_sc n0 u0 (s1 + 2)) fun v110 =>
      gx_bd (gx_sc n0 u0 (s1 + 3)) fun v111 =>
      gx_bd (f_X0_answer [1] v109 v110 v111 [3]) fun v112 =>
      gx_bd (gx_sc n0 u0 (s1 + 1)) fun v113 =>
      gx_bd (gx_sc n0 u0 (s1 + 2)) fun v114 =>
      gx_bd (gx_sc n0 u0 (s1 + 3)) fun v115 =>
      gx_bd (f_X16_answer [2] v113 v114 v115) fun v116 =>
      gx_bd (f_X16_thrown [2]) fun v117 =>
      if v117 = v112 then
        if v112 = 0 then
          gx_bd (gx_la [3] 0) fun v118 =>
          if (lg_cmp v118 v116.toInt64) = 0 then
            gx_rt (.inl ((s1 + 6) : Int32))
          else
            gx_rt (.inr (.inr 0))
        else
          gx_rt (.inl ((s1 + 6) : Int32))
      else
        gx_rt (.inr (.inr 0))
    else
    if (v2 &&& 31) = 19 then
      gx_bd (gx_sc n0 u0 (s1 + 1)) fun v119 =>
      gx_bd (gx_sc n0 u0 (s1 + 2)) fun v120 =>
      gx_bd (gx_sc n0 u0 (s1 + 3)) fun v121 =>
      gx_bd (f_X0_pair [1] v119 v120 v121 [3]) fun v122 =>
      gx_bd (gx_sc n0 u0 (s1 + 1)) fun v123 =>
      gx_bd (gx_sc n0 u0 (s1 + 2)) fun v124 =>
      gx_bd (gx_sc n0 u0 (s1 + 3)) fun v125 =>
      gx_bd (f_X16_pair [2] v123 v124 v125) fun v126 =>
      gx_bd (f_X16_thrown [2]) fun v127 =>
      if v127 = v122 then
        if v122 = 0 then
          gx_bd (gx_la [3] 0) fun v128 =>
          if (lg_cmp v128 v126.toInt64) = 0 then
            gx_rt (.inl ((s1 + 6) : Int32))
          else
            gx_rt (.inr (.inr 0))
        else
          gx_rt (.inl ((s1 + 6) : Int32))
      else
        gx_rt (.inr (.inr 0))
    else
    if (v2 &&& 31) = 20 then
      gx_bd (gx_sc n0 u0 (s1 + 1)) fun v129 =>
      gx_bd (gx_sc n0 u0 (s1 + 2)) fun v130 =>
      gx_bd (gx_sc n0 u0 (s1 + 3)) fun v131 =>
      gx_bd (gx_sc n0 u0 (s1 + 4)) fun v132 =>
      gx_bd (gx_sc n0 u0 (s1 + 5)) fun v133 =>
      gx_bd (f_X0_range [1] v129 v130 v131 v132 v133 [3]) fun v134 =>
      gx_bd (gx_sc n0 u0 (s1 + 1)) fun v135 =>
      gx_bd (gx_sc n0 u0 (s1 + 2)) fun v136 =>
      gx_bd (gx_sc n0 u0 (s1 + 3)) fun v137 =>
      gx_bd (gx_sc n0 u0 (s1 + 4)) fun v138 =>
      gx_bd (gx_sc n0 u0 (s1 + 5)) fun v139 =>
      gx_bd (f_X16_range [2] v135 v136 v137 v138 v139) fun v140 =>
      gx_bd (f_X16_thrown [2]) fun v141 =>
      if v141 = v134 then
        if v134 = 0 then
          gx_bd (gx_la [3] 0) fun v142 =>
          if (lg_cmp v142 v140.toInt64) = 0 then
            gx_rt (.inl ((s1 + 6) : Int32))
          else
            gx_rt (.inr (.inr 0))
        else
          gx_rt (.inl ((s1 + 6) : Int32))
      else
        gx_rt (.inr (.inr 0))
    else
    if (v2 &&& 31) = 21 then
      gx_bd (gx_sc n0 u0 (s1 + 1)) fun v143 =>
      gx_bd (gx_sc n0 u0 (s1 + 2)) fun v144 =>
      gx_bd (gx_sc n0 u0 (s1 + 3)) fun v145 =>
      gx_bd (gx_sc n0 u0 (s1 + 4)) fun v146 =>
      gx_bd (gx_sc n0 u0 (s1 + 5)) fun v147 =>
      gx_bd (f_X0_event [1] v143 v144 v145 v146 v147 [3]) fun v148 =>
      gx_bd (gx_sc n0 u0 (s1 + 1)) fun v149 =>
      gx_bd (gx_sc n0 u0 (s1 + 2)) fun v150 =>
      gx_bd (gx_sc n0 u0 (s1 + 3)) fun v151 =>
      gx_bd (gx_sc n0 u0 (s1 + 4)) fun v152 =>
      gx_bd (gx_sc n0 u0 (s1 + 5)) fun v153 =>
      gx_bd (f_X16_event [2] v149 v150 v151 v152 v153) fun v154 =>
      gx_bd (f_X16_thrown [2]) fun v155 =>
      if v155 = v148 then
        if v148 = 0 then
          gx_bd (gx_la [3] 0) fun v156 =>
          if (lg_cmp v156 v154.toInt64) = 0 then
            gx_rt (.inl ((s1 + 6) : Int32))
          else
            gx_rt (.inr (.inr 0))
        else
          gx_rt (.inl ((s1 + 6) : Int32))
      else
        gx_rt (.inr (.inr 0))
    else
    if (v2 &&& 31) = 22 then
      gx_bd (gx_sc n0 u0 (s1 + 1)) fun v157 =>
      gx_bd (gx_sc n0 u0 (s1 + 2)) fun v158 =>
      gx_bd (f_X0_compact [1] v157 v158) fun v159 =>
      gx_bd (gx_sc n0 u0 (s1 + 1)) fun v160 =>
      gx_bd (gx_sc n0 u0 (s1 + 2)) fun v161 =>
      gx_bd (f_X16_compact [2] v160 v161) fun _ =>
      gx_bd (f_X16_thrown [2]) fun v162 =>
      if v162 = v159 then
        gx_rt (.inl ((s1 + 6) : Int32))
      else
        gx_rt (.inr (.inr 0))
    else
    if (v2 &&& 31) = 23 then
      gx_bd (gx_sc n0 u0 (s1 + 1)) fun v163 =>
      gx_bd (gx_sc n0 u0 (s1 + 2)) fun v164 =>
      gx_bd (gx_sc n0 u0 (s1 + 3)) fun v165 =>
      gx_bd (f_X0_outcome [1] v163 v164 v165 [3]) fun v166 =>
      gx_bd (gx_sc n0 u0 (s1 + 1)) fun v167 =>
      gx_bd (gx_sc n0 u0 (s1 + 2)) fun v168 =>
      gx_bd (gx_sc n0 u0 (s1 + 3)) fun v169 =>
      gx_bd (f_X16_outcome [2] v167 v168 v169) fun v170 =>
      gx_bd (f_X16_thrown [2]) fun v171 =>
      if v171 = v166 then
        if v166 = 0 then
          gx_bd (gx_la [3] 0) fun v172 =>
          if (lg_cmp v172 v170.toInt64) = 0 then
            gx_rt (.inl ((s1 + 6) : Int32))
          else
            gx_rt (.inr (.inr 0))
        else
          gx_rt (.inl ((s1 + 6) : Int32))
      else
        gx_rt (.inr (.inr 0))
    else
    if (v2 &&& 31) = 24 then
      gx_bd (gx_sc n0 u0 (s1 + 1)) fun v173 =>
      gx_bd (gx_sc n0 u0 (s1 + 2)) fun v174 =>
      gx_bd (f_X0_message [1] v173 v174 [3]) fun v175 =>
      gx_bd (gx_sc n0 u0 (s1 + 1)) fun v176 =>
      gx_bd (gx_sc n0 u0 (s1 + 2)) fun v177 =>
      gx_bd (f_X16_message_2 [2] v176 v177) fun v178 =>
      gx_bd (f_X16_thrown [2]) fun v179 =>
      if v179 = v175 then
        if v175 = 0 then
          gx_bd (gx_la [3] 0) fun v180 =>
          if (lg_cmp v180 v178.toInt64) = 0 then
            gx_rt (.inl ((s1 + 6) : Int32))
          else
            gx_rt (.inr (.inr 0))
        else
          gx_rt (.inl ((s1 + 6) : Int32))
      else
        gx_rt (.inr (.inr 0))
    else
    if (v2 &&& 31) = 25 then
      gx_bd (gx_sc n0 u0 (s1 + 1)) fun v181 =>
      gx_bd (gx_sc n0 u0 (s1 + 2)) fun v182 =>
      gx_bd (f_X0_told [1] v181 v182 [3]) fun v183 =>
      gx_bd (gx_sc n0 u0 (s1 + 1)) fun v184 =>
      gx_bd (gx_sc n0 u0 (s1 + 2)) fun v185 =>
      gx_bd (f_X16_told [2] v184 v185) fun v186 =>
      gx_bd (f_X16_thrown [2]) fun v187 =>
      if v187 = v183 then
        if v183 = 0 then
          gx_bd (gx_la [3] 0) fun v188 =>
          if (lg_cmp v188 v186.toInt64) = 0 then
            gx_rt (.inl ((s1 + 6) : Int32))
          else
            gx_rt (.inr (.inr 0))
        else
          gx_rt (.inl ((s1 + 6) : Int32))
      else
        gx_rt (.inr (.inr 0))
    else
    if (v2 &&& 31) = 26 then
      gx_bd (gx_sc n0 u0 (s1 + 1)) fun v189 =>
      gx_bd (f_X1_count [1] v189) fun v190 =>
      gx_bd (gx_sc n0 u0 (s1 + 1)) fun v191 =>
      gx_bd (f_X16_count [2] v191) fun v192 =>
      if v190 = v192 then
        gx_rt (.inl ((s1 + 6) : Int32))
      else
        gx_rt (.inr (.inr 0))
    else
    gx_rt (.inl ((s1 + 6) : Int32))
noncomputable def f_L_law (n0 : Nat) (u0 : Nat → Int32) : gx_M (Int32) :=
  gx_bd (gx_nw 31 8 [1]) fun _ =>
  gx_bd (f_X1_init [1]) fun _ =>
  gx_bd (gx_fu [1] [(0, [0, 1]), (1, [1, 1]), (2, [2, 1]), (3, [3, 1]), (7, [7, 1])]) fun _ =>
  gx_bd (gx_nw 46 122 [2]) fun _ =>
  gx_bd (f_X16_init [2]) fun _ =>
  gx_bd (gx_fu [2] [(1, [1, 2]), (2, [2, 2]), (3, [3, 2]), (8, [8, 2]), (9, [9, 2]), (10, [10, 2]), (11, [11, 2]), (12, [12, 2]), (13, [13, 2]), (14, [14, 2]), (15, [15, 2]), (16, [16, 2]), (17, [17, 2]), (18, [18, 2]), (19, [19, 2]), (23, [23, 2]), (24, [24, 2]), (25, [25, 2]), (26, [26, 2]), (28, [28, 2]), (30, [30, 2]), (31, [31, 2]), (32, [32, 2]), (33, [33, 2]), (34, [34, 2]), (35, [35, 2]), (36, [36, 2]), (37, [37, 2]), (38, [38, 2]), (39, [39, 2]), (40, [40, 2]), (41, [41, 2]), (42, [42, 2]), (43, [43, 2]), (44, [44, 2]), (45, [45, 2]), (46, [46, 2]), (47, [47, 2]), (48, [48, 2]), (49, [49, 2]), (50, [50, 2]), (51, [51, 2]), (52, [52, 2]), (53, [53, 2]), (54, [54, 2]), (55, [55, 2]), (56, [56, 2]), (57, [57, 2]), (58, [58, 2]), (59, [59, 2]), (60, [60, 2]), (61, [61, 2]), (63, [63, 2]), (64, [64, 2]), (65, [65, 2]), (66, [66, 2]), (67, [67, 2]), (68, [68, 2]), (69, [69, 2]), (70, [70, 2]), (71, [71, 2]), (72, [72, 2]), (73, [73, 2]), (74, [74, 2]), (77, [77, 2]), (79, [79, 2]), (80, [80, 2]), (82, [82, 2]), (83, [83, 2]), (84, [84, 2]), (85, [85, 2]), (86, [86, 2]), (87, [87, 2]), (88, [88, 2]), (89, [89, 2]), (90, [90, 2]), (91, [91, 2]), (92, [92, 2]), (94, [94, 2]), (95, [95, 2]), (97, [97, 2]), (98, [98, 2]), (99, [99, 2]), (100, [100, 2]), (101, [101, 2]), (102, [102, 2]), (103, [103, 2]), (104, [104, 2]), (105, [105, 2]), (106, [106, 2]), (109, [109, 2]), (114, [114, 2]), (116, [116, 2]), (117, [117, 2]), (118, [118, 2]), (119, [119, 2])]) fun _ =>
  gx_bd (gx_na 103 1 [3]) fun _ =>
  gx_bd (gx_lp (lb_L_law_1 n0 u0) (0 : Int32)) fun j193 => match j193 with
  | .inr r => gx_rt r
  | .inl _ =>
    gx_rt 1
