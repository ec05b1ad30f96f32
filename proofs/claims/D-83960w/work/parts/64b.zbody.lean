set_option maxRecDepth 100000
/-! THE REFERENCE over whole numbers (printed by zgen.py) -/
def zb_feed (R : ZC ZS) (d : Nat) (x1 : Int) (x2 : Int) (x3 : Int) (x4 : Int) (x5 : Int) (S : ZS) : ZR ZS :=
  zp S 0 0 fun S1 =>
  zG (inI ((S1.1 4) + 20)) <|
  if ((S1.1 4) + 20) ≤ 8000 then
    zlet (0 : Int) fun x6_2 =>
    R d 346 [.inl x1, .inl x2, .inl x3, .inl x4, .inl x5, .inl x6_2] S1
  else
  zrZ 0 S1
def zb_end (R : ZC ZS) (d : Nat) (x1 : Int) (S : ZS) : ZR ZS :=
  zp S 0 0 fun S1 =>
  if x1 < 0 then
    zrZ 0 S1
  else
  if x1 ≤ (S1.1 4) then
    zlet (0 : Int) fun x2_2 =>
    R d 347 [.inl x1, .inl x2_2] S1
  else
  zrZ 0 S1
def zb_bindType (R : ZC ZS) (d : Nat) (x1 : Int) (x2 : Int) (x3 : Int) (x4 : Int) (S : ZS) : ZR ZS :=
  zlet (S.1 101) fun x5_1 =>
  zG (inI ((S.1 101) + 1)) <|
  zp S 101 ((S.1 101) + 1) fun S2 =>
  zs S2 51 2200 x5_1 x1 fun S3 =>
  zs S3 52 2200 x5_1 x2 fun S4 =>
  zs S4 53 2200 x5_1 x3 fun S5 =>
  zs S5 54 2200 x5_1 x4 fun S6 =>
  zs S6 55 2200 x5_1 (S6.1 102) fun S7 =>
  zp S7 102 x5_1 fun S8 =>
  zrI x5_1 S8
def zb_unit (R : ZC ZS) (d : Nat)  (S : ZS) : ZR ZS :=
  zI (zc R d 4 [.inl 3, .inl 0, .inl (-1), .inl 0, .inl 0] S) fun v2 S1 =>
  zrI v2 S1
def zb_type (R : ZC ZS) (d : Nat) (x1 : Int) (x2 : Int) (x3 : Int) (x4 : Int) (x5 : Int) (S : ZS) : ZR ZS :=
  zlet (S.1 66) fun x6_1 =>
  zG (inI ((S.1 66) + 1)) <|
  zp S 66 ((S.1 66) + 1) fun S2 =>
  zs S2 23 57000 x6_1 (zbyte x1) fun S3 =>
  if x1 = 3 then
    R d 348 [.inl x3, .inl x4, .inl x6_1, .inl x5, .inl x6_1] S3
  else
  R d 348 [.inl x3, .inl x4, .inl x6_1, .inl x2, .inl x6_1] S3
def zb_keep (R : ZC ZS) (d : Nat) (x1 : Int) (S : ZS) : ZR ZS :=
  zp S 86 0 fun S1 =>
  zI (zc R d 6 [.inl x1] S1) fun v3 S2 =>
  zrI v3 S2
def zb_kept0 (R : ZC ZS) (d : Nat) (x1 : Int) (S : ZS) : ZR ZS :=
  zlet (S.1 83) fun x2_1 =>
  zV (zc R d 7 [.inl x1] S) fun S2 =>
  zG (inI ((-2) - x2_1)) <|
  zrI ((-2) - x2_1) S2
def zb_sign0 (R : ZC ZS) (d : Nat) (x1 : Int) (S : ZS) : ZR ZS :=
  zI (zc R d 8 [.inl x1] S) fun v2 S1 =>
  zlet v2 fun x2_3 =>
  za S1 23 57000 x2_3 fun v4 =>
  if v4 = 2 then
    za S1 25 57000 x2_3 fun v5 =>
    zG (inI (4 * v5)) <|
    zs S1 42 158000 (S1.1 83) (4 * v5) fun S6 =>
    zG (inI ((S6.1 83) + 1)) <|
    zp S6 83 ((S6.1 83) + 1) fun S7 =>
    za S7 26 57000 x2_3 fun v8 =>
    zlet v8 fun x3_9 =>
    R d 349 [.inl x3_9] S7
  else
  za S1 23 57000 x2_3 fun v10 =>
  if v10 = 3 then
    zlet (0 : Int) fun x3_11 =>
    za S1 26 57000 x2_3 fun v12 =>
    zlet v12 fun x4_13 =>
    R d 350 [.inl x2_3, .inl x3_11, .inl x4_13] S1
  else
  zlet (0 : Int) fun x3_14 =>
  R d 351 [.inl x2_3, .inl x3_14] S1
def zb_find (R : ZC ZS) (d : Nat) (x1 : Int) (S : ZS) : ZR ZS :=
  zlet x1 fun x2_1 =>
  R d 352 [.inl x1, .inl x2_1] S
def zb_made (R : ZC ZS) (d : Nat) (x1 : Int) (S : ZS) : ZR ZS :=
  zI (zc R d 4 [.inl 2, .inl x1, .inl (-1), .inl 0, .inl 0] S) fun v2 S1 =>
  zrI v2 S1
def zb_arrow (R : ZC ZS) (d : Nat) (x1 : Int) (x2 : Int) (S : ZS) : ZR ZS :=
  zI (zc R d 11 [.inl 1, .inl x2, .inl (-1)] S) fun v2 S1 =>
  zI (zc R d 11 [.inl 0, .inl x1, .inl v2] S1) fun v4 S3 =>
  zI (zc R d 4 [.inl 2, .inl 7, .inl v4, .inl 0, .inl 0] S3) fun v6 S5 =>
  zrI v6 S5
def zb_field (R : ZC ZS) (d : Nat) (x1 : Int) (x2 : Int) (x3 : Int) (S : ZS) : ZR ZS :=
  zlet (S.1 67) fun x4_1 =>
  zG (inI ((S.1 67) + 1)) <|
  zp S 67 ((S.1 67) + 1) fun S2 =>
  zs S2 29 106000 x4_1 x1 fun S3 =>
  zs S3 30 106000 x4_1 x2 fun S4 =>
  zs S4 31 106000 x4_1 x3 fun S5 =>
  zrI x4_1 S5
def zb_bind (R : ZC ZS) (d : Nat) (x1 : Int) (x2 : Int) (x3 : Int) (x4 : Int) (x5 : Int) (x6 : Int) (S : ZS) : ZR ZS :=
  zlet (S.1 94) fun x7_1 =>
  zG (inI ((S.1 94) + 1)) <|
  zp S 94 ((S.1 94) + 1) fun S2 =>
  zs S2 44 4000 x7_1 x1 fun S3 =>
  zs S3 45 4000 x7_1 x2 fun S4 =>
  zs S4 46 4000 x7_1 x3 fun S5 =>
  zs S5 47 4000 x7_1 x4 fun S6 =>
  zs S6 48 4000 x7_1 x5 fun S7 =>
  zs S7 49 4000 x7_1 x6 fun S8 =>
  zs S8 50 4000 x7_1 (S8.1 95) fun S9 =>
  zp S9 95 x7_1 fun S10 =>
  zrI x7_1 S10
def zb_general (R : ZC ZS) (d : Nat) (x1 : Int) (S : ZS) : ZR ZS :=
  zI (zc R d 4 [.inl 0, .inl 0, .inl (-1), .inl (zorI 4 x1), .inl 0] S) fun v2 S1 =>
  zrI v2 S1
def zb_made_2 (R : ZC ZS) (d : Nat) (x1 : Int) (x2 : Int) (S : ZS) : ZR ZS :=
  zI (zc R d 11 [.inl 0, .inl x2, .inl (-1)] S) fun v2 S1 =>
  zI (zc R d 4 [.inl 2, .inl x1, .inl v2, .inl 0, .inl 0] S1) fun v4 S3 =>
  zrI v4 S3
def zb_pairType (R : ZC ZS) (d : Nat) (x1 : Int) (x2 : Int) (S : ZS) : ZR ZS :=
  zI (zc R d 16 [.inl 2] S) fun v2 S1 =>
  zI (zc R d 16 [.inl 1] S1) fun v4 S3 =>
  zI (zc R d 11 [.inl v4, .inl x1, .inl (-1)] S3) fun v6 S5 =>
  zI (zc R d 11 [.inl v2, .inl x2, .inl v6] S5) fun v8 S7 =>
  zI (zc R d 4 [.inl 3, .inl 0, .inl v8, .inl 0, .inl 0] S7) fun v10 S9 =>
  zrI v10 S9
def zb_number (R : ZC ZS) (d : Nat) (x0 : Int) (S : ZS) : ZR ZS :=
  zG (inI ((-1) - x0)) <|
  zrI ((-1) - x0) S
def zb_variableOf (R : ZC ZS) (d : Nat)  (S : ZS) : ZR ZS :=
  zlet (S.1 110) fun x1_1 =>
  zG (inI ((S.1 110) + 1)) <|
  zp S 110 ((S.1 110) + 1) fun S2 =>
  if (S2.1 112) = 0 then
    R d 353 [.inl x1_1, .inl (zorI (S2.1 116) (zshlI ((S2.1 115) + 1) 16)), .inl x1_1] S2
  else
  R d 353 [.inl x1_1, .inl (S2.1 117), .inl x1_1] S2
def zb_slotOf (R : ZC ZS) (d : Nat) (x1 : Int) (S : ZS) : ZR ZS :=
  za S 60 42000 x1 fun v1 =>
  zrI (zandI v1 65535) S
def zb_exceptionValue (R : ZC ZS) (d : Nat) (x1 : Int) (S : ZS) : ZR ZS :=
  zG (inL ((S.2.1 179) + 1)) <|
  zpL S 179 ((S.2.1 179) + 1) fun S1 =>
  zrL (zorL (zorL 2814749767106560 (zshlL x1 35)) (zandL (S1.2.1 179) 34359738367)) S1
def zb_fix (R : ZC ZS) (d : Nat) (x1 : Int) (x2 : Int) (x3 : Int) (S : ZS) : ZR ZS :=
  if x3 = 0 then
    R d 354 [.inl 0, .inl (zorI (zshlI x1 5) (zandI x2 15)), .inl (S.1 46)] S
  else
  R d 354 [.inl 16, .inl (zorI (zshlI x1 5) (zandI x2 15)), .inl (S.1 46)] S
def zb_firstType (R : ZC ZS) (d : Nat) (x1 : Int) (S : ZS) : ZR ZS :=
  zI (zc R d 9 [.inl 0] S) fun v2 S1 =>
  zlet v2 fun x2_3 =>
  if x1 = 0 then
    zI (zc R d 13 [.inl 1] S1) fun v5 S4 =>
    zlet v5 fun x3_6 =>
    zI (zc R d 15 [.inl x3_6, .inl x3_6] S4) fun v8 S7 =>
    zI (zc R d 9 [.inl 3] S7) fun v10 S9 =>
    zI (zc R d 10 [.inl v8, .inl v10] S9) fun v12 S11 =>
    zrI v12 S11
  else
  if x1 = 1 then
    zI (zc R d 13 [.inl 1] S1) fun v15 S14 =>
    zlet v15 fun x3_16 =>
    zI (zc R d 15 [.inl x3_16, .inl x3_16] S14) fun v18 S17 =>
    zI (zc R d 9 [.inl 3] S17) fun v20 S19 =>
    zI (zc R d 10 [.inl v18, .inl v20] S19) fun v22 S21 =>
    zrI v22 S21
  else
  if x1 = 2 then
    zI (zc R d 13 [.inl 2] S1) fun v25 S24 =>
    zlet v25 fun x4_26 =>
    zI (zc R d 15 [.inl x4_26, .inl x4_26] S24) fun v28 S27 =>
    zI (zc R d 9 [.inl 3] S27) fun v30 S29 =>
    zI (zc R d 10 [.inl v28, .inl v30] S29) fun v32 S31 =>
    zrI v32 S31
  else
  if x1 = 3 then
    zI (zc R d 13 [.inl 2] S1) fun v35 S34 =>
    zlet v35 fun x4_36 =>
    zI (zc R d 15 [.inl x4_36, .inl x4_36] S34) fun v38 S37 =>
    zI (zc R d 9 [.inl 3] S37) fun v40 S39 =>
    zI (zc R d 10 [.inl v38, .inl v40] S39) fun v42 S41 =>
    zrI v42 S41
  else
  if x1 = 4 then
    zI (zc R d 13 [.inl 2] S1) fun v45 S44 =>
    zlet v45 fun x4_46 =>
    zI (zc R d 15 [.inl x4_46, .inl x4_46] S44) fun v48 S47 =>
    zI (zc R d 9 [.inl 3] S47) fun v50 S49 =>
    zI (zc R d 10 [.inl v48, .inl v50] S49) fun v52 S51 =>
    zrI v52 S51
  else
  if x1 = 5 then
    zI (zc R d 13 [.inl 2] S1) fun v55 S54 =>
    zlet v55 fun x4_56 =>
    zI (zc R d 15 [.inl x4_56, .inl x4_56] S54) fun v58 S57 =>
    zI (zc R d 9 [.inl 3] S57) fun v60 S59 =>
    zI (zc R d 10 [.inl v58, .inl v60] S59) fun v62 S61 =>
    zrI v62 S61
  else
  if x1 = 6 then
    zI (zc R d 15 [.inl x2_3, .inl x2_3] S1) fun v65 S64 =>
    zI (zc R d 10 [.inl v65, .inl x2_3] S64) fun v67 S66 =>
    zrI v67 S66
  else
  if x1 = 7 then
    zI (zc R d 15 [.inl x2_3, .inl x2_3] S1) fun v70 S69 =>
    zI (zc R d 10 [.inl v70, .inl x2_3] S69) fun v72 S71 =>
    zrI v72 S71
  else
  if x1 = 8 then
    zI (zc R d 15 [.inl x2_3, .inl x2_3] S1) fun v75 S74 =>
    zI (zc R d 10 [.inl v75, .inl x2_3] S74) fun v77 S76 =>
    zrI v77 S76
  else
  if x1 = 9 then
    zI (zc R d 15 [.inl x2_3, .inl x2_3] S1) fun v80 S79 =>
    zI (zc R d 10 [.inl v80, .inl x2_3] S79) fun v82 S81 =>
    zrI v82 S81
  else
  if x1 = 10 then
    zI (zc R d 15 [.inl x2_3, .inl x2_3] S1) fun v85 S84 =>
    zI (zc R d 10 [.inl v85, .inl x2_3] S84) fun v87 S86 =>
    zrI v87 S86
  else
  if x1 = 11 then
    zI (zc R d 10 [.inl x2_3, .inl x2_3] S1) fun v90 S89 =>
    zrI v90 S89
  else
  if x1 = 12 then
    zI (zc R d 10 [.inl x2_3, .inl x2_3] S1) fun v93 S92 =>
    zrI v93 S92
  else
  if x1 = 13 then
    zI (zc R d 9 [.inl 3] S1) fun v96 S95 =>
    zI (zc R d 9 [.inl 3] S95) fun v98 S97 =>
    zI (zc R d 10 [.inl v96, .inl v98] S97) fun v100 S99 =>
    zrI v100 S99
  else
  if x1 = 14 then
    zI (zc R d 9 [.inl 2] S1) fun v103 S102 =>
    zI (zc R d 9 [.inl 2] S102) fun v105 S104 =>
    zI (zc R d 15 [.inl v103, .inl v105] S104) fun v107 S106 =>
    zI (zc R d 9 [.inl 2] S106) fun v109 S108 =>
    zI (zc R d 10 [.inl v107, .inl v109] S108) fun v111 S110 =>
    zrI v111 S110
  else
  if x1 = 15 then
    zI (zc R d 9 [.inl 2] S1) fun v114 S113 =>
    zI (zc R d 10 [.inl v114, .inl x2_3] S113) fun v116 S115 =>
    zrI v116 S115
  else
  if x1 = 16 then
    zI (zc R d 9 [.inl 1] S1) fun v119 S118 =>
    zI (zc R d 10 [.inl v119, .inl x2_3] S118) fun v121 S120 =>
    zrI v121 S120
  else
  if x1 = 17 then
    zI (zc R d 9 [.inl 1] S1) fun v124 S123 =>
    zI (zc R d 10 [.inl x2_3, .inl v124] S123) fun v126 S125 =>
    zrI v126 S125
  else
  if x1 = 18 then
    zI (zc R d 9 [.inl 1] S1) fun v129 S128 =>
    zI (zc R d 9 [.inl 2] S128) fun v131 S130 =>
    zI (zc R d 10 [.inl v129, .inl v131] S130) fun v133 S132 =>
    zrI v133 S132
  else
  if x1 = 19 then
    zI (zc R d 16 [.inl 1] S1) fun v136 S135 =>
    zI (zc R d 9 [.inl 2] S135) fun v138 S137 =>
    zI (zc R d 22 [.inl (-1), .inl v136, .inl v138] S137) fun v140 S139 =>
    zI (zc R d 16 [.inl 2] S139) fun v142 S141 =>
    zI (zc R d 22 [.inl v140, .inl v142, .inl x2_3] S141) fun v144 S143 =>
    zI (zc R d 16 [.inl 3] S143) fun v146 S145 =>
    zI (zc R d 22 [.inl v144, .inl v146, .inl x2_3] S145) fun v148 S147 =>
    zI (zc R d 4 [.inl 3, .inl 0, .inl v148, .inl 0, .inl 0] S147) fun v150 S149 =>
    zI (zc R d 9 [.inl 2] S149) fun v152 S151 =>
    zI (zc R d 10 [.inl v150, .inl v152] S151) fun v154 S153 =>
    zrI v154 S153
  else
  if x1 = 20 then
    zI (zc R d 9 [.inl 2] S1) fun v157 S156 =>
    zI (zc R d 9 [.inl 1] S156) fun v159 S158 =>
    zI (zc R d 14 [.inl 5, .inl v159] S158) fun v161 S160 =>
    zI (zc R d 10 [.inl v157, .inl v161] S160) fun v163 S162 =>
    zrI v163 S162
  else
  if x1 = 21 then
    zI (zc R d 9 [.inl 1] S1) fun v166 S165 =>
    zI (zc R d 14 [.inl 5, .inl v166] S165) fun v168 S167 =>
    zI (zc R d 9 [.inl 2] S167) fun v170 S169 =>
    zI (zc R d 10 [.inl v168, .inl v170] S169) fun v172 S171 =>
    zrI v172 S171
  else
  if x1 = 22 then
    zI (zc R d 9 [.inl 2] S1) fun v175 S174 =>
    zI (zc R d 10 [.inl x2_3, .inl v175] S174) fun v177 S176 =>
    zrI v177 S176
  else
  if x1 = 23 then
    zI (zc R d 13 [.inl 0] S1) fun v180 S179 =>
    zlet v180 fun x5_181 =>
    zI (zc R d 14 [.inl 6, .inl x5_181] S179) fun v183 S182 =>
    zI (zc R d 10 [.inl v183, .inl x5_181] S182) fun v185 S184 =>
    zrI v185 S184
  else
  if x1 = 24 then
    zI (zc R d 13 [.inl 0] S1) fun v188 S187 =>
    zlet v188 fun x6_189 =>
    zI (zc R d 14 [.inl 6, .inl x6_189] S187) fun v191 S190 =>
    zI (zc R d 15 [.inl v191, .inl x6_189] S190) fun v193 S192 =>
    zI (zc R d 3 [] S192) fun v195 S194 =>
    zI (zc R d 10 [.inl v193, .inl v195] S194) fun v197 S196 =>
    zrI v197 S196
  else
  zI (zc R d 9 [.inl 2] S1) fun v200 S199 =>
  zI (zc R d 3 [] S199) fun v202 S201 =>
  zI (zc R d 10 [.inl v200, .inl v202] S201) fun v204 S203 =>
  zrI v204 S203
def zb_withField (R : ZC ZS) (d : Nat) (x1 : Int) (x2 : Int) (x3 : Int) (S : ZS) : ZR ZS :=
  if x1 = (-1) then
    zI (zc R d 11 [.inl x2, .inl x3, .inl x1] S) fun v2 S1 =>
    zrI v2 S1
  else
  za S 29 106000 x1 fun v3 =>
  if v3 ≤ x2 then
    zlet x1 fun x4_4 =>
    R d 355 [.inl x1, .inl x2, .inl x3, .inl x4_4] S
  else
  zI (zc R d 11 [.inl x2, .inl x3, .inl x1] S) fun v6 S5 =>
  zrI v6 S5
def zb_begin (R : ZC ZS) (d : Nat)  (S : ZS) : ZR ZS :=
  zp S 83 (S.1 246) fun S1 =>
  zs S1 115 16 0 (S1.1 95) fun S2 =>
  zs S2 115 16 1 (S2.1 102) fun S3 =>
  zs S3 115 16 2 (S3.1 47) fun S4 =>
  zs S4 115 16 3 (S4.1 94) fun S5 =>
  zs S5 115 16 4 (S5.1 101) fun S6 =>
  zs S6 115 16 5 (S6.1 40) fun S7 =>
  zs S7 115 16 6 (S7.1 148) fun S8 =>
  zs S8 115 16 7 (S8.1 150) fun S9 =>
  zs S9 115 16 8 (S9.1 110) fun S10 =>
  zs S10 115 16 9 (S10.1 117) fun S11 =>
  zs S11 115 16 10 (S11.1 106) fun S12 =>
  zs S12 115 16 11 (S12.1 74) fun S13 =>
  zs S13 115 16 12 (S13.1 108) fun S14 =>
  zs S14 115 16 13 (S14.1 30) fun S15 =>
  zs S15 115 16 14 (S15.1 46) fun S16 =>
  zp S16 41 (S16.1 40) fun S17 =>
  zpZ S17 247 1 fun S18 =>
  zpZ S18 248 0 fun S19 =>
  zp S19 31 0 fun S20 =>
  zp S20 32 (-1) fun S21 =>
  zp S21 186 0 fun S22 =>
  zp S22 189 0 fun S23 =>
  zp S23 169 0 fun S24 =>
  zp S24 225 0 fun S25 =>
  zp S25 226 (-2) fun S26 =>
  zp S26 184 0 fun S27 =>
  zrV S27
def zb_input (R : ZC ZS) (d : Nat)  (S : ZS) : ZR ZS :=
  zp S 27 0 fun S1 =>
  zp S1 28 0 fun S2 =>
  zp S2 48 0 fun S3 =>
  zp S3 53 0 fun S4 =>
  zp S4 54 0 fun S5 =>
  zp S5 22 (-1) fun S6 =>
  zV (zc R d 25 [] S6) fun S7 =>
  zV (zc R d 43 [] S7) fun S8 =>
  zI (zc R d 44 [] S8) fun v10 S9 =>
  if v10 = 0 then
    zI (zc R d 82 [] S9) fun v12 S11 =>
    zlet v12 fun x2_13 =>
    za S11 11 4200 (x2_13 - (S11.1 41)) fun v14 =>
    za S11 11 4200 (x2_13 - (S11.1 41)) fun v15 =>
    zI (zc R d 52 [.inl 31, .inl v14, .inl (S11.1 56), .inl 0, .inl 0, .inl v15] S11) fun v17 S16 =>
    zlet v17 fun x3_18 =>
    za S16 11 4200 (x2_13 - (S16.1 41)) fun v19 =>
    zI (zc R d 52 [.inl 78, .inl v19, .inl 0, .inl x3_18, .inl x2_13, .inl 0] S16) fun v21 S20 =>
    zlet v21 fun x4_22 =>
    za S20 11 4200 (x2_13 - (S20.1 41)) fun v23 =>
    zI (zc R d 52 [.inl 70, .inl v23, .inl 0, .inl x4_22, .inl 0, .inl 0] S20) fun v25 S24 =>
    zlet v25 fun x1_26 =>
    zI (zc R d 53 [.inl 35] S24) fun v28 S27 =>
    zlet v28 fun x5_29 =>
    R d 356 [.inl x1_26] S27
  else
  zI (zc R d 46 [.inl 1] S9) fun v31 S30 =>
  zlet v31 fun x1_32 =>
  R d 356 [.inl x1_32] S30
def zb_read (R : ZC ZS) (d : Nat)  (S : ZS) : ZR ZS :=
  zV (zc R d 26 [] S) fun S1 =>
  zp S1 23 (S1.1 27) fun S2 =>
  zp S2 22 6 fun S3 =>
  if (S3.1 27) = (S3.1 6) then
    zrV S3
  else
  zG (inI ((S3.1 28) + 1)) <|
  zp S3 28 ((S3.1 28) + 1) fun S4 =>
  if (S4.1 28) ≤ 1000 then
    zI (zc R d 27 [] S4) fun v6 S5 =>
    zlet v6 fun x1_7 =>
    zI (zc R d 30 [.inl x1_7] S5) fun v9 S8 =>
    if v9 = 0 then
      if x1_7 = 39 then
        zV (zc R d 35 [] S8) fun S10 =>
        zrV S10
      else
      zI (zc R d 33 [.inl x1_7] S8) fun v12 S11 =>
      if v12 = 0 then
        if x1_7 = 126 then
          zI (zc R d 29 [.inl 1] S11) fun v14 S13 =>
          zI (zc R d 33 [.inl v14] S13) fun v16 S15 =>
          if v16 = 0 then
            R d 357 [.inl x1_7] S15
          else
          zV (zc R d 36 [] S15) fun S17 =>
          zrV S17
        else
        R d 357 [.inl x1_7] S11
      else
      zV (zc R d 36 [] S11) fun S18 =>
      zrV S18
    else
    zV (zc R d 31 [] S8) fun S19 =>
    zrV S19
  else
  zthrow 4 (S4.1 27) S4
def zb_gaps (R : ZC ZS) (d : Nat)  (S : ZS) : ZR ZS :=
  zI (zc R d 27 [] S) fun v2 S1 =>
  zI (zc R d 28 [.inl v2] S1) fun v4 S3 =>
  if v4 = 0 then
    zI (zc R d 27 [] S3) fun v6 S5 =>
    if v6 = 40 then
      zI (zc R d 29 [.inl 1] S5) fun v8 S7 =>
      if v8 = 42 then
        zlet (S7.1 27) fun x1_9 =>
        zlet (1 : Int) fun x2_10 =>
        zG (inI ((S7.1 27) + 2)) <|
        zp S7 27 ((S7.1 27) + 2) fun S11 =>
        R d 358 [.inl x1_9, .inl x2_10] S11
      else
      zrV S7
    else
    zrV S5
  else
  zG (inI ((S3.1 27) + 1)) <|
  zp S3 27 ((S3.1 27) + 1) fun S12 =>
  R d 26 [] S12
def zb_here (R : ZC ZS) (d : Nat)  (S : ZS) : ZR ZS :=
  if (S.1 27) < (S.1 6) then
    za S 2 8000 (S.1 27) fun v1 =>
    zrI v1 S
  else
  zrI (-1) S
def zb_isBlank (R : ZC ZS) (d : Nat) (x0 : Int) (S : ZS) : ZR ZS :=
  if x0 = 32 then
    zrZ 1 S
  else
  if x0 = 9 then
    zrZ 1 S
  else
  if x0 = 10 then
    zrZ 1 S
  else
  if x0 = 13 then
    zrZ 1 S
  else
  zrZ 0 S
def zb_behind (R : ZC ZS) (d : Nat) (x1 : Int) (S : ZS) : ZR ZS :=
  zG (inI ((S.1 27) + x1)) <|
  if ((S.1 27) + x1) < (S.1 6) then
    za S 2 8000 ((S.1 27) + x1) fun v1 =>
    zrI v1 S
  else
  zrI (-1) S
def zb_isLetter (R : ZC ZS) (d : Nat) (x0 : Int) (S : ZS) : ZR ZS :=
  if x0 < 97 then
    R d 359 [.inl x0] S
  else
  if x0 ≤ 122 then
    zrZ 1 S
  else
  R d 359 [.inl x0] S
def zb_readName (R : ZC ZS) (d : Nat)  (S : ZS) : ZR ZS :=
  zI (zc R d 27 [] S) fun v2 S1 =>
  zI (zc R d 32 [.inl v2] S1) fun v4 S3 =>
  if v4 = 0 then
    zV (zc R d 34 [] S3) fun S5 =>
    zrV S5
  else
  zG (inI ((S3.1 27) + 1)) <|
  zp S3 27 ((S3.1 27) + 1) fun S6 =>
  R d 31 [] S6
def zb_goesOn (R : ZC ZS) (d : Nat) (x0 : Int) (S : ZS) : ZR ZS :=
  zI (zc R d 30 [.inl x0] S) fun v2 S1 =>
  if v2 = 0 then
    zI (zc R d 33 [.inl x0] S1) fun v4 S3 =>
    if v4 = 0 then
      if x0 = 95 then
        zrZ 1 S3
      else
      if x0 = 39 then
        zrZ 1 S3
      else
      zrZ 0 S3
    else
    zrZ 1 S3
  else
  zrZ 1 S1
def zb_isDigit (R : ZC ZS) (d : Nat) (x0 : Int) (S : ZS) : ZR ZS :=
  if x0 < 48 then
    zrZ 0 S
  else
  if x0 ≤ 57 then
    zrZ 1 S
  else
  zrZ 0 S
def zb_named (R : ZC ZS) (d : Nat)  (S : ZS) : ZR ZS :=
  zG (inI ((S.1 27) - (S.1 23))) <|
  zlet ((S.1 27) - (S.1 23)) fun x1_1 =>
  if x1_1 ≤ 30 then
    zI (zc R d 360 [.inl (S.1 23), .inl x1_1] S) fun v3 S2 =>
    zp S2 24 v3 fun S4 =>
    if (S4.1 24) < 44 then
      zp S4 22 0 fun S5 =>
      zrV S5
    else
    zp S4 22 1 fun S6 =>
    zrV S6
  else
  zthrow 1 (S.1 23) S
def zb_readVariable (R : ZC ZS) (d : Nat)  (S : ZS) : ZR ZS :=
  zG (inI ((S.1 27) + 1)) <|
  zp S 27 ((S.1 27) + 1) fun S1 =>
  zI (zc R d 27 [] S1) fun v3 S2 =>
  if v3 = 39 then
    zG (inI ((S2.1 27) + 1)) <|
    zp S2 27 ((S2.1 27) + 1) fun S4 =>
    R d 361 [] S4
  else
  R d 361 [] S2
def zb_readInt (R : ZC ZS) (d : Nat)  (S : ZS) : ZR ZS :=
  zI (zc R d 27 [] S) fun v2 S1 =>
  if v2 = 126 then
    R d 362 [.inl 1] S1
  else
  R d 362 [.inl 0] S1
def zb_readString (R : ZC ZS) (d : Nat) (x1 : Int) (S : ZS) : ZR ZS :=
  if x1 = 0 then
    R d 363 [.inl x1, .inl 1, .inl (S.1 27)] S
  else
  R d 363 [.inl x1, .inl 2, .inl (S.1 27)] S
def zb_pushByte (R : ZC ZS) (d : Nat) (x1 : Int) (S : ZS) : ZR ZS :=
  zs S 9 184000 (S.1 30) (zbyte x1) fun S1 =>
  zG (inI ((S1.1 30) + 1)) <|
  zp S1 30 ((S1.1 30) + 1) fun S2 =>
  zrV S2
def zb_readEscape (R : ZC ZS) (d : Nat)  (S : ZS) : ZR ZS :=
  zI (zc R d 27 [] S) fun v2 S1 =>
  zlet v2 fun x1_3 =>
  if x1_3 = 110 then
    R d 364 [.inl x1_3] S1
  else
  if x1_3 = 116 then
    R d 364 [.inl x1_3] S1
  else
  if x1_3 = 92 then
    R d 364 [.inl x1_3] S1
  else
  if x1_3 = 34 then
    R d 364 [.inl x1_3] S1
  else
  zlet (0 : Int) fun x2_4 =>
  zlet (0 : Int) fun x3_5 =>
  R d 365 [.inl x2_4, .inl x3_5] S1
def zb_isSign (R : ZC ZS) (d : Nat) (x0 : Int) (S : ZS) : ZR ZS :=
  if x0 = 33 then
    zrZ 1 S
  else
  if x0 = 35 then
    zrZ 1 S
  else
  if x0 = 36 then
    zrZ 1 S
  else
  if x0 = 37 then
    zrZ 1 S
  else
  if x0 = 38 then
    zrZ 1 S
  else
  if x0 = 42 then
    zrZ 1 S
  else
  if x0 = 43 then
    zrZ 1 S
  else
  if x0 = 45 then
    zrZ 1 S
  else
  if x0 = 47 then
    zrZ 1 S
  else
  if x0 = 58 then
    zrZ 1 S
  else
  if x0 = 60 then
    zrZ 1 S
  else
  if x0 = 61 then
    zrZ 1 S
  else
  if x0 = 62 then
    zrZ 1 S
  else
  if x0 = 63 then
    zrZ 1 S
  else
  if x0 = 64 then
    zrZ 1 S
  else
  if x0 = 92 then
    zrZ 1 S
  else
  if x0 = 94 then
    zrZ 1 S
  else
  if x0 = 96 then
    zrZ 1 S
  else
  if x0 = 124 then
    zrZ 1 S
  else
  if x0 = 126 then
    zrZ 1 S
  else
  zrZ 0 S
def zb_readSigns (R : ZC ZS) (d : Nat)  (S : ZS) : ZR ZS :=
  zI (zc R d 27 [] S) fun v2 S1 =>
  zI (zc R d 40 [.inl v2] S1) fun v4 S3 =>
  if v4 = 0 then
    zV (zc R d 34 [] S3) fun S5 =>
    zrV S5
  else
  if (S3.1 27) ≤ (S3.1 23) then
    R d 366 [.inl 0] S3
  else
  zI (zc R d 27 [] S3) fun v7 S6 =>
  if v7 = 126 then
    zI (zc R d 29 [.inl 1] S6) fun v9 S8 =>
    zI (zc R d 33 [.inl v9] S8) fun v11 S10 =>
    if v11 = 0 then
      R d 367 [] S10
    else
    R d 366 [.inl 1] S10
  else
  R d 367 [] S6
def zb_readOther (R : ZC ZS) (d : Nat) (x1 : Int) (S : ZS) : ZR ZS :=
  if x1 = 46 then
    zlet (0 : Int) fun x2_1 =>
    R d 368 [.inl x2_1] S
  else
  if x1 = 40 then
    R d 369 [] S
  else
  if x1 = 41 then
    R d 369 [] S
  else
  if x1 = 91 then
    R d 369 [] S
  else
  if x1 = 93 then
    R d 369 [] S
  else
  if x1 = 123 then
    R d 369 [] S
  else
  if x1 = 125 then
    R d 369 [] S
  else
  if x1 = 44 then
    R d 369 [] S
  else
  if x1 = 59 then
    R d 369 [] S
  else
  if x1 = 95 then
    R d 369 [] S
  else
  zthrow 1 (S.1 27) S
def zb_step (R : ZC ZS) (d : Nat)  (S : ZS) : ZR ZS :=
  zp S 17 (S.1 22) fun S1 =>
  zp S1 18 (S1.1 23) fun S2 =>
  zp S2 19 (S2.1 24) fun S3 =>
  zp S3 20 (S3.1 25) fun S4 =>
  zp S4 21 (S4.1 26) fun S5 =>
  if (S5.1 17) = 6 then
    zrV S5
  else
  zV (zc R d 25 [] S5) fun S6 =>
  zrV S6
def zb_beginsDec (R : ZC ZS) (d : Nat)  (S : ZS) : ZR ZS :=
  zI (zc R d 45 [.inl 26] S) fun v2 S1 =>
  if v2 = 0 then
    zI (zc R d 45 [.inl 10] S1) fun v4 S3 =>
    if v4 = 0 then
      zI (zc R d 45 [.inl 25] S3) fun v6 S5 =>
      if v6 = 0 then
        zI (zc R d 45 [.inl 4] S5) fun v8 S7 =>
        if v8 = 0 then
          zI (zc R d 45 [.inl 8] S7) fun v10 S9 =>
          if v10 = 0 then
            zI (zc R d 45 [.inl 17] S9) fun v12 S11 =>
            if v12 = 0 then
              zI (zc R d 45 [.inl 14] S11) fun v14 S13 =>
              if v14 = 0 then
                zI (zc R d 45 [.inl 15] S13) fun v16 S15 =>
                if v16 = 0 then
                  zI (zc R d 45 [.inl 18] S15) fun v18 S17 =>
                  if v18 = 0 then
                    zrZ 0 S17
                  else
                  zrZ 1 S17
                else
                zrZ 1 S15
              else
              zrZ 1 S13
            else
            zrZ 1 S11
          else
          zrZ 1 S9
        else
        zrZ 1 S7
      else
      zrZ 1 S5
    else
    zrZ 1 S3
  else
  zrZ 1 S1
def zb_is (R : ZC ZS) (d : Nat) (x1 : Int) (S : ZS) : ZR ZS :=
  if (S.1 17) = 0 then
    if (S.1 19) = x1 then
      zrZ 1 S
    else
    zrZ 0 S
  else
  zrZ 0 S
def zb_decs (R : ZC ZS) (d : Nat) (x1 : Int) (S : ZS) : ZR ZS :=
  zI (zc R d 47 [] S) fun v2 S1 =>
  zlet v2 fun x2_3 =>
  zlet x2_3 fun x3_4 =>
  zlet (1 : Int) fun x4_5 =>
  R d 370 [.inl x1, .inl x2_3, .inl x3_4, .inl x4_5] S1
def zb_dec (R : ZC ZS) (d : Nat)  (S : ZS) : ZR ZS :=
  zlet (S.1 18) fun x1_1 =>
  zlet (S.1 19) fun x2_2 =>
  if x2_2 = 17 then
    zI (zc R d 48 [.inl x1_1] S) fun v4 S3 =>
    zrI v4 S3
  else
  zV (zc R d 43 [] S) fun S5 =>
  if x2_2 = 4 then
    zI (zc R d 102 [] S5) fun v7 S6 =>
    zI (zc R d 52 [.inl 74, .inl x1_1, .inl 0, .inl v7, .inl 0, .inl 0] S6) fun v9 S8 =>
    zrI v9 S8
  else
  if x2_2 = 8 then
    zI (zc R d 105 [.inl x1_1] S5) fun v12 S11 =>
    zrI v12 S11
  else
  if x2_2 = 10 then
    zI (zc R d 96 [] S5) fun v15 S14 =>
    zI (zc R d 52 [.inl 72, .inl x1_1, .inl 0, .inl v15, .inl 0, .inl 0] S14) fun v17 S16 =>
    zrI v17 S16
  else
  if x2_2 = 25 then
    zI (zc R d 100 [] S5) fun v20 S19 =>
    zlet v20 fun x4_21 =>
    zlet (S19.1 18) fun x5_22 =>
    zI (zc R d 77 [] S19) fun v24 S23 =>
    zlet v24 fun x6_25 =>
    zV (zc R d 50 [.inl 40] S23) fun S26 =>
    zI (zc R d 69 [] S26) fun v28 S27 =>
    zI (zc R d 52 [.inl 73, .inl x1_1, .inl x6_25, .inl x4_21, .inl v28, .inl x5_22] S27) fun v30 S29 =>
    zrI v30 S29
  else
  if x2_2 = 26 then
    zI (zc R d 53 [.inl 23] S5) fun v33 S32 =>
    zlet v33 fun x3_34 =>
    if x3_34 = 0 then
      R d 371 [.inl x1_1, .inl 70] S32
    else
    R d 371 [.inl x1_1, .inl 71] S32
  else
  zI (zc R d 106 [.inl x1_1, .inl x2_2] S5) fun v37 S36 =>
  zrI v37 S36
def zb_local (R : ZC ZS) (d : Nat) (x1 : Int) (S : ZS) : ZR ZS :=
  zlet (S.1 47) fun x2_1 =>
  zV (zc R d 49 [] S) fun S2 =>
  zI (zc R d 44 [] S2) fun v4 S3 =>
  if v4 = 0 then
    R d 372 [.inl x1, .inl x2_1, .inl (-1)] S3
  else
  zI (zc R d 46 [.inl 0] S3) fun v6 S5 =>
  R d 372 [.inl x1, .inl x2_1, .inl v6] S5
def zb_opens (R : ZC ZS) (d : Nat)  (S : ZS) : ZR ZS :=
  if (S.1 48) = 40 then
    zthrow 3 (S.1 18) S
  else
  zG (inI ((S.1 48) + 1)) <|
  zp S 48 ((S.1 48) + 1) fun S1 =>
  zV (zc R d 43 [] S1) fun S2 =>
  zrV S2
def zb_need (R : ZC ZS) (d : Nat) (x1 : Int) (S : ZS) : ZR ZS :=
  zI (zc R d 45 [.inl x1] S) fun v2 S1 =>
  if v2 = 0 then
    zthrow 2 (S1.1 18) S1
  else
  zV (zc R d 43 [] S1) fun S3 =>
  zrV S3
def zb_closes (R : ZC ZS) (d : Nat) (x1 : Int) (S : ZS) : ZR ZS :=
  zI (zc R d 45 [.inl x1] S) fun v2 S1 =>
  if v2 = 0 then
    zthrow 2 (S1.1 18) S1
  else
  zG (inI ((S1.1 48) - 1)) <|
  zp S1 48 ((S1.1 48) - 1) fun S3 =>
  zV (zc R d 43 [] S3) fun S4 =>
  zrV S4
def zb_node (R : ZC ZS) (d : Nat) (x1 : Int) (x2 : Int) (x3 : Int) (x4 : Int) (x5 : Int) (x6 : Int) (S : ZS) : ZR ZS :=
  zs S 10 84000 (S.1 40) x1 fun S1 =>
  zs S1 11 4200 ((S1.1 40) - (S1.1 41)) x2 fun S2 =>
  zs S2 12 84000 (S2.1 40) x3 fun S3 =>
  zs S3 13 84000 (S3.1 40) x4 fun S4 =>
  zs S4 14 84000 (S4.1 40) x5 fun S5 =>
  zs S5 15 84000 (S5.1 40) x6 fun S6 =>
  zs S6 16 84000 (S6.1 40) (-1) fun S7 =>
  zG (inI ((S7.1 40) + 1)) <|
  zp S7 40 ((S7.1 40) + 1) fun S8 =>
  zG (inI ((S8.1 40) - 1)) <|
  zrI ((S8.1 40) - 1) S8
def zb_has (R : ZC ZS) (d : Nat) (x1 : Int) (S : ZS) : ZR ZS :=
  zI (zc R d 45 [.inl x1] S) fun v2 S1 =>
  if v2 = 0 then
    zrZ 0 S1
  else
  zV (zc R d 43 [] S1) fun S3 =>
  zrZ 1 S3
def zb_binds (R : ZC ZS) (d : Nat)  (S : ZS) : ZR ZS :=
  zlet ((-1) : Int) fun x1_1 =>
  zlet ((-1) : Int) fun x2_2 =>
  zlet (1 : Int) fun x3_3 =>
  R d 373 [.inl x1_1, .inl x2_2, .inl x3_3] S
def zb_pattern (R : ZC ZS) (d : Nat)  (S : ZS) : ZR ZS :=
  zI (zc R d 56 [.inl 1] S) fun v2 S1 =>
  zlet v2 fun x1_3 =>
  if (S1.1 55) = x1_3 then
    R d 374 [.inl x1_3, .inl 1] S1
  else
  R d 374 [.inl x1_3, .inl 0] S1
def zb_infixed (R : ZC ZS) (d : Nat) (x1 : Int) (S : ZS) : ZR ZS :=
  zlet (S.1 54) fun x2_1 =>
  zV (zc R d 57 [.inl x1] S) fun S2 =>
  R d 375 [.inl x1, .inl x2_1] S2
def zb_push (R : ZC ZS) (d : Nat) (x1 : Int) (S : ZS) : ZR ZS :=
  if x1 = 0 then
    zI (zc R d 79 [] S) fun v2 S1 =>
    R d 376 [.inl v2] S1
  else
  zI (zc R d 58 [] S) fun v4 S3 =>
  R d 376 [.inl v4] S3
def zb_appliedPattern (R : ZC ZS) (d : Nat)  (S : ZS) : ZR ZS :=
  zI (zc R d 59 [] S) fun v2 S1 =>
  if v2 = 0 then
    zI (zc R d 63 [] S1) fun v4 S3 =>
    zlet v4 fun x1_5 =>
    zp S3 55 (-1) fun S6 =>
    zrI x1_5 S6
  else
  zlet (S1.1 18) fun x1_7 =>
  zI (zc R d 45 [.inl 20] S1) fun v9 S8 =>
  if v9 = 0 then
    R d 377 [.inl x1_7, .inl x1_7] S8
  else
  R d 377 [.inl x1_7, .inl (S8.1 23)] S8
def zb_isOpName (R : ZC ZS) (d : Nat)  (S : ZS) : ZR ZS :=
  zI (zc R d 45 [.inl 20] S) fun v2 S1 =>
  if v2 = 0 then
    if (S1.1 17) = 1 then
      zI (zc R d 60 [.inl (S1.1 19)] S1) fun v4 S3 =>
      if v4 = 0 then
        zrZ 1 S3
      else
      zrZ 0 S3
    else
    zrZ 0 S1
  else
  zrZ 1 S1
def zb_isInfix (R : ZC ZS) (d : Nat) (x1 : Int) (S : ZS) : ZR ZS :=
  zI (zc R d 61 [.inl x1] S) fun v2 S1 =>
  if v2 = (-1) then
    zrZ 0 S1
  else
  zrZ 1 S1
def zb_fixOf (R : ZC ZS) (d : Nat) (x1 : Int) (S : ZS) : ZR ZS :=
  zlet (S.1 47) fun x2_1 =>
  R d 378 [.inl x1, .inl x2_1] S
def zb_strength (R : ZC ZS) (d : Nat) (x1 : Int) (S : ZS) : ZR ZS :=
  za S 17 23500 x1 fun v1 =>
  zrI (zandI v1 15) S
def zb_atomPattern (R : ZC ZS) (d : Nat)  (S : ZS) : ZR ZS :=
  zlet (S.1 18) fun x1_1 =>
  zI (zc R d 53 [.inl 37] S) fun v3 S2 =>
  if v3 = 0 then
    if (S2.1 17) = 3 then
      R d 379 [] S2
    else
    if (S2.1 17) = 4 then
      R d 379 [] S2
    else
    if (S2.1 17) = 5 then
      R d 379 [] S2
    else
    zI (zc R d 45 [.inl 32] S2) fun v5 S4 =>
    if v5 = 0 then
      zI (zc R d 45 [.inl 28] S4) fun v7 S6 =>
      if v7 = 0 then
        zI (zc R d 45 [.inl 30] S6) fun v9 S8 =>
        if v9 = 0 then
          zI (zc R d 45 [.inl 20] S8) fun v11 S10 =>
          if v11 = 0 then
            R d 380 [.inl x1_1, .inl x1_1] S10
          else
          R d 380 [.inl x1_1, .inl (S10.1 23)] S10
        else
        zI (zc R d 45 [.inl 30] S8) fun v13 S12 =>
        zI (zc R d 74 [.inl x1_1, .inl v13] S12) fun v15 S14 =>
        zrI v15 S14
      else
      zI (zc R d 45 [.inl 30] S6) fun v17 S16 =>
      zI (zc R d 74 [.inl x1_1, .inl v17] S16) fun v19 S18 =>
      zrI v19 S18
    else
    zI (zc R d 65 [.inl x1_1] S4) fun v21 S20 =>
    zrI v21 S20
  else
  zI (zc R d 52 [.inl 30, .inl x1_1, .inl 0, .inl 0, .inl 0, .inl 0] S2) fun v23 S22 =>
  zrI v23 S22
def zb_constant (R : ZC ZS) (d : Nat) (x1 : Int) (S : ZS) : ZR ZS :=
  if (S.1 17) = 4 then
    zI (zc R d 52 [.inl x1, .inl (S.1 18), .inl 0, .inl (S.1 20), .inl (S.1 21), .inl 0] S) fun v2 S1 =>
    zlet v2 fun x2_3 =>
    zV (zc R d 43 [] S1) fun S4 =>
    zrI x2_3 S4
  else
  zI (zc R d 52 [.inl x1, .inl (S.1 18), .inl (S.1 19), .inl 0, .inl 0, .inl 0] S) fun v6 S5 =>
  zlet v6 fun x2_7 =>
  zV (zc R d 43 [] S5) fun S8 =>
  zrI x2_7 S8
def zb_patternRow (R : ZC ZS) (d : Nat) (x1 : Int) (S : ZS) : ZR ZS :=
  zV (zc R d 49 [] S) fun S1 =>
  zlet ((-1) : Int) fun x2_2 =>
  zlet ((-1) : Int) fun x3_3 =>
  zI (zc R d 45 [.inl 33] S1) fun v5 S4 =>
  if v5 = 0 then
    zlet (1 : Int) fun x4_6 =>
    zlet (0 : Int) fun x5_7 =>
    R d 381 [.inl x1, .inl x2_2, .inl x3_3, .inl x4_6, .inl x5_7] S4
  else
  zlet (0 : Int) fun x4_8 =>
  zlet (0 : Int) fun x5_9 =>
  R d 381 [.inl x1, .inl x2_2, .inl x3_3, .inl x4_8, .inl x5_9] S4
def zb_patternField (R : ZC ZS) (d : Nat)  (S : ZS) : ZR ZS :=
  zlet (S.1 18) fun x1_1 =>
  if (S.1 17) = 1 then
    R d 382 [.inl x1_1, .inl 1] S
  else
  R d 382 [.inl x1_1, .inl 0] S
def zb_label (R : ZC ZS) (d : Nat)  (S : ZS) : ZR ZS :=
  zI (zc R d 68 [] S) fun v2 S1 =>
  if v2 = 0 then
    zthrow 2 (S1.1 18) S1
  else
  if (S1.1 17) = 3 then
    zG (inI ((-1) - (S1.1 19))) <|
    zlet ((-1) - (S1.1 19)) fun x1_3 =>
    zV (zc R d 43 [] S1) fun S4 =>
    zrI x1_3 S4
  else
  zlet (S1.1 19) fun x1_5 =>
  zV (zc R d 43 [] S1) fun S6 =>
  zrI x1_5 S6
def zb_isLabel (R : ZC ZS) (d : Nat)  (S : ZS) : ZR ZS :=
  if (S.1 17) = 1 then
    zrZ 1 S
  else
  if (S.1 17) = 3 then
    if (S.1 19) ≤ 0 then
      zrZ 0 S
    else
    if (S.1 19) < 10 then
      if (S.1 21) = 0 then
        zrZ 1 S
      else
      zrZ 0 S
    else
    zrZ 0 S
  else
  zrZ 0 S
def zb_type_2 (R : ZC ZS) (d : Nat)  (S : ZS) : ZR ZS :=
  zI (zc R d 70 [] S) fun v2 S1 =>
  zlet v2 fun x1_3 =>
  zI (zc R d 45 [.inl 42] S1) fun v5 S4 =>
  if v5 = 0 then
    zrI x1_3 S4
  else
  zV (zc R d 43 [] S4) fun S6 =>
  za S6 11 4200 (x1_3 - (S6.1 41)) fun v7 =>
  zI (zc R d 69 [] S6) fun v9 S8 =>
  zI (zc R d 52 [.inl 53, .inl v7, .inl 0, .inl x1_3, .inl v9, .inl 0] S8) fun v11 S10 =>
  zrI v11 S10
def zb_tupleType (R : ZC ZS) (d : Nat)  (S : ZS) : ZR ZS :=
  zI (zc R d 71 [] S) fun v2 S1 =>
  zlet v2 fun x1_3 =>
  if (S1.1 17) = 1 then
    if (S1.1 19) = (S1.1 15) then
      za S1 11 4200 (x1_3 - (S1.1 41)) fun v4 =>
      zI (zc R d 16 [.inl 1] S1) fun v6 S5 =>
      zI (zc R d 52 [.inl 60, .inl v4, .inl v6, .inl x1_3, .inl 0, .inl 0] S5) fun v8 S7 =>
      zlet v8 fun x2_9 =>
      zlet x2_9 fun x3_10 =>
      zlet (1 : Int) fun x4_11 =>
      R d 383 [.inl x1_3, .inl x2_9, .inl x3_10, .inl x4_11] S7
    else
    zrI x1_3 S1
  else
  zrI x1_3 S1
def zb_suffixed (R : ZC ZS) (d : Nat)  (S : ZS) : ZR ZS :=
  zI (zc R d 72 [] S) fun v2 S1 =>
  zlet v2 fun x1_3 =>
  R d 384 [.inl x1_3] S1
def zb_atomicType (R : ZC ZS) (d : Nat)  (S : ZS) : ZR ZS :=
  zlet (S.1 18) fun x1_1 =>
  if (S.1 17) = 2 then
    zI (zc R d 52 [.inl 50, .inl x1_1, .inl (S.1 19), .inl 0, .inl 0, .inl 0] S) fun v3 S2 =>
    zlet v3 fun x2_4 =>
    zV (zc R d 43 [] S2) fun S5 =>
    zrI x2_4 S5
  else
  if (S.1 17) = 1 then
    if (S.1 19) = (S.1 15) then
      R d 385 [.inl x1_1] S
    else
    zI (zc R d 52 [.inl 51, .inl x1_1, .inl (S.1 19), .inl (-1), .inl x1_1, .inl 0] S) fun v7 S6 =>
    zlet v7 fun x2_8 =>
    zV (zc R d 43 [] S6) fun S9 =>
    zrI x2_8 S9
  else
  R d 385 [.inl x1_1] S
def zb_typeRow (R : ZC ZS) (d : Nat) (x1 : Int) (S : ZS) : ZR ZS :=
  zV (zc R d 49 [] S) fun S1 =>
  zlet ((-1) : Int) fun x2_2 =>
  zlet ((-1) : Int) fun x3_3 =>
  zI (zc R d 45 [.inl 33] S1) fun v5 S4 =>
  if v5 = 0 then
    zlet (1 : Int) fun x4_6 =>
    R d 386 [.inl x1, .inl x2_2, .inl x3_3, .inl x4_6] S4
  else
  R d 387 [.inl x1, .inl x2_2] S4
def zb_patternHeld (R : ZC ZS) (d : Nat) (x1 : Int) (x2 : Int) (S : ZS) : ZR ZS :=
  zV (zc R d 49 [] S) fun S1 =>
  if x2 = 0 then
    R d 388 [.inl x1, .inl x2, .inl 29] S1
  else
  R d 388 [.inl x1, .inl x2, .inl 31] S1
def zb_opName (R : ZC ZS) (d : Nat)  (S : ZS) : ZR ZS :=
  zI (zc R d 53 [.inl 20] S) fun v2 S1 =>
  if v2 = 0 then
    if (S1.1 17) = 1 then
      zI (zc R d 60 [.inl (S1.1 19)] S1) fun v4 S3 =>
      if v4 = 0 then
        zI (zc R d 77 [] S3) fun v6 S5 =>
        zrI v6 S5
      else
      zthrow 2 (S3.1 18) S3
    else
    zthrow 2 (S1.1 18) S1
  else
  zI (zc R d 76 [] S1) fun v8 S7 =>
  zrI v8 S7
def zb_anyName (R : ZC ZS) (d : Nat)  (S : ZS) : ZR ZS :=
  zI (zc R d 45 [.inl 40] S) fun v2 S1 =>
  zlet v2 fun x1_3 =>
  if (S1.1 17) = 1 then
    zlet (S1.1 19) fun x2_4 =>
    zV (zc R d 43 [] S1) fun S5 =>
    zrI x2_4 S5
  else
  if x1_3 = 0 then
    zthrow 2 (S1.1 18) S1
  else
  zlet (S1.1 19) fun x2_6 =>
  zV (zc R d 43 [] S1) fun S7 =>
  zrI x2_6 S7
def zb_plainName (R : ZC ZS) (d : Nat)  (S : ZS) : ZR ZS :=
  if (S.1 17) = 1 then
    zlet (S.1 19) fun x1_1 =>
    zV (zc R d 43 [] S) fun S2 =>
    zrI x1_1 S2
  else
  zthrow 2 (S.1 18) S
def zb_beginsAtomPattern (R : ZC ZS) (d : Nat)  (S : ZS) : ZR ZS :=
  zI (zc R d 45 [.inl 37] S) fun v2 S1 =>
  if v2 = 0 then
    if (S1.1 17) = 3 then
      zrZ 1 S1
    else
    if (S1.1 17) = 4 then
      zrZ 1 S1
    else
    if (S1.1 17) = 5 then
      zrZ 1 S1
    else
    zI (zc R d 59 [] S1) fun v4 S3 =>
    if v4 = 0 then
      zI (zc R d 45 [.inl 32] S3) fun v6 S5 =>
      if v6 = 0 then
        zI (zc R d 45 [.inl 28] S5) fun v8 S7 =>
        if v8 = 0 then
          zI (zc R d 45 [.inl 30] S7) fun v10 S9 =>
          if v10 = 0 then
            zrZ 0 S9
          else
          zrZ 1 S9
        else
        zrZ 1 S7
      else
      zrZ 1 S5
    else
    zrZ 1 S3
  else
  zrZ 1 S1
def zb_applications (R : ZC ZS) (d : Nat)  (S : ZS) : ZR ZS :=
  zI (zc R d 80 [] S) fun v2 S1 =>
  zlet v2 fun x1_3 =>
  R d 389 [.inl x1_3] S1
def zb_atom (R : ZC ZS) (d : Nat)  (S : ZS) : ZR ZS :=
  zlet (S.1 18) fun x1_1 =>
  if (S.1 17) = 3 then
    R d 390 [] S
  else
  if (S.1 17) = 4 then
    R d 390 [] S
  else
  if (S.1 17) = 5 then
    R d 390 [] S
  else
  zI (zc R d 45 [.inl 43] S) fun v3 S2 =>
  if v3 = 0 then
    zI (zc R d 45 [.inl 32] S2) fun v5 S4 =>
    if v5 = 0 then
      zI (zc R d 45 [.inl 28] S4) fun v7 S6 =>
      if v7 = 0 then
        zI (zc R d 45 [.inl 30] S6) fun v9 S8 =>
        if v9 = 0 then
          zI (zc R d 45 [.inl 16] S8) fun v11 S10 =>
          if v11 = 0 then
            zI (zc R d 45 [.inl 20] S10) fun v13 S12 =>
            if v13 = 0 then
              R d 391 [.inl x1_1, .inl x1_1] S12
            else
            R d 391 [.inl x1_1, .inl (S12.1 23)] S12
          else
          zI (zc R d 91 [.inl x1_1] S10) fun v15 S14 =>
          zrI v15 S14
        else
        zV (zc R d 49 [] S8) fun S16 =>
        zI (zc R d 45 [.inl 31] S16) fun v18 S17 =>
        if v18 = 0 then
          zI (zc R d 90 [.inl 34] S17) fun v20 S19 =>
          R d 392 [.inl v20, .inl 0, .inl x1_1, .inl 19] S19
        else
        R d 392 [.inl (-1), .inl 0, .inl x1_1, .inl 19] S17
      else
      zI (zc R d 89 [.inl x1_1] S6) fun v22 S21 =>
      zrI v22 S21
    else
    zI (zc R d 81 [.inl x1_1] S4) fun v24 S23 =>
    zrI v24 S23
  else
  zV (zc R d 43 [] S2) fun S25 =>
  zI (zc R d 67 [] S25) fun v27 S26 =>
  zI (zc R d 52 [.inl 4, .inl x1_1, .inl v27, .inl 0, .inl 0, .inl x1_1] S26) fun v29 S28 =>
  zrI v29 S28
def zb_expressionRow (R : ZC ZS) (d : Nat) (x1 : Int) (S : ZS) : ZR ZS :=
  zV (zc R d 49 [] S) fun S1 =>
  zlet ((-1) : Int) fun x2_2 =>
  zlet ((-1) : Int) fun x3_3 =>
  zI (zc R d 45 [.inl 33] S1) fun v5 S4 =>
  if v5 = 0 then
    zlet (1 : Int) fun x4_6 =>
    R d 393 [.inl x1, .inl x2_2, .inl x3_3, .inl x4_6] S4
  else
  zlet (0 : Int) fun x4_7 =>
  R d 393 [.inl x1, .inl x2_2, .inl x3_3, .inl x4_7] S4
def zb_expression (R : ZC ZS) (d : Nat)  (S : ZS) : ZR ZS :=
  zlet (S.1 18) fun x1_1 =>
  zI (zc R d 45 [.inl 22] S) fun v3 S2 =>
  if v3 = 0 then
    zI (zc R d 45 [.inl 12] S2) fun v5 S4 =>
    if v5 = 0 then
      zI (zc R d 45 [.inl 27] S4) fun v7 S6 =>
      if v7 = 0 then
        zI (zc R d 45 [.inl 3] S6) fun v9 S8 =>
        if v9 = 0 then
          zI (zc R d 45 [.inl 9] S8) fun v11 S10 =>
          if v11 = 0 then
            zI (zc R d 85 [] S10) fun v13 S12 =>
            zlet v13 fun x2_14 =>
            R d 394 [.inl x2_14] S12
          else
          zV (zc R d 49 [] S10) fun S15 =>
          zI (zc R d 83 [] S15) fun v17 S16 =>
          zlet v17 fun x2_18 =>
          zG (inI ((S16.1 48) - 1)) <|
          zp S16 48 ((S16.1 48) - 1) fun S19 =>
          zI (zc R d 52 [.inl 12, .inl x1_1, .inl 0, .inl x2_18, .inl 0, .inl x1_1] S19) fun v21 S20 =>
          zrI v21 S20
        else
        zV (zc R d 49 [] S8) fun S22 =>
        zI (zc R d 82 [] S22) fun v24 S23 =>
        zlet v24 fun x2_25 =>
        zV (zc R d 50 [.inl 19] S23) fun S26 =>
        zI (zc R d 83 [] S26) fun v28 S27 =>
        zlet v28 fun x3_29 =>
        zG (inI ((S27.1 48) - 1)) <|
        zp S27 48 ((S27.1 48) - 1) fun S30 =>
        zI (zc R d 52 [.inl 11, .inl x1_1, .inl 0, .inl x2_25, .inl x3_29, .inl x1_1] S30) fun v32 S31 =>
        zrI v32 S31
      else
      zV (zc R d 49 [] S6) fun S33 =>
      zI (zc R d 82 [] S33) fun v35 S34 =>
      zlet v35 fun x2_36 =>
      zV (zc R d 50 [.inl 5] S34) fun S37 =>
      zI (zc R d 82 [] S37) fun v39 S38 =>
      zlet v39 fun x3_40 =>
      zG (inI ((S38.1 48) - 1)) <|
      zp S38 48 ((S38.1 48) - 1) fun S41 =>
      zI (zc R d 52 [.inl 10, .inl x1_1, .inl 0, .inl x2_36, .inl x3_40, .inl 0] S41) fun v43 S42 =>
      zrI v43 S42
    else
    zV (zc R d 49 [] S4) fun S44 =>
    zI (zc R d 82 [] S44) fun v46 S45 =>
    zlet v46 fun x2_47 =>
    zV (zc R d 50 [.inl 24] S45) fun S48 =>
    zI (zc R d 82 [] S48) fun v50 S49 =>
    zlet v50 fun x3_51 =>
    zV (zc R d 50 [.inl 6] S49) fun S52 =>
    zI (zc R d 82 [] S52) fun v54 S53 =>
    zlet v54 fun x4_55 =>
    zG (inI ((S53.1 48) - 1)) <|
    zp S53 48 ((S53.1 48) - 1) fun S56 =>
    zI (zc R d 52 [.inl 9, .inl x1_1, .inl 0, .inl x2_47, .inl x3_51, .inl x4_55] S56) fun v58 S57 =>
    zrI v58 S57
  else
  zV (zc R d 49 [] S2) fun S59 =>
  zI (zc R d 82 [] S59) fun v61 S60 =>
  zlet v61 fun x2_62 =>
  zG (inI ((S60.1 48) - 1)) <|
  zp S60 48 ((S60.1 48) - 1) fun S63 =>
  zI (zc R d 52 [.inl 8, .inl x1_1, .inl 0, .inl x2_62, .inl 0, .inl 0] S63) fun v65 S64 =>
  zrI v65 S64
def zb_match (R : ZC ZS) (d : Nat)  (S : ZS) : ZR ZS :=
  zI (zc R d 84 [] S) fun v2 S1 =>
  zlet v2 fun x1_3 =>
  zlet x1_3 fun x2_4 =>
  R d 395 [.inl x1_3, .inl x2_4] S1
def zb_rule (R : ZC ZS) (d : Nat)  (S : ZS) : ZR ZS :=
  zI (zc R d 55 [] S) fun v2 S1 =>
  zlet v2 fun x1_3 =>
  zV (zc R d 50 [.inl 41] S1) fun S4 =>
  zI (zc R d 82 [] S4) fun v6 S5 =>
  zlet v6 fun x2_7 =>
  za S5 11 4200 (x1_3 - (S5.1 41)) fun v8 =>
  zI (zc R d 52 [.inl 61, .inl v8, .inl 0, .inl x1_3, .inl x2_7, .inl 0] S5) fun v10 S9 =>
  zrI v10 S9
def zb_orelse (R : ZC ZS) (d : Nat)  (S : ZS) : ZR ZS :=
  zI (zc R d 86 [] S) fun v2 S1 =>
  zlet v2 fun x1_3 =>
  R d 396 [.inl x1_3] S1
def zb_andalso (R : ZC ZS) (d : Nat)  (S : ZS) : ZR ZS :=
  zI (zc R d 87 [] S) fun v2 S1 =>
  zlet v2 fun x1_3 =>
  R d 397 [.inl x1_3] S1
def zb_typed (R : ZC ZS) (d : Nat)  (S : ZS) : ZR ZS :=
  zI (zc R d 56 [.inl 0] S) fun v2 S1 =>
  zlet v2 fun x1_3 =>
  R d 398 [.inl x1_3] S1
def zb_beginsBig (R : ZC ZS) (d : Nat)  (S : ZS) : ZR ZS :=
  zI (zc R d 45 [.inl 22] S) fun v2 S1 =>
  if v2 = 0 then
    zI (zc R d 45 [.inl 12] S1) fun v4 S3 =>
    if v4 = 0 then
      zI (zc R d 45 [.inl 27] S3) fun v6 S5 =>
      if v6 = 0 then
        zI (zc R d 45 [.inl 3] S5) fun v8 S7 =>
        if v8 = 0 then
          zI (zc R d 45 [.inl 9] S7) fun v10 S9 =>
          if v10 = 0 then
            zrZ 0 S9
          else
          zrZ 1 S9
        else
        zrZ 1 S7
      else
      zrZ 1 S5
    else
    zrZ 1 S3
  else
  zrZ 1 S1
def zb_expressionHeld (R : ZC ZS) (d : Nat) (x1 : Int) (S : ZS) : ZR ZS :=
  zV (zc R d 49 [] S) fun S1 =>
  zI (zc R d 45 [.inl 29] S1) fun v3 S2 =>
  if v3 = 0 then
    zI (zc R d 82 [] S2) fun v5 S4 =>
    zlet v5 fun x2_6 =>
    zlet x2_6 fun x3_7 =>
    zI (zc R d 45 [.inl 34] S4) fun v9 S8 =>
    if v9 = 0 then
      zI (zc R d 45 [.inl 35] S8) fun v11 S10 =>
      if v11 = 0 then
        R d 399 [.inl x1, .inl x2_6, .inl x3_7] S10
      else
      zV (zc R d 43 [] S10) fun S12 =>
      zI (zc R d 90 [.inl 35] S12) fun v14 S13 =>
      zs S13 16 84000 x2_6 v14 fun S15 =>
      zI (zc R d 52 [.inl 17, .inl x1, .inl 0, .inl x2_6, .inl 0, .inl 0] S15) fun v17 S16 =>
      zlet v17 fun x3_18 =>
      R d 399 [.inl x1, .inl x2_6, .inl x3_18] S16
    else
    zV (zc R d 43 [] S8) fun S19 =>
    zI (zc R d 90 [.inl 34] S19) fun v21 S20 =>
    zs S20 16 84000 x2_6 v21 fun S22 =>
    zI (zc R d 52 [.inl 20, .inl x1, .inl 0, .inl x2_6, .inl 0, .inl 0] S22) fun v24 S23 =>
    zlet v24 fun x3_25 =>
    R d 399 [.inl x1, .inl x2_6, .inl x3_25] S23
  else
  zV (zc R d 51 [.inl 29] S2) fun S26 =>
  zI (zc R d 52 [.inl 5, .inl x1, .inl 0, .inl (-1), .inl 0, .inl 0] S26) fun v28 S27 =>
  zrI v28 S27
def zb_row (R : ZC ZS) (d : Nat) (x1 : Int) (S : ZS) : ZR ZS :=
  zI (zc R d 82 [] S) fun v2 S1 =>
  zlet v2 fun x2_3 =>
  zlet x2_3 fun x3_4 =>
  R d 400 [.inl x1, .inl x2_3, .inl x3_4] S1
def zb_let (R : ZC ZS) (d : Nat) (x1 : Int) (S : ZS) : ZR ZS :=
  zlet (S.1 47) fun x2_1 =>
  zV (zc R d 49 [] S) fun S2 =>
  zI (zc R d 44 [] S2) fun v4 S3 =>
  if v4 = 0 then
    R d 401 [.inl x1, .inl x2_1, .inl (-1)] S3
  else
  zI (zc R d 46 [.inl 0] S3) fun v6 S5 =>
  R d 401 [.inl x1, .inl x2_1, .inl v6] S5
def zb_beginsAtom (R : ZC ZS) (d : Nat)  (S : ZS) : ZR ZS :=
  if (S.1 17) = 3 then
    zrZ 1 S
  else
  if (S.1 17) = 4 then
    zrZ 1 S
  else
  if (S.1 17) = 5 then
    zrZ 1 S
  else
  if (S.1 17) = 1 then
    zI (zc R d 60 [.inl (S.1 19)] S) fun v2 S1 =>
    if v2 = 0 then
      zrZ 1 S1
    else
    zrZ 0 S1
  else
  zI (zc R d 45 [.inl 20] S) fun v4 S3 =>
  if v4 = 0 then
    zI (zc R d 45 [.inl 43] S3) fun v6 S5 =>
    if v6 = 0 then
      zI (zc R d 45 [.inl 32] S5) fun v8 S7 =>
      if v8 = 0 then
        zI (zc R d 45 [.inl 28] S7) fun v10 S9 =>
        if v10 = 0 then
          zI (zc R d 45 [.inl 30] S9) fun v12 S11 =>
          if v12 = 0 then
            zI (zc R d 45 [.inl 16] S11) fun v14 S13 =>
            if v14 = 0 then
              zrZ 0 S13
            else
            zrZ 1 S13
          else
          zrZ 1 S11
        else
        zrZ 1 S9
      else
      zrZ 1 S7
    else
    zrZ 1 S5
  else
  zrZ 1 S3
def zb_isInfixHere (R : ZC ZS) (d : Nat)  (S : ZS) : ZR ZS :=
  if (S.1 17) = 1 then
    R d 402 [] S
  else
  zI (zc R d 45 [.inl 40] S) fun v2 S1 =>
  if v2 = 0 then
    zrZ 0 S1
  else
  R d 402 [] S1
def zb_isRight (R : ZC ZS) (d : Nat) (x1 : Int) (S : ZS) : ZR ZS :=
  za S 17 23500 x1 fun v1 =>
  if (zandI v1 16) = 0 then
    zrZ 0 S
  else
  zrZ 1 S
def zb_reduce (R : ZC ZS) (d : Nat) (x1 : Int) (S : ZS) : ZR ZS :=
  zG (inI ((S.1 54) - 1)) <|
  zp S 54 ((S.1 54) - 1) fun S1 =>
  za S1 19 2100 ((S1.1 53) - 1) fun v2 =>
  zlet v2 fun x2_3 =>
  za S1 19 2100 ((S1.1 53) - 2) fun v4 =>
  zlet v4 fun x3_5 =>
  zG (inI ((S1.1 53) - 1)) <|
  zp S1 53 ((S1.1 53) - 1) fun S6 =>
  za S6 21 2100 (S6.1 54) fun v7 =>
  zlet v7 fun x4_8 =>
  za S6 22 2100 (S6.1 54) fun v9 =>
  zlet v9 fun x5_10 =>
  if x1 = 0 then
    zG (inI ((S6.1 53) - 1)) <|
    R d 403 [.inl x2_3, .inl x3_5, .inl x4_8, .inl x5_10, .inl 7, .inl ((S6.1 53) - 1)] S6
  else
  zG (inI ((S6.1 53) - 1)) <|
  R d 403 [.inl x2_3, .inl x3_5, .inl x4_8, .inl x5_10, .inl 40, .inl ((S6.1 53) - 1)] S6
def zb_functions (R : ZC ZS) (d : Nat)  (S : ZS) : ZR ZS :=
  zlet ((-1) : Int) fun x1_1 =>
  zlet ((-1) : Int) fun x2_2 =>
  zlet (1 : Int) fun x3_3 =>
  R d 404 [.inl x1_1, .inl x2_2, .inl x3_3] S
def zb_clauses (R : ZC ZS) (d : Nat)  (S : ZS) : ZR ZS :=
  zI (zc R d 98 [] S) fun v2 S1 =>
  zlet v2 fun x1_3 =>
  zlet x1_3 fun x2_4 =>
  R d 405 [.inl x1_3, .inl x2_4] S1
def zb_clause (R : ZC ZS) (d : Nat)  (S : ZS) : ZR ZS :=
  zlet (S.1 18) fun x1_1 =>
  if (S.1 22) = 1 then
    zI (zc R d 60 [.inl (S.1 24)] S) fun v3 S2 =>
    if v3 = 0 then
      R d 406 [.inl x1_1, .inl 0] S2
    else
    R d 406 [.inl x1_1, .inl 1] S2
  else
  R d 406 [.inl x1_1, .inl 0] S
def zb_pair (R : ZC ZS) (d : Nat) (x1 : Int) (x2 : Int) (S : ZS) : ZR ZS :=
  zs S 16 84000 x1 x2 fun S1 =>
  za S1 11 4200 (x1 - (S1.1 41)) fun v2 =>
  zI (zc R d 52 [.inl 41, .inl v2, .inl 0, .inl x1, .inl 0, .inl 0] S1) fun v4 S3 =>
  zrI v4 S3
def zb_variables (R : ZC ZS) (d : Nat)  (S : ZS) : ZR ZS :=
  if (S.1 17) = 2 then
    zI (zc R d 101 [] S) fun v2 S1 =>
    zrI v2 S1
  else
  zI (zc R d 45 [.inl 28] S) fun v4 S3 =>
  if v4 = 0 then
    zrI (-1) S3
  else
  zV (zc R d 49 [] S3) fun S5 =>
  if (S5.1 17) = 2 then
    zI (zc R d 101 [] S5) fun v7 S6 =>
    zlet v7 fun x1_8 =>
    zlet x1_8 fun x2_9 =>
    zlet (1 : Int) fun x3_10 =>
    R d 407 [.inl x1_8, .inl x2_9, .inl x3_10] S6
  else
  zthrow 2 (S5.1 18) S5
def zb_variable (R : ZC ZS) (d : Nat)  (S : ZS) : ZR ZS :=
  zI (zc R d 52 [.inl 50, .inl (S.1 18), .inl (S.1 19), .inl 0, .inl 0, .inl 0] S) fun v2 S1 =>
  zlet v2 fun x1_3 =>
  zV (zc R d 43 [] S1) fun S4 =>
  zrI x1_3 S4
def zb_datas (R : ZC ZS) (d : Nat)  (S : ZS) : ZR ZS :=
  zlet ((-1) : Int) fun x1_1 =>
  zlet ((-1) : Int) fun x2_2 =>
  zlet (1 : Int) fun x3_3 =>
  R d 408 [.inl x1_1, .inl x2_2, .inl x3_3] S
def zb_constructors (R : ZC ZS) (d : Nat)  (S : ZS) : ZR ZS :=
  zlet ((-1) : Int) fun x1_1 =>
  zlet ((-1) : Int) fun x2_2 =>
  zlet (1 : Int) fun x3_3 =>
  R d 409 [.inl x1_1, .inl x2_2, .inl x3_3] S
def zb_freeName (R : ZC ZS) (d : Nat)  (S : ZS) : ZR ZS :=
  zI (zc R d 77 [] S) fun v2 S1 =>
  zrI v2 S1
def zb_exception (R : ZC ZS) (d : Nat) (x1 : Int) (S : ZS) : ZR ZS :=
  zI (zc R d 53 [.inl 20] S) fun v2 S1 =>
  zlet v2 fun x2_3 =>
  zlet (S1.1 18) fun x3_4 =>
  if x2_3 = 0 then
    zI (zc R d 104 [] S1) fun v6 S5 =>
    R d 410 [.inl x1, .inl x3_4, .inl v6] S5
  else
  zI (zc R d 76 [] S1) fun v8 S7 =>
  R d 410 [.inl x1, .inl x3_4, .inl v8] S7
def zb_infixes (R : ZC ZS) (d : Nat) (x1 : Int) (x2 : Int) (S : ZS) : ZR ZS :=
  if x2 = 18 then
    R d 411 [.inl x1, .inl x2, .inl (-1)] S
  else
  R d 411 [.inl x1, .inl x2, .inl 0] S
def zb_valuesAtBegin (R : ZC ZS) (d : Nat)  (S : ZS) : ZR ZS :=
  zp S 154 (S.1 94) fun S1 =>
  zp S1 155 (S1.1 101) fun S2 =>
  zp S2 66 0 fun S3 =>
  zp S3 67 0 fun S4 =>
  zp S4 149 0 fun S5 =>
  zp S5 153 0 fun S6 =>
  zp S6 166 0 fun S7 =>
  zp S7 134 0 fun S8 =>
  zp S8 135 0 fun S9 =>
  zp S9 125 0 fun S10 =>
  zp S10 126 0 fun S11 =>
  zp S11 127 0 fun S12 =>
  zp S12 163 0 fun S13 =>
  zp S13 129 0 fun S14 =>
  zp S14 113 (S14.1 114) fun S15 =>
  zpZ S15 111 1 fun S16 =>
  zpZ S16 112 1 fun S17 =>
  zp S17 115 (-1) fun S18 =>
  zI (zc R d 108 [.inl 0, .inl (-1)] S18) fun v20 S19 =>
  zp S19 115 v20 fun S21 =>
  zs S21 73 9000 (S21.1 115) (-1) fun S22 =>
  zp S22 249 (S22.1 115) fun S23 =>
  zp S23 116 0 fun S24 =>
  zrV S24
def zb_beginCode (R : ZC ZS) (d : Nat) (x1 : Int) (x2 : Int) (S : ZS) : ZR ZS :=
  zlet (S.1 148) fun x3_1 =>
  zG (inI ((S.1 148) + 1)) <|
  zp S 148 ((S.1 148) + 1) fun S2 =>
  zs S2 69 9000 x3_1 x1 fun S3 =>
  zs S3 71 9000 x3_1 (-1) fun S4 =>
  zs S4 72 9000 x3_1 0 fun S5 =>
  zs S5 73 9000 x3_1 (S5.1 115) fun S6 =>
  zs S6 74 9000 x3_1 x2 fun S7 =>
  zrI x3_1 S7
def zb_judgedDec (R : ZC ZS) (d : Nat) (x1 : Int) (S : ZS) : ZR ZS :=
  za S 10 84000 x1 fun v1 =>
  if v1 = 70 then
    zV (zc R d 110 [.inl x1] S) fun S2 =>
    zrV S2
  else
  if v1 = 71 then
    zV (zc R d 191 [.inl x1] S) fun S4 =>
    zrV S4
  else
  if v1 = 72 then
    zV (zc R d 192 [.inl x1] S) fun S6 =>
    zrV S6
  else
  if v1 = 73 then
    zV (zc R d 195 [.inl x1] S) fun S8 =>
    zrV S8
  else
  if v1 = 74 then
    zV (zc R d 197 [.inl x1] S) fun S10 =>
    zrV S10
  else
  if v1 = 75 then
    zV (zc R d 202 [.inl x1] S) fun S12 =>
    zrV S12
  else
  if v1 = 76 then
    zV (zc R d 203 [.inl x1] S) fun S14 =>
    zrV S14
  else
  if v1 = 77 then
    zV (zc R d 204 [.inl x1] S) fun S16 =>
    zrV S16
  else
  zrV S
def zb_judgedVal (R : ZC ZS) (d : Nat) (x1 : Int) (S : ZS) : ZR ZS :=
  zI (zc R d 111 [.inl x1] S) fun v2 S1 =>
  zlet v2 fun x2_3 =>
  zlet (S1.1 127) fun x3_4 =>
  zp S1 127 0 fun S5 =>
  zlet (S5.1 134) fun x4_6 =>
  zlet (S5.1 135) fun x5_7 =>
  zp S5 135 x4_6 fun S8 =>
  za S8 13 84000 x1 fun v9 =>
  zlet v9 fun x6_10 =>
  R d 412 [.inl x2_3, .inl x3_4, .inl x4_6, .inl x5_7, .inl x6_10] S8
def zb_enterVariables (R : ZC ZS) (d : Nat) (x1 : Int) (S : ZS) : ZR ZS :=
  zlet (S.1 125) fun x2_1 =>
  zp S 159 0 fun S2 =>
  za S2 13 84000 x1 fun v3 =>
  zV (zc R d 112 [.inl v3, .inl 1] S2) fun S4 =>
  zlet (0 : Int) fun x3_5 =>
  R d 413 [.inl x2_1, .inl x3_5] S4
def zb_lookAll (R : ZC ZS) (d : Nat) (x1 : Int) (x2 : Int) (S : ZS) : ZR ZS :=
  zlet x1 fun x3_1 =>
  R d 414 [.inl x2, .inl x3_1] S
def zb_look (R : ZC ZS) (d : Nat) (x1 : Int) (x2 : Int) (S : ZS) : ZR ZS :=
  zlet x1 fun x3_1 =>
  R d 415 [.inl x2, .inl x3_1] S
def zb_found (R : ZC ZS) (d : Nat) (x1 : Int) (x2 : Int) (S : ZS) : ZR ZS :=
  zlet (0 : Int) fun x3_1 =>
  R d 416 [.inl x1, .inl x2, .inl x3_1] S
def zb_judgedPattern (R : ZC ZS) (d : Nat) (x1 : Int) (S : ZS) : ZR ZS :=
  za S 10 84000 x1 fun v1 =>
  if v1 = 30 then
    zI (zc R d 116 [] S) fun v3 S2 =>
    zrI v3 S2
  else
  if v1 = 31 then
    zI (zc R d 117 [.inl x1] S) fun v6 S5 =>
    zrI v6 S5
  else
  if v1 = 32 then
    zI (zc R d 9 [.inl 0] S) fun v9 S8 =>
    zrI v9 S8
  else
  if v1 = 33 then
    zI (zc R d 9 [.inl 2] S) fun v12 S11 =>
    zrI v12 S11
  else
  if v1 = 34 then
    zI (zc R d 9 [.inl 1] S) fun v15 S14 =>
    zrI v15 S14
  else
  if v1 = 35 then
    zI (zc R d 152 [.inl x1] S) fun v18 S17 =>
    zrI v18 S17
  else
  if v1 = 36 then
    zI (zc R d 135 [.inl x1] S) fun v21 S20 =>
    zrI v21 S20
  else
  if v1 = 37 then
    zI (zc R d 161 [.inl x1] S) fun v24 S23 =>
    zrI v24 S23
  else
  if v1 = 38 then
    za S 13 84000 x1 fun v26 =>
    zI (zc R d 115 [.inl v26] S) fun v28 S27 =>
    zlet v28 fun x2_29 =>
    za S27 14 84000 x1 fun v30 =>
    zI (zc R d 154 [.inl v30] S27) fun v32 S31 =>
    zlet v32 fun x3_33 =>
    za S31 13 84000 x1 fun v34 =>
    za S31 11 4200 (v34 - (S31.1 41)) fun v35 =>
    zV (zc R d 136 [.inl x2_29, .inl x3_33, .inl v35] S31) fun S36 =>
    zrI x2_29 S36
  else
  if v1 = 39 then
    zI (zc R d 153 [.inl x1] S) fun v39 S38 =>
    zrI v39 S38
  else
  if v1 = 40 then
    zI (zc R d 135 [.inl x1] S) fun v42 S41 =>
    zrI v42 S41
  else
  if v1 = 41 then
    zI (zc R d 151 [.inl x1] S) fun v45 S44 =>
    zrI v45 S44
  else
  zI (zc R d 161 [.inl x1] S) fun v48 S47 =>
  zrI v48 S47
def zb_unknown (R : ZC ZS) (d : Nat)  (S : ZS) : ZR ZS :=
  zI (zc R d 4 [.inl 0, .inl 0, .inl (-1), .inl 0, .inl 0] S) fun v2 S1 =>
  zrI v2 S1
def zb_patternName (R : ZC ZS) (d : Nat) (x1 : Int) (S : ZS) : ZR ZS :=
  za S 12 84000 x1 fun v1 =>
  zlet v1 fun x2_2 =>
  zI (zc R d 118 [.inl x2_2] S) fun v4 S3 =>
  zlet v4 fun x3_5 =>
  if x3_5 = (-1) then
    R d 417 [.inl x1, .inl x2_2, .inl x3_5, .inl 0] S3
  else
  za S3 45 4000 x3_5 fun v6 =>
  if v6 = 1 then
    R d 417 [.inl x1, .inl x2_2, .inl x3_5, .inl 1] S3
  else
  za S3 45 4000 x3_5 fun v7 =>
  if v7 = 2 then
    R d 417 [.inl x1, .inl x2_2, .inl x3_5, .inl 1] S3
  else
  R d 417 [.inl x1, .inl x2_2, .inl x3_5, .inl 0] S3
def zb_valueOf (R : ZC ZS) (d : Nat) (x1 : Int) (S : ZS) : ZR ZS :=
  zlet (S.1 95) fun x2_1 =>
  R d 418 [.inl x1, .inl x2_1] S
def zb_hasArgument (R : ZC ZS) (d : Nat) (x1 : Int) (S : ZS) : ZR ZS :=
  za S 45 4000 x1 fun v1 =>
  if v1 = 1 then
    za S 47 4000 x1 fun v2 =>
    za S 57 22000 v2 fun v3 =>
    R d 419 [.inl v3] S
  else
  za S 47 4000 x1 fun v4 =>
  za S 59 8000 v4 fun v5 =>
  R d 419 [.inl v5] S
def zb_meet (R : ZC ZS) (d : Nat) (x1 : Int) (x2 : Int) (S : ZS) : ZR ZS :=
  zG (inI ((S.1 136) + 1)) <|
  zp S 136 ((S.1 136) + 1) fun S1 =>
  za S1 10 84000 x1 fun v2 =>
  if v2 = 31 then
    za S1 45 4000 x2 fun v3 =>
    zs S1 13 84000 x1 v3 fun S4 =>
    za S4 47 4000 x2 fun v5 =>
    zs S4 14 84000 x1 v5 fun S6 =>
    R d 420 [.inl x1, .inl x2] S6
  else
  za S1 47 4000 x2 fun v7 =>
  za S1 45 4000 x2 fun v8 =>
  zG (inI ((4 * v7) + v8)) <|
  zs S1 12 84000 x1 ((4 * v7) + v8) fun S9 =>
  R d 420 [.inl x1, .inl x2] S9
def zb_use (R : ZC ZS) (d : Nat) (x1 : Int) (x2 : Int) (S : ZS) : ZR ZS :=
  if x2 = 0 then
    zrV S
  else
  zI (zc R d 122 [.inl x1] S) fun v2 S1 =>
  if v2 = 0 then
    zlet (S1.1 115) fun x3_3 =>
    R d 421 [.inl x1, .inl x3_3] S1
  else
  zrV S1
def zb_isTop (R : ZC ZS) (d : Nat) (x1 : Int) (S : ZS) : ZR ZS :=
  za S 60 42000 x1 fun v1 =>
  if v1 < 65536 then
    zrZ 1 S
  else
  zrZ 0 S
def zb_ownerOf (R : ZC ZS) (d : Nat) (x1 : Int) (S : ZS) : ZR ZS :=
  za S 60 42000 x1 fun v1 =>
  zG (inI ((zshrI v1 16) - 1)) <|
  zrI ((zshrI v1 16) - 1) S
def zb_isUsed (R : ZC ZS) (d : Nat) (x1 : Int) (x2 : Int) (S : ZS) : ZR ZS :=
  za S 71 9000 x1 fun v1 =>
  zlet v1 fun x3_2 =>
  R d 422 [.inl x2, .inl x3_2] S
def zb_instance (R : ZC ZS) (d : Nat) (x1 : Int) (S : ZS) : ZR ZS :=
  if x1 < (-1) then
    zG (inI ((-2) - x1)) <|
    zI (zc R d 126 [.inl ((-2) - x1)] S) fun v2 S1 =>
    zrI v2 S1
  else
  zG (inI ((S.1 68) + 2)) <|
  zp S 68 ((S.1 68) + 2) fun S3 =>
  zI (zc R d 129 [.inl x1] S3) fun v5 S4 =>
  zrI v5 S4
def zb_made0 (R : ZC ZS) (d : Nat) (x1 : Int) (S : ZS) : ZR ZS :=
  zp S 86 0 fun S1 =>
  zI (zc R d 127 [.inl x1, .inl 0] S1) fun v3 S2 =>
  zrI v3 S2
def zb_madeFrom (R : ZC ZS) (d : Nat) (x1 : Int) (x2 : Int) (S : ZS) : ZR ZS :=
  zp S 84 x1 fun S1 =>
  zI (zc R d 128 [.inl x2] S1) fun v3 S2 =>
  zrI v3 S2
def zb_readSign (R : ZC ZS) (d : Nat) (x1 : Int) (S : ZS) : ZR ZS :=
  za S 42 158000 (S.1 84) fun v1 =>
  zlet v1 fun x2_2 =>
  zG (inI ((S.1 84) + 1)) <|
  zp S 84 ((S.1 84) + 1) fun S3 =>
  if (zandI x2_2 3) = 1 then
    zlet (zshrI x2_2 4) fun x3_4 =>
    R d 423 [.inl x1, .inl x2_2, .inl x3_4] S3
  else
  if (zandI x2_2 3) = 2 then
    R d 424 [.inl x1, .inl x2_2, .inl 1] S3
  else
  R d 424 [.inl x1, .inl x2_2, .inl 0] S3
def zb_instanceOf (R : ZC ZS) (d : Nat) (x1 : Int) (S : ZS) : ZR ZS :=
  zI (zc R d 8 [.inl x1] S) fun v2 S1 =>
  zlet v2 fun x2_3 =>
  zlet (0 : Int) fun x3_4 =>
  za S1 27 57000 x2_3 fun v5 =>
  if v5 = (S1.1 68) then
    R d 425 [.inl x2_3, .inl x3_4] S1
  else
  zI (zc R d 130 [.inl x2_3, .inl 0] S1) fun v7 S6 =>
  zlet v7 fun x3_8 =>
  R d 425 [.inl x2_3, .inl x3_8] S6
def zb_enter (R : ZC ZS) (d : Nat) (x1 : Int) (x2 : Int) (S : ZS) : ZR ZS :=
  zs S 27 57000 x1 (S.1 68) fun S1 =>
  zs S1 28 57000 x1 x1 fun S2 =>
  za S2 23 57000 x1 fun v3 =>
  if v3 = 2 then
    R d 426 [.inl x1, .inl x2] S2
  else
  za S2 23 57000 x1 fun v4 =>
  if v4 = 3 then
    R d 426 [.inl x1, .inl x2] S2
  else
  za S2 24 57000 x1 fun v5 =>
  if (zandI v5 4) = 0 then
    zrI x2 S2
  else
  za S2 24 57000 x1 fun v6 =>
  zI (zc R d 4 [.inl 0, .inl 0, .inl (-1), .inl (zandI v6 3), .inl 0] S2) fun v8 S7 =>
  zs S7 28 57000 x1 v8 fun S9 =>
  zrI x2 S9
def zb_copied (R : ZC ZS) (d : Nat) (x1 : Int) (S : ZS) : ZR ZS :=
  zlet (1 : Int) fun x2_1 =>
  za S 26 57000 x1 fun v2 =>
  zlet v2 fun x3_3 =>
  R d 427 [.inl x1, .inl x2_1, .inl x3_3] S
def zb_pend (R : ZC ZS) (d : Nat) (x1 : Int) (x2 : Int) (S : ZS) : ZR ZS :=
  zI (zc R d 133 [.inl x1] S) fun v2 S1 =>
  if v2 = 0 then
    zlet (S1.1 135) fun x3_3 =>
    R d 428 [.inl x1, .inl x2, .inl x3_3] S1
  else
  zthrow 7 x2 S1
def zb_isFixed (R : ZC ZS) (d : Nat) (x1 : Int) (S : ZS) : ZR ZS :=
  if x1 = (S.1 118) then
    zrZ 1 S
  else
  if x1 = (S.1 119) then
    zrZ 1 S
  else
  if x1 = (S.1 120) then
    zrZ 1 S
  else
  if x1 = (S.1 16) then
    zrZ 1 S
  else
  if x1 = (S.1 121) then
    zrZ 1 S
  else
  zrZ 0 S
def zb_countTop (R : ZC ZS) (d : Nat) (x1 : Int) (S : ZS) : ZR ZS :=
  if (S.1 111) = 0 then
    zrV S
  else
  zG (inI ((S.1 113) + 1)) <|
  zp S 113 ((S.1 113) + 1) fun S1 =>
  if (S1.1 113) ≤ 1500 then
    zrV S1
  else
  zthrow 4 x1 S1
def zb_patternCon (R : ZC ZS) (d : Nat) (x1 : Int) (S : ZS) : ZR ZS :=
  za S 12 84000 x1 fun v1 =>
  zI (zc R d 118 [.inl v1] S) fun v3 S2 =>
  zlet v3 fun x2_4 =>
  if x2_4 = (-1) then
    za S2 15 84000 x1 fun v5 =>
    zthrow 5 v5 S2
  else
  za S2 45 4000 x2_4 fun v6 =>
  if v6 = 1 then
    R d 429 [.inl x1, .inl x2_4] S2
  else
  za S2 45 4000 x2_4 fun v7 =>
  if v7 = 2 then
    R d 429 [.inl x1, .inl x2_4] S2
  else
  R d 430 [.inl x1] S2
def zb_join (R : ZC ZS) (d : Nat) (x1 : Int) (x2 : Int) (x3 : Int) (S : ZS) : ZR ZS :=
  zI (zc R d 137 [.inl x1, .inl x2] S) fun v2 S1 =>
  zlet v2 fun x4_3 =>
  if x4_3 ≤ 0 then
    zrV S1
  else
  zthrow x4_3 x3 S1
def zb_joined (R : ZC ZS) (d : Nat) (x1 : Int) (x2 : Int) (S : ZS) : ZR ZS :=
  zp S 78 0 fun S1 =>
  zp S1 79 0 fun S2 =>
  zV (zc R d 138 [.inl x1, .inl x2] S2) fun S3 =>
  zlet (1 : Int) fun x3_4 =>
  R d 431 [.inl x1, .inl x3_4] S3
def zb_later (R : ZC ZS) (d : Nat) (x1 : Int) (x2 : Int) (S : ZS) : ZR ZS :=
  zs S 37 57000 (S.1 78) x1 fun S1 =>
  zs S1 38 57000 (S1.1 78) x2 fun S2 =>
  zG (inI ((S2.1 78) + 1)) <|
  zp S2 78 ((S2.1 78) + 1) fun S3 =>
  zrV S3
def zb_merge (R : ZC ZS) (d : Nat) (x1 : Int) (x2 : Int) (S : ZS) : ZR ZS :=
  if x1 = x2 then
    zrZ 1 S
  else
  za S 23 57000 x1 fun v1 =>
  if v1 = 0 then
    za S 23 57000 x2 fun v2 =>
    if v2 = 0 then
      za S 24 57000 x2 fun v3 =>
      za S 24 57000 x1 fun v4 =>
      zs S 24 57000 x2 (zbyte (zorI v3 (zandI v4 2))) fun S5 =>
      zV (zc R d 140 [.inl x1, .inl x2] S5) fun S6 =>
      zrZ 1 S6
    else
    R d 432 [.inl x1, .inl x2] S
  else
  R d 432 [.inl x1, .inl x2] S
def zb_becomes (R : ZC ZS) (d : Nat) (x1 : Int) (x2 : Int) (S : ZS) : ZR ZS :=
  za S 24 57000 x1 fun v1 =>
  za S 24 57000 x2 fun v2 =>
  zlet (zandI (zorI v1 v2) 1) fun x3_3 =>
  zs S 23 57000 x1 4 fun S4 =>
  zs S4 25 57000 x1 x2 fun S5 =>
  if x3_3 = 0 then
    zrV S5
  else
  za S5 24 57000 x2 fun v6 =>
  zs S5 24 57000 x2 (zbyte (zandI (zorI v6 1) (-17))) fun S7 =>
  zs S7 39 57000 (S7.1 79) x2 fun S8 =>
  zG (inI ((S8.1 79) + 1)) <|
  zp S8 79 ((S8.1 79) + 1) fun S9 =>
  zrV S9
def zb_isOrdered (R : ZC ZS) (d : Nat) (x1 : Int) (S : ZS) : ZR ZS :=
  za S 23 57000 x1 fun v1 =>
  if v1 = 2 then
    za S 25 57000 x1 fun v2 =>
    if v2 ≤ 2 then
      zrZ 1 S
    else
    zrZ 0 S
  else
  zrZ 0 S
def zb_mergeRows (R : ZC ZS) (d : Nat) (x1 : Int) (x2 : Int) (S : ZS) : ZR ZS :=
  za S 24 57000 x1 fun v1 =>
  if (zandI v1 8) = 0 then
    R d 433 [.inl x1, .inl x2, .inl 0] S
  else
  R d 433 [.inl x1, .inl x2, .inl 1] S
def zb_partOf (R : ZC ZS) (d : Nat) (x1 : Int) (x2 : Int) (S : ZS) : ZR ZS :=
  zlet x1 fun x3_1 =>
  R d 434 [.inl x2, .inl x3_1] S
def zb_allFields (R : ZC ZS) (d : Nat) (x1 : Int) (x2 : Int) (S : ZS) : ZR ZS :=
  zI (zc R d 145 [.inl x2] S) fun v2 S1 =>
  zI (zc R d 145 [.inl x1] S1) fun v4 S3 =>
  if v2 < v4 then
    R d 435 [.inl x1, .inl x2, .inl 0] S3
  else
  R d 435 [.inl x1, .inl x2, .inl 1] S3
def zb_fieldsFrom (R : ZC ZS) (d : Nat) (x1 : Int) (S : ZS) : ZR ZS :=
  zlet (0 : Int) fun x2_1 =>
  zlet x1 fun x3_2 =>
  R d 436 [.inl x2_1, .inl x3_2] S
def zb_mergeMade (R : ZC ZS) (d : Nat) (x1 : Int) (x2 : Int) (S : ZS) : ZR ZS :=
  za S 25 57000 x1 fun v1 =>
  za S 25 57000 x2 fun v2 =>
  if v1 = v2 then
    za S 26 57000 x1 fun v3 =>
    zlet v3 fun x3_4 =>
    za S 26 57000 x2 fun v5 =>
    zlet v5 fun x4_6 =>
    zV (zc R d 140 [.inl x1, .inl x2] S) fun S7 =>
    R d 437 [.inl x3_4, .inl x4_6] S7
  else
  zrZ 0 S
def zb_isEndless (R : ZC ZS) (d : Nat) (x1 : Int) (S : ZS) : ZR ZS :=
  zG (inI ((S.1 68) + 2)) <|
  zp S 68 ((S.1 68) + 2) fun S1 =>
  zlet (0 : Int) fun x2_2 =>
  zs S1 40 57000 0 x1 fun S3 =>
  za S3 23 57000 x1 fun v4 =>
  if v4 = 2 then
    za S3 26 57000 x1 fun v5 =>
    R d 438 [.inl x1, .inl v5, .inl 0] S3
  else
  za S3 23 57000 x1 fun v6 =>
  if v6 = 3 then
    za S3 26 57000 x1 fun v7 =>
    R d 438 [.inl x1, .inl v7, .inl 0] S3
  else
  R d 438 [.inl x1, .inl (-1), .inl 0] S3
def zb_admit (R : ZC ZS) (d : Nat)  (S : ZS) : ZR ZS :=
  if (S.1 79) ≤ 0 then
    zrZ 1 S
  else
  zG (inI ((S.1 79) - 1)) <|
  zp S 79 ((S.1 79) - 1) fun S1 =>
  za S1 39 57000 (S1.1 79) fun v2 =>
  zI (zc R d 8 [.inl v2] S1) fun v4 S3 =>
  zlet v4 fun x1_5 =>
  za S3 24 57000 x1_5 fun v6 =>
  if (zandI v6 16) = 0 then
    za S3 23 57000 x1_5 fun v7 =>
    if v7 = 0 then
      R d 148 [] S3
    else
    za S3 23 57000 x1_5 fun v8 =>
    if v8 = 1 then
      za S3 25 57000 x1_5 fun v9 =>
      zI (zc R d 149 [.inl v9] S3) fun v11 S10 =>
      if v11 = 0 then
        zrZ 0 S10
      else
      R d 148 [] S10
    else
    za S3 24 57000 x1_5 fun v12 =>
    zs S3 24 57000 x1_5 (zbyte (zorI v12 16)) fun S13 =>
    za S13 23 57000 x1_5 fun v14 =>
    if v14 = 2 then
      za S13 25 57000 x1_5 fun v15 =>
      za S13 36 7500 v15 fun v16 =>
      if v16 = 0 then
        zrZ 0 S13
      else
      R d 439 [.inl x1_5] S13
    else
    R d 439 [.inl x1_5] S13
  else
  R d 148 [] S3
def zb_isEqualVariable (R : ZC ZS) (d : Nat) (x1 : Int) (S : ZS) : ZR ZS :=
  za S 5 15000 x1 fun v1 =>
  if v1 ≤ 1 then
    zrZ 0 S
  else
  za S 4 15000 x1 fun v2 =>
  za S 3 44000 (v2 + 1) fun v3 =>
  if v3 = 39 then
    zrZ 1 S
  else
  zrZ 0 S
def zb_asks (R : ZC ZS) (d : Nat) (x1 : Int) (S : ZS) : ZR ZS :=
  zI (zc R d 8 [.inl x1] S) fun v2 S1 =>
  zlet v2 fun x2_3 =>
  za S1 24 57000 x2_3 fun v4 =>
  if (zandI v4 17) = 17 then
    zrV S1
  else
  za S1 24 57000 x2_3 fun v5 =>
  zs S1 24 57000 x2_3 (zbyte (zorI v5 1)) fun S6 =>
  zs S6 39 57000 (S6.1 79) x2_3 fun S7 =>
  zG (inI ((S7.1 79) + 1)) <|
  zp S7 79 ((S7.1 79) + 1) fun S8 =>
  zrV S8
def zb_patternTuple (R : ZC ZS) (d : Nat) (x1 : Int) (S : ZS) : ZR ZS :=
  zlet ((-1) : Int) fun x2_1 =>
  zlet (1 : Int) fun x3_2 =>
  za S 13 84000 x1 fun v3 =>
  zlet v3 fun x4_4 =>
  R d 440 [.inl x2_1, .inl x3_2, .inl x4_4] S
def zb_patternParts (R : ZC ZS) (d : Nat) (x1 : Int) (S : ZS) : ZR ZS :=
  zlet ((-1) : Int) fun x2_1 =>
  za S 13 84000 x1 fun v2 =>
  zlet v2 fun x3_3 =>
  R d 441 [.inl x1, .inl x2_1, .inl x3_3] S
def zb_patternList (R : ZC ZS) (d : Nat) (x1 : Int) (S : ZS) : ZR ZS :=
  zlet ((-1) : Int) fun x2_1 =>
  za S 13 84000 x1 fun v2 =>
  zlet v2 fun x3_3 =>
  R d 442 [.inl x2_1, .inl x3_3] S
def zb_meant (R : ZC ZS) (d : Nat) (x1 : Int) (S : ZS) : ZR ZS :=
  za S 10 84000 x1 fun v1 =>
  if v1 = 50 then
    zI (zc R d 155 [.inl x1] S) fun v3 S2 =>
    zrI v3 S2
  else
  if v1 = 51 then
    zI (zc R d 156 [.inl x1] S) fun v6 S5 =>
    zrI v6 S5
  else
  if v1 = 52 then
    zI (zc R d 160 [.inl x1] S) fun v9 S8 =>
    zrI v9 S8
  else
  if v1 = 53 then
    za S 13 84000 x1 fun v11 =>
    zI (zc R d 154 [.inl v11] S) fun v13 S12 =>
    zlet v13 fun x2_14 =>
    za S12 14 84000 x1 fun v15 =>
    zI (zc R d 154 [.inl v15] S12) fun v17 S16 =>
    zI (zc R d 10 [.inl x2_14, .inl v17] S16) fun v19 S18 =>
    zrI v19 S18
  else
  zI (zc R d 160 [.inl x1] S) fun v22 S21 =>
  zrI v22 S21
def zb_toldVariable (R : ZC ZS) (d : Nat) (x1 : Int) (S : ZS) : ZR ZS :=
  zG (inI ((S.1 125) - 1)) <|
  zlet ((S.1 125) - 1) fun x2_1 =>
  R d 443 [.inl x1, .inl x2_1] S
def zb_toldName (R : ZC ZS) (d : Nat) (x1 : Int) (S : ZS) : ZR ZS :=
  zlet (S.1 129) fun x2_1 =>
  zlet x1 fun x3_2 =>
  R d 444 [.inl x2_1, .inl x3_2] S
def zb_toldOne (R : ZC ZS) (d : Nat) (x1 : Int) (x2 : Int) (S : ZS) : ZR ZS :=
  zlet ((-1) : Int) fun x3_1 =>
  zlet ((-1) : Int) fun x4_2 =>
  zlet (0 : Int) fun x5_3 =>
  za S 13 84000 x1 fun v4 =>
  zlet v4 fun x6_5 =>
  R d 445 [.inl x1, .inl x2, .inl x3_1, .inl x4_2, .inl x5_3, .inl x6_5] S
def zb_typeNamed (R : ZC ZS) (d : Nat) (x1 : Int) (S : ZS) : ZR ZS :=
  zlet (S.1 102) fun x2_1 =>
  R d 446 [.inl x1, .inl x2_1] S
def zb_standsFor (R : ZC ZS) (d : Nat) (x1 : Int) (x2 : Int) (S : ZS) : ZR ZS :=
  zp S 86 0 fun S1 =>
  zlet x2 fun x3_2 =>
  R d 447 [.inl x1, .inl x3_2] S1
def zb_toldRow (R : ZC ZS) (d : Nat) (x1 : Int) (S : ZS) : ZR ZS :=
  zlet ((-1) : Int) fun x2_1 =>
  za S 13 84000 x1 fun v2 =>
  zlet v2 fun x3_3 =>
  R d 448 [.inl x2_1, .inl x3_3] S
def zb_patternAs (R : ZC ZS) (d : Nat) (x1 : Int) (S : ZS) : ZR ZS :=
  za S 12 84000 x1 fun v1 =>
  zI (zc R d 118 [.inl v1] S) fun v3 S2 =>
  zlet v3 fun x2_4 =>
  if x2_4 = (-1) then
    R d 449 [.inl x1] S2
  else
  za S2 45 4000 x2_4 fun v5 =>
  if v5 = 1 then
    R d 450 [.inl x1] S2
  else
  za S2 45 4000 x2_4 fun v6 =>
  if v6 = 2 then
    R d 450 [.inl x1] S2
  else
  R d 449 [.inl x1] S2
def zb_judged (R : ZC ZS) (d : Nat) (x1 : Int) (S : ZS) : ZR ZS :=
  za S 10 84000 x1 fun v1 =>
  if v1 = 0 then
    zI (zc R d 9 [.inl 0] S) fun v3 S2 =>
    zrI v3 S2
  else
  if v1 = 1 then
    zI (zc R d 9 [.inl 2] S) fun v6 S5 =>
    zrI v6 S5
  else
  if v1 = 2 then
    zI (zc R d 9 [.inl 1] S) fun v9 S8 =>
    zrI v9 S8
  else
  if v1 = 3 then
    za S 12 84000 x1 fun v11 =>
    za S 15 84000 x1 fun v12 =>
    zI (zc R d 163 [.inl x1, .inl v11, .inl v12] S) fun v14 S13 =>
    zrI v14 S13
  else
  if v1 = 4 then
    zI (zc R d 116 [] S) fun v17 S16 =>
    zlet v17 fun x2_18 =>
    za S16 12 84000 x1 fun v19 =>
    zI (zc R d 11 [.inl v19, .inl x2_18, .inl (-1)] S16) fun v21 S20 =>
    za S20 15 84000 x1 fun v22 =>
    zI (zc R d 4 [.inl 3, .inl 0, .inl v21, .inl 8, .inl v22] S20) fun v24 S23 =>
    zI (zc R d 10 [.inl v24, .inl x2_18] S23) fun v26 S25 =>
    zrI v26 S25
  else
  if v1 = 5 then
    zI (zc R d 164 [.inl x1] S) fun v29 S28 =>
    zrI v29 S28
  else
  if v1 = 6 then
    zI (zc R d 166 [.inl x1] S) fun v32 S31 =>
    zrI v32 S31
  else
  if v1 = 7 then
    zI (zc R d 167 [.inl x1] S) fun v35 S34 =>
    zrI v35 S34
  else
  if v1 = 8 then
    za S 13 84000 x1 fun v37 =>
    zI (zc R d 162 [.inl v37] S) fun v39 S38 =>
    zI (zc R d 9 [.inl 4] S38) fun v41 S40 =>
    za S40 13 84000 x1 fun v42 =>
    za S40 11 4200 (v42 - (S40.1 41)) fun v43 =>
    zV (zc R d 136 [.inl v39, .inl v41, .inl v43] S40) fun S44 =>
    zI (zc R d 116 [] S44) fun v46 S45 =>
    zrI v46 S45
  else
  if v1 = 9 then
    zI (zc R d 168 [.inl x1] S) fun v49 S48 =>
    zrI v49 S48
  else
  if v1 = 10 then
    za S 13 84000 x1 fun v51 =>
    zI (zc R d 162 [.inl v51] S) fun v53 S52 =>
    zI (zc R d 9 [.inl 3] S52) fun v55 S54 =>
    za S54 13 84000 x1 fun v56 =>
    za S54 11 4200 (v56 - (S54.1 41)) fun v57 =>
    zV (zc R d 136 [.inl v53, .inl v55, .inl v57] S54) fun S58 =>
    za S58 14 84000 x1 fun v59 =>
    zI (zc R d 162 [.inl v59] S58) fun v61 S60 =>
    zlet v61 fun x3_62 =>
    zI (zc R d 3 [] S60) fun v64 S63 =>
    zrI v64 S63
  else
  if v1 = 11 then
    za S 13 84000 x1 fun v66 =>
    zI (zc R d 162 [.inl v66] S) fun v68 S67 =>
    zlet v68 fun x4_69 =>
    za S67 14 84000 x1 fun v70 =>
    za S67 15 84000 x1 fun v71 =>
    zI (zc R d 169 [.inl v70, .inl x4_69, .inl (-1), .inl v71] S67) fun v73 S72 =>
    zlet v73 fun x5_74 =>
    zV (zc R d 173 [.inl 1, .inl x1] S72) fun S75 =>
    zrI x5_74 S75
  else
  if v1 = 12 then
    zI (zc R d 174 [.inl x1] S) fun v78 S77 =>
    zrI v78 S77
  else
  if v1 = 13 then
    zI (zc R d 176 [.inl x1] S) fun v81 S80 =>
    zrI v81 S80
  else
  if v1 = 14 then
    zI (zc R d 176 [.inl x1] S) fun v84 S83 =>
    zrI v84 S83
  else
  if v1 = 15 then
    zI (zc R d 176 [.inl x1] S) fun v87 S86 =>
    zrI v87 S86
  else
  if v1 = 16 then
    zI (zc R d 176 [.inl x1] S) fun v90 S89 =>
    zrI v90 S89
  else
  if v1 = 17 then
    zI (zc R d 176 [.inl x1] S) fun v93 S92 =>
    zrI v93 S92
  else
  if v1 = 18 then
    zI (zc R d 176 [.inl x1] S) fun v96 S95 =>
    zrI v96 S95
  else
  if v1 = 19 then
    zI (zc R d 176 [.inl x1] S) fun v99 S98 =>
    zrI v99 S98
  else
  if v1 = 20 then
    zI (zc R d 165 [.inl x1] S) fun v102 S101 =>
    zrI v102 S101
  else
  zI (zc R d 176 [.inl x1] S) fun v105 S104 =>
  zrI v105 S104
def zb_judgedName (R : ZC ZS) (d : Nat) (x1 : Int) (x2 : Int) (x3 : Int) (S : ZS) : ZR ZS :=
  zI (zc R d 118 [.inl x2] S) fun v2 S1 =>
  zlet v2 fun x4_3 =>
  if x4_3 = (-1) then
    zthrow 5 x3 S1
  else
  za S1 47 4000 x4_3 fun v4 =>
  za S1 45 4000 x4_3 fun v5 =>
  zG (inI ((4 * v4) + v5)) <|
  zs S1 12 84000 x1 ((4 * v4) + v5) fun S6 =>
  za S6 48 4000 x4_3 fun v7 =>
  zs S6 15 84000 x1 v7 fun S8 =>
  za S8 48 4000 x4_3 fun v9 =>
  za S8 45 4000 x4_3 fun v10 =>
  if v10 = 0 then
    R d 451 [.inl x4_3, .inl 1, .inl v9] S8
  else
  za S8 45 4000 x4_3 fun v11 =>
  if v11 = 2 then
    R d 451 [.inl x4_3, .inl 1, .inl v9] S8
  else
  R d 451 [.inl x4_3, .inl 0, .inl v9] S8
def zb_judgedRow (R : ZC ZS) (d : Nat) (x1 : Int) (S : ZS) : ZR ZS :=
  zlet ((-1) : Int) fun x2_1 =>
  za S 13 84000 x1 fun v2 =>
  zlet v2 fun x3_3 =>
  R d 452 [.inl x2_1, .inl x3_3] S
def zb_judgedTuple (R : ZC ZS) (d : Nat) (x1 : Int) (S : ZS) : ZR ZS :=
  zlet ((-1) : Int) fun x2_1 =>
  zlet (1 : Int) fun x3_2 =>
  za S 13 84000 x1 fun v3 =>
  zlet v3 fun x4_4 =>
  R d 453 [.inl x2_1, .inl x3_2, .inl x4_4] S
def zb_judgedApplication (R : ZC ZS) (d : Nat) (x1 : Int) (S : ZS) : ZR ZS :=
  zlet (0 : Int) fun x2_1 =>
  zlet x1 fun x3_2 =>
  R d 454 [.inl x1, .inl x2_1, .inl x3_2] S
def zb_judgedInfix (R : ZC ZS) (d : Nat) (x1 : Int) (S : ZS) : ZR ZS :=
  za S 15 84000 x1 fun v1 =>
  zlet v1 fun x2_2 =>
  za S 12 84000 x1 fun v3 =>
  zI (zc R d 163 [.inl x1, .inl v3, .inl x2_2] S) fun v5 S4 =>
  zlet v5 fun x3_6 =>
  za S4 13 84000 x1 fun v7 =>
  zI (zc R d 162 [.inl v7] S4) fun v9 S8 =>
  zlet v9 fun x4_10 =>
  za S8 14 84000 x1 fun v11 =>
  zI (zc R d 162 [.inl v11] S8) fun v13 S12 =>
  zlet v13 fun x5_14 =>
  zI (zc R d 116 [] S12) fun v16 S15 =>
  zlet v16 fun x6_17 =>
  zI (zc R d 116 [] S15) fun v19 S18 =>
  zlet v19 fun x7_20 =>
  zI (zc R d 10 [.inl x6_17, .inl x7_20] S18) fun v22 S21 =>
  zV (zc R d 136 [.inl x3_6, .inl v22, .inl x2_2] S21) fun S23 =>
  zI (zc R d 15 [.inl x4_10, .inl x5_14] S23) fun v25 S24 =>
  zV (zc R d 136 [.inl x6_17, .inl v25, .inl x2_2] S24) fun S26 =>
  zrI x7_20 S26
def zb_judgedIf (R : ZC ZS) (d : Nat) (x1 : Int) (S : ZS) : ZR ZS :=
  za S 13 84000 x1 fun v1 =>
  zI (zc R d 162 [.inl v1] S) fun v3 S2 =>
  zlet v3 fun x2_4 =>
  zI (zc R d 9 [.inl 3] S2) fun v6 S5 =>
  za S5 13 84000 x1 fun v7 =>
  za S5 11 4200 (v7 - (S5.1 41)) fun v8 =>
  zV (zc R d 136 [.inl x2_4, .inl v6, .inl v8] S5) fun S9 =>
  za S9 14 84000 x1 fun v10 =>
  zI (zc R d 162 [.inl v10] S9) fun v12 S11 =>
  zlet v12 fun x3_13 =>
  za S11 15 84000 x1 fun v14 =>
  zI (zc R d 162 [.inl v14] S11) fun v16 S15 =>
  zlet v16 fun x4_17 =>
  za S15 15 84000 x1 fun v18 =>
  za S15 11 4200 (v18 - (S15.1 41)) fun v19 =>
  zV (zc R d 136 [.inl x4_17, .inl x3_13, .inl v19] S15) fun S20 =>
  zrI x3_13 S20
def zb_rules (R : ZC ZS) (d : Nat) (x1 : Int) (x2 : Int) (x3 : Int) (x4 : Int) (S : ZS) : ZR ZS :=
  zlet x2 fun x5_1 =>
  zlet x3 fun x6_2 =>
  zlet (1 : Int) fun x7_3 =>
  zlet x1 fun x9_4 =>
  R d 455 [.inl x4, .inl x5_1, .inl x6_2, .inr (.inl x7_3), .inl x9_4] S
def zb_bindPending (R : ZC ZS) (d : Nat) (x1 : Int) (S : ZS) : ZR ZS :=
  zlet x1 fun x2_1 =>
  R d 456 [.inl x1, .inl x2_1] S
def zb_countOf (R : ZC ZS) (d : Nat) (x1 : Int) (S : ZS) : ZR ZS :=
  za S 10 84000 x1 fun v1 =>
  if v1 = 31 then
    za S 13 84000 x1 fun v2 =>
    if v2 = 1 then
      zrI 1 S
    else
    za S 13 84000 x1 fun v3 =>
    if v3 = 2 then
      zrI 1 S
    else
    zrI 0 S
  else
  if v1 = 32 then
    zrI 1 S
  else
  if v1 = 33 then
    zrI 1 S
  else
  if v1 = 34 then
    zrI 1 S
  else
  if v1 = 35 then
    zlet (0 : Int) fun x3_8 =>
    za S 13 84000 x1 fun v9 =>
    zlet v9 fun x4_10 =>
    R d 457 [.inl x3_8, .inl x4_10] S
  else
  if v1 = 36 then
    za S 13 84000 x1 fun v12 =>
    zI (zc R d 171 [.inl v12] S) fun v14 S13 =>
    zG (inI (1 + v14)) <|
    zrI (1 + v14) S13
  else
  if v1 = 37 then
    za S 13 84000 x1 fun v16 =>
    zI (zc R d 171 [.inl v16] S) fun v18 S17 =>
    zrI v18 S17
  else
  if v1 = 38 then
    za S 13 84000 x1 fun v20 =>
    zI (zc R d 171 [.inl v20] S) fun v22 S21 =>
    zrI v22 S21
  else
  if v1 = 39 then
    zlet (1 : Int) fun x4_24 =>
    za S 13 84000 x1 fun v25 =>
    zlet v25 fun x5_26 =>
    R d 458 [.inl x4_24, .inl x5_26] S
  else
  if v1 = 40 then
    za S 13 84000 x1 fun v28 =>
    zI (zc R d 171 [.inl v28] S) fun v30 S29 =>
    za S29 14 84000 x1 fun v31 =>
    zI (zc R d 171 [.inl v31] S29) fun v33 S32 =>
    zG (inI ((1 + v30) + v33)) <|
    zrI ((1 + v30) + v33) S32
  else
  if v1 = 41 then
    zlet (0 : Int) fun x2_35 =>
    za S 13 84000 x1 fun v36 =>
    zlet v36 fun x3_37 =>
    R d 459 [.inl x2_35, .inl x3_37] S
  else
  zrI 0 S
def zb_times (R : ZC ZS) (d : Nat) (x1 : Int) (x3 : Int) (x4 : Int) (S : ZS) : ZR ZS :=
  if x3 < 2 then
    R d 460 [.inl x4, .inr (.inl x1)] S
  else
  zG (inL (x1 * x3)) <|
  R d 460 [.inl x4, .inr (.inl (x1 * x3))] S
def zb_match_2 (R : ZC ZS) (d : Nat) (x1 : Int) (x2 : Int) (S : ZS) : ZR ZS :=
  zs S 85 1100 (S.1 166) x1 fun S1 =>
  zs S1 86 1100 (S1.1 166) x2 fun S2 =>
  zG (inI ((S2.1 166) + 1)) <|
  zp S2 166 ((S2.1 166) + 1) fun S3 =>
  zrV S3
def zb_judgedFn (R : ZC ZS) (d : Nat) (x1 : Int) (S : ZS) : ZR ZS :=
  zI (zc R d 108 [.inl 1, .inl x1] S) fun v2 S1 =>
  zlet v2 fun x2_3 =>
  zlet (S1.1 115) fun x3_4 =>
  zlet (S1.1 116) fun x4_5 =>
  zp S1 115 x2_3 fun S6 =>
  zp S6 116 1 fun S7 =>
  zs S7 14 84000 x1 x2_3 fun S8 =>
  za S8 13 84000 x1 fun v9 =>
  za S8 15 84000 x1 fun v10 =>
  zI (zc R d 169 [.inl v9, .inl (-1), .inl (-1), .inl v10] S8) fun v12 S11 =>
  zlet v12 fun x5_13 =>
  zlet (S11.1 138) fun x6_14 =>
  zs S11 70 9000 x2_3 (S11.1 116) fun S15 =>
  zV (zc R d 175 [.inl x2_3] S15) fun S16 =>
  zp S16 115 x3_4 fun S17 =>
  zp S17 116 x4_5 fun S18 =>
  zV (zc R d 173 [.inl 0, .inl x1] S18) fun S19 =>
  zI (zc R d 10 [.inl x6_14, .inl x5_13] S19) fun v21 S20 =>
  zrI v21 S20
def zb_endCode (R : ZC ZS) (d : Nat) (x1 : Int) (S : ZS) : ZR ZS :=
  za S 72 9000 x1 fun v1 =>
  zG (inI ((S.1 150) + v1)) <|
  zlet ((S.1 150) + v1) fun x2_2 =>
  za S 71 9000 x1 fun v3 =>
  zlet v3 fun x3_4 =>
  R d 461 [.inl x1, .inl x2_2, .inl x3_4] S
def zb_judgedOther (R : ZC ZS) (d : Nat) (x1 : Int) (S : ZS) : ZR ZS :=
  za S 10 84000 x1 fun v1 =>
  if v1 = 13 then
    za S 13 84000 x1 fun v2 =>
    zI (zc R d 162 [.inl v2] S) fun v4 S3 =>
    zlet v4 fun x2_5 =>
    za S3 14 84000 x1 fun v6 =>
    zI (zc R d 9 [.inl 4] S3) fun v8 S7 =>
    za S7 15 84000 x1 fun v9 =>
    zI (zc R d 169 [.inl v6, .inl v8, .inl x2_5, .inl v9] S7) fun v11 S10 =>
    zlet v11 fun x3_12 =>
    zV (zc R d 173 [.inl 4, .inl x1] S10) fun S13 =>
    zrI x3_12 S13
  else
  if v1 = 14 then
    za S 13 84000 x1 fun v15 =>
    zI (zc R d 162 [.inl v15] S) fun v17 S16 =>
    zlet v17 fun x4_18 =>
    zI (zc R d 9 [.inl 3] S16) fun v20 S19 =>
    za S19 13 84000 x1 fun v21 =>
    za S19 11 4200 (v21 - (S19.1 41)) fun v22 =>
    zV (zc R d 136 [.inl x4_18, .inl v20, .inl v22] S19) fun S23 =>
    za S23 14 84000 x1 fun v24 =>
    zI (zc R d 162 [.inl v24] S23) fun v26 S25 =>
    zlet v26 fun x5_27 =>
    zI (zc R d 9 [.inl 3] S25) fun v29 S28 =>
    za S28 14 84000 x1 fun v30 =>
    za S28 11 4200 (v30 - (S28.1 41)) fun v31 =>
    zV (zc R d 136 [.inl x5_27, .inl v29, .inl v31] S28) fun S32 =>
    zI (zc R d 9 [.inl 3] S32) fun v34 S33 =>
    zrI v34 S33
  else
  if v1 = 15 then
    za S 13 84000 x1 fun v36 =>
    zI (zc R d 162 [.inl v36] S) fun v38 S37 =>
    zlet v38 fun x4_39 =>
    zI (zc R d 9 [.inl 3] S37) fun v41 S40 =>
    za S40 13 84000 x1 fun v42 =>
    za S40 11 4200 (v42 - (S40.1 41)) fun v43 =>
    zV (zc R d 136 [.inl x4_39, .inl v41, .inl v43] S40) fun S44 =>
    za S44 14 84000 x1 fun v45 =>
    zI (zc R d 162 [.inl v45] S44) fun v47 S46 =>
    zlet v47 fun x5_48 =>
    zI (zc R d 9 [.inl 3] S46) fun v50 S49 =>
    za S49 14 84000 x1 fun v51 =>
    za S49 11 4200 (v51 - (S49.1 41)) fun v52 =>
    zV (zc R d 136 [.inl x5_48, .inl v50, .inl v52] S49) fun S53 =>
    zI (zc R d 9 [.inl 3] S53) fun v55 S54 =>
    zrI v55 S54
  else
  if v1 = 16 then
    za S 13 84000 x1 fun v57 =>
    zI (zc R d 162 [.inl v57] S) fun v59 S58 =>
    zlet v59 fun x6_60 =>
    za S58 14 84000 x1 fun v61 =>
    zI (zc R d 154 [.inl v61] S58) fun v63 S62 =>
    za S62 13 84000 x1 fun v64 =>
    za S62 11 4200 (v64 - (S62.1 41)) fun v65 =>
    zV (zc R d 136 [.inl x6_60, .inl v63, .inl v65] S62) fun S66 =>
    zrI x6_60 S66
  else
  if v1 = 17 then
    za S 13 84000 x1 fun v68 =>
    zI (zc R d 177 [.inl v68] S) fun v70 S69 =>
    zrI v70 S69
  else
  if v1 = 18 then
    zI (zc R d 178 [.inl x1] S) fun v73 S72 =>
    zrI v73 S72
  else
  zlet ((-1) : Int) fun x7_75 =>
  za S 13 84000 x1 fun v76 =>
  zlet v76 fun x8_77 =>
  R d 462 [.inl x7_75, .inl x8_77] S
def zb_judgedSequence (R : ZC ZS) (d : Nat) (x1 : Int) (S : ZS) : ZR ZS :=
  zlet ((-1) : Int) fun x2_1 =>
  zlet x1 fun x3_2 =>
  R d 463 [.inl x2_1, .inl x3_2] S
def zb_judgedLet (R : ZC ZS) (d : Nat) (x1 : Int) (S : ZS) : ZR ZS :=
  zlet (S.1 95) fun x2_1 =>
  zlet (S.1 102) fun x3_2 =>
  zlet (S.1 111) fun x4_3 =>
  zlet (S.1 112) fun x5_4 =>
  zpZ S 111 0 fun S5 =>
  zpZ S5 112 0 fun S6 =>
  za S6 13 84000 x1 fun v7 =>
  zlet v7 fun x6_8 =>
  R d 464 [.inl x1, .inl x2_1, .inl x3_2, .inl x4_3, .inl x5_4, .inl x6_8] S6
def zb_does (R : ZC ZS) (d : Nat) (x1 : Int) (S : ZS) : ZR ZS :=
  za S 10 84000 x1 fun v1 =>
  if v1 = 0 then
    zrZ 0 S
  else
  if v1 = 1 then
    zrZ 0 S
  else
  if v1 = 2 then
    zrZ 0 S
  else
  if v1 = 3 then
    zrZ 0 S
  else
  if v1 = 4 then
    zrZ 0 S
  else
  if v1 = 5 then
    zlet (0 : Int) fun x2_7 =>
    za S 13 84000 x1 fun v8 =>
    zlet v8 fun x3_9 =>
    R d 465 [.inl x2_7, .inl x3_9] S
  else
  if v1 = 6 then
    za S 13 84000 x1 fun v11 =>
    za S 10 84000 v11 fun v12 =>
    if v12 = 3 then
      za S 13 84000 x1 fun v13 =>
      zI (zc R d 180 [.inl v13] S) fun v15 S14 =>
      if v15 = 0 then
        zrZ 1 S14
      else
      za S14 14 84000 x1 fun v16 =>
      zI (zc R d 179 [.inl v16] S14) fun v18 S17 =>
      if v18 = 0 then
        zrZ 0 S17
      else
      zrZ 1 S17
    else
    zrZ 1 S
  else
  if v1 = 7 then
    zI (zc R d 180 [.inl x1] S) fun v21 S20 =>
    if v21 = 0 then
      zrZ 1 S20
    else
    za S20 13 84000 x1 fun v22 =>
    zI (zc R d 179 [.inl v22] S20) fun v24 S23 =>
    if v24 = 0 then
      za S23 14 84000 x1 fun v25 =>
      zI (zc R d 179 [.inl v25] S23) fun v27 S26 =>
      if v27 = 0 then
        zrZ 0 S26
      else
      zrZ 1 S26
    else
    zrZ 1 S23
  else
  if v1 = 8 then
    zrZ 1 S
  else
  if v1 = 9 then
    zrZ 1 S
  else
  if v1 = 10 then
    zrZ 1 S
  else
  if v1 = 11 then
    zrZ 1 S
  else
  if v1 = 12 then
    zrZ 0 S
  else
  if v1 = 13 then
    zrZ 1 S
  else
  if v1 = 14 then
    zrZ 1 S
  else
  if v1 = 15 then
    zrZ 1 S
  else
  if v1 = 16 then
    za S 13 84000 x1 fun v37 =>
    zI (zc R d 179 [.inl v37] S) fun v39 S38 =>
    zrZ v39 S38
  else
  if v1 = 17 then
    zrZ 1 S
  else
  if v1 = 18 then
    zrZ 1 S
  else
  if v1 = 19 then
    zlet (0 : Int) fun x3_43 =>
    za S 13 84000 x1 fun v44 =>
    zlet v44 fun x4_45 =>
    R d 466 [.inl x3_43, .inl x4_45] S
  else
  if v1 = 20 then
    zlet (0 : Int) fun x3_47 =>
    za S 13 84000 x1 fun v48 =>
    zlet v48 fun x4_49 =>
    R d 466 [.inl x3_47, .inl x4_49] S
  else
  zrZ 1 S
def zb_isMaker (R : ZC ZS) (d : Nat) (x1 : Int) (S : ZS) : ZR ZS :=
  zI (zc R d 181 [.inl x1] S) fun v2 S1 =>
  if v2 = 1 then
    zI (zc R d 182 [.inl x1] S1) fun v4 S3 =>
    if v4 = (S3.1 161) then
      R d 467 [.inl x1] S3
    else
    zrZ 1 S3
  else
  R d 467 [.inl x1] S1
def zb_kindIn (R : ZC ZS) (d : Nat) (x1 : Int) (S : ZS) : ZR ZS :=
  za S 12 84000 x1 fun v1 =>
  zrI (zandI v1 3) S
def zb_infoIn (R : ZC ZS) (d : Nat) (x1 : Int) (S : ZS) : ZR ZS :=
  za S 12 84000 x1 fun v1 =>
  zrI (zshrI v1 2) S
def zb_through (R : ZC ZS) (d : Nat) (x1 : Int) (x2 : Int) (x3 : Int) (S : ZS) : ZR ZS :=
  zlet x2 fun x4_1 =>
  R d 468 [.inl x1, .inl x2, .inl x3, .inl x4_1] S
def zb_sizeOf (R : ZC ZS) (d : Nat) (x1 : Int) (S : ZS) : ZR ZS :=
  zG (inI ((S.1 68) + 2)) <|
  zp S 68 ((S.1 68) + 2) fun S1 =>
  zI (zc R d 8 [.inl x1] S1) fun v3 S2 =>
  zlet v3 fun x2_4 =>
  za S2 27 57000 x2_4 fun v5 =>
  if v5 = (S2.1 68) then
    zlet (0 : Int) fun x3_6 =>
    R d 469 [.inl x2_4, .inl x3_6] S2
  else
  zI (zc R d 185 [.inl x2_4, .inl 0] S2) fun v8 S7 =>
  zlet v8 fun x3_9 =>
  R d 469 [.inl x2_4, .inl x3_9] S7
def zb_enterSize (R : ZC ZS) (d : Nat) (x1 : Int) (x2 : Int) (S : ZS) : ZR ZS :=
  zs S 27 57000 x1 (S.1 68) fun S1 =>
  zs S1 28 57000 x1 1 fun S2 =>
  za S2 23 57000 x1 fun v3 =>
  if v3 = 2 then
    R d 470 [.inl x1, .inl x2] S2
  else
  za S2 23 57000 x1 fun v4 =>
  if v4 = 3 then
    R d 470 [.inl x1, .inl x2] S2
  else
  zrI x2 S2
def zb_markRim (R : ZC ZS) (d : Nat) (x1 : Int) (x2 : Int) (S : ZS) : ZR ZS :=
  zlet (0 : Int) fun x3_1 =>
  R d 471 [.inl x1, .inl x2, .inl x3_1] S
def zb_spreadRim (R : ZC ZS) (d : Nat) (x1 : Int) (x2 : Int) (S : ZS) : ZR ZS :=
  zI (zc R d 8 [.inl x1] S) fun v2 S1 =>
  zlet v2 fun x3_3 =>
  za S1 28 57000 x3_3 fun v4 =>
  if (zandI v4 x2) = 0 then
    za S1 28 57000 x3_3 fun v5 =>
    zs S1 28 57000 x3_3 (zorI v5 x2) fun S6 =>
    zs S6 40 57000 0 x3_3 fun S7 =>
    zlet (1 : Int) fun x4_8 =>
    R d 472 [.inl x2, .inl x4_8] S7
  else
  zrV S1
def zb_generalise (R : ZC ZS) (d : Nat) (x1 : Int) (S : ZS) : ZR ZS :=
  zG (inI ((S.1 68) + 2)) <|
  zp S 68 ((S.1 68) + 2) fun S1 =>
  zI (zc R d 8 [.inl x1] S1) fun v3 S2 =>
  zlet v3 fun x2_4 =>
  zs S2 27 57000 x2_4 (S2.1 68) fun S5 =>
  zs S5 40 57000 0 x2_4 fun S6 =>
  zlet (1 : Int) fun x3_7 =>
  R d 473 [.inl x3_7] S6
def zb_bindLines (R : ZC ZS) (d : Nat) (x1 : Int) (S : ZS) : ZR ZS :=
  zlet x1 fun x2_1 =>
  R d 474 [.inl x1, .inl x2_1] S
def zb_line (R : ZC ZS) (d : Nat) (x1 : Int) (x2 : Int) (S : ZS) : ZR ZS :=
  if (S.1 111) = 0 then
    zrV S
  else
  zs S 78 3000 (S.1 153) x1 fun S1 =>
  zs S1 79 3000 (S1.1 153) x2 fun S2 =>
  zG (inI ((S2.1 153) + 1)) <|
  zp S2 153 ((S2.1 153) + 1) fun S3 =>
  zrV S3
def zb_judgedRec (R : ZC ZS) (d : Nat) (x1 : Int) (S : ZS) : ZR ZS :=
  zI (zc R d 111 [.inl x1] S) fun v2 S1 =>
  zlet v2 fun x2_3 =>
  zlet (S1.1 127) fun x3_4 =>
  zp S1 127 0 fun S5 =>
  zlet (S5.1 95) fun x4_6 =>
  zlet (S5.1 134) fun x5_7 =>
  zlet (S5.1 135) fun x6_8 =>
  zp S5 135 x5_7 fun S9 =>
  za S9 13 84000 x1 fun v10 =>
  zlet v10 fun x7_11 =>
  R d 475 [.inl x1, .inl x2_3, .inl x3_4, .inl x4_6, .inl x5_7, .inl x6_8, .inl x7_11] S9
def zb_judgedFun (R : ZC ZS) (d : Nat) (x1 : Int) (S : ZS) : ZR ZS :=
  zI (zc R d 111 [.inl x1] S) fun v2 S1 =>
  zlet v2 fun x2_3 =>
  zlet (S1.1 127) fun x3_4 =>
  zp S1 127 0 fun S5 =>
  zlet (S5.1 95) fun x4_6 =>
  zlet (S5.1 134) fun x5_7 =>
  zlet (S5.1 135) fun x6_8 =>
  zp S5 135 x5_7 fun S9 =>
  za S9 13 84000 x1 fun v10 =>
  zlet v10 fun x7_11 =>
  R d 476 [.inl x1, .inl x2_3, .inl x3_4, .inl x4_6, .inl x5_7, .inl x6_8, .inl x7_11] S9
def zb_judgedFunction (R : ZC ZS) (d : Nat) (x1 : Int) (x2 : Int) (S : ZS) : ZR ZS :=
  za S 13 84000 x1 fun v1 =>
  zlet v1 fun x3_2 =>
  zlet (0 : Int) fun x4_3 =>
  za S 13 84000 x3_2 fun v4 =>
  zlet v4 fun x5_5 =>
  R d 477 [.inl x1, .inl x2, .inl x3_2, .inl x4_3, .inl x5_5] S
def zb_judgedClause (R : ZC ZS) (d : Nat) (x1 : Int) (x2 : Int) (x3 : Int) (x4 : Int) (x5 : Int) (S : ZS) : ZR ZS :=
  za S 15 84000 x2 fun v1 =>
  zlet v1 fun x6_2 =>
  za S 12 84000 x2 fun v3 =>
  za S 12 84000 x1 fun v4 =>
  if v3 = v4 then
    zlet (0 : Int) fun x7_5 =>
    za S 13 84000 x2 fun v6 =>
    zlet v6 fun x8_7 =>
    R d 478 [.inl x1, .inl x2, .inl x3, .inl x4, .inl x5, .inl x6_2, .inl x7_5, .inl x8_7] S
  else
  za S 11 4200 (x6_2 - (S.1 41)) fun v8 =>
  zthrow 7 v8 S
def zb_judgedType (R : ZC ZS) (d : Nat) (x1 : Int) (S : ZS) : ZR ZS :=
  zlet (S.1 127) fun x2_1 =>
  zlet (S.1 126) fun x3_2 =>
  zlet (S.1 125) fun x4_3 =>
  zp S 127 1 fun S4 =>
  zp S4 126 (S4.1 125) fun S5 =>
  za S5 13 84000 x1 fun v6 =>
  zI (zc R d 196 [.inl v6] S5) fun v8 S7 =>
  zlet v8 fun x5_9 =>
  za S7 15 84000 x1 fun v10 =>
  zV (zc R d 134 [.inl v10] S7) fun S11 =>
  za S11 14 84000 x1 fun v12 =>
  zI (zc R d 154 [.inl v12] S11) fun v14 S13 =>
  zlet v14 fun x6_15 =>
  zI (zc R d 184 [.inl x6_15] S13) fun v17 S16 =>
  if v17 ≤ 40 then
    zp S16 86 0 fun S18 =>
    zlet x5_9 fun x7_19 =>
    R d 479 [.inl x1, .inl x2_1, .inl x3_2, .inl x4_3, .inl x5_9, .inl x6_15, .inl x7_19] S18
  else
  za S16 15 84000 x1 fun v20 =>
  zthrow 14 v20 S16
def zb_listed (R : ZC ZS) (d : Nat) (x1 : Int) (S : ZS) : ZR ZS :=
  zlet ((-1) : Int) fun x2_1 =>
  zlet ((-1) : Int) fun x3_2 =>
  zlet (0 : Int) fun x4_3 =>
  zlet x1 fun x5_4 =>
  R d 480 [.inl x2_1, .inl x3_2, .inl x4_3, .inl x5_4] S
def zb_judgedData (R : ZC ZS) (d : Nat) (x1 : Int) (S : ZS) : ZR ZS :=
  zlet (S.1 127) fun x2_1 =>
  zlet (S.1 126) fun x3_2 =>
  zlet (S.1 125) fun x4_3 =>
  zp S 127 1 fun S4 =>
  zp S4 126 (S4.1 125) fun S5 =>
  zlet (S5.1 74) fun x5_6 =>
  za S5 13 84000 x1 fun v7 =>
  zlet v7 fun x6_8 =>
  R d 481 [.inl x1, .inl x2_1, .inl x3_2, .inl x4_3, .inl x5_6, .inl x6_8] S5
def zb_judgedCons (R : ZC ZS) (d : Nat) (x1 : Int) (x2 : Int) (S : ZS) : ZR ZS :=
  za S 15 84000 x1 fun v1 =>
  zlet v1 fun x3_2 =>
  zp S 125 (S.1 126) fun S3 =>
  za S3 13 84000 x1 fun v4 =>
  zI (zc R d 196 [.inl v4] S3) fun v6 S5 =>
  zlet v6 fun x4_7 =>
  zs S5 34 7500 x3_2 (S5.1 106) fun S8 =>
  za S8 14 84000 x1 fun v9 =>
  zlet v9 fun x5_10 =>
  R d 482 [.inl x2, .inl x3_2, .inl x4_7, .inl x5_10] S8
def zb_conOf (R : ZC ZS) (d : Nat) (x1 : Int) (S : ZS) : ZR ZS :=
  za S 57 22000 x1 fun v1 =>
  zrI (zshrI v1 1) S
def zb_hasPart0 (R : ZC ZS) (d : Nat) (x1 : Int) (S : ZS) : ZR ZS :=
  za S 57 22000 x1 fun v1 =>
  if (zandI v1 1) = 1 then
    zrZ 1 S
  else
  zrZ 0 S
def zb_admits (R : ZC ZS) (d : Nat) (x1 : Int) (S : ZS) : ZR ZS :=
  zI (zc R d 8 [.inl x1] S) fun v2 S1 =>
  zlet v2 fun x2_3 =>
  zG (inI ((S1.1 68) + 2)) <|
  zp S1 68 ((S1.1 68) + 2) fun S4 =>
  zs S4 40 57000 0 x2_3 fun S5 =>
  zs S5 27 57000 x2_3 (S5.1 68) fun S6 =>
  zlet (1 : Int) fun x3_7 =>
  R d 483 [.inl x3_7] S6
def zb_judgedException (R : ZC ZS) (d : Nat) (x1 : Int) (S : ZS) : ZR ZS :=
  za S 12 84000 x1 fun v1 =>
  zI (zc R d 133 [.inl v1] S) fun v3 S2 =>
  if v3 = 0 then
    za S2 15 84000 x1 fun v4 =>
    zV (zc R d 134 [.inl v4] S2) fun S5 =>
    zlet (S5.1 127) fun x2_6 =>
    zp S5 127 2 fun S7 =>
    za S7 13 84000 x1 fun v8 =>
    if v8 = (-1) then
      R d 484 [.inl x1, .inl x2_6, .inl (-1)] S7
    else
    za S7 13 84000 x1 fun v9 =>
    zI (zc R d 154 [.inl v9] S7) fun v11 S10 =>
    R d 484 [.inl x1, .inl x2_6, .inl v11] S10
  else
  za S2 15 84000 x1 fun v12 =>
  zthrow 7 v12 S2
def zb_judgedSame (R : ZC ZS) (d : Nat) (x1 : Int) (S : ZS) : ZR ZS :=
  za S 13 84000 x1 fun v1 =>
  zI (zc R d 118 [.inl v1] S) fun v3 S2 =>
  zlet v3 fun x2_4 =>
  if x2_4 = (-1) then
    za S2 14 84000 x1 fun v5 =>
    zthrow 5 v5 S2
  else
  za S2 45 4000 x2_4 fun v6 =>
  if v6 = 2 then
    za S2 12 84000 x1 fun v7 =>
    zI (zc R d 133 [.inl v7] S2) fun v9 S8 =>
    if v9 = 0 then
      za S8 15 84000 x1 fun v10 =>
      zV (zc R d 134 [.inl v10] S8) fun S11 =>
      za S11 47 4000 x2_4 fun v12 =>
      zlet v12 fun x3_13 =>
      za S11 48 4000 x2_4 fun v14 =>
      zV (zc R d 121 [.inl v14, .inl 1] S11) fun S15 =>
      za S15 48 4000 x2_4 fun v16 =>
      zs S15 14 84000 x1 v16 fun S17 =>
      zI (zc R d 17 [] S17) fun v19 S18 =>
      zs S18 13 84000 x1 v19 fun S20 =>
      za S20 12 84000 x1 fun v21 =>
      za S20 46 4000 x2_4 fun v22 =>
      za S20 13 84000 x1 fun v23 =>
      za S20 15 84000 x1 fun v24 =>
      zI (zc R d 12 [.inl v21, .inl 2, .inl v22, .inl x3_13, .inl v23, .inl v24] S20) fun v26 S25 =>
      zlet v26 fun x4_27 =>
      zV (zc R d 190 [.inl 3, .inl x4_27] S25) fun S28 =>
      zrV S28
    else
    za S8 15 84000 x1 fun v29 =>
    zthrow 7 v29 S8
  else
  za S2 14 84000 x1 fun v30 =>
  zthrow 7 v30 S2
def zb_judgedLocal (R : ZC ZS) (d : Nat) (x1 : Int) (S : ZS) : ZR ZS :=
  zlet (S.1 95) fun x2_1 =>
  zlet (S.1 102) fun x3_2 =>
  zlet (S.1 111) fun x4_3 =>
  zpZ S 111 0 fun S4 =>
  za S4 13 84000 x1 fun v5 =>
  zlet v5 fun x5_6 =>
  R d 485 [.inl x1, .inl x2_1, .inl x3_2, .inl x4_3, .inl x5_6] S4
def zb_finish (R : ZC ZS) (d : Nat)  (S : ZS) : ZR ZS :=
  zlet ((-1) : Int) fun x1_1 =>
  zlet (0 : Int) fun x2_2 =>
  R d 486 [.inl x1_1, .inl x2_2] S
def zb_hasUnknown (R : ZC ZS) (d : Nat) (x1 : Int) (S : ZS) : ZR ZS :=
  zG (inI ((S.1 68) + 2)) <|
  zp S 68 ((S.1 68) + 2) fun S1 =>
  zI (zc R d 8 [.inl x1] S1) fun v3 S2 =>
  zlet v3 fun x2_4 =>
  zs S2 40 57000 0 x2_4 fun S5 =>
  zs S5 27 57000 x2_4 (S5.1 68) fun S6 =>
  zlet (1 : Int) fun x3_7 =>
  R d 487 [.inl x3_7] S6
def zb_noteAll (R : ZC ZS) (d : Nat)  (S : ZS) : ZR ZS :=
  zp S 169 0 fun S1 =>
  zlet (0 : Int) fun x1_2 =>
  R d 488 [.inl x1_2] S1
def zb_isUseful (R : ZC ZS) (d : Nat) (x1 : Int) (x2 : Int) (x3 : Int) (x4 : Int) (S : ZS) : ZR ZS :=
  zlet (S.1 171) fun x5_1 =>
  zp S 174 x5_1 fun S2 =>
  zp S2 175 x2 fun S3 =>
  zp S3 176 x3 fun S4 =>
  zlet (0 : Int) fun x6_5 =>
  R d 489 [.inl x1, .inl x2, .inl x3, .inl x4, .inl x5_1, .inl x6_5] S4
def zb_usefulHere (R : ZC ZS) (d : Nat) (x1 : Int) (S : ZS) : ZR ZS :=
  if (S.1 176) ≤ 0 then
    if (S.1 175) = 0 then
      zrZ 1 S
    else
    zrZ 0 S
  else
  zI (zc R d 210 [] S) fun v2 S1 =>
  if v2 = 0 then
    zG (inI ((S1.1 174) + ((S1.1 175) * (S1.1 176)))) <|
    zlet ((S1.1 174) + ((S1.1 175) * (S1.1 176))) fun x2_3 =>
    za S1 89 240000 x2_3 fun v4 =>
    zI (zc R d 211 [.inl v4] S1) fun v6 S5 =>
    zlet v6 fun x3_7 =>
    zI (zc R d 213 [.inl x3_7] S5) fun v9 S8 =>
    zlet v9 fun x4_10 =>
    zlet x4_10 fun x5_11 =>
    zlet x3_7 fun x6_12 =>
    zlet (0 : Int) fun x7_13 =>
    R d 490 [.inl x1, .inl x3_7, .inl x4_10, .inl x5_11, .inl x6_12, .inl x7_13] S8
  else
  zrZ 0 S1
def zb_takesAll (R : ZC ZS) (d : Nat)  (S : ZS) : ZR ZS :=
  zlet (0 : Int) fun x1_1 =>
  R d 491 [.inl x1_1] S
def zb_normal (R : ZC ZS) (d : Nat) (x1 : Int) (S : ZS) : ZR ZS :=
  if x1 < 16777216 then
    zI (zc R d 212 [.inl x1] S) fun v2 S1 =>
    zrI v2 S1
  else
  zrI x1 S
def zb_bare0 (R : ZC ZS) (d : Nat) (x1 : Int) (S : ZS) : ZR ZS :=
  zlet x1 fun x2_1 =>
  R d 492 [.inl x2_1] S
def zb_headOf (R : ZC ZS) (d : Nat) (x1 : Int) (S : ZS) : ZR ZS :=
  if x1 = (-1) then
    zrI 0 S
  else
  if x1 < 33554432 then
    if x1 < 16777216 then
      za S 10 84000 x1 fun v1 =>
      zlet v1 fun x2_2 =>
      if x2_2 = 35 then
        zrI 1 S
      else
      if x2_2 = 41 then
        zrI 1 S
      else
      if x2_2 = 39 then
        zrI 2 S
      else
      if x2_2 = 31 then
        za S 13 84000 x1 fun v3 =>
        R d 493 [.inl v3] S
      else
      if x2_2 = 36 then
        zI (zc R d 181 [.inl x1] S) fun v5 S4 =>
        R d 493 [.inl v5] S4
      else
      if x2_2 = 40 then
        zI (zc R d 181 [.inl x1] S) fun v7 S6 =>
        R d 493 [.inl v7] S6
      else
      R d 493 [.inl 2] S
    else
    zrI 2 S
  else
  zrI 1 S
def zb_rowStep (R : ZC ZS) (d : Nat)  (S : ZS) : ZR ZS :=
  zp S 178 0 fun S1 =>
  zlet (0 : Int) fun x1_2 =>
  R d 494 [.inl x1_2] S1
def zb_labelsOf (R : ZC ZS) (d : Nat) (x1 : Int) (S : ZS) : ZR ZS :=
  if x1 = (-1) then
    zrV S
  else
  if x1 < 33554432 then
    za S 10 84000 x1 fun v1 =>
    if v1 = 41 then
      zlet (1 : Int) fun x2_2 =>
      za S 13 84000 x1 fun v3 =>
      zlet v3 fun x3_4 =>
      R d 495 [.inl x2_2, .inl x3_4] S
    else
    za S 13 84000 x1 fun v5 =>
    zlet v5 fun x2_6 =>
    R d 496 [.inl x2_6] S
  else
  zlet (1 : Int) fun x2_7 =>
  R d 497 [.inl x1, .inl x2_7] S
def zb_partAt (R : ZC ZS) (d : Nat) (x1 : Int) (x2 : Int) (S : ZS) : ZR ZS :=
  if x1 = (-1) then
    zrI (-1) S
  else
  if x1 < 67108864 then
    if x1 < 33554432 then
      za S 10 84000 x1 fun v1 =>
      if v1 = 41 then
        za S 13 84000 x1 fun v2 =>
        zlet v2 fun x3_3 =>
        zlet (1 : Int) fun x4_4 =>
        R d 498 [.inl x2, .inl x3_3, .inl x4_4] S
      else
      za S 13 84000 x1 fun v5 =>
      zlet v5 fun x3_6 =>
      R d 499 [.inl x2, .inl x3_6] S
    else
    zI (zc R d 16 [.inl 1] S) fun v8 S7 =>
    if x2 = v8 then
      za S7 13 84000 (x1 - 33554432) fun v9 =>
      zrI v9 S7
    else
    za S7 14 84000 (x1 - 33554432) fun v10 =>
    zrI v10 S7
  else
  za S 16 84000 (x1 - 67108864) fun v11 =>
  zlet v11 fun x3_12 =>
  zI (zc R d 16 [.inl 1] S) fun v14 S13 =>
  if x2 = v14 then
    zG (inI (x1 - 67108864)) <|
    zrI (x1 - 67108864) S13
  else
  if x3_12 = (-1) then
    zrI 16777216 S13
  else
  zG (inI (16777216 + x3_12)) <|
  zrI (16777216 + x3_12) S13
def zb_hasLabel (R : ZC ZS) (d : Nat) (x1 : Int) (S : ZS) : ZR ZS :=
  zlet (0 : Int) fun x2_1 =>
  R d 500 [.inl x1, .inl x2_1] S
def zb_hasPart (R : ZC ZS) (d : Nat) (x1 : Int) (S : ZS) : ZR ZS :=
  if x1 < 16777216 then
    za S 10 84000 x1 fun v1 =>
    if v1 = 36 then
      zrZ 1 S
    else
    za S 10 84000 x1 fun v2 =>
    if v2 = 40 then
      zrZ 1 S
    else
    za S 10 84000 x1 fun v3 =>
    if v3 = 39 then
      za S 13 84000 x1 fun v4 =>
      if v4 = (-1) then
        zrZ 0 S
      else
      zrZ 1 S
    else
    zrZ 0 S
  else
  if x1 ≤ 16777216 then
    zrZ 0 S
  else
  zrZ 1 S
def zb_narrowed (R : ZC ZS) (d : Nat) (x1 : Int) (x2 : Int) (S : ZS) : ZR ZS :=
  zlet (S.1 171) fun x3_1 =>
  zlet (0 : Int) fun x4_2 =>
  zG (inI (((S.1 176) - 1) + x2)) <|
  zlet (((S.1 176) - 1) + x2) fun x5_3 =>
  zlet (0 : Int) fun x6_4 =>
  R d 501 [.inl x1, .inl x2, .inl x3_1, .inl x4_2, .inl x5_3, .inl x6_4] S
def zb_agrees (R : ZC ZS) (d : Nat) (x1 : Int) (x2 : Int) (S : ZS) : ZR ZS :=
  if x2 < (-1) then
    zI (zc R d 221 [.inl x1] S) fun v2 S1 =>
    zG (inI ((-2) - x2)) <|
    if v2 = ((-2) - x2) then
      zrZ 1 S1
    else
    zrZ 0 S1
  else
  zI (zc R d 213 [.inl x2] S) fun v4 S3 =>
  if v4 = 2 then
    zI (zc R d 221 [.inl x1] S3) fun v6 S5 =>
    zI (zc R d 221 [.inl x2] S5) fun v8 S7 =>
    if v6 = v8 then
      zrZ 1 S7
    else
    zrZ 0 S7
  else
  zI (zc R d 222 [.inl x1, .inl x2] S3) fun v10 S9 =>
  zrZ v10 S9
def zb_makerOf (R : ZC ZS) (d : Nat) (x1 : Int) (S : ZS) : ZR ZS :=
  if x1 < 16777216 then
    za S 10 84000 x1 fun v1 =>
    if v1 = 39 then
      za S 13 84000 x1 fun v2 =>
      if v2 = (-1) then
        zrI (S.1 172) S
      else
      zrI (S.1 173) S
    else
    za S 10 84000 x1 fun v3 =>
    if v3 = 31 then
      za S 14 84000 x1 fun v4 =>
      zrI v4 S
    else
    zI (zc R d 182 [.inl x1] S) fun v6 S5 =>
    zrI v6 S5
  else
  if x1 = 16777216 then
    zrI (S.1 172) S
  else
  zrI (S.1 173) S
def zb_isSameConstant (R : ZC ZS) (d : Nat) (x1 : Int) (x2 : Int) (S : ZS) : ZR ZS :=
  za S 10 84000 x1 fun v1 =>
  zlet v1 fun x3_2 =>
  if x3_2 = 32 then
    R d 502 [.inl x1, .inl x2, .inl x3_2] S
  else
  if x3_2 = 34 then
    R d 502 [.inl x1, .inl x2, .inl x3_2] S
  else
  if x3_2 = 33 then
    za S 10 84000 x2 fun v3 =>
    if v3 = x3_2 then
      za S 13 84000 x1 fun v4 =>
      za S 13 84000 x2 fun v5 =>
      zI (zc R d 223 [.inl v4, .inl v5] S) fun v7 S6 =>
      if v7 = 0 then
        zrZ 1 S6
      else
      zrZ 0 S6
    else
    zrZ 0 S
  else
  za S 10 84000 x2 fun v8 =>
  if v8 = 32 then
    zrZ 0 S
  else
  za S 10 84000 x2 fun v9 =>
  if v9 = 34 then
    zrZ 0 S
  else
  za S 10 84000 x2 fun v10 =>
  if v10 = 33 then
    zrZ 0 S
  else
  zI (zc R d 226 [.inl x1] S) fun v12 S11 =>
  zI (zc R d 226 [.inl x2] S11) fun v14 S13 =>
  if v12 = v14 then
    zrZ 1 S13
  else
  zrZ 0 S13
def zb_order0 (R : ZC ZS) (d : Nat) (x1 : Int) (x2 : Int) (S : ZS) : ZR ZS :=
  zI (zc R d 224 [.inl x1] S) fun v2 S1 =>
  zI (zc R d 224 [.inl x2] S1) fun v4 S3 =>
  zI (zc R d 503 [.inl v2, .inl v4] S3) fun v6 S5 =>
  zlet v6 fun x3_7 =>
  zlet (0 : Int) fun x4_8 =>
  R d 504 [.inl x1, .inl x2, .inl x3_7, .inl x4_8] S5
def zb_sizeIn (R : ZC ZS) (d : Nat) (x1 : Int) (S : ZS) : ZR ZS :=
  za S 9 184000 x1 fun v1 =>
  zrI (zandI v1 255) S
def zb_byteIn (R : ZC ZS) (d : Nat) (x1 : Int) (x2 : Int) (S : ZS) : ZR ZS :=
  za S 9 184000 ((x1 + 1) + x2) fun v1 =>
  zrI (zandI v1 255) S
def zb_exceptionIn (R : ZC ZS) (d : Nat) (x1 : Int) (S : ZS) : ZR ZS :=
  za S 10 84000 x1 fun v1 =>
  if v1 = 31 then
    za S 14 84000 x1 fun v2 =>
    zrI v2 S
  else
  zI (zc R d 182 [.inl x1] S) fun v4 S3 =>
  zrI v4 S3
def zb_partOfPattern (R : ZC ZS) (d : Nat) (x1 : Int) (S : ZS) : ZR ZS :=
  if x1 < 16777216 then
    za S 10 84000 x1 fun v1 =>
    if v1 = 39 then
      za S 13 84000 x1 fun v2 =>
      zG (inI (67108864 + v2)) <|
      zrI (67108864 + v2) S
    else
    za S 10 84000 x1 fun v3 =>
    if v3 = 40 then
      zG (inI (33554432 + x1)) <|
      zrI (33554432 + x1) S
    else
    za S 13 84000 x1 fun v4 =>
    zrI v4 S
  else
  zG (inI ((67108864 + x1) - 16777216)) <|
  zrI ((67108864 + x1) - 16777216) S
def zb_areAllTold (R : ZC ZS) (d : Nat) (x1 : Int) (S : ZS) : ZR ZS :=
  za S 34 7500 x1 fun v1 =>
  zlet v1 fun x2_2 =>
  R d 505 [.inl x1, .inl x2_2] S
def zb_usefulByEach (R : ZC ZS) (d : Nat) (x1 : Int) (S : ZS) : ZR ZS :=
  zlet (S.1 174) fun x2_1 =>
  zlet (S.1 175) fun x3_2 =>
  zlet (S.1 176) fun x4_3 =>
  zlet (S.1 171) fun x5_4 =>
  zlet (0 : Int) fun x6_5 =>
  za S 34 7500 x1 fun v6 =>
  zlet v6 fun x7_7 =>
  R d 506 [.inl x1, .inl x2_1, .inl x3_2, .inl x4_3, .inl x5_4, .inl x6_5, .inl x7_7] S
def zb_slide (R : ZC ZS) (d : Nat) (x1 : Int) (S : ZS) : ZR ZS :=
  zG (inI (((S.1 175) + 1) * (S.1 176))) <|
  zlet (((S.1 175) + 1) * (S.1 176)) fun x2_1 =>
  zlet (0 : Int) fun x3_2 =>
  R d 507 [.inl x1, .inl x2_1, .inl x3_2] S
def zb_note0 (R : ZC ZS) (d : Nat) (x1 : Int) (x2 : Int) (S : ZS) : ZR ZS :=
  zlet (S.1 169) fun x3_1 =>
  R d 508 [.inl x1, .inl x2, .inl x3_1] S
def zb_giveBack (R : ZC ZS) (d : Nat)  (S : ZS) : ZR ZS :=
  za S 115 16 0 fun v1 =>
  zp S 95 v1 fun S2 =>
  za S2 115 16 1 fun v3 =>
  zp S2 102 v3 fun S4 =>
  za S4 115 16 2 fun v5 =>
  zp S4 47 v5 fun S6 =>
  za S6 115 16 3 fun v7 =>
  zp S6 94 v7 fun S8 =>
  za S8 115 16 4 fun v9 =>
  zp S8 101 v9 fun S10 =>
  zp S10 83 (S10.1 246) fun S11 =>
  za S11 115 16 14 fun v12 =>
  zp S11 46 v12 fun S13 =>
  if (S13.1 31) = 0 then
    zrV S13
  else
  za S13 115 16 5 fun v14 =>
  zp S13 40 v14 fun S15 =>
  za S15 115 16 6 fun v16 =>
  zp S15 148 v16 fun S17 =>
  za S17 115 16 7 fun v18 =>
  zp S17 150 v18 fun S19 =>
  za S19 115 16 8 fun v20 =>
  zp S19 110 v20 fun S21 =>
  za S21 115 16 9 fun v22 =>
  zp S21 117 v22 fun S23 =>
  za S23 115 16 10 fun v24 =>
  zp S23 106 v24 fun S25 =>
  za S25 115 16 11 fun v26 =>
  zp S25 74 v26 fun S27 =>
  za S27 115 16 12 fun v28 =>
  zp S27 108 v28 fun S29 =>
  za S29 115 16 13 fun v30 =>
  zp S29 30 v30 fun S31 =>
  zrV S31
def zb_runAll (R : ZC ZS) (d : Nat) (x1 : Int) (S : ZS) : ZR ZS :=
  zp S 205 0 fun S1 =>
  zp S1 184 0 fun S2 =>
  zV (zc R d 234 [.inl 15, .inl x1, .inr (.inl 0), .inl 0] S2) fun S3 =>
  zV (zc R d 235 [.inr (.inl 0)] S3) fun S4 =>
  R d 509 [] S4
def zb_push0 (R : ZC ZS) (d : Nat) (x1 : Int) (x2 : Int) (x3 : Int) (x5 : Int) (S : ZS) : ZR ZS :=
  if x5 = 0 then
    R d 510 [.inl x2, .inr (.inl x3), .inl 0, .inl x1, .inl (S.1 205)] S
  else
  R d 510 [.inl x2, .inr (.inl x3), .inl 32, .inl x1, .inl (S.1 205)] S
def zb_gives (R : ZC ZS) (d : Nat) (x1 : Int) (S : ZS) : ZR ZS :=
  zp S 206 (-1) fun S1 =>
  zpL S1 208 x1 fun S2 =>
  zrV S2
def zb_work (R : ZC ZS) (d : Nat) (x1 : Int) (x2 : Int) (S : ZS) : ZR ZS :=
  zlet x1 fun x3_1 =>
  R d 511 [.inl x2, .inl x3_1] S
def zb_value (R : ZC ZS) (d : Nat) (x0 : Int) (x2 : Int) (S : ZS) : ZR ZS :=
  zrL (zorL (zshlL x0 48) (zandL x2 4294967295)) S
def zb_named0 (R : ZC ZS) (d : Nat) (x1 : Int) (S : ZS) : ZR ZS :=
  zI (zc R d 182 [.inl x1] S) fun v2 S1 =>
  zlet v2 fun x2_3 =>
  zI (zc R d 181 [.inl x1] S1) fun v5 S4 =>
  if v5 = 1 then
    zI (zc R d 200 [.inl x2_3] S4) fun v7 S6 =>
    if v7 = 0 then
      zJ (zc R d 237 [.inr (.inl 3), .inr (.inl x2_3)] S6) fun v9 S8 =>
      zrL v9 S8
    else
    zJ (zc R d 237 [.inr (.inl 13), .inr (.inl x2_3)] S6) fun v11 S10 =>
    zrL v11 S10
  else
  if v5 = 2 then
    za S4 15 84000 x1 fun v13 =>
    zJ (zc R d 239 [.inl v13] S4) fun v15 S14 =>
    zlet v15 fun x3_16 =>
    za S14 59 8000 x2_3 fun v17 =>
    if (zandI v17 1) = 0 then
      zrL x3_16 S14
    else
    zrL (zorL (zandL x3_16 281474976710655) 3096224743817216) S14
  else
  if v5 = 3 then
    zJ (zc R d 237 [.inr (.inl 9), .inr (.inl x2_3)] S4) fun v20 S19 =>
    zrL v20 S19
  else
  za S4 15 84000 x1 fun v22 =>
  zJ (zc R d 239 [.inl v22] S4) fun v24 S23 =>
  zrL v24 S23
def zb_load (R : ZC ZS) (d : Nat) (x1 : Int) (S : ZS) : ZR ZS :=
  zI (zc R d 122 [.inl x1] S) fun v2 S1 =>
  if v2 = 0 then
    zI (zc R d 123 [.inl x1] S1) fun v4 S3 =>
    if v4 = (S3.1 195) then
      zI (zc R d 18 [.inl x1] S3) fun v6 S5 =>
      zaL S5 93 402000 ((S3.1 194) + v6) fun v7 =>
      zrL v7 S5
    else
    zI (zc R d 240 [.inr (.inl (S3.2.1 196))] S3) fun v9 S8 =>
    zI (zc R d 241 [.inl (S8.1 195), .inl x1] S8) fun v11 S10 =>
    zaL S10 91 121000 ((v9 + 1) + v11) fun v12 =>
    zrL v12 S10
  else
  zI (zc R d 18 [.inl x1] S1) fun v14 S13 =>
  zaL S13 92 22000 v14 fun v15 =>
  zrL v15 S13
def zb_numberOf (R : ZC ZS) (d : Nat) (x0 : Int) (S : ZS) : ZR ZS :=
  zrI (zl2i x0) S
def zb_placeIn (R : ZC ZS) (d : Nat) (x1 : Int) (x2 : Int) (S : ZS) : ZR ZS :=
  zlet (0 : Int) fun x3_1 =>
  R d 512 [.inl x1, .inl x2, .inl x3_1] S
def zb_closure (R : ZC ZS) (d : Nat) (x1 : Int) (S : ZS) : ZR ZS :=
  za S 72 9000 x1 fun v1 =>
  zlet v1 fun x2_2 =>
  zG (inI (1 + x2_2)) <|
  zI (zc R d 243 [.inl (1 + x2_2)] S) fun v4 S3 =>
  if v4 = 0 then
    zrL 0 S3
  else
  zI (zc R d 244 [.inl (1 + x2_2)] S3) fun v6 S5 =>
  zlet v6 fun x3_7 =>
  zsL S5 91 121000 x3_7 x1 fun S8 =>
  zlet (0 : Int) fun x4_9 =>
  R d 513 [.inl x1, .inl x2_2, .inl x3_7, .inl x4_9] S8
def zb_cells (R : ZC ZS) (d : Nat) (x1 : Int) (S : ZS) : ZR ZS :=
  zG (inI ((S.1 182) + x1)) <|
  if ((S.1 182) + x1) ≤ 120000 then
    zp S 182 ((S.1 182) + x1) fun S1 =>
    zrZ 1 S1
  else
  zp S 184 5 fun S2 =>
  zrZ 0 S2
def zb_place (R : ZC ZS) (d : Nat) (x1 : Int) (S : ZS) : ZR ZS :=
  zlet (S.1 181) fun x2_1 =>
  zG (inI ((S.1 181) + x1)) <|
  zp S 181 ((S.1 181) + x1) fun S2 =>
  zrI x2_1 S2
def zb_waitFor (R : ZC ZS) (d : Nat) (x1 : Int) (x2 : Int) (x3 : Int) (x4 : Int) (S : ZS) : ZR ZS :=
  zV (zc R d 234 [.inl x1, .inl x2, .inr (.inl 0), .inl x3] S) fun S1 =>
  zV (zc R d 246 [.inl x4, .inl 0] S1) fun S2 =>
  zrV S2
def zb_goTo (R : ZC ZS) (d : Nat) (x1 : Int) (x2 : Int) (S : ZS) : ZR ZS :=
  zp S 206 x1 fun S1 =>
  zpZ S1 207 x2 fun S2 =>
  zrV S2
def zb_applications0 (R : ZC ZS) (d : Nat) (x1 : Int) (x2 : Int) (S : ZS) : ZR ZS :=
  zlet x1 fun x3_1 =>
  R d 514 [.inl x2, .inl x3_1] S
def zb_test (R : ZC ZS) (d : Nat) (x1 : Int) (S : ZS) : ZR ZS :=
  zI (zc R d 249 [] S) fun v2 S1 =>
  if v2 = 0 then
    zrV S1
  else
  za S1 13 84000 x1 fun v3 =>
  zV (zc R d 245 [.inl 10, .inl x1, .inl 0, .inl v3] S1) fun S4 =>
  zrV S4
def zb_step1 (R : ZC ZS) (d : Nat)  (S : ZS) : ZR ZS :=
  if (S.1 186) = (S.1 187) then
    zp S 184 3 fun S1 =>
    zrZ 0 S1
  else
  zG (inI ((S.1 186) + 1)) <|
  zp S 186 ((S.1 186) + 1) fun S2 =>
  zrZ 1 S2
def zb_sequence (R : ZC ZS) (d : Nat) (x1 : Int) (x2 : Int) (S : ZS) : ZR ZS :=
  za S 16 84000 x1 fun v1 =>
  if v1 = (-1) then
    R d 515 [.inl x1, .inl x2] S
  else
  za S 16 84000 x1 fun v2 =>
  zV (zc R d 234 [.inl 2, .inl v2, .inr (.inl 0), .inl x2] S) fun S3 =>
  R d 515 [.inl x1, .inl x2] S3
def zb_workOther (R : ZC ZS) (d : Nat) (x1 : Int) (x2 : Int) (S : ZS) : ZR ZS :=
  za S 13 84000 x1 fun v1 =>
  zlet v1 fun x3_2 =>
  za S 10 84000 x1 fun v3 =>
  if v3 = 5 then
    if x3_2 = (-1) then
      zJ (zc R d 237 [.inr (.inl 5), .inr (.inl 0)] S) fun v5 S4 =>
      zV (zc R d 235 [.inr (.inl v5)] S4) fun S6 =>
      zrV S6
    else
    zV (zc R d 234 [.inl 3, .inl x1, .inr (.inl x3_2), .inl 0] S) fun S7 =>
    za S7 13 84000 x3_2 fun v8 =>
    zV (zc R d 246 [.inl v8, .inl 0] S7) fun S9 =>
    zrV S9
  else
  if v3 = 19 then
    if x3_2 = (-1) then
      zJ (zc R d 237 [.inr (.inl 3), .inr (.inl (S.1 172))] S) fun v12 S11 =>
      zV (zc R d 235 [.inr (.inl v12)] S11) fun S13 =>
      zrV S13
    else
    zV (zc R d 234 [.inl 4, .inl x1, .inr (.inl x3_2), .inl 0] S) fun S14 =>
    zV (zc R d 246 [.inl x3_2, .inl 0] S14) fun S15 =>
    zrV S15
  else
  if v3 = 20 then
    zV (zc R d 234 [.inl 18, .inl x1, .inr (.inl x3_2), .inl 0] S) fun S17 =>
    zV (zc R d 246 [.inl x3_2, .inl 0] S17) fun S18 =>
    zrV S18
  else
  za S 14 84000 x1 fun v20 =>
  zV (zc R d 234 [.inl 14, .inl v20, .inr (.inl 0), .inl x2] S) fun S21 =>
  zV (zc R d 234 [.inl 15, .inl x3_2, .inr (.inl 0), .inl 0] S21) fun S22 =>
  zV (zc R d 235 [.inr (.inl 0)] S22) fun S23 =>
  zrV S23
def zb_goesOn_2 (R : ZC ZS) (d : Nat)  (S : ZS) : ZR ZS :=
  zG (inI ((S.1 205) - 1)) <|
  zp S 205 ((S.1 205) - 1) fun S1 =>
  za S1 98 215000 (S1.1 205) fun v2 =>
  zlet (zandI v2 31) fun x1_3 =>
  za S1 98 215000 (S1.1 205) fun v4 =>
  zG (inI ((zshrI v4 6) - 1)) <|
  zlet ((zshrI v4 6) - 1) fun x2_5 =>
  za S1 98 215000 (S1.1 205) fun v6 =>
  if (zandI v6 32) = 0 then
    R d 516 [.inl x1_3, .inl x2_5, .inl 0] S1
  else
  R d 516 [.inl x1_3, .inl x2_5, .inl 1] S1
def zb_raises (R : ZC ZS) (d : Nat) (x1 : Int) (S : ZS) : ZR ZS :=
  zp S 184 2 fun S1 =>
  zpL S1 185 x1 fun S2 =>
  zrV S2
def zb_isTrue (R : ZC ZS) (d : Nat) (x1 : Int) (S : ZS) : ZR ZS :=
  zI (zc R d 240 [.inr (.inl x1)] S) fun v2 S1 =>
  if v2 = (S1.1 192) then
    zrZ 1 S1
  else
  zrZ 0 S1
def zb_choose (R : ZC ZS) (d : Nat) (x1 : Int) (x2 : Int) (x4 : Int) (x5 : Int) (S : ZS) : ZR ZS :=
  zlet x1 fun x6_1 =>
  R d 517 [.inr (.inl x2), .inl x4, .inl x5, .inl x6_1] S
def zb_matches (R : ZC ZS) (d : Nat) (x1 : Int) (x2 : Int) (S : ZS) : ZR ZS :=
  za S 10 84000 x1 fun v1 =>
  if v1 = 30 then
    zrZ 1 S
  else
  if v1 = 31 then
    za S 13 84000 x1 fun v3 =>
    if v3 = 0 then
      za S 14 84000 x1 fun v4 =>
      zV (zc R d 257 [.inl v4, .inr (.inl x2)] S) fun S5 =>
      zrZ 1 S5
    else
    za S 13 84000 x1 fun v6 =>
    if v6 = 1 then
      zJ (zc R d 258 [.inr (.inl x2)] S) fun v8 S7 =>
      if v8 = 3 then
        zI (zc R d 240 [.inr (.inl x2)] S7) fun v10 S9 =>
        za S9 14 84000 x1 fun v11 =>
        if v10 = v11 then
          zrZ 1 S9
        else
        zrZ 0 S9
      else
      zrZ 0 S7
    else
    zJ (zc R d 258 [.inr (.inl x2)] S) fun v13 S12 =>
    if v13 = 10 then
      za S12 15 84000 x1 fun v14 =>
      zJ (zc R d 239 [.inl v14] S12) fun v16 S15 =>
      if x2 = v16 then
        zrZ 1 S15
      else
      zrZ 0 S15
    else
    zrZ 0 S12
  else
  if v1 = 32 then
    zI (zc R d 240 [.inr (.inl x2)] S) fun v19 S18 =>
    za S18 12 84000 x1 fun v20 =>
    if v19 = v20 then
      zrZ 1 S18
    else
    zrZ 0 S18
  else
  if v1 = 33 then
    zI (zc R d 240 [.inr (.inl x2)] S) fun v23 S22 =>
    za S22 13 84000 x1 fun v24 =>
    zI (zc R d 223 [.inl v23, .inl v24] S22) fun v26 S25 =>
    if v26 = 0 then
      zrZ 1 S25
    else
    zrZ 0 S25
  else
  if v1 = 34 then
    zI (zc R d 240 [.inr (.inl x2)] S) fun v29 S28 =>
    za S28 12 84000 x1 fun v30 =>
    if v29 = v30 then
      zrZ 1 S28
    else
    zrZ 0 S28
  else
  if v1 = 35 then
    zI (zc R d 259 [.inl x1, .inr (.inl x2)] S) fun v33 S32 =>
    zrZ v33 S32
  else
  if v1 = 36 then
    zI (zc R d 266 [.inl x1, .inr (.inl x2)] S) fun v36 S35 =>
    if v36 = 0 then
      zrZ 0 S35
    else
    za S35 13 84000 x1 fun v37 =>
    zI (zc R d 240 [.inr (.inl x2)] S35) fun v39 S38 =>
    zaL S38 91 121000 (v39 + 1) fun v40 =>
    zI (zc R d 256 [.inl v37, .inr (.inl v40)] S38) fun v42 S41 =>
    if v42 = 0 then
      zrZ 0 S41
    else
    zrZ 1 S41
  else
  if v1 = 37 then
    za S 14 84000 x1 fun v44 =>
    zV (zc R d 257 [.inl v44, .inr (.inl x2)] S) fun S45 =>
    za S45 13 84000 x1 fun v46 =>
    zI (zc R d 256 [.inl v46, .inr (.inl x2)] S45) fun v48 S47 =>
    zrZ v48 S47
  else
  if v1 = 38 then
    za S 13 84000 x1 fun v50 =>
    zI (zc R d 256 [.inl v50, .inr (.inl x2)] S) fun v52 S51 =>
    zrZ v52 S51
  else
  if v1 = 39 then
    zI (zc R d 265 [.inl x1, .inr (.inl x2)] S) fun v55 S54 =>
    zrZ v55 S54
  else
  if v1 = 40 then
    zI (zc R d 266 [.inl x1, .inr (.inl x2)] S) fun v58 S57 =>
    if v58 = 0 then
      zrZ 0 S57
    else
    za S57 13 84000 x1 fun v59 =>
    zI (zc R d 240 [.inr (.inl x2)] S57) fun v61 S60 =>
    zaL S60 91 121000 (v61 + 1) fun v62 =>
    zJ (zc R d 263 [.inr (.inl v62), .inl 0] S60) fun v64 S63 =>
    zI (zc R d 256 [.inl v59, .inr (.inl v64)] S63) fun v66 S65 =>
    if v66 = 0 then
      zrZ 0 S65
    else
    za S65 14 84000 x1 fun v67 =>
    zI (zc R d 240 [.inr (.inl x2)] S65) fun v69 S68 =>
    zaL S68 91 121000 (v69 + 1) fun v70 =>
    zJ (zc R d 263 [.inr (.inl v70), .inl 1] S68) fun v72 S71 =>
    zI (zc R d 256 [.inl v67, .inr (.inl v72)] S71) fun v74 S73 =>
    if v74 = 0 then
      zrZ 0 S73
    else
    zrZ 1 S73
  else
  if v1 = 41 then
    zI (zc R d 264 [.inl x1, .inr (.inl x2)] S) fun v77 S76 =>
    zrZ v77 S76
  else
  zI (zc R d 266 [.inl x1, .inr (.inl x2)] S) fun v80 S79 =>
  if v80 = 0 then
    zrZ 0 S79
  else
  za S79 13 84000 x1 fun v81 =>
  zI (zc R d 240 [.inr (.inl x2)] S79) fun v83 S82 =>
  zaL S82 91 121000 (v83 + 1) fun v84 =>
  zI (zc R d 256 [.inl v81, .inr (.inl v84)] S82) fun v86 S85 =>
  if v86 = 0 then
    zrZ 0 S85
  else
  zrZ 1 S85
def zb_store (R : ZC ZS) (d : Nat) (x1 : Int) (x2 : Int) (S : ZS) : ZR ZS :=
  zI (zc R d 122 [.inl x1] S) fun v2 S1 =>
  if v2 = 0 then
    zI (zc R d 18 [.inl x1] S1) fun v4 S3 =>
    zsL S3 93 402000 ((S1.1 194) + v4) x2 fun S5 =>
    zrV S5
  else
  zI (zc R d 18 [.inl x1] S1) fun v7 S6 =>
  zsL S6 92 22000 v7 x2 fun S8 =>
  zrV S8
def zb_kindOf (R : ZC ZS) (d : Nat) (x0 : Int) (S : ZS) : ZR ZS :=
  zrL (zushrL x0 48) S
def zb_matchesRow (R : ZC ZS) (d : Nat) (x1 : Int) (x2 : Int) (S : ZS) : ZR ZS :=
  zlet (1 : Int) fun x4_1 =>
  za S 13 84000 x1 fun v2 =>
  zlet v2 fun x5_3 =>
  R d 518 [.inr (.inl x2), .inl x4_1, .inl x5_3] S
def zb_part (R : ZC ZS) (d : Nat) (x1 : Int) (x3 : Int) (S : ZS) : ZR ZS :=
  zI (zc R d 261 [.inr (.inl x1)] S) fun v2 S1 =>
  zlet v2 fun x4_3 =>
  zlet (0 : Int) fun x5_4 =>
  R d 519 [.inr (.inl x1), .inl x3, .inl x4_3, .inl x5_4] S1
def zb_manyOf (R : ZC ZS) (d : Nat) (x1 : Int) (S : ZS) : ZR ZS :=
  zI (zc R d 240 [.inr (.inl x1)] S) fun v2 S1 =>
  if v2 = 0 then
    zrI 0 S1
  else
  zI (zc R d 240 [.inr (.inl x1)] S1) fun v4 S3 =>
  zaL S3 91 121000 v4 fun v5 =>
  za S3 95 9000 (zl2i v5) fun v6 =>
  zrI v6 S3
def zb_labelOf (R : ZC ZS) (d : Nat) (x1 : Int) (x3 : Int) (S : ZS) : ZR ZS :=
  zI (zc R d 240 [.inr (.inl x1)] S) fun v2 S1 =>
  zaL S1 91 121000 v2 fun v3 =>
  za S1 94 9000 (zl2i v3) fun v4 =>
  za S1 96 24000 (v4 + x3) fun v5 =>
  zrI v5 S1
def zb_partOf_2 (R : ZC ZS) (d : Nat) (x1 : Int) (x3 : Int) (S : ZS) : ZR ZS :=
  zI (zc R d 240 [.inr (.inl x1)] S) fun v2 S1 =>
  zaL S1 91 121000 ((v2 + 1) + x3) fun v3 =>
  zrL v3 S1
def zb_matchesTuple (R : ZC ZS) (d : Nat) (x1 : Int) (x2 : Int) (S : ZS) : ZR ZS :=
  zlet (1 : Int) fun x4_1 =>
  zlet (0 : Int) fun x5_2 =>
  za S 13 84000 x1 fun v3 =>
  zlet v3 fun x6_4 =>
  R d 520 [.inr (.inl x2), .inl x4_1, .inl x5_2, .inl x6_4] S
def zb_matchesList (R : ZC ZS) (d : Nat) (x1 : Int) (x2 : Int) (S : ZS) : ZR ZS :=
  zlet x2 fun x4_1 =>
  za S 13 84000 x1 fun v2 =>
  zlet v2 fun x6_3 =>
  R d 521 [.inr (.inl x4_1), .inl x6_3] S
def zb_isMadeBy (R : ZC ZS) (d : Nat) (x1 : Int) (x2 : Int) (S : ZS) : ZR ZS :=
  zI (zc R d 181 [.inl x1] S) fun v2 S1 =>
  if v2 = 2 then
    zJ (zc R d 258 [.inr (.inl x2)] S1) fun v4 S3 =>
    if v4 = 14 then
      zI (zc R d 240 [.inr (.inl x2)] S3) fun v6 S5 =>
      zaL S5 91 121000 v6 fun v7 =>
      za S5 15 84000 x1 fun v8 =>
      zJ (zc R d 239 [.inl v8] S5) fun v10 S9 =>
      if (zandL v7 281474976710655) = (zandL v10 281474976710655) then
        zrZ 1 S9
      else
      zrZ 0 S9
    else
    zrZ 0 S3
  else
  zJ (zc R d 258 [.inr (.inl x2)] S1) fun v12 S11 =>
  zI (zc R d 182 [.inl x1] S11) fun v14 S13 =>
  if v14 = (S13.1 161) then
    R d 522 [.inl x1, .inr (.inl x2), .inr (.inl 6), .inr (.inl v12)] S13
  else
  R d 522 [.inl x1, .inr (.inl x2), .inr (.inl 4), .inr (.inl v12)] S13
def zb_back (R : ZC ZS) (d : Nat)  (S : ZS) : ZR ZS :=
  zG (inI ((S.1 188) - 1)) <|
  zp S 188 ((S.1 188) - 1) fun S1 =>
  za S1 100 401 (S1.1 188) fun v2 =>
  zp S1 194 v2 fun S3 =>
  za S3 101 401 (S3.1 188) fun v4 =>
  zp S3 195 v4 fun S5 =>
  za S5 102 401 (S5.1 188) fun v6 =>
  zp S5 191 v6 fun S7 =>
  zaL S7 103 401 (S7.1 188) fun v8 =>
  zpL S7 196 v8 fun S9 =>
  zrV S9
def zb_goesOnMore (R : ZC ZS) (d : Nat) (x1 : Int) (x2 : Int) (x3 : Int) (x4 : Int) (S : ZS) : ZR ZS :=
  zaL S 99 215000 (S.1 205) fun v1 =>
  zlet v1 fun x6_2 =>
  if x1 = 6 then
    za S 15 84000 x2 fun v3 =>
    if v3 = (-1) then
      R d 523 [.inl x2, .inl x3, .inr (.inl x4), .inr (.inl x6_2)] S
    else
    za S 15 84000 x2 fun v4 =>
    zV (zc R d 234 [.inl 5, .inl v4, .inr (.inl 0), .inl x3] S) fun S5 =>
    R d 523 [.inl x2, .inl x3, .inr (.inl x4), .inr (.inl x6_2)] S5
  else
  if x1 = 8 then
    zV (zc R d 295 [.inl x2, .inr (.inl x6_2), .inr (.inl x4), .inl x3] S) fun S7 =>
    zrV S7
  else
  if x1 = 15 then
    zV (zc R d 296 [.inl x2] S) fun S9 =>
    zrV S9
  else
  if x1 = 16 then
    zV (zc R d 301 [.inl x2, .inr (.inl x4)] S) fun S11 =>
    zrV S11
  else
  zV (zc R d 302 [.inl x1, .inl x2, .inl (zl2i x6_2), .inr (.inl x4)] S) fun S13 =>
  zrV S13
def zb_apply (R : ZC ZS) (d : Nat) (x1 : Int) (x3 : Int) (x5 : Int) (S : ZS) : ZR ZS :=
  zJ (zc R d 258 [.inr (.inl x1)] S) fun v2 S1 =>
  if (zl2i v2) = 9 then
    zI (zc R d 240 [.inr (.inl x1)] S1) fun v4 S3 =>
    zJ (zc R d 272 [.inl v4, .inr (.inl x3)] S3) fun v6 S5 =>
    zV (zc R d 235 [.inr (.inl v6)] S5) fun S7 =>
    zrV S7
  else
  if (zl2i v2) = 10 then
    zI (zc R d 249 [] S1) fun v10 S9 =>
    if v10 = 0 then
      zrV S9
    else
    zJ (zc R d 291 [.inr (.inl x1)] S9) fun v12 S11 =>
    zI (zc R d 240 [.inr (.inl v12)] S11) fun v14 S13 =>
    zaL S13 91 121000 v14 fun v15 =>
    zlet (zl2i v15) fun x6_16 =>
    zJ (zc R d 258 [.inr (.inl x1)] S13) fun v18 S17 =>
    if v18 = 8 then
      zI (zc R d 240 [.inr (.inl x1)] S17) fun v20 S19 =>
      zaL S19 91 121000 (v20 + 1) fun v21 =>
      R d 524 [.inr (.inl x1), .inr (.inl x3), .inl x5, .inl x6_16, .inl (zl2i v21)] S19
    else
    R d 524 [.inr (.inl x1), .inr (.inl x3), .inl x5, .inl x6_16, .inl 0] S17
  else
  if (zl2i v2) = 11 then
    zJ (zc R d 271 [.inr (.inl x1), .inr (.inl x3)] S1) fun v24 S23 =>
    zV (zc R d 235 [.inr (.inl v24)] S23) fun S25 =>
    zrV S25
  else
  if (zl2i v2) = 12 then
    zI (zc R d 240 [.inr (.inl x1)] S1) fun v28 S27 =>
    zJ (zc R d 260 [.inr (.inl x3), .inl v28] S27) fun v30 S29 =>
    zV (zc R d 235 [.inr (.inl v30)] S29) fun S31 =>
    zrV S31
  else
  if (zl2i v2) = 13 then
    zI (zc R d 240 [.inr (.inl x1)] S1) fun v34 S33 =>
    zJ (zc R d 270 [.inl v34, .inr (.inl x3)] S33) fun v36 S35 =>
    zV (zc R d 235 [.inr (.inl v36)] S35) fun S37 =>
    zrV S37
  else
  zI (zc R d 249 [] S1) fun v40 S39 =>
  if v40 = 0 then
    zrV S39
  else
  zJ (zc R d 291 [.inr (.inl x1)] S39) fun v42 S41 =>
  zI (zc R d 240 [.inr (.inl v42)] S41) fun v44 S43 =>
  zaL S43 91 121000 v44 fun v45 =>
  zlet (zl2i v45) fun x6_46 =>
  zJ (zc R d 258 [.inr (.inl x1)] S43) fun v48 S47 =>
  if v48 = 8 then
    zI (zc R d 240 [.inr (.inl x1)] S47) fun v50 S49 =>
    zaL S49 91 121000 (v50 + 1) fun v51 =>
    R d 524 [.inr (.inl x1), .inr (.inl x3), .inl x5, .inl x6_46, .inl (zl2i v51)] S49
  else
  R d 524 [.inr (.inl x1), .inr (.inl x3), .inl x5, .inl x6_46, .inl 0] S47
def zb_makes (R : ZC ZS) (d : Nat) (x1 : Int) (x2 : Int) (S : ZS) : ZR ZS :=
  zI (zc R d 243 [.inl 2] S) fun v2 S1 =>
  if v2 = 0 then
    zrL 0 S1
  else
  zI (zc R d 244 [.inl 2] S1) fun v4 S3 =>
  zlet v4 fun x4_5 =>
  zsL S3 91 121000 x4_5 x1 fun S6 =>
  zsL S6 91 121000 (x4_5 + 1) x2 fun S7 =>
  if x1 = (S7.1 161) then
    zJ (zc R d 237 [.inr (.inl 6), .inr (.inl x4_5)] S7) fun v9 S8 =>
    zrL v9 S8
  else
  zJ (zc R d 237 [.inr (.inl 4), .inr (.inl x4_5)] S7) fun v11 S10 =>
  zrL v11 S10
def zb_thrownWith (R : ZC ZS) (d : Nat) (x1 : Int) (x3 : Int) (S : ZS) : ZR ZS :=
  zI (zc R d 243 [.inl 2] S) fun v2 S1 =>
  if v2 = 0 then
    zrL 0 S1
  else
  zI (zc R d 244 [.inl 2] S1) fun v4 S3 =>
  zlet v4 fun x5_5 =>
  zsL S3 91 121000 x5_5 x1 fun S6 =>
  zsL S6 91 121000 (x5_5 + 1) x3 fun S7 =>
  zJ (zc R d 237 [.inr (.inl 14), .inr (.inl x5_5)] S7) fun v9 S8 =>
  zrL v9 S8
def zb_firstOf (R : ZC ZS) (d : Nat) (x1 : Int) (x2 : Int) (S : ZS) : ZR ZS :=
  zI (zc R d 273 [.inl x1] S) fun v2 S1 =>
  if v2 = 0 then
    zI (zc R d 240 [.inr (.inl x2)] S1) fun v4 S3 =>
    zlet v4 fun x4_5 =>
    zI (zc R d 240 [.inr (.inl x2)] S3) fun v7 S6 =>
    zlet v7 fun x6_8 =>
    if x1 = 11 then
      zG (inL (-x4_5)) <|
      zJ (zc R d 279 [.inr (.inl (-x4_5))] S6) fun v10 S9 =>
      zrL v10 S9
    else
    if x1 = 12 then
      if x4_5 < 0 then
        zG (inL (-x4_5)) <|
        zJ (zc R d 279 [.inr (.inl (-x4_5))] S6) fun v13 S12 =>
        zrL v13 S12
      else
      zJ (zc R d 279 [.inr (.inl x4_5)] S6) fun v15 S14 =>
      zrL v15 S14
    else
    if x1 = 13 then
      zI (zc R d 254 [.inr (.inl x2)] S6) fun v18 S17 =>
      if v18 = 0 then
        zJ (zc R d 278 [.inl 1] S17) fun v20 S19 =>
        zrL v20 S19
      else
      zJ (zc R d 278 [.inl 0] S17) fun v22 S21 =>
      zrL v22 S21
    else
    if x1 = 14 then
      zI (zc R d 249 [] S6) fun v25 S24 =>
      if v25 = 0 then
        zrL 0 S24
      else
      zlet (0 : Int) fun x9_26 =>
      R d 525 [.inl x6_8, .inl x9_26] S24
    else
    if x1 = 15 then
      zI (zc R d 224 [.inl x6_8] S6) fun v29 S28 =>
      zJ (zc R d 237 [.inr (.inl 0), .inr (.inl v29)] S28) fun v31 S30 =>
      zrL v31 S30
    else
    if x1 = 16 then
      zJ (zc R d 237 [.inr (.inl 0), .inr (.inl x4_5)] S6) fun v34 S33 =>
      zrL v34 S33
    else
    if x1 = 17 then
      if x4_5 < 0 then
        zV (zc R d 253 [.inr (.inl (S6.2.1 213))] S6) fun S36 =>
        zrL 0 S36
      else
      if x4_5 < 256 then
        zJ (zc R d 237 [.inr (.inl 1), .inr (.inl x4_5)] S6) fun v38 S37 =>
        zrL v38 S37
      else
      zV (zc R d 253 [.inr (.inl (S6.2.1 213))] S6) fun S39 =>
      zrL 0 S39
    else
    if x1 = 18 then
      zI (zc R d 243 [.inl 2] S6) fun v42 S41 =>
      if v42 = 0 then
        zrL 0 S41
      else
      zJ (zc R d 281 [.inl 1] S41) fun v44 S43 =>
      zlet v44 fun x7_45 =>
      zV (zc R d 38 [.inl x6_8] S43) fun S46 =>
      zrL x7_45 S46
    else
    if x1 = 19 then
      zI (zc R d 16 [.inl 1] S6) fun v49 S48 =>
      zJ (zc R d 260 [.inr (.inl x2), .inl v49] S48) fun v51 S50 =>
      zI (zc R d 240 [.inr (.inl v51)] S50) fun v53 S52 =>
      zI (zc R d 16 [.inl 2] S52) fun v55 S54 =>
      zJ (zc R d 260 [.inr (.inl x2), .inl v55] S54) fun v57 S56 =>
      zI (zc R d 240 [.inr (.inl v57)] S56) fun v59 S58 =>
      zI (zc R d 16 [.inl 3] S58) fun v61 S60 =>
      zJ (zc R d 260 [.inr (.inl x2), .inl v61] S60) fun v63 S62 =>
      zI (zc R d 240 [.inr (.inl v63)] S62) fun v65 S64 =>
      zJ (zc R d 282 [.inl v53, .inl v59, .inl v65] S64) fun v67 S66 =>
      zrL v67 S66
    else
    if x1 = 20 then
      zJ (zc R d 283 [.inl x6_8] S6) fun v70 S69 =>
      zrL v70 S69
    else
    if x1 = 21 then
      zJ (zc R d 286 [.inr (.inl x2)] S6) fun v73 S72 =>
      zrL v73 S72
    else
    if x1 = 22 then
      zJ (zc R d 289 [.inr (.inl x4_5)] S6) fun v76 S75 =>
      zrL v76 S75
    else
    if x1 = 23 then
      zaL S6 91 121000 (x6_8 + 1) fun v78 =>
      zrL v78 S6
    else
    zI (zc R d 249 [] S6) fun v81 S80 =>
    if v81 = 0 then
      zrL 0 S80
    else
    zlet (0 : Int) fun x9_82 =>
    R d 525 [.inl x6_8, .inl x9_82] S80
  else
  zI (zc R d 16 [.inl 1] S1) fun v84 S83 =>
  zJ (zc R d 260 [.inr (.inl x2), .inl v84] S83) fun v86 S85 =>
  zI (zc R d 16 [.inl 2] S85) fun v88 S87 =>
  zJ (zc R d 260 [.inr (.inl x2), .inl v88] S87) fun v90 S89 =>
  zJ (zc R d 274 [.inl x1, .inr (.inl v86), .inr (.inl v90)] S89) fun v92 S91 =>
  zrL v92 S91
def zb_isOfTwo (R : ZC ZS) (d : Nat) (x1 : Int) (S : ZS) : ZR ZS :=
  if x1 < 11 then
    zrZ 1 S
  else
  if x1 = 14 then
    zrZ 1 S
  else
  if x1 = 24 then
    zrZ 1 S
  else
  zrZ 0 S
def zb_first (R : ZC ZS) (d : Nat) (x1 : Int) (x2 : Int) (x4 : Int) (S : ZS) : ZR ZS :=
  zI (zc R d 240 [.inr (.inl x2)] S) fun v2 S1 =>
  zlet v2 fun x6_3 =>
  zI (zc R d 240 [.inr (.inl x4)] S1) fun v5 S4 =>
  zlet v5 fun x8_6 =>
  if x1 = 0 then
    zI (zc R d 275 [.inr (.inl x2), .inr (.inl x4)] S4) fun v8 S7 =>
    zlet v8 fun x10_9 =>
    if x1 = 0 then
      R d 526 [.inl 1, .inl x10_9] S7
    else
    R d 526 [.inl 0, .inl x10_9] S7
  else
  if x1 = 1 then
    zI (zc R d 275 [.inr (.inl x2), .inr (.inl x4)] S4) fun v12 S11 =>
    zlet v12 fun x10_13 =>
    if x1 = 0 then
      R d 526 [.inl 1, .inl x10_13] S11
    else
    R d 526 [.inl 0, .inl x10_13] S11
  else
  if x1 = 2 then
    zI (zc R d 277 [.inr (.inl x2), .inr (.inl x4)] S4) fun v16 S15 =>
    if v16 < 0 then
      zJ (zc R d 278 [.inl 1] S15) fun v18 S17 =>
      zrL v18 S17
    else
    zJ (zc R d 278 [.inl 0] S15) fun v20 S19 =>
    zrL v20 S19
  else
  if x1 = 3 then
    zI (zc R d 277 [.inr (.inl x2), .inr (.inl x4)] S4) fun v23 S22 =>
    if v23 ≤ 0 then
      zJ (zc R d 278 [.inl 0] S22) fun v25 S24 =>
      zrL v25 S24
    else
    zJ (zc R d 278 [.inl 1] S22) fun v27 S26 =>
    zrL v27 S26
  else
  if x1 = 4 then
    zI (zc R d 277 [.inr (.inl x2), .inr (.inl x4)] S4) fun v30 S29 =>
    if v30 ≤ 0 then
      zJ (zc R d 278 [.inl 1] S29) fun v32 S31 =>
      zrL v32 S31
    else
    zJ (zc R d 278 [.inl 0] S29) fun v34 S33 =>
    zrL v34 S33
  else
  if x1 = 5 then
    zI (zc R d 277 [.inr (.inl x2), .inr (.inl x4)] S4) fun v37 S36 =>
    if v37 < 0 then
      zJ (zc R d 278 [.inl 0] S36) fun v39 S38 =>
      zrL v39 S38
    else
    zJ (zc R d 278 [.inl 1] S36) fun v41 S40 =>
    zrL v41 S40
  else
  if x1 = 6 then
    zG (inL (x6_3 + x8_6)) <|
    zJ (zc R d 279 [.inr (.inl (x6_3 + x8_6))] S4) fun v44 S43 =>
    zrL v44 S43
  else
  if x1 = 7 then
    zG (inL (x6_3 - x8_6)) <|
    zJ (zc R d 279 [.inr (.inl (x6_3 - x8_6))] S4) fun v47 S46 =>
    zrL v47 S46
  else
  if x1 = 8 then
    zG (inL (x6_3 * x8_6)) <|
    zJ (zc R d 279 [.inr (.inl (x6_3 * x8_6))] S4) fun v50 S49 =>
    zrL v50 S49
  else
  if x1 = 9 then
    if x8_6 = 0 then
      zV (zc R d 253 [.inr (.inl (S4.2.1 212))] S4) fun S52 =>
      zrL 0 S52
    else
    zG (x8_6 ≠ 0) <|
    zlet (zdivL x6_3 x8_6) fun x11_54 =>
    zG (x8_6 ≠ 0) <|
    zG (inL (x6_3 - ((zdivL x6_3 x8_6) * x8_6))) <|
    if (x6_3 - ((zdivL x6_3 x8_6) * x8_6)) = 0 then
      R d 527 [.inl x1, .inr (.inl x6_3), .inr (.inl x8_6), .inr (.inl x11_54)] S4
    else
    if x6_3 < 0 then
      R d 528 [.inl x1, .inr (.inl x6_3), .inr (.inl x8_6), .inr (.inl x11_54), .inl 1] S4
    else
    R d 528 [.inl x1, .inr (.inl x6_3), .inr (.inl x8_6), .inr (.inl x11_54), .inl 0] S4
  else
  if x1 = 10 then
    if x8_6 = 0 then
      zV (zc R d 253 [.inr (.inl (S4.2.1 212))] S4) fun S57 =>
      zrL 0 S57
    else
    zG (x8_6 ≠ 0) <|
    zlet (zdivL x6_3 x8_6) fun x11_59 =>
    zG (x8_6 ≠ 0) <|
    zG (inL (x6_3 - ((zdivL x6_3 x8_6) * x8_6))) <|
    if (x6_3 - ((zdivL x6_3 x8_6) * x8_6)) = 0 then
      R d 527 [.inl x1, .inr (.inl x6_3), .inr (.inl x8_6), .inr (.inl x11_59)] S4
    else
    if x6_3 < 0 then
      R d 528 [.inl x1, .inr (.inl x6_3), .inr (.inl x8_6), .inr (.inl x11_59), .inl 1] S4
    else
    R d 528 [.inl x1, .inr (.inl x6_3), .inr (.inl x8_6), .inr (.inl x11_59), .inl 0] S4
  else
  if x1 = 11 then
    zI (zc R d 240 [.inr (.inl x2)] S4) fun v63 S62 =>
    zsL S62 91 121000 (v63 + 1) x4 fun S64 =>
    zJ (zc R d 237 [.inr (.inl 5), .inr (.inl 0)] S64) fun v66 S65 =>
    zrL v66 S65
  else
  if x1 = 12 then
    zI (zc R d 240 [.inr (.inl x2)] S4) fun v69 S68 =>
    zsL S68 91 121000 (v69 + 1) x4 fun S70 =>
    zJ (zc R d 237 [.inr (.inl 5), .inr (.inl 0)] S70) fun v72 S71 =>
    zrL v72 S71
  else
  if x1 = 13 then
    zI (zc R d 240 [.inr (.inl x2)] S4) fun v75 S74 =>
    zsL S74 91 121000 (v75 + 1) x4 fun S76 =>
    zJ (zc R d 237 [.inr (.inl 5), .inr (.inl 0)] S76) fun v78 S77 =>
    zrL v78 S77
  else
  if x1 = 14 then
    zJ (zc R d 280 [.inr (.inl x2), .inr (.inl x4)] S4) fun v81 S80 =>
    zrL v81 S80
  else
  zI (zc R d 240 [.inr (.inl x2)] S4) fun v84 S83 =>
  zsL S83 91 121000 (v84 + 1) x4 fun S85 =>
  zJ (zc R d 237 [.inr (.inl 5), .inr (.inl 0)] S85) fun v87 S86 =>
  zrL v87 S86
def zb_areEqual (R : ZC ZS) (d : Nat) (x1 : Int) (x3 : Int) (S : ZS) : ZR ZS :=
  zlet (0 : Int) fun x5_1 =>
  zlet x1 fun x6_2 =>
  zlet x3 fun x8_3 =>
  R d 529 [.inl x5_1, .inr (.inl x6_2), .inr (.inl x8_3)] S
def zb_rowAhead (R : ZC ZS) (d : Nat) (x1 : Int) (x2 : Int) (x3 : Int) (x4 : Int) (S : ZS) : ZR ZS :=
  zaL S 91 121000 ((x1 + 1) + x3) fun v1 =>
  zpL S 222 v1 fun S2 =>
  zaL S2 91 121000 ((x2 + 1) + x3) fun v3 =>
  zpL S2 223 v3 fun S4 =>
  zaL S4 91 121000 x1 fun v5 =>
  za S4 95 9000 (zl2i v5) fun v6 =>
  zG (inI (x3 + 1)) <|
  if (x3 + 1) = v6 then
    zrI x4 S4
  else
  zsL S4 104 41000 x4 (zorL (zshlL x1 32) x2) fun S7 =>
  zs S7 105 41000 x4 (x3 + 1) fun S8 =>
  zG (inI (x4 + 1)) <|
  zrI (x4 + 1) S8
def zb_order (R : ZC ZS) (d : Nat) (x1 : Int) (x3 : Int) (S : ZS) : ZR ZS :=
  zJ (zc R d 258 [.inr (.inl x1)] S) fun v2 S1 =>
  if v2 = 2 then
    zI (zc R d 240 [.inr (.inl x1)] S1) fun v4 S3 =>
    zI (zc R d 240 [.inr (.inl x3)] S3) fun v6 S5 =>
    zI (zc R d 223 [.inl v4, .inl v6] S5) fun v8 S7 =>
    zrI v8 S7
  else
  zI (zc R d 240 [.inr (.inl x1)] S1) fun v10 S9 =>
  zI (zc R d 240 [.inr (.inl x3)] S9) fun v12 S11 =>
  zI (zc R d 530 [.inl v10, .inl v12] S11) fun v14 S13 =>
  zrI v14 S13
def zb_truth (R : ZC ZS) (d : Nat) (x1 : Int) (S : ZS) : ZR ZS :=
  if x1 = 0 then
    zJ (zc R d 237 [.inr (.inl 3), .inr (.inl (S.1 193))] S) fun v2 S1 =>
    zrL v2 S1
  else
  zJ (zc R d 237 [.inr (.inl 3), .inr (.inl (S.1 192))] S) fun v4 S3 =>
  zrL v4 S3
def zb_intOf (R : ZC ZS) (d : Nat) (x1 : Int) (S : ZS) : ZR ZS :=
  if x1 < (-2147483648) then
    zV (zc R d 253 [.inr (.inl (S.2.1 211))] S) fun S1 =>
    zrL 0 S1
  else
  if x1 ≤ 2147483647 then
    zJ (zc R d 237 [.inr (.inl 0), .inr (.inl x1)] S) fun v3 S2 =>
    zrL v3 S2
  else
  zV (zc R d 253 [.inr (.inl (S.2.1 211))] S) fun S4 =>
  zrL 0 S4
def zb_joinedStrings (R : ZC ZS) (d : Nat) (x1 : Int) (x3 : Int) (S : ZS) : ZR ZS :=
  zI (zc R d 240 [.inr (.inl x1)] S) fun v2 S1 =>
  zlet v2 fun x5_3 =>
  zI (zc R d 240 [.inr (.inl x3)] S1) fun v5 S4 =>
  zlet v5 fun x6_6 =>
  zI (zc R d 224 [.inl x5_3] S4) fun v8 S7 =>
  zI (zc R d 224 [.inl x6_6] S7) fun v10 S9 =>
  zG (inI (v8 + v10)) <|
  zlet (v8 + v10) fun x7_11 =>
  if x7_11 ≤ 200 then
    zG (inI (1 + x7_11)) <|
    zI (zc R d 243 [.inl (1 + x7_11)] S9) fun v13 S12 =>
    if v13 = 0 then
      zrL 0 S12
    else
    zJ (zc R d 281 [.inl x7_11] S12) fun v15 S14 =>
    zlet v15 fun x8_16 =>
    zlet (0 : Int) fun x10_17 =>
    R d 531 [.inl x5_3, .inl x6_6, .inr (.inl x8_16), .inl x10_17] S14
  else
  zV (zc R d 253 [.inr (.inl (S9.2.1 214))] S9) fun S18 =>
  zrL 0 S18
def zb_stringOf (R : ZC ZS) (d : Nat) (x1 : Int) (S : ZS) : ZR ZS :=
  zlet (S.1 30) fun x2_1 =>
  zV (zc R d 38 [.inl x1] S) fun S2 =>
  zJ (zc R d 237 [.inr (.inl 2), .inr (.inl x2_1)] S2) fun v4 S3 =>
  zrL v4 S3
def zb_substringOf (R : ZC ZS) (d : Nat) (x1 : Int) (x2 : Int) (x3 : Int) (S : ZS) : ZR ZS :=
  if x2 < 0 then
    zV (zc R d 253 [.inr (.inl (S.2.1 215))] S) fun S1 =>
    zrL 0 S1
  else
  if x3 < 0 then
    zV (zc R d 253 [.inr (.inl (S.2.1 215))] S) fun S2 =>
    zrL 0 S2
  else
  zI (zc R d 224 [.inl x1] S) fun v4 S3 =>
  zG (inL (x2 + x3)) <|
  if (x2 + x3) ≤ v4 then
    zG (inI (1 + x3)) <|
    zI (zc R d 243 [.inl (1 + x3)] S3) fun v6 S5 =>
    if v6 = 0 then
      zrL 0 S5
    else
    zJ (zc R d 281 [.inl x3] S5) fun v8 S7 =>
    zlet v8 fun x4_9 =>
    zlet (0 : Int) fun x6_10 =>
    R d 532 [.inl x1, .inl x2, .inl x3, .inr (.inl x4_9), .inl x6_10] S7
  else
  zV (zc R d 253 [.inr (.inl (S3.2.1 215))] S3) fun S11 =>
  zrL 0 S11
def zb_exploded (R : ZC ZS) (d : Nat) (x1 : Int) (S : ZS) : ZR ZS :=
  zJ (zc R d 237 [.inr (.inl 3), .inr (.inl (S.1 172))] S) fun v2 S1 =>
  zlet v2 fun x2_3 =>
  zI (zc R d 224 [.inl x1] S1) fun v5 S4 =>
  zG (inI (v5 - 1)) <|
  zlet (v5 - 1) fun x4_6 =>
  R d 533 [.inl x1, .inr (.inl x2_3), .inl x4_6] S4
def zb_pairOf (R : ZC ZS) (d : Nat) (x1 : Int) (x3 : Int) (S : ZS) : ZR ZS :=
  zI (zc R d 243 [.inl 3] S) fun v2 S1 =>
  if v2 = 0 then
    zrL 0 S1
  else
  zI (zc R d 244 [.inl 3] S1) fun v4 S3 =>
  zlet v4 fun x5_5 =>
  zI (zc R d 285 [.inl 2] S3) fun v7 S6 =>
  zsL S6 91 121000 x5_5 v7 fun S8 =>
  zsL S8 91 121000 (x5_5 + 1) x1 fun S9 =>
  zsL S9 91 121000 (x5_5 + 2) x3 fun S10 =>
  zJ (zc R d 237 [.inr (.inl 5), .inr (.inl x5_5)] S10) fun v12 S11 =>
  zrL v12 S11
def zb_tuple (R : ZC ZS) (d : Nat) (x1 : Int) (S : ZS) : ZR ZS :=
  za S 97 1002 x1 fun v1 =>
  if v1 ≤ 0 then
    zs S 94 9000 (S.1 201) (S.1 202) fun S2 =>
    zs S2 95 9000 (S2.1 201) x1 fun S3 =>
    zlet (1 : Int) fun x2_4 =>
    R d 534 [.inl x1, .inl x2_4] S3
  else
  za S 97 1002 x1 fun v5 =>
  zrI v5 S
def zb_imploded (R : ZC ZS) (d : Nat) (x1 : Int) (S : ZS) : ZR ZS :=
  zlet (0 : Int) fun x3_1 =>
  zlet x1 fun x4_2 =>
  R d 535 [.inr (.inl x1), .inl x3_1, .inr (.inl x4_2)] S
def zb_rest (R : ZC ZS) (d : Nat) (x1 : Int) (S : ZS) : ZR ZS :=
  zI (zc R d 240 [.inr (.inl x1)] S) fun v2 S1 =>
  zaL S1 91 121000 (v2 + 1) fun v3 =>
  zJ (zc R d 263 [.inr (.inl v3), .inl 1] S1) fun v5 S4 =>
  zrL v5 S4
def zb_thing (R : ZC ZS) (d : Nat) (x1 : Int) (S : ZS) : ZR ZS :=
  zI (zc R d 240 [.inr (.inl x1)] S) fun v2 S1 =>
  zaL S1 91 121000 (v2 + 1) fun v3 =>
  zJ (zc R d 263 [.inr (.inl v3), .inl 0] S1) fun v5 S4 =>
  zrL v5 S4
def zb_digitsOf (R : ZC ZS) (d : Nat) (x1 : Int) (S : ZS) : ZR ZS :=
  if x1 < 0 then
    zG (inL (-x1)) <|
    R d 536 [.inr (.inl x1), .inr (.inl (-x1))] S
  else
  R d 536 [.inr (.inl x1), .inr (.inl x1)] S
def zb_putOut (R : ZC ZS) (d : Nat) (x1 : Int) (S : ZS) : ZR ZS :=
  if (S.1 235) < 4000 then
    zs S 111 4000 (S.1 235) x1 fun S1 =>
    R d 537 [] S1
  else
  R d 537 [] S
def zb_functionOf (R : ZC ZS) (d : Nat) (x1 : Int) (S : ZS) : ZR ZS :=
  zJ (zc R d 258 [.inr (.inl x1)] S) fun v2 S1 =>
  if v2 = 8 then
    zI (zc R d 240 [.inr (.inl x1)] S1) fun v4 S3 =>
    zaL S3 91 121000 v4 fun v5 =>
    zrL v5 S3
  else
  zrL x1 S1
def zb_partial (R : ZC ZS) (d : Nat) (x1 : Int) (x3 : Int) (x5 : Int) (S : ZS) : ZR ZS :=
  zG (inI (3 + x5)) <|
  zI (zc R d 243 [.inl (3 + x5)] S) fun v2 S1 =>
  if v2 = 0 then
    zrL 0 S1
  else
  zI (zc R d 244 [.inl (3 + x5)] S1) fun v4 S3 =>
  zlet v4 fun x6_5 =>
  zJ (zc R d 291 [.inr (.inl x1)] S3) fun v7 S6 =>
  zsL S6 91 121000 x6_5 v7 fun S8 =>
  zG (inI (x5 + 1)) <|
  zsL S8 91 121000 (x6_5 + 1) (x5 + 1) fun S9 =>
  zlet (0 : Int) fun x7_10 =>
  R d 538 [.inr (.inl x1), .inr (.inl x3), .inl x5, .inl x6_5, .inl x7_10] S9
def zb_call (R : ZC ZS) (d : Nat) (x1 : Int) (x3 : Int) (x5 : Int) (x6 : Int) (S : ZS) : ZR ZS :=
  if x6 = 0 then
    if (S.1 188) = 400 then
      zp S 184 4 fun S1 =>
      zrV S1
    else
    zV (zc R d 234 [.inl 17, .inl (-1), .inr (.inl 0), .inl 0] S) fun S2 =>
    zs S2 100 401 (S2.1 188) (S2.1 194) fun S3 =>
    zs S3 101 401 (S3.1 188) (S3.1 195) fun S4 =>
    zs S4 102 401 (S4.1 188) (S4.1 191) fun S5 =>
    zsL S5 103 401 (S5.1 188) (S5.2.1 196) fun S6 =>
    zG (inI ((S6.1 188) + 1)) <|
    zp S6 188 ((S6.1 188) + 1) fun S7 =>
    zI (zc R d 539 [.inl (S7.1 189), .inl (S7.1 188)] S7) fun v9 S8 =>
    zp S8 189 v9 fun S10 =>
    zp S10 194 (S10.1 191) fun S11 =>
    R d 540 [.inr (.inl x1), .inr (.inl x3), .inl x5] S11
  else
  R d 540 [.inr (.inl x1), .inr (.inl x3), .inl x5] S
def zb_body (R : ZC ZS) (d : Nat)  (S : ZS) : ZR ZS :=
  za S 74 9000 (S.1 195) fun v1 =>
  zlet v1 fun x1_2 =>
  za S 10 84000 x1_2 fun v3 =>
  if v3 = 12 then
    za S 13 84000 x1_2 fun v4 =>
    zaL S 93 402000 (S.1 194) fun v5 =>
    zV (zc R d 255 [.inl v4, .inr (.inl v5), .inl 1, .inl 0] S) fun S6 =>
    zrV S6
  else
  za S 13 84000 x1_2 fun v7 =>
  zlet v7 fun x2_8 =>
  R d 541 [.inl x2_8] S
def zb_infix (R : ZC ZS) (d : Nat) (x1 : Int) (x2 : Int) (x4 : Int) (x6 : Int) (S : ZS) : ZR ZS :=
  zJ (zc R d 238 [.inl x1] S) fun v2 S1 =>
  zlet v2 fun x7_3 =>
  zI (zc R d 181 [.inl x1] S1) fun v5 S4 =>
  if v5 = 3 then
    zI (zc R d 240 [.inr (.inl x7_3)] S4) fun v7 S6 =>
    zJ (zc R d 274 [.inl v7, .inr (.inl x2), .inr (.inl x4)] S6) fun v9 S8 =>
    zV (zc R d 235 [.inr (.inl v9)] S8) fun S10 =>
    zrV S10
  else
  zJ (zc R d 284 [.inr (.inl x2), .inr (.inl x4)] S4) fun v12 S11 =>
  zlet v12 fun x9_13 =>
  if (S11.1 184) = 0 then
    zV (zc R d 269 [.inr (.inl x7_3), .inr (.inl x9_13), .inl x6] S11) fun S14 =>
    zrV S14
  else
  zrV S11
def zb_decs0 (R : ZC ZS) (d : Nat) (x1 : Int) (S : ZS) : ZR ZS :=
  zV (zc R d 235 [.inr (.inl 0)] S) fun S1 =>
  if x1 = (-1) then
    zrV S1
  else
  za S1 16 84000 x1 fun v2 =>
  zV (zc R d 234 [.inl 15, .inl v2, .inr (.inl 0), .inl 0] S1) fun S3 =>
  za S3 10 84000 x1 fun v4 =>
  if v4 = 70 then
    za S3 13 84000 x1 fun v5 =>
    za S3 13 84000 x1 fun v6 =>
    za S3 14 84000 v6 fun v7 =>
    zV (zc R d 245 [.inl 16, .inl v5, .inl 0, .inl v7] S3) fun S8 =>
    zrV S8
  else
  if v4 = 71 then
    zV (zc R d 297 [.inl x1] S3) fun S10 =>
    zrV S10
  else
  if v4 = 72 then
    zV (zc R d 300 [.inl x1] S3) fun S12 =>
    zrV S12
  else
  if v4 = 73 then
    zrV S3
  else
  if v4 = 74 then
    zrV S3
  else
  if v4 = 75 then
    za S3 14 84000 x1 fun v16 =>
    za S3 13 84000 x1 fun v17 =>
    zJ (zc R d 19 [.inl v17] S3) fun v19 S18 =>
    zV (zc R d 257 [.inl v16, .inr (.inl v19)] S18) fun S20 =>
    zrV S20
  else
  if v4 = 76 then
    za S3 13 84000 x1 fun v22 =>
    za S3 14 84000 x1 fun v23 =>
    zJ (zc R d 239 [.inl v23] S3) fun v25 S24 =>
    zV (zc R d 257 [.inl v22, .inr (.inl v25)] S24) fun S26 =>
    zrV S26
  else
  if v4 = 77 then
    za S3 14 84000 x1 fun v28 =>
    zV (zc R d 234 [.inl 15, .inl v28, .inr (.inl 0), .inl 0] S3) fun S29 =>
    za S29 13 84000 x1 fun v30 =>
    zV (zc R d 234 [.inl 15, .inl v30, .inr (.inl 0), .inl 0] S29) fun S31 =>
    zrV S31
  else
  zrV S3
def zb_rec (R : ZC ZS) (d : Nat) (x1 : Int) (S : ZS) : ZR ZS :=
  za S 13 84000 x1 fun v1 =>
  zlet v1 fun x2_2 =>
  R d 542 [.inl x1, .inl x2_2] S
def zb_nameIn (R : ZC ZS) (d : Nat) (x1 : Int) (S : ZS) : ZR ZS :=
  zlet x1 fun x2_1 =>
  R d 543 [.inl x2_1] S
def zb_tie (R : ZC ZS) (d : Nat) (x1 : Int) (x2 : Int) (S : ZS) : ZR ZS :=
  zlet (0 : Int) fun x4_1 =>
  R d 544 [.inl x1, .inr (.inl x2), .inl x4_1] S
def zb_fun (R : ZC ZS) (d : Nat) (x1 : Int) (S : ZS) : ZR ZS :=
  za S 13 84000 x1 fun v1 =>
  zlet v1 fun x2_2 =>
  R d 545 [.inl x1, .inl x2_2] S
def zb_bound (R : ZC ZS) (d : Nat) (x1 : Int) (x2 : Int) (S : ZS) : ZR ZS :=
  za S 13 84000 x1 fun v1 =>
  zI (zc R d 256 [.inl v1, .inr (.inl x2)] S) fun v3 S2 =>
  if v3 = 0 then
    zV (zc R d 253 [.inr (.inl (S2.2.1 210))] S2) fun S4 =>
    zrV S4
  else
  zV (zc R d 235 [.inr (.inl 0)] S2) fun S5 =>
  za S5 16 84000 x1 fun v6 =>
  if v6 = (-1) then
    zrV S5
  else
  za S5 16 84000 x1 fun v7 =>
  za S5 16 84000 x1 fun v8 =>
  za S5 14 84000 v8 fun v9 =>
  zV (zc R d 245 [.inl 16, .inl v7, .inl 0, .inl v9] S5) fun S10 =>
  zrV S10
def zb_oneMore (R : ZC ZS) (d : Nat) (x1 : Int) (x2 : Int) (x3 : Int) (x4 : Int) (S : ZS) : ZR ZS :=
  zV (zc R d 234 [.inl 19, .inl (-1), .inr (.inl x4), .inl 0] S) fun S1 =>
  za S1 16 84000 x3 fun v2 =>
  zlet v2 fun x6_3 =>
  if x6_3 = (-1) then
    zlet (0 : Int) fun x7_4 =>
    za S1 13 84000 x2 fun v5 =>
    zlet v5 fun x8_6 =>
    R d 546 [.inl x1, .inl x2, .inl x7_4, .inl x8_6] S1
  else
  zV (zc R d 234 [.inl x1, .inl x2, .inr (.inl x6_3), .inl 0] S1) fun S7 =>
  if x1 = 3 then
    za S7 13 84000 x6_3 fun v8 =>
    zV (zc R d 246 [.inl v8, .inl 0] S7) fun S9 =>
    zrV S9
  else
  zV (zc R d 246 [.inl x6_3, .inl 0] S7) fun S10 =>
  zrV S10
def zb_listOf (R : ZC ZS) (d : Nat) (x1 : Int) (S : ZS) : ZR ZS :=
  zJ (zc R d 237 [.inr (.inl 3), .inr (.inl (S.1 172))] S) fun v2 S1 =>
  zlet v2 fun x2_3 =>
  zG (inI (x1 - 1)) <|
  zlet (x1 - 1) fun x4_4 =>
  R d 547 [.inr (.inl x2_3), .inl x4_4] S1
def zb_rowOf (R : ZC ZS) (d : Nat) (x1 : Int) (x2 : Int) (x3 : Int) (S : ZS) : ZR ZS :=
  zG (inI (x2 + 1)) <|
  zI (zc R d 243 [.inl (x2 + 1)] S) fun v2 S1 =>
  if v2 = 0 then
    zrL 0 S1
  else
  zI (zc R d 244 [.inl (x2 + 1)] S1) fun v4 S3 =>
  zlet v4 fun x4_5 =>
  if x3 = 0 then
    zI (zc R d 285 [.inl x2] S3) fun v7 S6 =>
    R d 548 [.inl x1, .inl x3, .inl x4_5, .inr (.inl v7), .inl x4_5] S6
  else
  zI (zc R d 305 [.inl x1] S3) fun v9 S8 =>
  R d 548 [.inl x1, .inl x3, .inl x4_5, .inr (.inl v9), .inl x4_5] S8
def zb_shapeOf (R : ZC ZS) (d : Nat) (x1 : Int) (S : ZS) : ZR ZS :=
  za S 14 84000 x1 fun v1 =>
  if v1 ≤ 0 then
    zlet (0 : Int) fun x2_2 =>
    zs S 94 9000 (S.1 201) (S.1 202) fun S3 =>
    za S3 13 84000 x1 fun v4 =>
    zlet v4 fun x3_5 =>
    R d 549 [.inl x1, .inl x2_2, .inl x3_5] S3
  else
  za S 14 84000 x1 fun v6 =>
  zrI v6 S
def zb_isAhead (R : ZC ZS) (d : Nat) (x1 : Int) (x2 : Int) (S : ZS) : ZR ZS :=
  if x1 < 0 then
    R d 550 [.inl x1, .inl x2] S
  else
  if x2 < 0 then
    R d 550 [.inl x1, .inl x2] S
  else
  za S 5 15000 x1 fun v1 =>
  za S 5 15000 x2 fun v2 =>
  zI (zc R d 503 [.inl v1, .inl v2] S) fun v4 S3 =>
  zlet v4 fun x3_5 =>
  zlet (0 : Int) fun x4_6 =>
  R d 551 [.inl x1, .inl x2, .inl x3_5, .inl x4_6] S3
def zb_likeShape (R : ZC ZS) (d : Nat) (x1 : Int) (S : ZS) : ZR ZS :=
  zlet (1 : Int) fun x2_1 =>
  R d 552 [.inl x1, .inl x2_1] S
def zb_unwind (R : ZC ZS) (d : Nat)  (S : ZS) : ZR ZS :=
  if (S.1 184) = 2 then
    if (S.1 205) ≤ 0 then
      zrV S
    else
    zG (inI ((S.1 205) - 1)) <|
    zp S 205 ((S.1 205) - 1) fun S1 =>
    za S1 98 215000 (S1.1 205) fun v2 =>
    zlet (zandI v2 31) fun x1_3 =>
    if x1_3 = 17 then
      zV (zc R d 267 [] S1) fun S4 =>
      R d 553 [.inl x1_3] S4
    else
    R d 553 [.inl x1_3] S1
  else
  zrV S
def zb_keepBound (R : ZC ZS) (d : Nat)  (S : ZS) : ZR ZS :=
  zV (zc R d 310 [] S) fun S1 =>
  zV (zc R d 311 [] S1) fun S2 =>
  za S2 115 16 0 fun v3 =>
  zlet v3 fun x1_4 =>
  zlet (0 : Int) fun x2_5 =>
  zlet (S2.1 95) fun x3_6 =>
  R d 554 [.inl x1_4, .inl x2_5, .inl x3_6] S2
def zb_keepInfix (R : ZC ZS) (d : Nat)  (S : ZS) : ZR ZS :=
  zlet (0 : Int) fun x1_1 =>
  zlet (S.1 47) fun x2_2 =>
  R d 555 [.inl x1_1, .inl x2_2] S
def zb_keepTypes (R : ZC ZS) (d : Nat)  (S : ZS) : ZR ZS :=
  zlet (0 : Int) fun x1_1 =>
  zlet (S.1 102) fun x2_2 =>
  R d 556 [.inl x1_1, .inl x2_2] S
def zb_endOf (R : ZC ZS) (d : Nat) (x1 : Int) (S : ZS) : ZR ZS :=
  za S 42 158000 x1 fun v1 =>
  zlet v1 fun x2_2 =>
  zG (inI (x1 + 1)) <|
  zlet (x1 + 1) fun x3_3 =>
  if (zandI x2_2 3) = 1 then
    zrI x3_3 S
  else
  if (zandI x2_2 3) = 2 then
    R d 557 [.inl x2_2, .inl x3_3, .inl 1] S
  else
  R d 557 [.inl x2_2, .inl x3_3, .inl 0] S
def zb_noteLines (R : ZC ZS) (d : Nat)  (S : ZS) : ZR ZS :=
  zp S 225 (S.1 153) fun S1 =>
  zlet (0 : Int) fun x1_2 =>
  R d 558 [.inl x1_2] S1
def zb_told (R : ZC ZS) (d : Nat) (x1 : Int) (S : ZS) : ZR ZS :=
  zp S 0 0 fun S1 =>
  if x1 = 5 then
    zrI (S1.1 182) S1
  else
  if (S1.1 247) = 0 then
    zrI (-1) S1
  else
  if x1 = 0 then
    zrI (S1.1 31) S1
  else
  if x1 = 1 then
    if (S1.1 31) = 0 then
      zrI (-1) S1
    else
    zrI (S1.1 32) S1
  else
  if x1 = 2 then
    zrI (S1.1 186) S1
  else
  if x1 = 3 then
    zrI (S1.1 225) S1
  else
  if x1 = 4 then
    zrI (S1.1 169) S1
  else
  if x1 = 5 then
    zrI (-1) S1
  else
  if x1 = 6 then
    zrI (S1.1 189) S1
  else
  if x1 = 7 then
    if (S1.1 248) = 0 then
      zrI 0 S1
    else
    zV (zc R d 315 [.inl (-1)] S1) fun S9 =>
    zrI (S9.1 227) S9
  else
  zrI (-1) S1
def zb_tell (R : ZC ZS) (d : Nat) (x1 : Int) (S : ZS) : ZR ZS :=
  if (S.1 226) = x1 then
    zrV S
  else
  zp S 226 x1 fun S1 =>
  zp S1 227 0 fun S2 =>
  zp S2 66 0 fun S3 =>
  zp S3 67 0 fun S4 =>
  zp S4 229 0 fun S5 =>
  zp S5 230 (-1) fun S6 =>
  if x1 = (-1) then
    zV (zc R d 316 [.inr (.inl (S6.2.1 185)), .inl 0] S6) fun S7 =>
    zrV S7
  else
  za S6 78 3000 x1 fun v8 =>
  if v8 = 0 then
    zV (zc R d 559 [.inr (.inr (some 218))] S6) fun S9 =>
    za S9 108 1100 x1 fun v10 =>
    zV (zc R d 321 [.inl v10] S9) fun S11 =>
    zV (zc R d 559 [.inr (.inr (some 219))] S11) fun S12 =>
    za S12 109 1100 x1 fun v13 =>
    zI (zc R d 18 [.inl v13] S12) fun v15 S14 =>
    zaL S14 92 22000 v15 fun v16 =>
    zV (zc R d 316 [.inr (.inl v16), .inl 0] S14) fun S17 =>
    zV (zc R d 559 [.inr (.inr (some 220))] S17) fun S18 =>
    za S18 110 1100 x1 fun v19 =>
    zI (zc R d 329 [.inl v19] S18) fun v21 S20 =>
    zV (zc R d 330 [.inl v21, .inl 0] S20) fun S22 =>
    zrV S22
  else
  if v8 = 1 then
    za S6 79 3000 x1 fun v24 =>
    za S6 110 1100 x1 fun v25 =>
    zV (zc R d 335 [.inl v24, .inl v25] S6) fun S26 =>
    zrV S26
  else
  if v8 = 2 then
    za S6 79 3000 x1 fun v28 =>
    zV (zc R d 337 [.inl v28] S6) fun S29 =>
    zrV S29
  else
  zV (zc R d 559 [.inr (.inr (some 232))] S6) fun S31 =>
  za S31 108 1100 x1 fun v32 =>
  zV (zc R d 321 [.inl v32] S31) fun S33 =>
  za S33 109 1100 x1 fun v34 =>
  za S33 59 8000 v34 fun v35 =>
  if (zandI v35 1) = 0 then
    zrV S33
  else
  zV (zc R d 559 [.inr (.inr (some 231))] S33) fun S36 =>
  za S36 110 1100 x1 fun v37 =>
  zI (zc R d 329 [.inl v37] S36) fun v39 S38 =>
  za S38 26 57000 v39 fun v40 =>
  za S38 30 106000 v40 fun v41 =>
  zV (zc R d 330 [.inl v41, .inl 0] S38) fun S42 =>
  zrV S42
def zb_sayValue (R : ZC ZS) (d : Nat) (x1 : Int) (x3 : Int) (S : ZS) : ZR ZS :=
  zI (zc R d 317 [] S) fun v2 S1 =>
  if v2 = 0 then
    if x3 = 7 then
      zV (zc R d 318 [.inl 35] S1) fun S3 =>
      zrV S3
    else
    zI (zc R d 240 [.inr (.inl x1)] S1) fun v5 S4 =>
    zlet v5 fun x4_6 =>
    zJ (zc R d 258 [.inr (.inl x1)] S4) fun v8 S7 =>
    if (zl2i v8) = 0 then
      zV (zc R d 319 [.inr (.inl x4_6)] S7) fun S9 =>
      zrV S9
    else
    if (zl2i v8) = 1 then
      zV (zc R d 559 [.inr (.inr (some 213))] S7) fun S11 =>
      zV (zc R d 320 [.inl x4_6] S11) fun S12 =>
      zV (zc R d 318 [.inl 34] S12) fun S13 =>
      zrV S13
    else
    if (zl2i v8) = 2 then
      zV (zc R d 318 [.inl 34] S7) fun S15 =>
      zlet (0 : Int) fun x5_16 =>
      R d 560 [.inl x4_6, .inl x5_16] S15
    else
    if (zl2i v8) = 3 then
      if x4_6 = (S7.1 172) then
        zV (zc R d 559 [.inr (.inr (some 216))] S7) fun S18 =>
        zrV S18
      else
      za S7 56 22000 x4_6 fun v19 =>
      zV (zc R d 321 [.inl v19] S7) fun S20 =>
      zrV S20
    else
    if (zl2i v8) = 4 then
      zV (zc R d 327 [.inr (.inl x1), .inl x3] S7) fun S22 =>
      zrV S22
    else
    if (zl2i v8) = 5 then
      zV (zc R d 322 [.inr (.inl x1), .inl x3] S7) fun S24 =>
      zrV S24
    else
    if (zl2i v8) = 6 then
      zV (zc R d 559 [.inr (.inr (some 199))] S7) fun S26 =>
      zaL S26 91 121000 (x4_6 + 1) fun v27 =>
      zG (inI (x3 + 1)) <|
      zV (zc R d 324 [.inr (.inl v27), .inl (x3 + 1)] S26) fun S28 =>
      zrV S28
    else
    if (zl2i v8) = 7 then
      zV (zc R d 559 [.inr (.inr (some 217))] S7) fun S30 =>
      zrV S30
    else
    if (zl2i v8) = 8 then
      zV (zc R d 559 [.inr (.inr (some 217))] S7) fun S32 =>
      zrV S32
    else
    if (zl2i v8) = 9 then
      zV (zc R d 559 [.inr (.inr (some 217))] S7) fun S34 =>
      zrV S34
    else
    if (zl2i v8) = 10 then
      zI (zc R d 328 [.inr (.inl x1)] S7) fun v37 S36 =>
      za S36 59 8000 v37 fun v38 =>
      zV (zc R d 321 [.inl (zshrI v38 1)] S36) fun S39 =>
      zrV S39
    else
    if (zl2i v8) = 11 then
      zV (zc R d 559 [.inr (.inr (some 217))] S7) fun S41 =>
      zrV S41
    else
    if (zl2i v8) = 12 then
      zV (zc R d 559 [.inr (.inr (some 217))] S7) fun S43 =>
      zrV S43
    else
    if (zl2i v8) = 13 then
      zV (zc R d 559 [.inr (.inr (some 217))] S7) fun S45 =>
      zrV S45
    else
    if (zl2i v8) = 14 then
      zaL S7 91 121000 x4_6 fun v47 =>
      zI (zc R d 328 [.inr (.inl v47)] S7) fun v49 S48 =>
      za S48 59 8000 v49 fun v50 =>
      zV (zc R d 321 [.inl (zshrI v50 1)] S48) fun S51 =>
      zaL S51 91 121000 (x4_6 + 1) fun v52 =>
      zG (inI (x3 + 1)) <|
      zV (zc R d 324 [.inr (.inl v52), .inl (x3 + 1)] S51) fun S53 =>
      zrV S53
    else
    zV (zc R d 559 [.inr (.inr (some 217))] S7) fun S55 =>
    zrV S55
  else
  zrV S1
def zb_isFull (R : ZC ZS) (d : Nat)  (S : ZS) : ZR ZS :=
  if (S.1 227) = 300 then
    zrZ 1 S
  else
  zrZ 0 S
def zb_say (R : ZC ZS) (d : Nat) (x1 : Int) (S : ZS) : ZR ZS :=
  if (S.1 227) = 300 then
    zrV S
  else
  zs S 106 300 (S.1 227) x1 fun S1 =>
  zG (inI ((S1.1 227) + 1)) <|
  zp S1 227 ((S1.1 227) + 1) fun S2 =>
  zrV S2
def zb_sayInt (R : ZC ZS) (d : Nat) (x1 : Int) (S : ZS) : ZR ZS :=
  if x1 < 0 then
    zG (inL (-x1)) <|
    R d 561 [.inr (.inl x1), .inr (.inl (-x1))] S
  else
  R d 561 [.inr (.inl x1), .inr (.inl x1)] S
def zb_sayByte (R : ZC ZS) (d : Nat) (x1 : Int) (S : ZS) : ZR ZS :=
  if x1 = 10 then
    zV (zc R d 559 [.inr (.inr (some 214))] S) fun S1 =>
    zrV S1
  else
  if x1 = 9 then
    zV (zc R d 559 [.inr (.inr (some 215))] S) fun S2 =>
    zrV S2
  else
  if x1 = 92 then
    R d 562 [.inl x1] S
  else
  if x1 = 34 then
    R d 562 [.inl x1] S
  else
  if x1 < 32 then
    R d 563 [.inl x1] S
  else
  if x1 ≤ 126 then
    zV (zc R d 318 [.inl x1] S) fun S3 =>
    zrV S3
  else
  R d 563 [.inl x1] S
def zb_sayName (R : ZC ZS) (d : Nat) (x1 : Int) (S : ZS) : ZR ZS :=
  zlet (0 : Int) fun x2_1 =>
  R d 564 [.inl x1, .inl x2_1] S
def zb_sayRow (R : ZC ZS) (d : Nat) (x1 : Int) (x3 : Int) (S : ZS) : ZR ZS :=
  zI (zc R d 261 [.inr (.inl x1)] S) fun v2 S1 =>
  zlet v2 fun x4_3 =>
  if x4_3 = 1 then
    zlet (0 : Int) fun x5_4 =>
    zlet (0 : Int) fun x6_5 =>
    R d 565 [.inr (.inl x1), .inl x3, .inl x4_3, .inl x5_4, .inl x6_5] S1
  else
  zlet (1 : Int) fun x5_6 =>
  zlet (0 : Int) fun x6_7 =>
  R d 565 [.inr (.inl x1), .inl x3, .inl x4_3, .inl x5_6, .inl x6_7] S1
def zb_sayLabel (R : ZC ZS) (d : Nat) (x1 : Int) (S : ZS) : ZR ZS :=
  if x1 < 0 then
    zG (inI (48 + ((-1) - x1))) <|
    zV (zc R d 318 [.inl (48 + ((-1) - x1))] S) fun S1 =>
    zrV S1
  else
  zV (zc R d 321 [.inl x1] S) fun S2 =>
  zrV S2
def zb_sayBehind (R : ZC ZS) (d : Nat) (x1 : Int) (x3 : Int) (S : ZS) : ZR ZS :=
  zI (zc R d 325 [.inr (.inl x1)] S) fun v2 S1 =>
  if v2 = 0 then
    R d 566 [.inr (.inl x1), .inl x3, .inl 0] S1
  else
  if x3 < 7 then
    R d 566 [.inr (.inl x1), .inl x3, .inl 1] S1
  else
  R d 566 [.inr (.inl x1), .inl x3, .inl 0] S1
def zb_isApplied (R : ZC ZS) (d : Nat) (x1 : Int) (S : ZS) : ZR ZS :=
  zJ (zc R d 258 [.inr (.inl x1)] S) fun v2 S1 =>
  zlet v2 fun x3_3 =>
  if x3_3 = 4 then
    zI (zc R d 326 [.inr (.inl x1)] S1) fun v5 S4 =>
    if v5 = (S4.1 173) then
      R d 567 [.inr (.inl x3_3)] S4
    else
    zrZ 1 S4
  else
  R d 567 [.inr (.inl x3_3)] S1
def zb_numberOfCon (R : ZC ZS) (d : Nat) (x1 : Int) (S : ZS) : ZR ZS :=
  zI (zc R d 240 [.inr (.inl x1)] S) fun v2 S1 =>
  zaL S1 91 121000 v2 fun v3 =>
  zrI (zl2i v3) S1
def zb_sayMade (R : ZC ZS) (d : Nat) (x1 : Int) (x3 : Int) (S : ZS) : ZR ZS :=
  zI (zc R d 240 [.inr (.inl x1)] S) fun v2 S1 =>
  zlet v2 fun x4_3 =>
  zI (zc R d 326 [.inr (.inl x1)] S1) fun v5 S4 =>
  if v5 = (S4.1 173) then
    zV (zc R d 318 [.inl 91] S4) fun S6 =>
    zlet (0 : Int) fun x5_7 =>
    zlet x1 fun x6_8 =>
    R d 568 [.inl x3, .inl x5_7, .inr (.inl x6_8)] S6
  else
  zI (zc R d 326 [.inr (.inl x1)] S4) fun v10 S9 =>
  za S9 56 22000 v10 fun v11 =>
  zV (zc R d 321 [.inl v11] S9) fun S12 =>
  zaL S12 91 121000 (x4_3 + 1) fun v13 =>
  zG (inI (x3 + 1)) <|
  zV (zc R d 324 [.inr (.inl v13), .inl (x3 + 1)] S12) fun S14 =>
  zrV S14
def zb_toldAs (R : ZC ZS) (d : Nat) (x0 : Int) (S : ZS) : ZR ZS :=
  zrI (zl2i (zandL (zushrL x0 35) 8191)) S
def zb_shown (R : ZC ZS) (d : Nat) (x1 : Int) (S : ZS) : ZR ZS :=
  zp S 86 0 fun S1 =>
  zG (inI ((-2) - x1)) <|
  zI (zc R d 127 [.inl ((-2) - x1), .inl 4] S1) fun v3 S2 =>
  zrI v3 S2
def zb_sayType (R : ZC ZS) (d : Nat) (x1 : Int) (x2 : Int) (S : ZS) : ZR ZS :=
  zI (zc R d 8 [.inl x1] S) fun v2 S1 =>
  zlet v2 fun x3_3 =>
  za S1 23 57000 x3_3 fun v4 =>
  if v4 = 0 then
    zV (zc R d 331 [.inl x3_3] S1) fun S5 =>
    zrV S5
  else
  za S1 23 57000 x3_3 fun v6 =>
  if v6 = 1 then
    zV (zc R d 331 [.inl x3_3] S1) fun S7 =>
    zrV S7
  else
  za S1 23 57000 x3_3 fun v8 =>
  if v8 = 2 then
    za S1 25 57000 x3_3 fun v9 =>
    if v9 = 7 then
      R d 569 [.inl x2, .inl x3_3, .inl 1] S1
    else
    R d 569 [.inl x2, .inl x3_3, .inl 0] S1
  else
  R d 569 [.inl x2, .inl x3_3, .inl 0] S1
def zb_sayVariable (R : ZC ZS) (d : Nat) (x1 : Int) (S : ZS) : ZR ZS :=
  zlet (0 : Int) fun x2_1 =>
  R d 570 [.inl x1, .inl x2_1] S
def zb_isTuple (R : ZC ZS) (d : Nat) (x1 : Int) (S : ZS) : ZR ZS :=
  zlet (0 : Int) fun x2_1 =>
  za S 26 57000 x1 fun v2 =>
  zlet v2 fun x3_3 =>
  R d 571 [.inl x1, .inl x2_1, .inl x3_3] S
def zb_sayRowType (R : ZC ZS) (d : Nat) (x1 : Int) (S : ZS) : ZR ZS :=
  za S 26 57000 x1 fun v1 =>
  if v1 = (-1) then
    zV (zc R d 559 [.inr (.inr (some 200))] S) fun S2 =>
    zrV S2
  else
  zV (zc R d 318 [.inl 123] S) fun S3 =>
  zlet ((-1) : Int) fun x2_4 =>
  zlet (1 : Int) fun x3_5 =>
  zlet (1 : Int) fun x4_6 =>
  R d 572 [.inl x1, .inl x2_4, .inl x3_5, .inl x4_6] S3
def zb_sayMadeType (R : ZC ZS) (d : Nat) (x1 : Int) (S : ZS) : ZR ZS :=
  za S 26 57000 x1 fun v1 =>
  zlet v1 fun x2_2 =>
  if x2_2 = (-1) then
    R d 573 [.inl x1, .inl x2_2] S
  else
  za S 31 106000 x2_2 fun v3 =>
  if v3 = (-1) then
    za S 30 106000 x2_2 fun v4 =>
    zV (zc R d 330 [.inl v4, .inl 3] S) fun S5 =>
    zV (zc R d 318 [.inl 32] S5) fun S6 =>
    R d 574 [.inl x1] S6
  else
  R d 573 [.inl x1, .inl x2_2] S
def zb_tellType (R : ZC ZS) (d : Nat) (x1 : Int) (x2 : Int) (S : ZS) : ZR ZS :=
  zV (zc R d 559 [.inr (.inr (some 226))] S) fun S1 =>
  za S1 13 84000 x1 fun v2 =>
  zV (zc R d 336 [.inl v2] S1) fun S3 =>
  za S3 12 84000 x1 fun v4 =>
  zV (zc R d 321 [.inl v4] S3) fun S5 =>
  zV (zc R d 559 [.inr (.inr (some 219))] S5) fun S6 =>
  zlet ((-1) : Int) fun x3_7 =>
  zp S6 86 0 fun S8 =>
  za S8 13 84000 x1 fun v9 =>
  zlet v9 fun x4_10 =>
  R d 575 [.inl x2, .inl x4_10] S8
def zb_sayVars (R : ZC ZS) (d : Nat) (x1 : Int) (S : ZS) : ZR ZS :=
  zp S 230 x1 fun S1 =>
  if x1 = (-1) then
    zrV S1
  else
  za S1 16 84000 x1 fun v2 =>
  if v2 = (-1) then
    R d 576 [.inl x1, .inl 0] S1
  else
  R d 576 [.inl x1, .inl 1] S1
def zb_tellData (R : ZC ZS) (d : Nat) (x1 : Int) (S : ZS) : ZR ZS :=
  za S 15 84000 x1 fun v1 =>
  zlet v1 fun x2_2 =>
  zV (zc R d 559 [.inr (.inr (some 227))] S) fun S3 =>
  za S3 13 84000 x1 fun v4 =>
  zV (zc R d 336 [.inl v4] S3) fun S5 =>
  za S5 12 84000 x1 fun v6 =>
  zV (zc R d 321 [.inl v6] S5) fun S7 =>
  zV (zc R d 559 [.inr (.inr (some 228))] S7) fun S8 =>
  za S8 34 7500 x2_2 fun v9 =>
  zlet v9 fun x3_10 =>
  R d 577 [.inl x2_2, .inl x3_10] S8
def zb_listed0 (R : ZC ZS) (d : Nat) (x1 : Int) (S : ZS) : ZR ZS :=
  zp S 229 0 fun S1 =>
  zlet x1 fun x2_2 =>
  R d 578 [.inl x2_2] S1
def zb_letter (R : ZC ZS) (d : Nat) (x1 : Int) (x2 : Int) (S : ZS) : ZR ZS :=
  zp S 0 0 fun S1 =>
  if x1 = (-1) then
    if (S1.1 248) = 0 then
      zrI (-1) S1
    else
    R d 579 [.inl x1, .inl x2] S1
  else
  if x1 < 0 then
    zrI (-1) S1
  else
  if x1 < (S1.1 225) then
    R d 579 [.inl x1, .inl x2] S1
  else
  zrI (-1) S1
def zb_note (R : ZC ZS) (d : Nat) (x1 : Int) (x2 : Int) (S : ZS) : ZR ZS :=
  zp S 0 0 fun S1 =>
  if x1 < 0 then
    zrI (-1) S1
  else
  if x1 < (S1.1 169) then
    if x2 < 0 then
      zrI (-1) S1
    else
    if x2 ≤ 1 then
      if x2 = 0 then
        za S1 87 3000 x1 fun v2 =>
        zrI v2 S1
      else
      za S1 88 3000 x1 fun v3 =>
      zrI v3 S1
    else
    zrI (-1) S1
  else
  zrI (-1) S1
def zb_out (R : ZC ZS) (d : Nat) (x1 : Int) (S : ZS) : ZR ZS :=
  zp S 0 0 fun S1 =>
  if x1 < 0 then
    zrI (-1) S1
  else
  if x1 < (S1.1 235) then
    if x1 < 4000 then
      za S1 111 4000 x1 fun v2 =>
      zrI v2 S1
    else
    zrI (-1) S1
  else
  zrI (-1) S1
def zb_outs (R : ZC ZS) (d : Nat)  (S : ZS) : ZR ZS :=
  zp S 0 0 fun S1 =>
  zrI (S1.1 235) S1
def zb_keep_2 (R : ZC ZS) (d : Nat)  (S : ZS) : ZR ZS :=
  zp S 0 0 fun S1 =>
  if (S1.1 239) = 8 then
    zrI (-1) S1
  else
  zs S1 112 8 (S1.1 239) (S1.1 95) fun S2 =>
  zs S2 113 8 (S2.1 239) (S2.1 102) fun S3 =>
  zs S3 114 8 (S3.1 239) (S3.1 47) fun S4 =>
  zG (inI ((S4.1 239) + 1)) <|
  zp S4 239 ((S4.1 239) + 1) fun S5 =>
  zG (inI ((S5.1 239) - 1)) <|
  zrI ((S5.1 239) - 1) S5
def zb_back_2 (R : ZC ZS) (d : Nat) (x1 : Int) (S : ZS) : ZR ZS :=
  zp S 0 0 fun S1 =>
  if x1 < 0 then
    zrZ 0 S1
  else
  if x1 < (S1.1 239) then
    za S1 112 8 x1 fun v2 =>
    zp S1 95 v2 fun S3 =>
    za S3 113 8 x1 fun v4 =>
    zp S3 102 v4 fun S5 =>
    za S5 114 8 x1 fun v6 =>
    zp S5 47 v6 fun S7 =>
    zrZ 1 S7
  else
  zrZ 0 S1
def zb_clear (R : ZC ZS) (d : Nat)  (S : ZS) : ZR ZS :=
  zp S 0 0 fun S1 =>
  zp S1 95 (S1.1 243) fun S2 =>
  zp S2 102 (S2.1 244) fun S3 =>
  zp S3 47 (S3.1 242) fun S4 =>
  zp S4 94 (S4.1 240) fun S5 =>
  zp S5 101 (S5.1 241) fun S6 =>
  zp S6 114 0 fun S7 =>
  zp S7 182 0 fun S8 =>
  zp S8 181 1 fun S9 =>
  zp S9 30 0 fun S10 =>
  zp S10 83 (S10.1 245) fun S11 =>
  zp S11 246 (S11.1 245) fun S12 =>
  zp S12 226 (-2) fun S13 =>
  zpZ S13 248 0 fun S14 =>
  zp S14 235 0 fun S15 =>
  zp S15 239 0 fun S16 =>
  zpZ S16 247 0 fun S17 =>
  zp S17 31 0 fun S18 =>
  zp S18 32 (-1) fun S19 =>
  zp S19 169 0 fun S20 =>
  zp S20 225 0 fun S21 =>
  zrV S21
def zb_feed_p23 (R : ZC ZS) (d : Nat) (x1 : Int) (x2 : Int) (x3 : Int) (x4 : Int) (x5 : Int) (x6 : Int) (S : ZS) : ZR ZS :=
  if x6 < 20 then
    if x6 < 4 then
      R d 580 [.inl x1, .inl x2, .inl x3, .inl x4, .inl x5, .inl x6, .inl x1] S
    else
    if x6 < 8 then
      R d 580 [.inl x1, .inl x2, .inl x3, .inl x4, .inl x5, .inl x6, .inl x2] S
    else
    if x6 < 12 then
      R d 580 [.inl x1, .inl x2, .inl x3, .inl x4, .inl x5, .inl x6, .inl x3] S
    else
    if x6 < 16 then
      R d 580 [.inl x1, .inl x2, .inl x3, .inl x4, .inl x5, .inl x6, .inl x4] S
    else
    R d 580 [.inl x1, .inl x2, .inl x3, .inl x4, .inl x5, .inl x6, .inl x5] S
  else
  zG (inI ((S.1 4) + 20)) <|
  zp S 4 ((S.1 4) + 20) fun S1 =>
  zrZ 1 S1
def zb_end_p21 (R : ZC ZS) (d : Nat) (x1 : Int) (x2 : Int) (S : ZS) : ZR ZS :=
  if x2 < x1 then
    za S 0 8000 x2 fun v1 =>
    zs S 1 8000 x2 v1 fun S2 =>
    zG (inI (x2 + 1)) <|
    zlet (x2 + 1) fun x2_3 =>
    R d 347 [.inl x1, .inl x2_3] S2
  else
  zp S 5 x1 fun S4 =>
  zp S4 4 0 fun S5 =>
  zrZ 1 S5
def zb_type_p42 (R : ZC ZS) (d : Nat) (x3 : Int) (x4 : Int) (x6 : Int) (y0 : Int) (y1 : Int) (S : ZS) : ZR ZS :=
  zs S 25 57000 y1 y0 fun S1 =>
  zs S1 26 57000 x6 x3 fun S2 =>
  zs S2 24 57000 x6 (zbyte x4) fun S3 =>
  zrI x6 S3
def zb_sign0_p50 (R : ZC ZS) (d : Nat) (x3 : Int) (S : ZS) : ZR ZS :=
  if x3 = (-1) then
    zrV S
  else
  za S 30 106000 x3 fun v1 =>
  zV (zc R d 7 [.inl v1] S) fun S2 =>
  za S2 31 106000 x3 fun v3 =>
  zlet v3 fun x3_4 =>
  R d 349 [.inl x3_4] S2
def zb_sign0_p98 (R : ZC ZS) (d : Nat) (x2 : Int) (x3 : Int) (x4 : Int) (S : ZS) : ZR ZS :=
  if x4 = (-1) then
    zG (inI ((4 * x3) + 2)) <|
    zs S 42 158000 (S.1 83) ((4 * x3) + 2) fun S1 =>
    zG (inI ((S1.1 83) + 1)) <|
    zp S1 83 ((S1.1 83) + 1) fun S2 =>
    za S2 26 57000 x2 fun v3 =>
    zlet v3 fun x4_4 =>
    R d 581 [.inl x4_4] S2
  else
  zG (inI (x3 + 1)) <|
  zlet (x3 + 1) fun x3_5 =>
  za S 31 106000 x4 fun v6 =>
  zlet v6 fun x4_7 =>
  R d 350 [.inl x2, .inl x3_5, .inl x4_7] S
def zb_sign0_p211 (R : ZC ZS) (d : Nat) (x2 : Int) (x3 : Int) (S : ZS) : ZR ZS :=
  if x3 < (S.1 86) then
    za S 43 1100 x3 fun v1 =>
    if v1 = x2 then
      R d 582 [.inl x2, .inl x3] S
    else
    zG (inI (x3 + 1)) <|
    zlet (x3 + 1) fun x3_2 =>
    R d 351 [.inl x2, .inl x3_2] S
  else
  R d 582 [.inl x2, .inl x3] S
def zb_find_p2 (R : ZC ZS) (d : Nat) (x1 : Int) (x2 : Int) (S : ZS) : ZR ZS :=
  za S 23 57000 x2 fun v1 =>
  if v1 = 4 then
    za S 25 57000 x2 fun v2 =>
    zlet v2 fun x2_3 =>
    R d 352 [.inl x1, .inl x2_3] S
  else
  zlet x1 fun x3_4 =>
  R d 583 [.inl x2, .inl x3_4] S
def zb_variableOf_p48 (R : ZC ZS) (d : Nat) (x1 : Int) (y0 : Int) (y1 : Int) (S : ZS) : ZR ZS :=
  zs S 60 42000 y1 y0 fun S1 =>
  if (S1.1 112) = 0 then
    zG (inI ((S1.1 116) + 1)) <|
    zp S1 116 ((S1.1 116) + 1) fun S2 =>
    zrI x1 S2
  else
  zG (inI ((S1.1 117) + 1)) <|
  zp S1 117 ((S1.1 117) + 1) fun S3 =>
  zrI x1 S3
def zb_fix_p26 (R : ZC ZS) (d : Nat) (y0 : Int) (y1 : Int) (y2 : Int) (S : ZS) : ZR ZS :=
  zs S 17 23500 y2 (zorI y1 y0) fun S1 =>
  zs S1 18 23500 (S1.1 46) (S1.1 47) fun S2 =>
  zp S2 47 (S2.1 46) fun S3 =>
  zG (inI ((S3.1 46) + 1)) <|
  zp S3 46 ((S3.1 46) + 1) fun S4 =>
  zrV S4
def zb_withField_p26 (R : ZC ZS) (d : Nat) (x1 : Int) (x2 : Int) (x3 : Int) (x4 : Int) (S : ZS) : ZR ZS :=
  za S 31 106000 x4 fun v1 =>
  if v1 = (-1) then
    R d 584 [.inl x1, .inl x2, .inl x3, .inl x4] S
  else
  za S 31 106000 x4 fun v2 =>
  za S 29 106000 v2 fun v3 =>
  if v3 < x2 then
    za S 31 106000 x4 fun v4 =>
    zlet v4 fun x4_5 =>
    R d 355 [.inl x1, .inl x2, .inl x3, .inl x4_5] S
  else
  R d 584 [.inl x1, .inl x2, .inl x3, .inl x4] S
def zb_input_p148 (R : ZC ZS) (d : Nat) (x1 : Int) (S : ZS) : ZR ZS :=
  if (S.1 17) = 6 then
    zrI x1 S
  else
  zthrow 2 (S.1 18) S
def zb_read_p123 (R : ZC ZS) (d : Nat) (x1 : Int) (S : ZS) : ZR ZS :=
  if x1 = 34 then
    zV (zc R d 37 [.inl 0] S) fun S1 =>
    zrV S1
  else
  if x1 = 35 then
    zI (zc R d 29 [.inl 1] S) fun v3 S2 =>
    if v3 = 34 then
      zV (zc R d 37 [.inl 1] S2) fun S4 =>
      zrV S4
    else
    R d 585 [.inl x1] S2
  else
  R d 585 [.inl x1] S
def zb_gaps_p60 (R : ZC ZS) (d : Nat) (x1 : Int) (x2 : Int) (S : ZS) : ZR ZS :=
  if x2 ≤ 0 then
    R d 26 [] S
  else
  zI (zc R d 27 [] S) fun v2 S1 =>
  zlet v2 fun x3_3 =>
  if x3_3 = (-1) then
    zthrow 1 x1 S1
  else
  if x3_3 = 40 then
    zI (zc R d 29 [.inl 1] S1) fun v5 S4 =>
    if v5 = 42 then
      zG (inI (x2 + 1)) <|
      zlet (x2 + 1) fun x2_6 =>
      zG (inI ((S4.1 27) + 2)) <|
      zp S4 27 ((S4.1 27) + 2) fun S7 =>
      R d 358 [.inl x1, .inl x2_6] S7
    else
    R d 586 [.inl x1, .inl x2, .inl x3_3] S4
  else
  R d 586 [.inl x1, .inl x2, .inl x3_3] S1
def zb_isLetter_p12 (R : ZC ZS) (d : Nat) (x0 : Int) (S : ZS) : ZR ZS :=
  if x0 < 65 then
    zrZ 0 S
  else
  if x0 ≤ 90 then
    zrZ 1 S
  else
  zrZ 0 S
def zb_nameAt_text (R : ZC ZS) (d : Nat) (x2 : Int) (x3 : Int) (S : ZS) : ZR ZS :=
  zlet x3 fun x4_1 =>
  zlet (0 : Int) fun x5_2 =>
  R d 587 [.inl x2, .inl x3, .inl x4_1, .inl x5_2] S
def zb_readVariable_p29 (R : ZC ZS) (d : Nat)  (S : ZS) : ZR ZS :=
  zI (zc R d 27 [] S) fun v2 S1 =>
  zI (zc R d 30 [.inl v2] S1) fun v4 S3 =>
  if v4 = 0 then
    zthrow 1 (S3.1 27) S3
  else
  R d 588 [] S3
def zb_readInt_p14 (R : ZC ZS) (d : Nat) (y0 : Int) (S : ZS) : ZR ZS :=
  zlet y0 fun x1_1 =>
  if x1_1 = 0 then
    zlet (0 : Int) fun x2_2 =>
    R d 589 [.inl x1_1, .inr (.inl x2_2)] S
  else
  zG (inI ((S.1 27) + 1)) <|
  zp S 27 ((S.1 27) + 1) fun S3 =>
  zlet (0 : Int) fun x2_4 =>
  R d 589 [.inl x1_1, .inr (.inl x2_4)] S3
def zb_readString_p14 (R : ZC ZS) (d : Nat) (x1 : Int) (y0 : Int) (y1 : Int) (S : ZS) : ZR ZS :=
  zG (inI (y1 + y0)) <|
  zp S 27 (y1 + y0) fun S1 =>
  zp S1 25 (S1.1 30) fun S2 =>
  zV (zc R d 38 [.inl 0] S2) fun S3 =>
  R d 590 [.inl x1] S3
def zb_readEscape_p29 (R : ZC ZS) (d : Nat) (x1 : Int) (S : ZS) : ZR ZS :=
  if x1 = 110 then
    R d 591 [.inl 10] S
  else
  if x1 = 116 then
    R d 591 [.inl 9] S
  else
  R d 591 [.inl x1] S
def zb_readEscape_p71 (R : ZC ZS) (d : Nat) (x2 : Int) (x3 : Int) (S : ZS) : ZR ZS :=
  if x3 < 3 then
    zI (zc R d 27 [] S) fun v2 S1 =>
    zI (zc R d 33 [.inl v2] S1) fun v4 S3 =>
    if v4 = 0 then
      R d 592 [.inl x2, .inl x3, .inl (-1)] S3
    else
    zI (zc R d 27 [] S3) fun v6 S5 =>
    zG (inI (v6 - 48)) <|
    R d 592 [.inl x2, .inl x3, .inl (v6 - 48)] S5
  else
  zV (zc R d 38 [.inl x2] S) fun S7 =>
  zrV S7
def zb_readSigns_p65 (R : ZC ZS) (d : Nat) (y0 : Int) (S : ZS) : ZR ZS :=
  zlet y0 fun x1_1 =>
  if x1_1 = 0 then
    zG (inI ((S.1 27) + 1)) <|
    zp S 27 ((S.1 27) + 1) fun S2 =>
    R d 41 [] S2
  else
  zV (zc R d 34 [] S) fun S3 =>
  zrV S3
def zb_readSigns_p41 (R : ZC ZS) (d : Nat)  (S : ZS) : ZR ZS :=
  zI (zc R d 27 [] S) fun v2 S1 =>
  if v2 = 35 then
    zI (zc R d 29 [.inl 1] S1) fun v4 S3 =>
    if v4 = 34 then
      R d 366 [.inl 1] S3
    else
    R d 366 [.inl 0] S3
  else
  R d 366 [.inl 0] S1
def zb_readOther_p8 (R : ZC ZS) (d : Nat) (x2 : Int) (S : ZS) : ZR ZS :=
  if x2 < 3 then
    zI (zc R d 27 [] S) fun v2 S1 =>
    if v2 = 46 then
      zG (inI ((S1.1 27) + 1)) <|
      zp S1 27 ((S1.1 27) + 1) fun S3 =>
      zG (inI (x2 + 1)) <|
      zlet (x2 + 1) fun x2_4 =>
      R d 368 [.inl x2_4] S3
    else
    zthrow 1 (S1.1 27) S1
  else
  zV (zc R d 34 [] S) fun S5 =>
  zrV S5
def zb_readOther_p115 (R : ZC ZS) (d : Nat)  (S : ZS) : ZR ZS :=
  zG (inI ((S.1 27) + 1)) <|
  zp S 27 ((S.1 27) + 1) fun S1 =>
  zV (zc R d 34 [] S1) fun S2 =>
  zrV S2
def zb_decs_p10 (R : ZC ZS) (d : Nat) (x1 : Int) (x2 : Int) (x3 : Int) (x4 : Int) (S : ZS) : ZR ZS :=
  if x4 = 0 then
    zrI x2 S
  else
  zI (zc R d 53 [.inl 35] S) fun v2 S1 =>
  zlet v2 fun x5_3 =>
  zI (zc R d 44 [] S1) fun v5 S4 =>
  zlet v5 fun x4_6 =>
  if x4_6 = 0 then
    if x5_3 = 0 then
      R d 593 [.inl x1, .inl x2, .inl x3, .inl x4_6] S4
    else
    if x1 = 0 then
      zthrow 2 (S4.1 18) S4
    else
    if (S4.1 17) = 6 then
      R d 593 [.inl x1, .inl x2, .inl x3, .inl x4_6] S4
    else
    zthrow 2 (S4.1 18) S4
  else
  R d 593 [.inl x1, .inl x2, .inl x3, .inl x4_6] S4
def zb_dec_p95 (R : ZC ZS) (d : Nat) (x1 : Int) (y0 : Int) (S : ZS) : ZR ZS :=
  zI (zc R d 54 [] S) fun v2 S1 =>
  zI (zc R d 52 [.inl y0, .inl x1, .inl 0, .inl v2, .inl 0, .inl 0] S1) fun v4 S3 =>
  zrI v4 S3
def zb_local_p25 (R : ZC ZS) (d : Nat) (x1 : Int) (x2 : Int) (y0 : Int) (S : ZS) : ZR ZS :=
  zlet y0 fun x3_1 =>
  zV (zc R d 50 [.inl 13] S) fun S2 =>
  zI (zc R d 44 [] S2) fun v4 S3 =>
  if v4 = 0 then
    R d 594 [.inl x1, .inl x2, .inl x3_1, .inl (-1)] S3
  else
  zI (zc R d 46 [.inl 0] S3) fun v6 S5 =>
  R d 594 [.inl x1, .inl x2, .inl x3_1, .inl v6] S5
def zb_binds_p6 (R : ZC ZS) (d : Nat) (x1 : Int) (x2 : Int) (x3 : Int) (S : ZS) : ZR ZS :=
  if x3 = 0 then
    zrI x1 S
  else
  zI (zc R d 55 [] S) fun v2 S1 =>
  zlet v2 fun x4_3 =>
  zV (zc R d 50 [.inl 40] S1) fun S4 =>
  zI (zc R d 82 [] S4) fun v6 S5 =>
  zlet v6 fun x5_7 =>
  za S5 11 4200 (x4_3 - (S5.1 41)) fun v8 =>
  zI (zc R d 52 [.inl 78, .inl v8, .inl 0, .inl x4_3, .inl x5_7, .inl 0] S5) fun v10 S9 =>
  zlet v10 fun x6_11 =>
  if x1 = (-1) then
    zlet x6_11 fun x1_12 =>
    R d 595 [.inl x1_12, .inl x6_11] S9
  else
  zs S9 16 84000 x2 x6_11 fun S13 =>
  R d 595 [.inl x1, .inl x6_11] S13
def zb_pattern_p19 (R : ZC ZS) (d : Nat) (x1 : Int) (y0 : Int) (S : ZS) : ZR ZS :=
  zlet y0 fun x2_1 =>
  zlet ((-1) : Int) fun x3_2 =>
  zlet (0 : Int) fun x4_3 =>
  zlet x1 fun x5_4 =>
  R d 596 [.inl x1, .inl x2_1, .inl x3_2, .inl x4_3, .inl x5_4] S
def zb_infixed_p10 (R : ZC ZS) (d : Nat) (x1 : Int) (x2 : Int) (S : ZS) : ZR ZS :=
  zI (zc R d 93 [] S) fun v2 S1 =>
  if v2 = 0 then
    R d 597 [.inl x1, .inl x2] S1
  else
  if x1 = 0 then
    R d 598 [.inl x1, .inl x2] S1
  else
  zI (zc R d 45 [.inl 40] S1) fun v4 S3 =>
  if v4 = 0 then
    R d 598 [.inl x1, .inl x2] S3
  else
  R d 597 [.inl x1, .inl x2] S3
def zb_push_p15 (R : ZC ZS) (d : Nat) (y0 : Int) (S : ZS) : ZR ZS :=
  zlet y0 fun x2_1 =>
  zs S 19 2100 (S.1 53) x2_1 fun S2 =>
  zG (inI ((S2.1 53) + 1)) <|
  zp S2 53 ((S2.1 53) + 1) fun S3 =>
  zrV S3
def zb_appliedPattern_p41 (R : ZC ZS) (d : Nat) (x1 : Int) (y0 : Int) (S : ZS) : ZR ZS :=
  zlet y0 fun x2_1 =>
  zI (zc R d 75 [] S) fun v3 S2 =>
  zlet v3 fun x3_4 =>
  zI (zc R d 78 [] S2) fun v6 S5 =>
  if v6 = 0 then
    zI (zc R d 52 [.inl 31, .inl x1, .inl x3_4, .inl 0, .inl 0, .inl x2_1] S5) fun v8 S7 =>
    zp S7 55 v8 fun S9 =>
    zrI (S9.1 55) S9
  else
  zI (zc R d 63 [] S5) fun v11 S10 =>
  zlet v11 fun x4_12 =>
  zp S10 55 (-1) fun S13 =>
  zI (zc R d 52 [.inl 36, .inl x1, .inl x3_4, .inl x4_12, .inl 0, .inl x2_1] S13) fun v15 S14 =>
  zrI v15 S14
def zb_fixOf_p5 (R : ZC ZS) (d : Nat) (x1 : Int) (x2 : Int) (S : ZS) : ZR ZS :=
  if x2 = (-1) then
    zrI (-1) S
  else
  za S 17 23500 x2 fun v1 =>
  if (zshrI v1 5) = x1 then
    zI (zc R d 62 [.inl x2] S) fun v3 S2 =>
    if v3 = 15 then
      zrI (-1) S2
    else
    zrI x2 S2
  else
  za S 18 23500 x2 fun v4 =>
  zlet v4 fun x2_5 =>
  R d 378 [.inl x1, .inl x2_5] S
def zb_atomPattern_p50 (R : ZC ZS) (d : Nat)  (S : ZS) : ZR ZS :=
  if (S.1 17) = 3 then
    zI (zc R d 64 [.inl 32] S) fun v2 S1 =>
    zrI v2 S1
  else
  if (S.1 17) = 4 then
    zI (zc R d 64 [.inl 33] S) fun v4 S3 =>
    zrI v4 S3
  else
  zI (zc R d 64 [.inl 34] S) fun v6 S5 =>
  zrI v6 S5
def zb_atomPattern_p145 (R : ZC ZS) (d : Nat) (x1 : Int) (y0 : Int) (S : ZS) : ZR ZS :=
  zlet y0 fun x2_1 =>
  zI (zc R d 75 [] S) fun v3 S2 =>
  zI (zc R d 52 [.inl 31, .inl x1, .inl v3, .inl 0, .inl 0, .inl x2_1] S2) fun v5 S4 =>
  zrI v5 S4
def zb_patternRow_p27 (R : ZC ZS) (d : Nat) (x1 : Int) (x2 : Int) (x3 : Int) (x4 : Int) (x5 : Int) (S : ZS) : ZR ZS :=
  if x4 = 0 then
    R d 599 [.inl x1, .inl x2, .inl x5] S
  else
  zI (zc R d 53 [.inl 36] S) fun v2 S1 =>
  zlet v2 fun x5_3 =>
  if x5_3 = 0 then
    zI (zc R d 66 [] S1) fun v5 S4 =>
    zlet v5 fun x6_6 =>
    if x2 = (-1) then
      zlet x6_6 fun x2_7 =>
      R d 600 [.inl x1, .inl x2_7, .inl x5_3, .inl x6_6] S4
    else
    zs S4 16 84000 x3 x6_6 fun S8 =>
    R d 600 [.inl x1, .inl x2, .inl x5_3, .inl x6_6] S8
  else
  R d 599 [.inl x1, .inl x2, .inl x5_3] S1
def zb_patternField_p18 (R : ZC ZS) (d : Nat) (x1 : Int) (y0 : Int) (S : ZS) : ZR ZS :=
  zlet y0 fun x2_1 =>
  zI (zc R d 67 [] S) fun v3 S2 =>
  zlet v3 fun x3_4 =>
  zI (zc R d 53 [.inl 40] S2) fun v6 S5 =>
  if v6 = 0 then
    if x2_1 = 0 then
      zthrow 2 (S5.1 18) S5
    else
    zlet ((-1) : Int) fun x4_7 =>
    zI (zc R d 53 [.inl 38] S5) fun v9 S8 =>
    if v9 = 0 then
      R d 601 [.inl x1, .inl x3_4, .inl x4_7] S8
    else
    zI (zc R d 69 [] S8) fun v11 S10 =>
    zlet v11 fun x4_12 =>
    R d 601 [.inl x1, .inl x3_4, .inl x4_12] S10
  else
  zI (zc R d 55 [] S5) fun v14 S13 =>
  zI (zc R d 52 [.inl 60, .inl x1, .inl x3_4, .inl v14, .inl 0, .inl 0] S13) fun v16 S15 =>
  zrI v16 S15
def zb_tupleType_p56 (R : ZC ZS) (d : Nat) (x1 : Int) (x2 : Int) (x3 : Int) (x4 : Int) (S : ZS) : ZR ZS :=
  if (S.1 17) = 1 then
    if (S.1 19) = (S.1 15) then
      zV (zc R d 43 [] S) fun S1 =>
      zI (zc R d 71 [] S1) fun v3 S2 =>
      zlet v3 fun x5_4 =>
      zG (inI (x4 + 1)) <|
      zlet (x4 + 1) fun x4_5 =>
      za S2 11 4200 (x5_4 - (S2.1 41)) fun v6 =>
      zI (zc R d 16 [.inl x4_5] S2) fun v8 S7 =>
      zI (zc R d 52 [.inl 60, .inl v6, .inl v8, .inl x5_4, .inl 0, .inl 0] S7) fun v10 S9 =>
      zs S9 16 84000 x3 v10 fun S11 =>
      za S11 16 84000 x3 fun v12 =>
      zlet v12 fun x3_13 =>
      R d 383 [.inl x1, .inl x2, .inl x3_13, .inl x4_5] S11
    else
    R d 602 [.inl x1, .inl x2] S
  else
  R d 602 [.inl x1, .inl x2] S
def zb_suffixed_p5 (R : ZC ZS) (d : Nat) (x1 : Int) (S : ZS) : ZR ZS :=
  if (S.1 17) = 1 then
    if (S.1 19) = (S.1 15) then
      zrI x1 S
    else
    zlet (S.1 18) fun x2_1 =>
    za S 11 4200 (x1 - (S.1 41)) fun v2 =>
    zI (zc R d 52 [.inl 51, .inl v2, .inl (S.1 19), .inl x1, .inl x2_1, .inl 0] S) fun v4 S3 =>
    zlet v4 fun x1_5 =>
    zV (zc R d 43 [] S3) fun S6 =>
    R d 384 [.inl x1_5] S6
  else
  zrI x1 S
def zb_atomicType_p74 (R : ZC ZS) (d : Nat) (x1 : Int) (S : ZS) : ZR ZS :=
  zI (zc R d 45 [.inl 32] S) fun v2 S1 =>
  if v2 = 0 then
    zI (zc R d 45 [.inl 28] S1) fun v4 S3 =>
    if v4 = 0 then
      zthrow 2 (S3.1 18) S3
    else
    zV (zc R d 49 [] S3) fun S5 =>
    zI (zc R d 69 [] S5) fun v7 S6 =>
    zlet v7 fun x2_8 =>
    zlet x2_8 fun x3_9 =>
    zlet (0 : Int) fun x4_10 =>
    R d 603 [.inl x1, .inl x2_8, .inl x3_9, .inl x4_10] S6
  else
  zI (zc R d 73 [.inl x1] S1) fun v12 S11 =>
  zrI v12 S11
def zb_typeRow_p20 (R : ZC ZS) (d : Nat) (x1 : Int) (x2 : Int) (x3 : Int) (x4 : Int) (S : ZS) : ZR ZS :=
  if x4 = 0 then
    R d 387 [.inl x1, .inl x2] S
  else
  zlet (S.1 18) fun x5_1 =>
  zI (zc R d 67 [] S) fun v3 S2 =>
  zlet v3 fun x6_4 =>
  zV (zc R d 50 [.inl 38] S2) fun S5 =>
  zI (zc R d 69 [] S5) fun v7 S6 =>
  zI (zc R d 52 [.inl 60, .inl x5_1, .inl x6_4, .inl v7, .inl 0, .inl 0] S6) fun v9 S8 =>
  zlet v9 fun x7_10 =>
  if x2 = (-1) then
    zlet x7_10 fun x2_11 =>
    R d 604 [.inl x1, .inl x2_11, .inl x7_10] S8
  else
  zs S8 16 84000 x3 x7_10 fun S12 =>
  R d 604 [.inl x1, .inl x2, .inl x7_10] S12
def zb_typeRow_p94 (R : ZC ZS) (d : Nat) (x1 : Int) (x2 : Int) (S : ZS) : ZR ZS :=
  zV (zc R d 51 [.inl 33] S) fun S1 =>
  zI (zc R d 52 [.inl 52, .inl x1, .inl 0, .inl x2, .inl 0, .inl 0] S1) fun v3 S2 =>
  zrI v3 S2
def zb_patternHeld_p15 (R : ZC ZS) (d : Nat) (x1 : Int) (x2 : Int) (y0 : Int) (S : ZS) : ZR ZS :=
  zlet y0 fun x3_1 =>
  zlet ((-1) : Int) fun x4_2 =>
  zlet ((-1) : Int) fun x5_3 =>
  zlet (0 : Int) fun x6_4 =>
  zI (zc R d 45 [.inl x3_1] S) fun v6 S5 =>
  if v6 = 0 then
    zlet (1 : Int) fun x7_7 =>
    R d 605 [.inl x1, .inl x2, .inl x3_1, .inl x4_2, .inl x5_3, .inl x6_4, .inl x7_7] S5
  else
  zlet (0 : Int) fun x7_8 =>
  R d 605 [.inl x1, .inl x2, .inl x3_1, .inl x4_2, .inl x5_3, .inl x6_4, .inl x7_8] S5
def zb_applications_p5 (R : ZC ZS) (d : Nat) (x1 : Int) (S : ZS) : ZR ZS :=
  zI (zc R d 92 [] S) fun v2 S1 =>
  if v2 = 0 then
    zrI x1 S1
  else
  zI (zc R d 80 [] S1) fun v4 S3 =>
  zlet v4 fun x2_5 =>
  zlet x1 fun x3_6 =>
  za S3 11 4200 (x3_6 - (S3.1 41)) fun v7 =>
  zI (zc R d 52 [.inl 6, .inl v7, .inl 0, .inl x3_6, .inl x2_5, .inl (-1)] S3) fun v9 S8 =>
  zlet v9 fun x1_10 =>
  za S8 10 84000 x3_6 fun v11 =>
  if v11 = 6 then
    zs S8 15 84000 x3_6 x1_10 fun S12 =>
    R d 389 [.inl x1_10] S12
  else
  R d 389 [.inl x1_10] S8
def zb_atom_p29 (R : ZC ZS) (d : Nat)  (S : ZS) : ZR ZS :=
  if (S.1 17) = 3 then
    zI (zc R d 64 [.inl 0] S) fun v2 S1 =>
    zlet v2 fun x2_3 =>
    zrI x2_3 S1
  else
  if (S.1 17) = 4 then
    zI (zc R d 64 [.inl 1] S) fun v5 S4 =>
    zlet v5 fun x2_6 =>
    zrI x2_6 S4
  else
  zI (zc R d 64 [.inl 2] S) fun v8 S7 =>
  zlet v8 fun x2_9 =>
  zrI x2_9 S7
def zb_atom_p201 (R : ZC ZS) (d : Nat) (x1 : Int) (y0 : Int) (S : ZS) : ZR ZS :=
  zlet y0 fun x3_1 =>
  zI (zc R d 75 [] S) fun v3 S2 =>
  zI (zc R d 52 [.inl 3, .inl x1, .inl v3, .inl 0, .inl 0, .inl x3_1] S2) fun v5 S4 =>
  zrI v5 S4
def zb_atom_p155 (R : ZC ZS) (d : Nat) (y0 : Int) (y1 : Int) (y2 : Int) (y3 : Int) (S : ZS) : ZR ZS :=
  zI (zc R d 52 [.inl y3, .inl y2, .inl y1, .inl y0, .inl 0, .inl 0] S) fun v2 S1 =>
  zlet v2 fun x2_3 =>
  zV (zc R d 51 [.inl 31] S1) fun S4 =>
  zrI x2_3 S4
def zb_expressionRow_p24 (R : ZC ZS) (d : Nat) (x1 : Int) (x2 : Int) (x3 : Int) (x4 : Int) (S : ZS) : ZR ZS :=
  if x4 = 0 then
    zV (zc R d 51 [.inl 33] S) fun S1 =>
    zI (zc R d 52 [.inl 5, .inl x1, .inl 0, .inl x2, .inl 0, .inl 0] S1) fun v3 S2 =>
    zrI v3 S2
  else
  zlet (S.1 18) fun x5_4 =>
  zI (zc R d 67 [] S) fun v6 S5 =>
  zlet v6 fun x6_7 =>
  zV (zc R d 50 [.inl 40] S5) fun S8 =>
  zI (zc R d 82 [] S8) fun v10 S9 =>
  zI (zc R d 52 [.inl 60, .inl x5_4, .inl x6_7, .inl v10, .inl 0, .inl 0] S9) fun v12 S11 =>
  zlet v12 fun x7_13 =>
  if x2 = (-1) then
    zlet x7_13 fun x2_14 =>
    R d 606 [.inl x1, .inl x2_14, .inl x7_13] S11
  else
  zs S11 16 84000 x3 x7_13 fun S15 =>
  R d 606 [.inl x1, .inl x2, .inl x7_13] S15
def zb_expression_p254 (R : ZC ZS) (d : Nat) (x2 : Int) (S : ZS) : ZR ZS :=
  zI (zc R d 45 [.inl 11] S) fun v2 S1 =>
  if v2 = 0 then
    zrI x2 S1
  else
  zlet (S1.1 18) fun x3_3 =>
  zV (zc R d 49 [] S1) fun S4 =>
  zI (zc R d 83 [] S4) fun v6 S5 =>
  zlet v6 fun x4_7 =>
  zG (inI ((S5.1 48) - 1)) <|
  zp S5 48 ((S5.1 48) - 1) fun S8 =>
  za S8 11 4200 (x2 - (S8.1 41)) fun v9 =>
  zI (zc R d 52 [.inl 13, .inl v9, .inl 0, .inl x2, .inl x4_7, .inl x3_3] S8) fun v11 S10 =>
  zlet v11 fun x2_12 =>
  R d 394 [.inl x2_12] S10
def zb_match_p7 (R : ZC ZS) (d : Nat) (x1 : Int) (x2 : Int) (S : ZS) : ZR ZS :=
  zI (zc R d 53 [.inl 39] S) fun v2 S1 =>
  if v2 = 0 then
    zrI x1 S1
  else
  zI (zc R d 84 [] S1) fun v4 S3 =>
  zs S3 16 84000 x2 v4 fun S5 =>
  za S5 16 84000 x2 fun v6 =>
  zlet v6 fun x2_7 =>
  R d 395 [.inl x1, .inl x2_7] S5
def zb_orelse_p5 (R : ZC ZS) (d : Nat) (x1 : Int) (S : ZS) : ZR ZS :=
  zI (zc R d 45 [.inl 21] S) fun v2 S1 =>
  if v2 = 0 then
    zrI x1 S1
  else
  zV (zc R d 49 [] S1) fun S3 =>
  zI (zc R d 88 [] S3) fun v5 S4 =>
  if v5 = 0 then
    zI (zc R d 86 [] S4) fun v7 S6 =>
    R d 607 [.inl x1, .inl v7] S6
  else
  zI (zc R d 82 [] S4) fun v9 S8 =>
  R d 607 [.inl x1, .inl v9] S8
def zb_andalso_p5 (R : ZC ZS) (d : Nat) (x1 : Int) (S : ZS) : ZR ZS :=
  zI (zc R d 45 [.inl 1] S) fun v2 S1 =>
  if v2 = 0 then
    zrI x1 S1
  else
  zV (zc R d 49 [] S1) fun S3 =>
  zI (zc R d 88 [] S3) fun v5 S4 =>
  if v5 = 0 then
    zI (zc R d 87 [] S4) fun v7 S6 =>
    R d 608 [.inl x1, .inl v7] S6
  else
  zI (zc R d 82 [] S4) fun v9 S8 =>
  R d 608 [.inl x1, .inl v9] S8
def zb_typed_p6 (R : ZC ZS) (d : Nat) (x1 : Int) (S : ZS) : ZR ZS :=
  zI (zc R d 53 [.inl 38] S) fun v2 S1 =>
  if v2 = 0 then
    zrI x1 S1
  else
  za S1 11 4200 (x1 - (S1.1 41)) fun v3 =>
  zI (zc R d 69 [] S1) fun v5 S4 =>
  zI (zc R d 52 [.inl 16, .inl v3, .inl 0, .inl x1, .inl v5, .inl 0] S4) fun v7 S6 =>
  zlet v7 fun x1_8 =>
  R d 398 [.inl x1_8] S6
def zb_expressionHeld_p114 (R : ZC ZS) (d : Nat) (x1 : Int) (x2 : Int) (x3 : Int) (S : ZS) : ZR ZS :=
  zV (zc R d 51 [.inl 29] S) fun S1 =>
  if x3 = x2 then
    zs S1 11 4200 (x3 - (S1.1 41)) x1 fun S2 =>
    zrI x3 S2
  else
  zrI x3 S1
def zb_row_p7 (R : ZC ZS) (d : Nat) (x1 : Int) (x2 : Int) (x3 : Int) (S : ZS) : ZR ZS :=
  zI (zc R d 53 [.inl x1] S) fun v2 S1 =>
  if v2 = 0 then
    zrI x2 S1
  else
  zI (zc R d 82 [] S1) fun v4 S3 =>
  zs S3 16 84000 x3 v4 fun S5 =>
  za S5 16 84000 x3 fun v6 =>
  zlet v6 fun x3_7 =>
  R d 400 [.inl x1, .inl x2, .inl x3_7] S5
def zb_let_p25 (R : ZC ZS) (d : Nat) (x1 : Int) (x2 : Int) (y0 : Int) (S : ZS) : ZR ZS :=
  zlet y0 fun x3_1 =>
  zV (zc R d 50 [.inl 13] S) fun S2 =>
  zI (zc R d 90 [.inl 35] S2) fun v4 S3 =>
  zlet v4 fun x4_5 =>
  zV (zc R d 51 [.inl 7] S3) fun S6 =>
  zp S6 47 x2 fun S7 =>
  zI (zc R d 52 [.inl 18, .inl x1, .inl 0, .inl x3_1, .inl x4_5, .inl 0] S7) fun v9 S8 =>
  zrI v9 S8
def zb_isInfixHere_p17 (R : ZC ZS) (d : Nat)  (S : ZS) : ZR ZS :=
  zI (zc R d 60 [.inl (S.1 19)] S) fun v2 S1 =>
  if v2 = 0 then
    zrZ 0 S1
  else
  zrZ 1 S1
def zb_reduce_p88 (R : ZC ZS) (d : Nat) (x2 : Int) (x3 : Int) (x4 : Int) (x5 : Int) (y0 : Int) (y2 : Int) (S : ZS) : ZR ZS :=
  za S 11 4200 (x3 - (S.1 41)) fun v1 =>
  zI (zc R d 52 [.inl y0, .inl v1, .inl x4, .inl x3, .inl x2, .inl x5] S) fun v3 S2 =>
  zs S2 19 2100 y2 v3 fun S4 =>
  zrV S4
def zb_functions_p6 (R : ZC ZS) (d : Nat) (x1 : Int) (x2 : Int) (x3 : Int) (S : ZS) : ZR ZS :=
  if x3 = 0 then
    zrI x1 S
  else
  zI (zc R d 97 [] S) fun v2 S1 =>
  zlet v2 fun x4_3 =>
  za S1 11 4200 (x4_3 - (S1.1 41)) fun v4 =>
  za S1 12 84000 x4_3 fun v5 =>
  zI (zc R d 52 [.inl 79, .inl v4, .inl v5, .inl x4_3, .inl 0, .inl 0] S1) fun v7 S6 =>
  zlet v7 fun x5_8 =>
  if x1 = (-1) then
    zlet x5_8 fun x1_9 =>
    R d 609 [.inl x1_9, .inl x5_8] S6
  else
  zs S6 16 84000 x2 x5_8 fun S10 =>
  R d 609 [.inl x1, .inl x5_8] S10
def zb_clauses_p7 (R : ZC ZS) (d : Nat) (x1 : Int) (x2 : Int) (S : ZS) : ZR ZS :=
  zI (zc R d 53 [.inl 39] S) fun v2 S1 =>
  if v2 = 0 then
    zrI x1 S1
  else
  zI (zc R d 98 [] S1) fun v4 S3 =>
  zs S3 16 84000 x2 v4 fun S5 =>
  za S5 16 84000 x2 fun v6 =>
  zlet v6 fun x2_7 =>
  R d 405 [.inl x1, .inl x2_7] S5
def zb_clause_p29 (R : ZC ZS) (d : Nat) (x1 : Int) (y0 : Int) (S : ZS) : ZR ZS :=
  zlet y0 fun x2_1 =>
  zI (zc R d 45 [.inl 20] S) fun v3 S2 =>
  if v3 = 0 then
    if (S2.1 17) = 1 then
      zI (zc R d 60 [.inl (S2.1 19)] S2) fun v5 S4 =>
      if v5 = 0 then
        if x2_1 = 0 then
          R d 610 [.inl x1, .inl 1] S4
        else
        R d 610 [.inl x1, .inl 0] S4
      else
      R d 610 [.inl x1, .inl 0] S4
    else
    R d 610 [.inl x1, .inl 0] S2
  else
  R d 610 [.inl x1, .inl 1] S2
def zb_variables_p50 (R : ZC ZS) (d : Nat) (x1 : Int) (x2 : Int) (x3 : Int) (S : ZS) : ZR ZS :=
  zI (zc R d 53 [.inl 34] S) fun v2 S1 =>
  if v2 = 0 then
    zV (zc R d 51 [.inl 29] S1) fun S3 =>
    zrI x1 S3
  else
  if (S1.1 17) = 2 then
    if x3 = 8 then
      zthrow 4 (S1.1 18) S1
    else
    zI (zc R d 101 [] S1) fun v5 S4 =>
    zs S4 16 84000 x2 v5 fun S6 =>
    za S6 16 84000 x2 fun v7 =>
    zlet v7 fun x2_8 =>
    zG (inI (x3 + 1)) <|
    zlet (x3 + 1) fun x3_9 =>
    R d 407 [.inl x1, .inl x2_8, .inl x3_9] S6
  else
  zthrow 2 (S1.1 18) S1
def zb_datas_p6 (R : ZC ZS) (d : Nat) (x1 : Int) (x2 : Int) (x3 : Int) (S : ZS) : ZR ZS :=
  if x3 = 0 then
    zrI x1 S
  else
  zI (zc R d 100 [] S) fun v2 S1 =>
  zlet v2 fun x4_3 =>
  zlet (S1.1 18) fun x5_4 =>
  zI (zc R d 77 [] S1) fun v6 S5 =>
  zlet v6 fun x6_7 =>
  zV (zc R d 50 [.inl 40] S5) fun S8 =>
  zI (zc R d 103 [] S8) fun v10 S9 =>
  zI (zc R d 52 [.inl 81, .inl x5_4, .inl x6_7, .inl x4_3, .inl v10, .inl x5_4] S9) fun v12 S11 =>
  zlet v12 fun x7_13 =>
  if x1 = (-1) then
    zlet x7_13 fun x1_14 =>
    R d 611 [.inl x1_14, .inl x7_13] S11
  else
  zs S11 16 84000 x2 x7_13 fun S15 =>
  R d 611 [.inl x1, .inl x7_13] S15
def zb_constructors_p6 (R : ZC ZS) (d : Nat) (x1 : Int) (x2 : Int) (x3 : Int) (S : ZS) : ZR ZS :=
  if x3 = 0 then
    zrI x1 S
  else
  zI (zc R d 53 [.inl 20] S) fun v2 S1 =>
  zlet v2 fun x4_3 =>
  zlet (S1.1 18) fun x5_4 =>
  if x4_3 = 0 then
    zI (zc R d 104 [] S1) fun v6 S5 =>
    R d 612 [.inl x1, .inl x2, .inl x5_4, .inl v6] S5
  else
  zI (zc R d 76 [] S1) fun v8 S7 =>
  R d 612 [.inl x1, .inl x2, .inl x5_4, .inl v8] S7
def zb_exception_p27 (R : ZC ZS) (d : Nat) (x1 : Int) (x3 : Int) (y0 : Int) (S : ZS) : ZR ZS :=
  zlet y0 fun x4_1 =>
  zI (zc R d 53 [.inl 40] S) fun v3 S2 =>
  if v3 = 0 then
    zI (zc R d 53 [.inl 19] S2) fun v5 S4 =>
    if v5 = 0 then
      zI (zc R d 52 [.inl 75, .inl x1, .inl x4_1, .inl (-1), .inl 0, .inl x3] S4) fun v7 S6 =>
      zrI v7 S6
    else
    zI (zc R d 69 [] S4) fun v9 S8 =>
    zI (zc R d 52 [.inl 75, .inl x1, .inl x4_1, .inl v9, .inl 0, .inl x3] S8) fun v11 S10 =>
    zrI v11 S10
  else
  zI (zc R d 53 [.inl 20] S2) fun v13 S12 =>
  zlet v13 fun x5_14 =>
  zlet (S12.1 18) fun x6_15 =>
  if x5_14 = 0 then
    zI (zc R d 104 [] S12) fun v17 S16 =>
    R d 613 [.inl x1, .inl x3, .inl x4_1, .inl x6_15, .inl v17] S16
  else
  zI (zc R d 76 [] S12) fun v19 S18 =>
  R d 613 [.inl x1, .inl x3, .inl x4_1, .inl x6_15, .inl v19] S18
def zb_infixes_p11 (R : ZC ZS) (d : Nat) (x1 : Int) (x2 : Int) (y0 : Int) (S : ZS) : ZR ZS :=
  zlet y0 fun x3_1 =>
  if x2 = 18 then
    R d 614 [.inl x1, .inl x2, .inl x3_1] S
  else
  if (S.1 17) = 3 then
    if (S.1 19) < 0 then
      zthrow 2 (S.1 18) S
    else
    if (S.1 19) ≤ 9 then
      if (S.1 21) ≤ 0 then
        zlet (S.1 19) fun x3_2 =>
        zV (zc R d 43 [] S) fun S3 =>
        R d 614 [.inl x1, .inl x2, .inl x3_2] S3
      else
      zthrow 2 (S.1 18) S
    else
    zthrow 2 (S.1 18) S
  else
  R d 614 [.inl x1, .inl x2, .inl x3_1] S
def zb_judgedVal_p42 (R : ZC ZS) (d : Nat) (x2 : Int) (x3 : Int) (x4 : Int) (x5 : Int) (x6 : Int) (S : ZS) : ZR ZS :=
  if x6 = (-1) then
    zp S 135 x5 fun S1 =>
    zV (zc R d 183 [.inl (S1.1 95), .inl x4, .inl x2] S1) fun S2 =>
    zp S2 127 x3 fun S3 =>
    zV (zc R d 189 [.inl x4] S3) fun S4 =>
    zrV S4
  else
  zlet (S.1 134) fun x7_5 =>
  zp S 135 x4 fun S6 =>
  za S6 13 84000 x6 fun v7 =>
  zI (zc R d 115 [.inl v7] S6) fun v9 S8 =>
  zlet v9 fun x8_10 =>
  za S8 14 84000 x6 fun v11 =>
  zI (zc R d 162 [.inl v11] S8) fun v13 S12 =>
  zlet v13 fun x9_14 =>
  za S12 14 84000 x6 fun v15 =>
  za S12 11 4200 (v15 - (S12.1 41)) fun v16 =>
  zV (zc R d 136 [.inl x8_10, .inl x9_14, .inl v16] S12) fun S17 =>
  zlet x7_5 fun x10_18 =>
  R d 615 [.inl x2, .inl x3, .inl x4, .inl x5, .inl x6, .inl x10_18] S17
def zb_enterVariables_p23 (R : ZC ZS) (d : Nat) (x2 : Int) (x3 : Int) (S : ZS) : ZR ZS :=
  if x3 < (S.1 159) then
    zlet (0 : Int) fun x4_1 =>
    zlet (0 : Int) fun x5_2 =>
    R d 616 [.inl x2, .inl x3, .inl x4_1, .inl x5_2] S
  else
  zrI x2 S
def zb_lookAll_p2 (R : ZC ZS) (d : Nat) (x2 : Int) (x3 : Int) (S : ZS) : ZR ZS :=
  if x3 = (-1) then
    zrV S
  else
  zV (zc R d 113 [.inl x3, .inl x2] S) fun S1 =>
  za S1 16 84000 x3 fun v2 =>
  zlet v2 fun x3_3 =>
  R d 414 [.inl x2, .inl x3_3] S1
def zb_look_p2 (R : ZC ZS) (d : Nat) (x2 : Int) (x3 : Int) (S : ZS) : ZR ZS :=
  za S 10 84000 x3 fun v1 =>
  if v1 = 51 then
    za S 13 84000 x3 fun v2 =>
    if v2 = (-1) then
      R d 617 [.inl x2, .inl x3] S
    else
    za S 13 84000 x3 fun v3 =>
    za S 16 84000 v3 fun v4 =>
    if v4 = (-1) then
      za S 13 84000 x3 fun v5 =>
      zlet v5 fun x3_6 =>
      R d 415 [.inl x2, .inl x3_6] S
    else
    R d 617 [.inl x2, .inl x3] S
  else
  R d 617 [.inl x2, .inl x3] S
def zb_found_p2 (R : ZC ZS) (d : Nat) (x1 : Int) (x2 : Int) (x3 : Int) (S : ZS) : ZR ZS :=
  if x3 < (S.1 159) then
    za S 80 1100 x3 fun v1 =>
    za S 12 84000 x1 fun v2 =>
    if v1 = v2 then
      R d 618 [.inl x1, .inl x2, .inl x3] S
    else
    zG (inI (x3 + 1)) <|
    zlet (x3 + 1) fun x3_3 =>
    R d 416 [.inl x1, .inl x2, .inl x3_3] S
  else
  R d 618 [.inl x1, .inl x2, .inl x3] S
