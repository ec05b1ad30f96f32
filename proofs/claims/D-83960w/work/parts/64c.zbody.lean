set_option maxRecDepth 100000
/-! THE REFERENCE over whole numbers (printed by zgen.py) -/
def zb_patternName_p43 (R : ZC ZS) (d : Nat) (x1 : Int) (x2 : Int) (x3 : Int) (y0 : Int) (S : ZS) : ZR ZS :=
  zlet y0 fun x4_1 =>
  if x4_1 = 0 then
    R d 619 [.inl x1, .inl x2, .inl x3, .inl x4_1] S
  else
  za S 13 84000 x1 fun v2 =>
  if v2 = 1 then
    R d 620 [.inl x1] S
  else
  zI (zc R d 119 [.inl x3] S) fun v4 S3 =>
  if v4 = 0 then
    R d 619 [.inl x1, .inl x2, .inl x3, .inl x4_1] S3
  else
  R d 620 [.inl x1] S3
def zb_valueOf_p5 (R : ZC ZS) (d : Nat) (x1 : Int) (x2 : Int) (S : ZS) : ZR ZS :=
  if x2 = (-1) then
    zrI (-1) S
  else
  za S 44 4000 x2 fun v1 =>
  if v1 = x1 then
    zrI x2 S
  else
  za S 50 4000 x2 fun v2 =>
  zlet v2 fun x2_3 =>
  R d 418 [.inl x1, .inl x2_3] S
def zb_hasArgument_p35 (R : ZC ZS) (d : Nat) (y0 : Int) (S : ZS) : ZR ZS :=
  if (zandI y0 1) = 1 then
    zrZ 1 S
  else
  zrZ 0 S
def zb_meet_p69 (R : ZC ZS) (d : Nat) (x1 : Int) (x2 : Int) (S : ZS) : ZR ZS :=
  za S 48 4000 x2 fun v1 =>
  zs S 15 84000 x1 v1 fun S2 =>
  za S2 48 4000 x2 fun v3 =>
  za S2 45 4000 x2 fun v4 =>
  if v4 = 2 then
    zV (zc R d 121 [.inl v3, .inl 1] S2) fun S5 =>
    zrV S5
  else
  zV (zc R d 121 [.inl v3, .inl 0] S2) fun S6 =>
  zrV S6
def zb_use_p18 (R : ZC ZS) (d : Nat) (x1 : Int) (x3 : Int) (S : ZS) : ZR ZS :=
  zI (zc R d 123 [.inl x1] S) fun v2 S1 =>
  if x3 = v2 then
    zrV S1
  else
  zI (zc R d 124 [.inl x3, .inl x1] S1) fun v4 S3 =>
  if v4 = 0 then
    zs S3 75 21000 (S3.1 149) x1 fun S5 =>
    za S5 71 9000 x3 fun v6 =>
    zs S5 76 21000 (S5.1 149) v6 fun S7 =>
    zs S7 71 9000 x3 (S7.1 149) fun S8 =>
    zG (inI ((S8.1 149) + 1)) <|
    zp S8 149 ((S8.1 149) + 1) fun S9 =>
    za S9 72 9000 x3 fun v10 =>
    zG (inI (v10 + 1)) <|
    zs S9 72 9000 x3 (v10 + 1) fun S11 =>
    za S11 73 9000 x3 fun v12 =>
    zlet v12 fun x3_13 =>
    R d 421 [.inl x1, .inl x3_13] S11
  else
  za S3 73 9000 x3 fun v14 =>
  zlet v14 fun x3_15 =>
  R d 421 [.inl x1, .inl x3_15] S3
def zb_isUsed_p7 (R : ZC ZS) (d : Nat) (x2 : Int) (x3 : Int) (S : ZS) : ZR ZS :=
  if x3 = (-1) then
    zrZ 0 S
  else
  za S 75 21000 x3 fun v1 =>
  if v1 = x2 then
    zrZ 1 S
  else
  za S 76 21000 x3 fun v2 =>
  zlet v2 fun x3_3 =>
  R d 422 [.inl x2, .inl x3_3] S
def zb_readSign_p31 (R : ZC ZS) (d : Nat) (x1 : Int) (x2 : Int) (x3 : Int) (S : ZS) : ZR ZS :=
  if (S.1 86) ≤ x3 then
    zs S 43 1100 (S.1 86) (-1) fun S1 =>
    zG (inI ((S1.1 86) + 1)) <|
    zp S1 86 ((S1.1 86) + 1) fun S2 =>
    R d 423 [.inl x1, .inl x2, .inl x3] S2
  else
  za S 43 1100 x3 fun v3 =>
  if v3 = (-1) then
    if (zandI (zshrI x2 2) 3) = 2 then
      R d 621 [.inl x3, .inl 2, .inl x1, .inl (-1), .inl 0, .inl 0, .inl x3] S
    else
    if (zandI (zshrI x2 2) 3) = 1 then
      R d 621 [.inl x3, .inl 1, .inl x1, .inl (-1), .inl 0, .inl 0, .inl x3] S
    else
    R d 621 [.inl x3, .inl 0, .inl x1, .inl (-1), .inl 0, .inl 0, .inl x3] S
  else
  za S 43 1100 x3 fun v4 =>
  zrI v4 S
def zb_readSign_p134 (R : ZC ZS) (d : Nat) (x1 : Int) (x2 : Int) (y0 : Int) (S : ZS) : ZR ZS :=
  zlet y0 fun x3_1 =>
  if x3_1 = 0 then
    za S 33 7500 (zshrI x2 2) fun v2 =>
    R d 622 [.inl x1, .inl x2, .inl x3_1, .inl v2] S
  else
  R d 622 [.inl x1, .inl x2, .inl x3_1, .inl (zshrI x2 2)] S
def zb_instanceOf_p28 (R : ZC ZS) (d : Nat) (x2 : Int) (x3 : Int) (S : ZS) : ZR ZS :=
  if x3 ≤ 0 then
    za S 28 57000 x2 fun v1 =>
    zrI v1 S
  else
  za S 40 57000 (x3 - 1) fun v2 =>
  zlet v2 fun x4_3 =>
  za S 41 57000 (x3 - 1) fun v4 =>
  zlet v4 fun x5_5 =>
  if x5_5 = (-1) then
    zG (inI (x3 + (-1))) <|
    zlet (x3 + (-1)) fun x3_6 =>
    zI (zc R d 131 [.inl x4_3] S) fun v8 S7 =>
    zs S7 28 57000 x4_3 v8 fun S9 =>
    R d 425 [.inl x2, .inl x3_6] S9
  else
  za S 31 106000 x5_5 fun v10 =>
  zs S 41 57000 (x3 - 1) v10 fun S11 =>
  za S11 30 106000 x5_5 fun v12 =>
  zI (zc R d 8 [.inl v12] S11) fun v14 S13 =>
  zlet v14 fun x6_15 =>
  za S13 27 57000 x6_15 fun v16 =>
  if v16 = (S13.1 68) then
    R d 425 [.inl x2, .inl x3] S13
  else
  zI (zc R d 130 [.inl x6_15, .inl x3] S13) fun v18 S17 =>
  zlet v18 fun x3_19 =>
  R d 425 [.inl x2, .inl x3_19] S17
def zb_enter_p37 (R : ZC ZS) (d : Nat) (x1 : Int) (x2 : Int) (S : ZS) : ZR ZS :=
  zs S 40 57000 x2 x1 fun S1 =>
  za S1 26 57000 x1 fun v2 =>
  zs S1 41 57000 x2 v2 fun S3 =>
  zG (inI (x2 + 1)) <|
  zrI (x2 + 1) S3
def zb_copied_p9 (R : ZC ZS) (d : Nat) (x1 : Int) (x2 : Int) (x3 : Int) (S : ZS) : ZR ZS :=
  if x3 = (-1) then
    R d 623 [.inl x1, .inl x2] S
  else
  if x2 = 0 then
    R d 623 [.inl x1, .inl x2] S
  else
  za S 30 106000 x3 fun v1 =>
  zI (zc R d 8 [.inl v1] S) fun v3 S2 =>
  za S2 28 57000 v3 fun v4 =>
  za S2 30 106000 x3 fun v5 =>
  zI (zc R d 8 [.inl v5] S2) fun v7 S6 =>
  if v4 = v7 then
    R d 624 [.inl x1, .inl x3, .inl 1] S6
  else
  R d 624 [.inl x1, .inl x3, .inl 0] S6
def zb_pend_p21 (R : ZC ZS) (d : Nat) (x1 : Int) (x2 : Int) (x3 : Int) (S : ZS) : ZR ZS :=
  if x3 < (S.1 134) then
    za S 65 3000 x3 fun v1 =>
    if v1 = x1 then
      zthrow 6 x2 S
    else
    zG (inI (x3 + 1)) <|
    zlet (x3 + 1) fun x3_2 =>
    R d 428 [.inl x1, .inl x2, .inl x3_2] S
  else
  zV (zc R d 134 [.inl x2] S) fun S3 =>
  zs S3 65 3000 (S3.1 134) x1 fun S4 =>
  zI (zc R d 116 [] S4) fun v6 S5 =>
  zs S5 66 3000 (S4.1 134) v6 fun S7 =>
  zI (zc R d 17 [] S7) fun v9 S8 =>
  zs S8 67 3000 (S7.1 134) v9 fun S10 =>
  zs S10 68 3000 (S10.1 134) x2 fun S11 =>
  zG (inI ((S11.1 134) + 1)) <|
  zp S11 134 ((S11.1 134) + 1) fun S12 =>
  zG (inI ((S12.1 134) - 1)) <|
  zrI ((S12.1 134) - 1) S12
def zb_patternCon_p48 (R : ZC ZS) (d : Nat) (x1 : Int) (x2 : Int) (S : ZS) : ZR ZS :=
  zI (zc R d 119 [.inl x2] S) fun v2 S1 =>
  if v2 = 0 then
    R d 430 [.inl x1] S1
  else
  za S1 15 84000 x1 fun v3 =>
  zlet v3 fun x3_4 =>
  zV (zc R d 120 [.inl x1, .inl x2] S1) fun S5 =>
  za S5 46 4000 x2 fun v6 =>
  zI (zc R d 125 [.inl v6] S5) fun v8 S7 =>
  zlet v8 fun x4_9 =>
  zI (zc R d 8 [.inl x4_9] S7) fun v11 S10 =>
  za S10 26 57000 v11 fun v12 =>
  za S10 30 106000 v12 fun v13 =>
  zlet v13 fun x5_14 =>
  zI (zc R d 8 [.inl x4_9] S10) fun v16 S15 =>
  za S15 26 57000 v16 fun v17 =>
  za S15 31 106000 v17 fun v18 =>
  za S15 30 106000 v18 fun v19 =>
  zlet v19 fun x6_20 =>
  za S15 13 84000 x1 fun v21 =>
  zI (zc R d 115 [.inl v21] S15) fun v23 S22 =>
  zlet v23 fun x7_24 =>
  za S22 10 84000 x1 fun v25 =>
  if v25 = 40 then
    za S22 14 84000 x1 fun v26 =>
    zI (zc R d 115 [.inl v26] S22) fun v28 S27 =>
    zI (zc R d 15 [.inl x7_24, .inl v28] S27) fun v30 S29 =>
    zV (zc R d 136 [.inl x5_14, .inl v30, .inl x3_4] S29) fun S31 =>
    zrI x6_20 S31
  else
  za S22 13 84000 x1 fun v32 =>
  za S22 11 4200 (v32 - (S22.1 41)) fun v33 =>
  zV (zc R d 136 [.inl x5_14, .inl x7_24, .inl v33] S22) fun S34 =>
  zrI x6_20 S34
def zb_patternCon_p56 (R : ZC ZS) (d : Nat) (x1 : Int) (S : ZS) : ZR ZS :=
  za S 15 84000 x1 fun v1 =>
  zthrow 7 v1 S
def zb_joined_p18 (R : ZC ZS) (d : Nat) (x1 : Int) (x3 : Int) (S : ZS) : ZR ZS :=
  if (S.1 78) ≤ 0 then
    R d 625 [.inl x1, .inl x3] S
  else
  if x3 = 0 then
    R d 625 [.inl x1, .inl x3] S
  else
  zG (inI ((S.1 78) - 1)) <|
  zp S 78 ((S.1 78) - 1) fun S1 =>
  za S1 37 57000 (S1.1 78) fun v2 =>
  zI (zc R d 8 [.inl v2] S1) fun v4 S3 =>
  za S3 38 57000 (S3.1 78) fun v5 =>
  zI (zc R d 8 [.inl v5] S3) fun v7 S6 =>
  zI (zc R d 139 [.inl v4, .inl v7] S6) fun v9 S8 =>
  zlet v9 fun x3_10 =>
  R d 431 [.inl x1, .inl x3_10] S8
def zb_merge_p51 (R : ZC ZS) (d : Nat) (x1 : Int) (x2 : Int) (S : ZS) : ZR ZS :=
  za S 23 57000 x1 fun v1 =>
  if v1 = 0 then
    R d 626 [.inl x1, .inl x2] S
  else
  za S 23 57000 x2 fun v2 =>
  if v2 = 0 then
    R d 626 [.inl x1, .inl x2] S
  else
  za S 23 57000 x1 fun v3 =>
  za S 23 57000 x2 fun v4 =>
  if v3 = v4 then
    za S 23 57000 x1 fun v5 =>
    if v5 = 1 then
      zrZ 0 S
    else
    za S 23 57000 x1 fun v6 =>
    if v6 = 3 then
      zI (zc R d 142 [.inl x1, .inl x2] S) fun v8 S7 =>
      zrZ v8 S7
    else
    zI (zc R d 146 [.inl x1, .inl x2] S) fun v10 S9 =>
    zrZ v10 S9
  else
  zrZ 0 S
def zb_mergeRows_p17 (R : ZC ZS) (d : Nat) (x1 : Int) (x2 : Int) (y0 : Int) (S : ZS) : ZR ZS :=
  zlet y0 fun x3_1 =>
  za S 24 57000 x2 fun v2 =>
  if (zandI v2 8) = 0 then
    zlet (0 : Int) fun x4_3 =>
    za S 26 57000 x1 fun v4 =>
    zlet v4 fun x5_5 =>
    R d 627 [.inl x1, .inl x2, .inl x3_1, .inl x4_3, .inl x5_5] S
  else
  zlet (1 : Int) fun x4_6 =>
  za S 26 57000 x1 fun v7 =>
  zlet v7 fun x5_8 =>
  R d 627 [.inl x1, .inl x2, .inl x3_1, .inl x4_6, .inl x5_8] S
def zb_partOf_p2 (R : ZC ZS) (d : Nat) (x2 : Int) (x3 : Int) (S : ZS) : ZR ZS :=
  if x3 = (-1) then
    zrI (-1) S
  else
  za S 29 106000 x3 fun v1 =>
  if v1 = x2 then
    zrI x3 S
  else
  za S 31 106000 x3 fun v2 =>
  zlet v2 fun x3_3 =>
  R d 434 [.inl x2, .inl x3_3] S
def zb_allFields_p18 (R : ZC ZS) (d : Nat) (x1 : Int) (x2 : Int) (y0 : Int) (S : ZS) : ZR ZS :=
  zlet y0 fun x3_1 =>
  if x3_1 = 0 then
    R d 628 [.inl x1, .inl x2, .inl x3_1, .inl x1] S
  else
  R d 628 [.inl x1, .inl x2, .inl x3_1, .inl x2] S
def zb_fieldsFrom_p4 (R : ZC ZS) (d : Nat) (x2 : Int) (x3 : Int) (S : ZS) : ZR ZS :=
  if x3 = (-1) then
    zrI x2 S
  else
  zG (inI (x2 + 1)) <|
  zlet (x2 + 1) fun x2_1 =>
  za S 31 106000 x3 fun v2 =>
  zlet v2 fun x3_3 =>
  R d 436 [.inl x2_1, .inl x3_3] S
def zb_mergeMade_p38 (R : ZC ZS) (d : Nat) (x3 : Int) (x4 : Int) (S : ZS) : ZR ZS :=
  if x3 = (-1) then
    zrZ 1 S
  else
  za S 30 106000 x3 fun v1 =>
  za S 30 106000 x4 fun v2 =>
  zV (zc R d 138 [.inl v1, .inl v2] S) fun S3 =>
  za S3 31 106000 x3 fun v4 =>
  zlet v4 fun x3_5 =>
  za S3 31 106000 x4 fun v6 =>
  zlet v6 fun x4_7 =>
  R d 437 [.inl x3_5, .inl x4_7] S3
def zb_isEndless_p54 (R : ZC ZS) (d : Nat) (x1 : Int) (y0 : Int) (y1 : Int) (S : ZS) : ZR ZS :=
  zs S 41 57000 y1 y0 fun S1 =>
  zs S1 27 57000 x1 (S1.1 68) fun S2 =>
  zlet (1 : Int) fun x2_3 =>
  R d 629 [.inl x2_3] S2
def zb_admit_p121 (R : ZC ZS) (d : Nat) (x1 : Int) (S : ZS) : ZR ZS :=
  za S 23 57000 x1 fun v1 =>
  if v1 = 2 then
    za S 25 57000 x1 fun v2 =>
    if v2 = 6 then
      R d 148 [] S
    else
    za S 26 57000 x1 fun v3 =>
    zlet v3 fun x2_4 =>
    R d 630 [.inl x2_4] S
  else
  za S 26 57000 x1 fun v5 =>
  zlet v5 fun x2_6 =>
  R d 630 [.inl x2_6] S
def zb_patternTuple_p12 (R : ZC ZS) (d : Nat) (x2 : Int) (x3 : Int) (x4 : Int) (S : ZS) : ZR ZS :=
  if x4 = (-1) then
    zI (zc R d 4 [.inl 3, .inl 0, .inl x2, .inl 0, .inl 0] S) fun v2 S1 =>
    zrI v2 S1
  else
  zI (zc R d 16 [.inl x3] S) fun v4 S3 =>
  zI (zc R d 115 [.inl x4] S3) fun v6 S5 =>
  zI (zc R d 11 [.inl v4, .inl v6, .inl x2] S5) fun v8 S7 =>
  zlet v8 fun x2_9 =>
  zG (inI (x3 + 1)) <|
  zlet (x3 + 1) fun x3_10 =>
  za S7 16 84000 x4 fun v11 =>
  zlet v11 fun x4_12 =>
  R d 440 [.inl x2_9, .inl x3_10, .inl x4_12] S7
def zb_patternParts_p9 (R : ZC ZS) (d : Nat) (x1 : Int) (x2 : Int) (x3 : Int) (S : ZS) : ZR ZS :=
  if x3 = (-1) then
    za S 14 84000 x1 fun v1 =>
    if v1 = 1 then
      R d 631 [.inl x1, .inl 8, .inl x2, .inl 0, .inl 3] S
    else
    R d 631 [.inl x1, .inl 0, .inl x2, .inl 0, .inl 3] S
  else
  za S 12 84000 x3 fun v2 =>
  zI (zc R d 143 [.inl x2, .inl v2] S) fun v4 S3 =>
  if v4 = (-1) then
    za S3 12 84000 x3 fun v5 =>
    zI (zc R d 22 [.inl x2, .inl v5, .inl (-1)] S3) fun v7 S6 =>
    zlet v7 fun x2_8 =>
    za S6 13 84000 x3 fun v9 =>
    zI (zc R d 115 [.inl v9] S6) fun v11 S10 =>
    zlet v11 fun x4_12 =>
    za S10 12 84000 x3 fun v13 =>
    zI (zc R d 143 [.inl x2_8, .inl v13] S10) fun v15 S14 =>
    zs S14 30 106000 v15 x4_12 fun S16 =>
    za S16 16 84000 x3 fun v17 =>
    zlet v17 fun x3_18 =>
    R d 441 [.inl x1, .inl x2_8, .inl x3_18] S16
  else
  za S3 11 4200 (x3 - (S3.1 41)) fun v19 =>
  zthrow 6 v19 S3
def zb_patternList_p9 (R : ZC ZS) (d : Nat) (x2 : Int) (x3 : Int) (S : ZS) : ZR ZS :=
  if x3 = (-1) then
    zG (inI ((S.1 136) + 1)) <|
    zp S 136 ((S.1 136) + 1) fun S1 =>
    if x2 = (-1) then
      zI (zc R d 116 [] S1) fun v3 S2 =>
      zI (zc R d 14 [.inl 5, .inl v3] S2) fun v5 S4 =>
      zrI v5 S4
    else
    zI (zc R d 14 [.inl 5, .inl x2] S1) fun v7 S6 =>
    zrI v7 S6
  else
  zI (zc R d 115 [.inl x3] S) fun v9 S8 =>
  zlet v9 fun x4_10 =>
  zG (inI ((S8.1 136) + 1)) <|
  zp S8 136 ((S8.1 136) + 1) fun S11 =>
  if x2 = (-1) then
    zlet x4_10 fun x2_12 =>
    za S11 16 84000 x3 fun v13 =>
    zlet v13 fun x3_14 =>
    R d 442 [.inl x2_12, .inl x3_14] S11
  else
  za S11 11 4200 (x3 - (S11.1 41)) fun v15 =>
  zV (zc R d 136 [.inl x4_10, .inl x2, .inl v15] S11) fun S16 =>
  za S16 16 84000 x3 fun v17 =>
  zlet v17 fun x3_18 =>
  R d 442 [.inl x2, .inl x3_18] S16
def zb_toldVariable_p7 (R : ZC ZS) (d : Nat) (x1 : Int) (x2 : Int) (S : ZS) : ZR ZS :=
  if (S.1 127) = 1 then
    R d 632 [.inl x1, .inl x2, .inl (S.1 126), .inl x2] S
  else
  R d 632 [.inl x1, .inl x2, .inl 0, .inl x2] S
def zb_toldName_p7 (R : ZC ZS) (d : Nat) (x2 : Int) (x3 : Int) (S : ZS) : ZR ZS :=
  za S 13 84000 x3 fun v1 =>
  if v1 = (-1) then
    zI (zc R d 157 [.inl x3, .inl (-1)] S) fun v3 S2 =>
    zlet v3 fun x4_4 =>
    R d 633 [.inl x2, .inl x4_4] S2
  else
  za S 13 84000 x3 fun v5 =>
  za S 16 84000 v5 fun v6 =>
  if v6 = (-1) then
    za S 13 84000 x3 fun v7 =>
    za S 10 84000 v7 fun v8 =>
    if v8 = 51 then
      zs S 64 1100 (S.1 129) x3 fun S9 =>
      zG (inI ((S9.1 129) + 1)) <|
      zp S9 129 ((S9.1 129) + 1) fun S10 =>
      za S10 13 84000 x3 fun v11 =>
      zlet v11 fun x3_12 =>
      R d 444 [.inl x2, .inl x3_12] S10
    else
    zI (zc R d 157 [.inl x3, .inl (-1)] S) fun v14 S13 =>
    zlet v14 fun x4_15 =>
    R d 633 [.inl x2, .inl x4_15] S13
  else
  zI (zc R d 157 [.inl x3, .inl (-1)] S) fun v17 S16 =>
  zlet v17 fun x4_18 =>
  R d 633 [.inl x2, .inl x4_18] S16
def zb_toldOne_p16 (R : ZC ZS) (d : Nat) (x1 : Int) (x2 : Int) (x3 : Int) (x4 : Int) (x5 : Int) (x6 : Int) (S : ZS) : ZR ZS :=
  if x6 = (-1) then
    za S 12 84000 x1 fun v1 =>
    zI (zc R d 158 [.inl v1] S) fun v3 S2 =>
    zlet v3 fun x6_4 =>
    if x6_4 = (-1) then
      za S2 14 84000 x1 fun v5 =>
      zthrow 5 v5 S2
    else
    za S2 54 2200 x6_4 fun v6 =>
    if v6 = x5 then
      za S2 52 2200 x6_4 fun v7 =>
      if v7 = (-1) then
        zI (zc R d 159 [.inl x6_4, .inl x3] S2) fun v9 S8 =>
        zrI v9 S8
      else
      za S2 52 2200 x6_4 fun v10 =>
      zI (zc R d 4 [.inl 2, .inl v10, .inl x3, .inl 0, .inl 0] S2) fun v12 S11 =>
      zrI v12 S11
    else
    za S2 14 84000 x1 fun v13 =>
    zthrow 15 v13 S2
  else
  if x2 = (-1) then
    zI (zc R d 154 [.inl x6] S) fun v15 S14 =>
    R d 634 [.inl x1, .inl x2, .inl x3, .inl x4, .inl x5, .inl x6, .inl v15, .inl x5] S14
  else
  R d 634 [.inl x1, .inl x2, .inl x3, .inl x4, .inl x5, .inl x6, .inl x2, .inl x5] S
def zb_typeNamed_p5 (R : ZC ZS) (d : Nat) (x1 : Int) (x2 : Int) (S : ZS) : ZR ZS :=
  if x2 = (-1) then
    zrI (-1) S
  else
  za S 51 2200 x2 fun v1 =>
  if v1 = x1 then
    zrI x2 S
  else
  za S 55 2200 x2 fun v2 =>
  zlet v2 fun x2_3 =>
  R d 446 [.inl x1, .inl x2_3] S
def zb_standsFor_p7 (R : ZC ZS) (d : Nat) (x1 : Int) (x3 : Int) (S : ZS) : ZR ZS :=
  if x3 = (-1) then
    za S 53 2200 x1 fun v1 =>
    zG (inI ((-2) - v1)) <|
    zI (zc R d 127 [.inl ((-2) - v1), .inl 0] S) fun v3 S2 =>
    zrI v3 S2
  else
  za S 30 106000 x3 fun v4 =>
  zs S 43 1100 (S.1 86) v4 fun S5 =>
  zG (inI ((S5.1 86) + 1)) <|
  zp S5 86 ((S5.1 86) + 1) fun S6 =>
  za S6 31 106000 x3 fun v7 =>
  zlet v7 fun x3_8 =>
  R d 447 [.inl x1, .inl x3_8] S6
def zb_toldRow_p9 (R : ZC ZS) (d : Nat) (x2 : Int) (x3 : Int) (S : ZS) : ZR ZS :=
  if x3 = (-1) then
    zI (zc R d 4 [.inl 3, .inl 0, .inl x2, .inl 0, .inl 0] S) fun v2 S1 =>
    zrI v2 S1
  else
  za S 12 84000 x3 fun v3 =>
  zI (zc R d 143 [.inl x2, .inl v3] S) fun v5 S4 =>
  if v5 = (-1) then
    za S4 12 84000 x3 fun v6 =>
    za S4 13 84000 x3 fun v7 =>
    zI (zc R d 154 [.inl v7] S4) fun v9 S8 =>
    zI (zc R d 22 [.inl x2, .inl v6, .inl v9] S8) fun v11 S10 =>
    zlet v11 fun x2_12 =>
    za S10 16 84000 x3 fun v13 =>
    zlet v13 fun x3_14 =>
    R d 448 [.inl x2_12, .inl x3_14] S10
  else
  za S4 11 4200 (x3 - (S4.1 41)) fun v15 =>
  zthrow 6 v15 S4
def zb_patternAs_p49 (R : ZC ZS) (d : Nat) (x1 : Int) (S : ZS) : ZR ZS :=
  za S 12 84000 x1 fun v1 =>
  za S 15 84000 x1 fun v2 =>
  zI (zc R d 132 [.inl v1, .inl v2] S) fun v4 S3 =>
  zlet v4 fun x3_5 =>
  za S3 66 3000 x3_5 fun v6 =>
  zlet v6 fun x4_7 =>
  za S3 67 3000 x3_5 fun v8 =>
  zlet v8 fun x5_9 =>
  za S3 14 84000 x1 fun v10 =>
  if v10 = (-1) then
    R d 635 [.inl x1, .inl x4_7, .inl x5_9] S3
  else
  za S3 14 84000 x1 fun v11 =>
  zI (zc R d 154 [.inl v11] S3) fun v13 S12 =>
  za S12 15 84000 x1 fun v14 =>
  zV (zc R d 136 [.inl x4_7, .inl v13, .inl v14] S12) fun S15 =>
  R d 635 [.inl x1, .inl x4_7, .inl x5_9] S15
def zb_patternAs_p36 (R : ZC ZS) (d : Nat) (x1 : Int) (S : ZS) : ZR ZS :=
  za S 15 84000 x1 fun v1 =>
  zthrow 7 v1 S
def zb_judgedName_p90 (R : ZC ZS) (d : Nat) (x4 : Int) (y0 : Int) (y1 : Int) (S : ZS) : ZR ZS :=
  zV (zc R d 121 [.inl y1, .inl y0] S) fun S1 =>
  za S1 46 4000 x4 fun v2 =>
  zI (zc R d 125 [.inl v2] S1) fun v4 S3 =>
  zrI v4 S3
def zb_judgedRow_p9 (R : ZC ZS) (d : Nat) (x2 : Int) (x3 : Int) (S : ZS) : ZR ZS :=
  if x3 = (-1) then
    zI (zc R d 4 [.inl 3, .inl 0, .inl x2, .inl 0, .inl 0] S) fun v2 S1 =>
    zrI v2 S1
  else
  za S 12 84000 x3 fun v3 =>
  zI (zc R d 143 [.inl x2, .inl v3] S) fun v5 S4 =>
  if v5 = (-1) then
    za S4 12 84000 x3 fun v6 =>
    zI (zc R d 22 [.inl x2, .inl v6, .inl (-1)] S4) fun v8 S7 =>
    zlet v8 fun x2_9 =>
    za S7 13 84000 x3 fun v10 =>
    zI (zc R d 162 [.inl v10] S7) fun v12 S11 =>
    zlet v12 fun x4_13 =>
    za S11 12 84000 x3 fun v14 =>
    zI (zc R d 143 [.inl x2_9, .inl v14] S11) fun v16 S15 =>
    zs S15 30 106000 v16 x4_13 fun S17 =>
    za S17 16 84000 x3 fun v18 =>
    zlet v18 fun x3_19 =>
    R d 452 [.inl x2_9, .inl x3_19] S17
  else
  za S4 11 4200 (x3 - (S4.1 41)) fun v20 =>
  zthrow 6 v20 S4
def zb_judgedTuple_p12 (R : ZC ZS) (d : Nat) (x2 : Int) (x3 : Int) (x4 : Int) (S : ZS) : ZR ZS :=
  if x4 = (-1) then
    zI (zc R d 4 [.inl 3, .inl 0, .inl x2, .inl 0, .inl 0] S) fun v2 S1 =>
    zrI v2 S1
  else
  zI (zc R d 16 [.inl x3] S) fun v4 S3 =>
  zI (zc R d 162 [.inl x4] S3) fun v6 S5 =>
  zI (zc R d 11 [.inl v4, .inl v6, .inl x2] S5) fun v8 S7 =>
  zlet v8 fun x2_9 =>
  zG (inI (x3 + 1)) <|
  zlet (x3 + 1) fun x3_10 =>
  za S7 16 84000 x4 fun v11 =>
  zlet v11 fun x4_12 =>
  R d 453 [.inl x2_9, .inl x3_10, .inl x4_12] S7
def zb_judgedApplication_p4 (R : ZC ZS) (d : Nat) (x1 : Int) (x2 : Int) (x3 : Int) (S : ZS) : ZR ZS :=
  za S 10 84000 x3 fun v1 =>
  if v1 = 6 then
    za S 13 84000 x3 fun v2 =>
    zlet v2 fun x3_3 =>
    zG (inI (x2 + 1)) <|
    zlet (x2 + 1) fun x2_4 =>
    R d 454 [.inl x1, .inl x2_4, .inl x3_3] S
  else
  zI (zc R d 162 [.inl x3] S) fun v6 S5 =>
  zlet v6 fun x4_7 =>
  zG (inI (x2 - 1)) <|
  zlet (x2 - 1) fun x5_8 =>
  R d 636 [.inl x1, .inl x4_7, .inl x5_8] S5
def zb_rules_p12 (R : ZC ZS) (d : Nat) (x4 : Int) (x5 : Int) (x6 : Int) (x7 : Int) (x9 : Int) (S : ZS) : ZR ZS :=
  if x9 = (-1) then
    zp S 138 x5 fun S1 =>
    zrI x6 S1
  else
  zlet (S.1 95) fun x10_2 =>
  zlet (S.1 134) fun x11_3 =>
  zlet (S.1 135) fun x12_4 =>
  zlet (S.1 111) fun x13_5 =>
  zlet (S.1 112) fun x14_6 =>
  zpZ S 111 0 fun S7 =>
  zpZ S7 112 0 fun S8 =>
  zp S8 135 x11_3 fun S9 =>
  za S9 13 84000 x9 fun v10 =>
  zI (zc R d 115 [.inl v10] S9) fun v12 S11 =>
  zlet v12 fun x15_13 =>
  if x5 = (-1) then
    zlet x15_13 fun x5_14 =>
    R d 637 [.inl x4, .inl x5_14, .inl x6, .inr (.inl x7), .inl x9, .inl x10_2, .inl x11_3, .inl x12_4, .inl x13_5, .inl x14_6] S11
  else
  za S11 13 84000 x9 fun v15 =>
  za S11 11 4200 (v15 - (S11.1 41)) fun v16 =>
  zV (zc R d 136 [.inl x15_13, .inl x5, .inl v16] S11) fun S17 =>
  R d 637 [.inl x4, .inl x5, .inl x6, .inr (.inl x7), .inl x9, .inl x10_2, .inl x11_3, .inl x12_4, .inl x13_5, .inl x14_6] S17
def zb_bindPending_p2 (R : ZC ZS) (d : Nat) (x1 : Int) (x2 : Int) (S : ZS) : ZR ZS :=
  if x2 < (S.1 134) then
    za S 65 3000 x2 fun v1 =>
    za S 66 3000 x2 fun v2 =>
    za S 67 3000 x2 fun v3 =>
    za S 68 3000 x2 fun v4 =>
    zI (zc R d 12 [.inl v1, .inl 0, .inl v2, .inl 0, .inl v3, .inl v4] S) fun v6 S5 =>
    zlet v6 fun x3_7 =>
    zG (inI (x2 + 1)) <|
    zlet (x2 + 1) fun x2_8 =>
    R d 456 [.inl x1, .inl x2_8] S5
  else
  zp S 134 x1 fun S9 =>
  zrV S9
def zb_countOf_p184 (R : ZC ZS) (d : Nat) (x3 : Int) (x4 : Int) (S : ZS) : ZR ZS :=
  if x4 = (-1) then
    zrI x3 S
  else
  za S 13 84000 x4 fun v1 =>
  zI (zc R d 171 [.inl v1] S) fun v3 S2 =>
  zG (inI (x3 + v3)) <|
  zlet (x3 + v3) fun x3_4 =>
  za S2 16 84000 x4 fun v5 =>
  zlet v5 fun x4_6 =>
  R d 457 [.inl x3_4, .inl x4_6] S2
def zb_countOf_p229 (R : ZC ZS) (d : Nat) (x4 : Int) (x5 : Int) (S : ZS) : ZR ZS :=
  if x5 = (-1) then
    zrI x4 S
  else
  zI (zc R d 171 [.inl x5] S) fun v2 S1 =>
  zG (inI (x4 + (1 + v2))) <|
  zlet (x4 + (1 + v2)) fun x4_3 =>
  za S1 16 84000 x5 fun v4 =>
  zlet v4 fun x5_5 =>
  R d 458 [.inl x4_3, .inl x5_5] S1
def zb_countOf_p138 (R : ZC ZS) (d : Nat) (x2 : Int) (x3 : Int) (S : ZS) : ZR ZS :=
  if x3 = (-1) then
    zrI x2 S
  else
  zI (zc R d 171 [.inl x3] S) fun v2 S1 =>
  zG (inI (x2 + v2)) <|
  zlet (x2 + v2) fun x2_3 =>
  za S1 16 84000 x3 fun v4 =>
  zlet v4 fun x3_5 =>
  R d 459 [.inl x2_3, .inl x3_5] S1
def zb_times_p13 (R : ZC ZS) (d : Nat) (x4 : Int) (y0 : Int) (S : ZS) : ZR ZS :=
  zlet y0 fun x5_1 =>
  if x5_1 ≤ 10000 then
    zrL x5_1 S
  else
  zthrow 4 x4 S
def zb_endCode_p19 (R : ZC ZS) (d : Nat) (x1 : Int) (x2 : Int) (x3 : Int) (S : ZS) : ZR ZS :=
  if x3 = (-1) then
    zs S 71 9000 x1 (S.1 150) fun S1 =>
    za S1 72 9000 x1 fun v2 =>
    zG (inI ((S1.1 150) + v2)) <|
    zp S1 150 ((S1.1 150) + v2) fun S3 =>
    zrV S3
  else
  zG (inI (x2 + (-1))) <|
  zlet (x2 + (-1)) fun x2_4 =>
  za S 75 21000 x3 fun v5 =>
  zs S 77 380000 x2_4 v5 fun S6 =>
  za S6 76 21000 x3 fun v7 =>
  zlet v7 fun x3_8 =>
  R d 461 [.inl x1, .inl x2_4, .inl x3_8] S6
def zb_judgedOther_p245 (R : ZC ZS) (d : Nat) (x7 : Int) (x8 : Int) (S : ZS) : ZR ZS :=
  if x8 = (-1) then
    if x7 = (-1) then
      zI (zc R d 116 [] S) fun v2 S1 =>
      zI (zc R d 14 [.inl 5, .inl v2] S1) fun v4 S3 =>
      zrI v4 S3
    else
    zI (zc R d 14 [.inl 5, .inl x7] S) fun v6 S5 =>
    zrI v6 S5
  else
  zI (zc R d 162 [.inl x8] S) fun v8 S7 =>
  zlet v8 fun x9_9 =>
  if x7 = (-1) then
    zlet x9_9 fun x7_10 =>
    za S7 16 84000 x8 fun v11 =>
    zlet v11 fun x8_12 =>
    R d 462 [.inl x7_10, .inl x8_12] S7
  else
  za S7 11 4200 (x8 - (S7.1 41)) fun v13 =>
  zV (zc R d 136 [.inl x9_9, .inl x7, .inl v13] S7) fun S14 =>
  za S14 16 84000 x8 fun v15 =>
  zlet v15 fun x8_16 =>
  R d 462 [.inl x7, .inl x8_16] S14
def zb_judgedSequence_p4 (R : ZC ZS) (d : Nat) (x2 : Int) (x3 : Int) (S : ZS) : ZR ZS :=
  if x3 = (-1) then
    zrI x2 S
  else
  zI (zc R d 162 [.inl x3] S) fun v2 S1 =>
  zlet v2 fun x2_3 =>
  za S1 16 84000 x3 fun v4 =>
  zlet v4 fun x3_5 =>
  R d 463 [.inl x2_3, .inl x3_5] S1
def zb_judgedLet_p40 (R : ZC ZS) (d : Nat) (x1 : Int) (x2 : Int) (x3 : Int) (x4 : Int) (x5 : Int) (x6 : Int) (S : ZS) : ZR ZS :=
  if x6 = (-1) then
    za S 14 84000 x1 fun v1 =>
    zI (zc R d 177 [.inl v1] S) fun v3 S2 =>
    zlet v3 fun x6_4 =>
    zpZ S2 111 x4 fun S5 =>
    zpZ S5 112 x5 fun S6 =>
    zp S6 95 x2 fun S7 =>
    zp S7 102 x3 fun S8 =>
    zrI x6_4 S8
  else
  zV (zc R d 109 [.inl x6] S) fun S9 =>
  za S9 16 84000 x6 fun v10 =>
  zlet v10 fun x6_11 =>
  R d 464 [.inl x1, .inl x2, .inl x3, .inl x4, .inl x5, .inl x6_11] S9
def zb_does_p115 (R : ZC ZS) (d : Nat) (x2 : Int) (x3 : Int) (S : ZS) : ZR ZS :=
  if x3 = (-1) then
    zrZ x2 S
  else
  if x2 = 0 then
    za S 13 84000 x3 fun v1 =>
    zI (zc R d 179 [.inl v1] S) fun v3 S2 =>
    if v3 = 0 then
      R d 638 [.inl x3, .inl 0] S2
    else
    R d 638 [.inl x3, .inl 1] S2
  else
  R d 638 [.inl x3, .inl 1] S
def zb_does_p165 (R : ZC ZS) (d : Nat) (x3 : Int) (x4 : Int) (S : ZS) : ZR ZS :=
  if x4 = (-1) then
    zrZ x3 S
  else
  if x3 = 0 then
    zI (zc R d 179 [.inl x4] S) fun v2 S1 =>
    if v2 = 0 then
      R d 639 [.inl x4, .inl 0] S1
    else
    R d 639 [.inl x4, .inl 1] S1
  else
  R d 639 [.inl x4, .inl 1] S
def zb_isMaker_p21 (R : ZC ZS) (d : Nat) (x1 : Int) (S : ZS) : ZR ZS :=
  zI (zc R d 181 [.inl x1] S) fun v2 S1 =>
  if v2 = 2 then
    zrZ 1 S1
  else
  zrZ 0 S1
def zb_through_p3 (R : ZC ZS) (d : Nat) (x1 : Int) (x2 : Int) (x3 : Int) (x4 : Int) (S : ZS) : ZR ZS :=
  if x4 < (S.1 134) then
    za S 66 3000 x4 fun v1 =>
    zI (zc R d 184 [.inl v1] S) fun v3 S2 =>
    if v3 ≤ 40 then
      zG (inI (x4 + 1)) <|
      zlet (x4 + 1) fun x4_4 =>
      R d 468 [.inl x1, .inl x2, .inl x3, .inl x4_4] S2
    else
    za S2 68 3000 x4 fun v5 =>
    zthrow 14 v5 S2
  else
  zV (zc R d 186 [.inl x1, .inl x2] S) fun S6 =>
  zlet ((-1) : Int) fun x4_7 =>
  zlet x3 fun x5_8 =>
  R d 640 [.inl x2, .inl x3, .inl x4_7, .inl x5_8] S6
def zb_sizeOf_p40 (R : ZC ZS) (d : Nat) (x2 : Int) (x3 : Int) (S : ZS) : ZR ZS :=
  if x3 ≤ 0 then
    za S 28 57000 x2 fun v1 =>
    zrI v1 S
  else
  za S 40 57000 (x3 - 1) fun v2 =>
  zlet v2 fun x4_3 =>
  za S 41 57000 (x3 - 1) fun v4 =>
  zlet v4 fun x5_5 =>
  if x5_5 = (-1) then
    zG (inI (x3 + (-1))) <|
    zlet (x3 + (-1)) fun x3_6 =>
    zlet (1 : Int) fun x6_7 =>
    za S 26 57000 x4_3 fun v8 =>
    zlet v8 fun x7_9 =>
    R d 641 [.inl x2, .inl x3_6, .inl x4_3, .inl x6_7, .inl x7_9] S
  else
  za S 31 106000 x5_5 fun v10 =>
  zs S 41 57000 (x3 - 1) v10 fun S11 =>
  za S11 30 106000 x5_5 fun v12 =>
  zI (zc R d 8 [.inl v12] S11) fun v14 S13 =>
  zlet v14 fun x6_15 =>
  za S13 27 57000 x6_15 fun v16 =>
  if v16 = (S13.1 68) then
    R d 469 [.inl x2, .inl x3] S13
  else
  zI (zc R d 185 [.inl x6_15, .inl x3] S13) fun v18 S17 =>
  zlet v18 fun x3_19 =>
  R d 469 [.inl x2, .inl x3_19] S17
def zb_enterSize_p39 (R : ZC ZS) (d : Nat) (x1 : Int) (x2 : Int) (S : ZS) : ZR ZS :=
  zs S 40 57000 x2 x1 fun S1 =>
  za S1 26 57000 x1 fun v2 =>
  zs S1 41 57000 x2 v2 fun S3 =>
  zG (inI (x2 + 1)) <|
  zrI (x2 + 1) S3
def zb_markRim_p2 (R : ZC ZS) (d : Nat) (x1 : Int) (x2 : Int) (x3 : Int) (S : ZS) : ZR ZS :=
  if x3 < (S.1 66) then
    zs S 28 57000 x3 0 fun S1 =>
    zG (inI (x3 + 1)) <|
    zlet (x3 + 1) fun x3_2 =>
    R d 471 [.inl x1, .inl x2, .inl x3_2] S1
  else
  zlet x1 fun x3_3 =>
  R d 642 [.inl x2, .inl x3_3] S
def zb_spreadRim_p38 (R : ZC ZS) (d : Nat) (x2 : Int) (x4 : Int) (S : ZS) : ZR ZS :=
  if x4 ≤ 0 then
    zrV S
  else
  zG (inI (x4 + (-1))) <|
  zlet (x4 + (-1)) fun x4_1 =>
  za S 40 57000 x4_1 fun v2 =>
  zlet v2 fun x5_3 =>
  za S 23 57000 x5_3 fun v4 =>
  if v4 = 2 then
    za S 26 57000 x5_3 fun v5 =>
    zlet v5 fun x6_6 =>
    R d 643 [.inl x2, .inl x4_1, .inl x6_6] S
  else
  za S 23 57000 x5_3 fun v7 =>
  if v7 = 3 then
    za S 26 57000 x5_3 fun v8 =>
    zlet v8 fun x6_9 =>
    R d 643 [.inl x2, .inl x4_1, .inl x6_9] S
  else
  R d 472 [.inl x2, .inl x4_1] S
def zb_generalise_p35 (R : ZC ZS) (d : Nat) (x3 : Int) (S : ZS) : ZR ZS :=
  if x3 ≤ 0 then
    zrV S
  else
  zG (inI (x3 + (-1))) <|
  zlet (x3 + (-1)) fun x3_1 =>
  za S 40 57000 x3_1 fun v2 =>
  zlet v2 fun x4_3 =>
  za S 23 57000 x4_3 fun v4 =>
  if v4 = 0 then
    za S 28 57000 x4_3 fun v5 =>
    if v5 = 0 then
      za S 24 57000 x4_3 fun v6 =>
      if (zandI v6 2) = 0 then
        za S 24 57000 x4_3 fun v7 =>
        zs S 24 57000 x4_3 (zbyte (zorI v7 4)) fun S8 =>
        R d 644 [.inl x3_1, .inl x4_3] S8
      else
      R d 644 [.inl x3_1, .inl x4_3] S
    else
    R d 644 [.inl x3_1, .inl x4_3] S
  else
  R d 644 [.inl x3_1, .inl x4_3] S
def zb_bindLines_p2 (R : ZC ZS) (d : Nat) (x1 : Int) (x2 : Int) (S : ZS) : ZR ZS :=
  if x2 < (S.1 134) then
    za S 65 3000 x2 fun v1 =>
    za S 66 3000 x2 fun v2 =>
    za S 67 3000 x2 fun v3 =>
    za S 68 3000 x2 fun v4 =>
    zI (zc R d 12 [.inl v1, .inl 0, .inl v2, .inl 0, .inl v3, .inl v4] S) fun v6 S5 =>
    zlet v6 fun x3_7 =>
    zV (zc R d 190 [.inl 0, .inl x3_7] S5) fun S8 =>
    zG (inI (x2 + 1)) <|
    zlet (x2 + 1) fun x2_9 =>
    R d 474 [.inl x1, .inl x2_9] S8
  else
  zp S 134 x1 fun S10 =>
  zrV S10
def zb_judgedRec_p48 (R : ZC ZS) (d : Nat) (x1 : Int) (x2 : Int) (x3 : Int) (x4 : Int) (x5 : Int) (x6 : Int) (x7 : Int) (S : ZS) : ZR ZS :=
  if x7 = (-1) then
    zlet (S.1 134) fun x7_1 =>
    zlet x5 fun x8_2 =>
    R d 645 [.inl x1, .inl x2, .inl x3, .inl x4, .inl x5, .inl x6, .inl x7_1, .inl x8_2] S
  else
  za S 13 84000 x7 fun v3 =>
  zlet v3 fun x8_4 =>
  R d 646 [.inl x1, .inl x2, .inl x3, .inl x4, .inl x5, .inl x6, .inl x7, .inl x8_4] S
def zb_judgedFun_p48 (R : ZC ZS) (d : Nat) (x1 : Int) (x2 : Int) (x3 : Int) (x4 : Int) (x5 : Int) (x6 : Int) (x7 : Int) (S : ZS) : ZR ZS :=
  if x7 = (-1) then
    zlet (S.1 134) fun x7_1 =>
    zlet x5 fun x8_2 =>
    R d 647 [.inl x1, .inl x2, .inl x3, .inl x4, .inl x5, .inl x6, .inl x7_1, .inl x8_2] S
  else
  za S 12 84000 x7 fun v3 =>
  za S 13 84000 x7 fun v4 =>
  za S 15 84000 v4 fun v5 =>
  za S 11 4200 (v5 - (S.1 41)) fun v6 =>
  zI (zc R d 132 [.inl v3, .inl v6] S) fun v8 S7 =>
  zlet v8 fun x8_9 =>
  zs S7 83 3000 x8_9 0 fun S10 =>
  za S10 67 3000 x8_9 fun v11 =>
  zs S10 15 84000 x7 v11 fun S12 =>
  za S12 16 84000 x7 fun v13 =>
  zlet v13 fun x7_14 =>
  R d 476 [.inl x1, .inl x2, .inl x3, .inl x4, .inl x5, .inl x6, .inl x7_14] S12
def zb_judgedFunction_p18 (R : ZC ZS) (d : Nat) (x1 : Int) (x2 : Int) (x3 : Int) (x4 : Int) (x5 : Int) (S : ZS) : ZR ZS :=
  if x5 = (-1) then
    zI (zc R d 108 [.inl x4, .inl x1] S) fun v2 S1 =>
    zlet v2 fun x5_3 =>
    zs S1 14 84000 x1 x5_3 fun S4 =>
    zlet (S4.1 115) fun x6_5 =>
    zlet (S4.1 116) fun x7_6 =>
    zlet (S4.1 111) fun x8_7 =>
    zlet (S4.1 112) fun x9_8 =>
    zp S4 115 x5_3 fun S9 =>
    zp S9 116 x4 fun S10 =>
    zpZ S10 111 0 fun S11 =>
    zpZ S11 112 0 fun S12 =>
    zlet (S12.1 163) fun x10_13 =>
    zG (inI ((S12.1 163) + x4)) <|
    zp S12 163 ((S12.1 163) + x4) fun S14 =>
    zlet ((-1) : Int) fun x11_15 =>
    zlet (1 : Int) fun x12_16 =>
    zlet x3 fun x14_17 =>
    R d 648 [.inl x1, .inl x2, .inl x3, .inl x4, .inl x5_3, .inl x6_5, .inl x7_6, .inl x8_7, .inl x9_8, .inl x10_13, .inl x11_15, .inr (.inl x12_16), .inl x14_17] S14
  else
  zG (inI (x4 + 1)) <|
  zlet (x4 + 1) fun x4_18 =>
  za S 16 84000 x5 fun v19 =>
  zlet v19 fun x5_20 =>
  R d 477 [.inl x1, .inl x2, .inl x3, .inl x4_18, .inl x5_20] S
def zb_judgedClause_p53 (R : ZC ZS) (d : Nat) (x1 : Int) (x2 : Int) (x3 : Int) (x4 : Int) (x5 : Int) (x6 : Int) (x7 : Int) (x8 : Int) (S : ZS) : ZR ZS :=
  if x8 = (-1) then
    if x7 = x3 then
      zlet (S.1 95) fun x8_1 =>
      zlet (S.1 134) fun x9_2 =>
      zlet (S.1 135) fun x10_3 =>
      zp S 135 x9_2 fun S4 =>
      zlet x4 fun x11_5 =>
      za S4 13 84000 x2 fun v6 =>
      zlet v6 fun x12_7 =>
      R d 649 [.inl x1, .inl x2, .inl x5, .inl x6, .inl x8_1, .inl x9_2, .inl x10_3, .inl x11_5, .inl x12_7] S4
    else
    za S 11 4200 (x6 - (S.1 41)) fun v8 =>
    zthrow 7 v8 S
  else
  zG (inI (x7 + 1)) <|
  zlet (x7 + 1) fun x7_9 =>
  za S 16 84000 x8 fun v10 =>
  zlet v10 fun x8_11 =>
  R d 478 [.inl x1, .inl x2, .inl x3, .inl x4, .inl x5, .inl x6, .inl x7_9, .inl x8_11] S
def zb_judgedType_p96 (R : ZC ZS) (d : Nat) (x1 : Int) (x2 : Int) (x3 : Int) (x4 : Int) (x5 : Int) (x6 : Int) (x7 : Int) (S : ZS) : ZR ZS :=
  if x7 = (-1) then
    za S 12 84000 x1 fun v1 =>
    zI (zc R d 6 [.inl x6] S) fun v3 S2 =>
    zI (zc R d 650 [.inl x5] S2) fun v5 S4 =>
    zI (zc R d 2 [.inl v1, .inl (-1), .inl v3, .inl v5] S4) fun v7 S6 =>
    zlet v7 fun x7_8 =>
    zp S6 125 x4 fun S9 =>
    zp S9 126 x3 fun S10 =>
    zp S10 127 x2 fun S11 =>
    zV (zc R d 190 [.inl 1, .inl x1] S11) fun S12 =>
    zs S12 15 84000 x1 x7_8 fun S13 =>
    zrV S13
  else
  za S 30 106000 x7 fun v14 =>
  zs S 43 1100 (S.1 86) v14 fun S15 =>
  zG (inI ((S15.1 86) + 1)) <|
  zp S15 86 ((S15.1 86) + 1) fun S16 =>
  za S16 31 106000 x7 fun v17 =>
  zlet v17 fun x7_18 =>
  R d 479 [.inl x1, .inl x2, .inl x3, .inl x4, .inl x5, .inl x6, .inl x7_18] S16
def zb_listed_p10 (R : ZC ZS) (d : Nat) (x2 : Int) (x3 : Int) (x4 : Int) (x5 : Int) (S : ZS) : ZR ZS :=
  if x5 = (-1) then
    zrI x2 S
  else
  zlet (S.1 126) fun x6_1 =>
  R d 651 [.inl x2, .inl x3, .inl x4, .inl x5, .inl x6_1] S
def zb_judgedData_p43 (R : ZC ZS) (d : Nat) (x1 : Int) (x2 : Int) (x3 : Int) (x4 : Int) (x5 : Int) (x6 : Int) (S : ZS) : ZR ZS :=
  if x6 = (-1) then
    zp S 125 x4 fun S1 =>
    za S1 13 84000 x1 fun v2 =>
    zlet v2 fun x6_3 =>
    R d 652 [.inl x1, .inl x2, .inl x3, .inl x4, .inl x6_3] S1
  else
  zlet x5 fun x7_4 =>
  R d 653 [.inl x1, .inl x2, .inl x3, .inl x4, .inl x5, .inl x6, .inl x7_4] S
def zb_judgedCons_p45 (R : ZC ZS) (d : Nat) (x2 : Int) (x3 : Int) (x4 : Int) (x5 : Int) (S : ZS) : ZR ZS :=
  if x5 = (-1) then
    zrV S
  else
  za S 12 84000 x5 fun v1 =>
  zI (zc R d 133 [.inl v1] S) fun v3 S2 =>
  if v3 = 0 then
    zlet x2 fun x6_4 =>
    R d 654 [.inl x2, .inl x3, .inl x4, .inl x5, .inl x6_4] S2
  else
  za S2 11 4200 (x5 - (S2.1 41)) fun v5 =>
  zthrow 7 v5 S2
def zb_admits_p35 (R : ZC ZS) (d : Nat) (x3 : Int) (S : ZS) : ZR ZS :=
  if x3 ≤ 0 then
    zrZ 1 S
  else
  zG (inI (x3 + (-1))) <|
  zlet (x3 + (-1)) fun x3_1 =>
  za S 40 57000 x3_1 fun v2 =>
  zlet v2 fun x4_3 =>
  za S 23 57000 x4_3 fun v4 =>
  if v4 = 2 then
    za S 25 57000 x4_3 fun v5 =>
    za S 36 7500 v5 fun v6 =>
    if v6 = 0 then
      zrZ 0 S
    else
    R d 655 [.inl x3_1, .inl x4_3] S
  else
  R d 655 [.inl x3_1, .inl x4_3] S
def zb_judgedException_p70 (R : ZC ZS) (d : Nat) (x1 : Int) (x2 : Int) (y0 : Int) (S : ZS) : ZR ZS :=
  zlet y0 fun x3_1 =>
  zp S 127 x2 fun S2 =>
  if x3_1 = (-1) then
    R d 656 [.inl x1, .inl x3_1] S2
  else
  zI (zc R d 184 [.inl x3_1] S2) fun v4 S3 =>
  if v4 ≤ 40 then
    R d 656 [.inl x1, .inl x3_1] S3
  else
  za S3 15 84000 x1 fun v5 =>
  zthrow 14 v5 S3
def zb_judgedLocal_p29 (R : ZC ZS) (d : Nat) (x1 : Int) (x2 : Int) (x3 : Int) (x4 : Int) (x5 : Int) (S : ZS) : ZR ZS :=
  if x5 = (-1) then
    zlet (S.1 95) fun x5_1 =>
    zlet (S.1 102) fun x6_2 =>
    zpZ S 111 x4 fun S3 =>
    za S3 14 84000 x1 fun v4 =>
    zlet v4 fun x7_5 =>
    R d 657 [.inl x2, .inl x3, .inl x5_1, .inl x6_2, .inl x7_5] S3
  else
  zV (zc R d 109 [.inl x5] S) fun S6 =>
  za S6 16 84000 x5 fun v7 =>
  zlet v7 fun x5_8 =>
  R d 485 [.inl x1, .inl x2, .inl x3, .inl x4, .inl x5_8] S6
def zb_finish_p4 (R : ZC ZS) (d : Nat) (x1 : Int) (x2 : Int) (S : ZS) : ZR ZS :=
  if x2 < (S.1 66) then
    za S 23 57000 x2 fun v1 =>
    if v1 = 0 then
      za S 24 57000 x2 fun v2 =>
      if (zandI v2 6) = 2 then
        zs S 23 57000 x2 2 fun S3 =>
        zs S3 25 57000 x2 0 fun S4 =>
        zs S4 26 57000 x2 (-1) fun S5 =>
        R d 658 [.inl x1, .inl x2] S5
      else
      R d 658 [.inl x1, .inl x2] S
    else
    R d 658 [.inl x1, .inl x2] S
  else
  if x1 = (-1) then
    zlet (0 : Int) fun x2_6 =>
    R d 659 [.inl x2_6] S
  else
  zthrow 11 x1 S
def zb_hasUnknown_p35 (R : ZC ZS) (d : Nat) (x3 : Int) (S : ZS) : ZR ZS :=
  if x3 ≤ 0 then
    zrZ 0 S
  else
  zG (inI (x3 + (-1))) <|
  zlet (x3 + (-1)) fun x3_1 =>
  za S 40 57000 x3_1 fun v2 =>
  zlet v2 fun x4_3 =>
  za S 23 57000 x4_3 fun v4 =>
  if v4 = 0 then
    za S 24 57000 x4_3 fun v5 =>
    if (zandI v5 4) = 0 then
      zrZ 1 S
    else
    R d 660 [.inl x3_1, .inl x4_3] S
  else
  R d 660 [.inl x3_1, .inl x4_3] S
def zb_noteAll_p7 (R : ZC ZS) (d : Nat) (x1 : Int) (S : ZS) : ZR ZS :=
  if x1 < (S.1 166) then
    za S 86 1100 x1 fun v1 =>
    zlet v1 fun x2_2 =>
    za S 85 1100 x1 fun v3 =>
    zlet v3 fun x3_4 =>
    zp S 171 0 fun S5 =>
    zlet (0 : Int) fun x4_6 =>
    zlet (1 : Int) fun x5_7 =>
    if x3_4 = 2 then
      za S5 13 84000 x2_2 fun v8 =>
      zs S5 89 240000 0 v8 fun S9 =>
      zlet (1 : Int) fun x4_10 =>
      R d 661 [.inl x1, .inl x2_2, .inl x3_4, .inl x4_10, .inl x5_7] S9
    else
    if x3_4 = 3 then
      za S5 13 84000 x2_2 fun v11 =>
      za S5 13 84000 v11 fun v12 =>
      zI (zc R d 662 [.inl v12] S5) fun v14 S13 =>
      zlet v14 fun x5_15 =>
      za S13 13 84000 x2_2 fun v16 =>
      zlet v16 fun x6_17 =>
      R d 663 [.inl x1, .inl x2_2, .inl x3_4, .inl x4_6, .inl x5_15, .inl x6_17] S13
    else
    if x3_4 = 0 then
      za S5 13 84000 x2_2 fun v18 =>
      zlet v18 fun x6_19 =>
      R d 664 [.inl x1, .inl x2_2, .inl x3_4, .inl x4_6, .inl x5_7, .inl x6_19] S5
    else
    za S5 14 84000 x2_2 fun v20 =>
    zlet v20 fun x6_21 =>
    R d 664 [.inl x1, .inl x2_2, .inl x3_4, .inl x4_6, .inl x5_7, .inl x6_21] S5
  else
  zrV S
def zb_isUseful_p25 (R : ZC ZS) (d : Nat) (x1 : Int) (x2 : Int) (x3 : Int) (x4 : Int) (x5 : Int) (x6 : Int) (S : ZS) : ZR ZS :=
  zG (inI (x2 * x3)) <|
  if x6 < (x2 * x3) then
    za S 89 240000 (x1 + x6) fun v1 =>
    zs S 89 240000 (x5 + x6) v1 fun S2 =>
    zG (inI (x6 + 1)) <|
    zlet (x6 + 1) fun x6_3 =>
    R d 489 [.inl x1, .inl x2, .inl x3, .inl x4, .inl x5, .inl x6_3] S2
  else
  zlet (0 : Int) fun x6_4 =>
  R d 665 [.inl x2, .inl x3, .inl x4, .inl x5, .inl x6_4] S
def zb_usefulHere_p59 (R : ZC ZS) (d : Nat) (x1 : Int) (x3 : Int) (x4 : Int) (x5 : Int) (x6 : Int) (x7 : Int) (S : ZS) : ZR ZS :=
  if x7 < (S.1 175) then
    if x5 = 0 then
      za S 89 240000 ((S.1 174) + (x7 * (S.1 176))) fun v1 =>
      zI (zc R d 211 [.inl v1] S) fun v3 S2 =>
      zlet v3 fun x6_4 =>
      zI (zc R d 213 [.inl x6_4] S2) fun v6 S5 =>
      zlet v6 fun x5_7 =>
      zG (inI (x7 + 1)) <|
      zlet (x7 + 1) fun x7_8 =>
      R d 490 [.inl x1, .inl x3, .inl x4, .inl x5_7, .inl x6_4, .inl x7_8] S5
    else
    R d 666 [.inl x1, .inl x3, .inl x4, .inl x5, .inl x6] S
  else
  R d 666 [.inl x1, .inl x3, .inl x4, .inl x5, .inl x6] S
def zb_takesAll_p2 (R : ZC ZS) (d : Nat) (x1 : Int) (S : ZS) : ZR ZS :=
  if x1 < (S.1 175) then
    zlet (1 : Int) fun x2_1 =>
    zlet (0 : Int) fun x3_2 =>
    R d 667 [.inl x1, .inl x2_1, .inl x3_2] S
  else
  zrZ 0 S
def zb_bare0_p2 (R : ZC ZS) (d : Nat) (x2 : Int) (S : ZS) : ZR ZS :=
  if x2 = (-1) then
    zrI (-1) S
  else
  za S 10 84000 x2 fun v1 =>
  zlet v1 fun x3_2 =>
  if x3_2 = 38 then
    R d 668 [.inl x2] S
  else
  if x3_2 = 37 then
    R d 668 [.inl x2] S
  else
  if x3_2 = 30 then
    zlet ((-1) : Int) fun x2_3 =>
    R d 492 [.inl x2_3] S
  else
  if x3_2 = 31 then
    za S 13 84000 x2 fun v4 =>
    if v4 = 0 then
      zlet ((-1) : Int) fun x2_5 =>
      R d 492 [.inl x2_5] S
    else
    zrI x2 S
  else
  zrI x2 S
def zb_headOf_p90 (R : ZC ZS) (d : Nat) (y0 : Int) (S : ZS) : ZR ZS :=
  zlet y0 fun x3_1 =>
  if x3_1 = 1 then
    zrI 2 S
  else
  zrI 3 S
def zb_rowStep_p7 (R : ZC ZS) (d : Nat) (x1 : Int) (S : ZS) : ZR ZS :=
  if x1 ≤ (S.1 175) then
    za S 89 240000 ((S.1 174) + (x1 * (S.1 176))) fun v1 =>
    zI (zc R d 211 [.inl v1] S) fun v3 S2 =>
    zV (zc R d 215 [.inl v3] S2) fun S4 =>
    zG (inI (x1 + 1)) <|
    zlet (x1 + 1) fun x1_5 =>
    R d 494 [.inl x1_5] S4
  else
  zlet (S.1 171) fun x1_6 =>
  zG (inI (((S.1 176) - 1) + (S.1 178))) <|
  zlet (((S.1 176) - 1) + (S.1 178)) fun x2_7 =>
  zlet (0 : Int) fun x3_8 =>
  R d 669 [.inl x1_6, .inl x2_7, .inl x3_8] S
def zb_labelsOf_p74 (R : ZC ZS) (d : Nat) (x2 : Int) (x3 : Int) (S : ZS) : ZR ZS :=
  if x3 = (-1) then
    zrV S
  else
  zI (zc R d 211 [.inl x3] S) fun v2 S1 =>
  if v2 = (-1) then
    R d 670 [.inl x2, .inl x3] S1
  else
  zI (zc R d 16 [.inl x2] S1) fun v4 S3 =>
  zV (zc R d 217 [.inl v4] S3) fun S5 =>
  R d 670 [.inl x2, .inl x3] S5
def zb_labelsOf_p119 (R : ZC ZS) (d : Nat) (x2 : Int) (S : ZS) : ZR ZS :=
  if x2 = (-1) then
    zrV S
  else
  za S 13 84000 x2 fun v1 =>
  zI (zc R d 211 [.inl v1] S) fun v3 S2 =>
  if v3 = (-1) then
    za S2 16 84000 x2 fun v4 =>
    zlet v4 fun x2_5 =>
    R d 496 [.inl x2_5] S2
  else
  za S2 12 84000 x2 fun v6 =>
  zV (zc R d 217 [.inl v6] S2) fun S7 =>
  za S7 16 84000 x2 fun v8 =>
  zlet v8 fun x2_9 =>
  R d 496 [.inl x2_9] S7
def zb_labelsOf_p15 (R : ZC ZS) (d : Nat) (x1 : Int) (x2 : Int) (S : ZS) : ZR ZS :=
  if x2 < 3 then
    zI (zc R d 16 [.inl x2] S) fun v2 S1 =>
    zI (zc R d 216 [.inl x1, .inl v2] S1) fun v4 S3 =>
    zI (zc R d 211 [.inl v4] S3) fun v6 S5 =>
    if v6 = (-1) then
      zG (inI (x2 + 1)) <|
      zlet (x2 + 1) fun x2_7 =>
      R d 497 [.inl x1, .inl x2_7] S5
    else
    zI (zc R d 16 [.inl x2] S5) fun v9 S8 =>
    zV (zc R d 217 [.inl v9] S8) fun S10 =>
    zG (inI (x2 + 1)) <|
    zlet (x2 + 1) fun x2_11 =>
    R d 497 [.inl x1, .inl x2_11] S10
  else
  zrV S
def zb_partAt_p118 (R : ZC ZS) (d : Nat) (x2 : Int) (x3 : Int) (x4 : Int) (S : ZS) : ZR ZS :=
  zI (zc R d 16 [.inl x4] S) fun v2 S1 =>
  if v2 = x2 then
    zrI x3 S1
  else
  za S1 16 84000 x3 fun v3 =>
  zlet v3 fun x3_4 =>
  zG (inI (x4 + 1)) <|
  zlet (x4 + 1) fun x4_5 =>
  R d 498 [.inl x2, .inl x3_4, .inl x4_5] S1
def zb_partAt_p149 (R : ZC ZS) (d : Nat) (x2 : Int) (x3 : Int) (S : ZS) : ZR ZS :=
  if x3 = (-1) then
    zrI (-1) S
  else
  za S 12 84000 x3 fun v1 =>
  if v1 = x2 then
    za S 13 84000 x3 fun v2 =>
    zrI v2 S
  else
  za S 16 84000 x3 fun v3 =>
  zlet v3 fun x3_4 =>
  R d 499 [.inl x2, .inl x3_4] S
def zb_hasLabel_p2 (R : ZC ZS) (d : Nat) (x1 : Int) (x2 : Int) (S : ZS) : ZR ZS :=
  if x2 < (S.1 178) then
    za S 90 1100 x2 fun v1 =>
    if v1 = x1 then
      zrV S
    else
    zG (inI (x2 + 1)) <|
    zlet (x2 + 1) fun x2_2 =>
    R d 500 [.inl x1, .inl x2_2] S
  else
  zs S 90 1100 (S.1 178) x1 fun S3 =>
  zG (inI ((S3.1 178) + 1)) <|
  zp S3 178 ((S3.1 178) + 1) fun S4 =>
  zrV S4
def zb_narrowed_p21 (R : ZC ZS) (d : Nat) (x1 : Int) (x2 : Int) (x3 : Int) (x4 : Int) (x5 : Int) (x6 : Int) (S : ZS) : ZR ZS :=
  if x6 ≤ (S.1 175) then
    zG (inI ((S.1 174) + (x6 * (S.1 176)))) <|
    zlet ((S.1 174) + (x6 * (S.1 176))) fun x7_1 =>
    za S 89 240000 x7_1 fun v2 =>
    zI (zc R d 211 [.inl v2] S) fun v4 S3 =>
    zlet v4 fun x8_5 =>
    if x6 < (S3.1 175) then
      if x8_5 = (-1) then
        R d 671 [.inl x1, .inl x2, .inl x3, .inl x4, .inl x5, .inl x6, .inl x7_1, .inl x8_5] S3
      else
      if x1 = (-1) then
        zG (inI (x6 + 1)) <|
        zlet (x6 + 1) fun x6_6 =>
        R d 501 [.inl x1, .inl x2, .inl x3, .inl x4, .inl x5, .inl x6_6] S3
      else
      zI (zc R d 220 [.inl x8_5, .inl x1] S3) fun v8 S7 =>
      if v8 = 0 then
        zG (inI (x6 + 1)) <|
        zlet (x6 + 1) fun x6_9 =>
        R d 501 [.inl x1, .inl x2, .inl x3, .inl x4, .inl x5, .inl x6_9] S7
      else
      R d 671 [.inl x1, .inl x2, .inl x3, .inl x4, .inl x5, .inl x6, .inl x7_1, .inl x8_5] S7
    else
    R d 671 [.inl x1, .inl x2, .inl x3, .inl x4, .inl x5, .inl x6, .inl x7_1, .inl x8_5] S3
  else
  zG (inI (x3 + (x4 * x5))) <|
  zp S 171 (x3 + (x4 * x5)) fun S10 =>
  zp S10 174 x3 fun S11 =>
  zG (inI (x4 - 1)) <|
  zp S11 175 (x4 - 1) fun S12 =>
  zp S12 176 x5 fun S13 =>
  zrV S13
def zb_isSameConstant_p19 (R : ZC ZS) (d : Nat) (x1 : Int) (x2 : Int) (x3 : Int) (S : ZS) : ZR ZS :=
  za S 10 84000 x2 fun v1 =>
  if v1 = x3 then
    za S 12 84000 x1 fun v2 =>
    za S 12 84000 x2 fun v3 =>
    if v2 = v3 then
      zrZ 1 S
    else
    zrZ 0 S
  else
  zrZ 0 S
def zb_J8_min (R : ZC ZS) (d : Nat) (x0 : Int) (x1 : Int) (S : ZS) : ZR ZS :=
  if x0 ≤ x1 then
    zrI x0 S
  else
  zrI x1 S
def zb_order0_p17 (R : ZC ZS) (d : Nat) (x1 : Int) (x2 : Int) (x3 : Int) (x4 : Int) (S : ZS) : ZR ZS :=
  if x4 < x3 then
    zI (zc R d 225 [.inl x1, .inl x4] S) fun v2 S1 =>
    zI (zc R d 225 [.inl x2, .inl x4] S1) fun v4 S3 =>
    if v2 = v4 then
      zG (inI (x4 + 1)) <|
      zlet (x4 + 1) fun x4_5 =>
      R d 504 [.inl x1, .inl x2, .inl x3, .inl x4_5] S3
    else
    zI (zc R d 225 [.inl x1, .inl x4] S3) fun v7 S6 =>
    zI (zc R d 225 [.inl x2, .inl x4] S6) fun v9 S8 =>
    zG (inI (v7 - v9)) <|
    zrI (v7 - v9) S8
  else
  zI (zc R d 224 [.inl x1] S) fun v11 S10 =>
  zI (zc R d 224 [.inl x2] S10) fun v13 S12 =>
  zG (inI (v11 - v13)) <|
  zrI (v11 - v13) S12
def zb_areAllTold_p7 (R : ZC ZS) (d : Nat) (x1 : Int) (x2 : Int) (S : ZS) : ZR ZS :=
  za S 34 7500 x1 fun v1 =>
  za S 35 7500 x1 fun v2 =>
  zG (inI (v1 + v2)) <|
  if x2 < (v1 + v2) then
    zlet (0 : Int) fun x3_3 =>
    zlet (0 : Int) fun x4_4 =>
    R d 672 [.inl x1, .inl x2, .inl x3_3, .inl x4_4] S
  else
  zrZ 1 S
def zb_usefulByEach_p33 (R : ZC ZS) (d : Nat) (x1 : Int) (x2 : Int) (x3 : Int) (x4 : Int) (x5 : Int) (x6 : Int) (x7 : Int) (S : ZS) : ZR ZS :=
  za S 34 7500 x1 fun v1 =>
  za S 35 7500 x1 fun v2 =>
  zG (inI (v1 + v2)) <|
  if x7 < (v1 + v2) then
    if x6 = 0 then
      zp S 174 x2 fun S3 =>
      zp S3 175 x3 fun S4 =>
      zp S4 176 x4 fun S5 =>
      zp S5 171 x5 fun S6 =>
      zI (zc R d 200 [.inl x7] S6) fun v8 S7 =>
      if v8 = 0 then
        zG (inI ((-2) - x7)) <|
        R d 673 [.inl x1, .inl x2, .inl x3, .inl x4, .inl x5, .inl x7, .inl 0, .inl ((-2) - x7)] S7
      else
      zG (inI ((-2) - x7)) <|
      R d 673 [.inl x1, .inl x2, .inl x3, .inl x4, .inl x5, .inl x7, .inl 1, .inl ((-2) - x7)] S7
    else
    zp S 171 x5 fun S9 =>
    zrZ x6 S9
  else
  zp S 171 x5 fun S10 =>
  zrZ x6 S10
def zb_slide_p14 (R : ZC ZS) (d : Nat) (x1 : Int) (x2 : Int) (x3 : Int) (S : ZS) : ZR ZS :=
  if x3 < x2 then
    za S 89 240000 ((S.1 174) + x3) fun v1 =>
    zs S 89 240000 (x1 + x3) v1 fun S2 =>
    zG (inI (x3 + 1)) <|
    zlet (x3 + 1) fun x3_3 =>
    R d 507 [.inl x1, .inl x2, .inl x3_3] S2
  else
  zp S 174 x1 fun S4 =>
  zG (inI (x1 + x2)) <|
  zp S4 171 (x1 + x2) fun S5 =>
  zrV S5
def zb_note0_p5 (R : ZC ZS) (d : Nat) (x1 : Int) (x2 : Int) (x3 : Int) (S : ZS) : ZR ZS :=
  if x3 ≤ 0 then
    R d 674 [.inl x1, .inl x2, .inl x3] S
  else
  za S 88 3000 (x3 - 1) fun v1 =>
  if v1 ≤ x2 then
    za S 88 3000 (x3 - 1) fun v2 =>
    if v2 = x2 then
      za S 87 3000 (x3 - 1) fun v3 =>
      if v3 ≤ x1 then
        R d 674 [.inl x1, .inl x2, .inl x3] S
      else
      R d 675 [.inl x1, .inl x2, .inl x3] S
    else
    R d 674 [.inl x1, .inl x2, .inl x3] S
  else
  R d 675 [.inl x1, .inl x2, .inl x3] S
def zb_runAll_p24 (R : ZC ZS) (d : Nat)  (S : ZS) : ZR ZS :=
  if (S.1 184) = 0 then
    if (S.1 206) = (-1) then
      if (S.1 205) ≤ 0 then
        zrV S
      else
      R d 676 [] S
    else
    R d 676 [] S
  else
  zrV S
def zb_push0_p20 (R : ZC ZS) (d : Nat) (x2 : Int) (x3 : Int) (y0 : Int) (y1 : Int) (y2 : Int) (S : ZS) : ZR ZS :=
  zs S 98 215000 y2 (zorI (zorI y1 y0) (zshlI (x2 + 1) 6)) fun S1 =>
  zsL S1 99 215000 (S1.1 205) x3 fun S2 =>
  zG (inI ((S2.1 205) + 1)) <|
  zp S2 205 ((S2.1 205) + 1) fun S3 =>
  zrV S3
def zb_work_p2 (R : ZC ZS) (d : Nat) (x2 : Int) (x3 : Int) (S : ZS) : ZR ZS :=
  za S 10 84000 x3 fun v1 =>
  if v1 = 16 then
    za S 13 84000 x3 fun v2 =>
    zlet v2 fun x3_3 =>
    R d 511 [.inl x2, .inl x3_3] S
  else
  za S 10 84000 x3 fun v4 =>
  if v4 = 0 then
    za S 12 84000 x3 fun v5 =>
    zJ (zc R d 237 [.inr (.inl 0), .inr (.inl v5)] S) fun v7 S6 =>
    zV (zc R d 235 [.inr (.inl v7)] S6) fun S8 =>
    zrV S8
  else
  if v4 = 1 then
    za S 13 84000 x3 fun v10 =>
    zJ (zc R d 237 [.inr (.inl 2), .inr (.inl v10)] S) fun v12 S11 =>
    zV (zc R d 235 [.inr (.inl v12)] S11) fun S13 =>
    zrV S13
  else
  if v4 = 2 then
    za S 12 84000 x3 fun v15 =>
    zJ (zc R d 237 [.inr (.inl 1), .inr (.inl v15)] S) fun v17 S16 =>
    zV (zc R d 235 [.inr (.inl v17)] S16) fun S18 =>
    zrV S18
  else
  if v4 = 3 then
    zJ (zc R d 238 [.inl x3] S) fun v21 S20 =>
    zV (zc R d 235 [.inr (.inl v21)] S20) fun S22 =>
    zrV S22
  else
  if v4 = 4 then
    za S 12 84000 x3 fun v24 =>
    zJ (zc R d 237 [.inr (.inl 12), .inr (.inl v24)] S) fun v26 S25 =>
    zV (zc R d 235 [.inr (.inl v26)] S25) fun S27 =>
    zrV S27
  else
  if v4 = 5 then
    zV (zc R d 251 [.inl x3, .inl x2] S) fun S29 =>
    zrV S29
  else
  if v4 = 6 then
    zV (zc R d 247 [.inl x3, .inl x2] S) fun S31 =>
    zrV S31
  else
  if v4 = 7 then
    za S 13 84000 x3 fun v33 =>
    zV (zc R d 245 [.inl 7, .inl x3, .inl x2, .inl v33] S) fun S34 =>
    zrV S34
  else
  if v4 = 8 then
    za S 13 84000 x3 fun v36 =>
    zV (zc R d 245 [.inl 0, .inl x3, .inl 0, .inl v36] S) fun S37 =>
    zrV S37
  else
  if v4 = 9 then
    za S 13 84000 x3 fun v39 =>
    zV (zc R d 245 [.inl 1, .inl x3, .inl x2, .inl v39] S) fun S40 =>
    zrV S40
  else
  if v4 = 10 then
    zV (zc R d 248 [.inl x3] S) fun S42 =>
    zrV S42
  else
  if v4 = 11 then
    za S 13 84000 x3 fun v44 =>
    zV (zc R d 245 [.inl 12, .inl x3, .inl x2, .inl v44] S) fun S45 =>
    zrV S45
  else
  if v4 = 12 then
    za S 14 84000 x3 fun v47 =>
    zJ (zc R d 242 [.inl v47] S) fun v49 S48 =>
    zV (zc R d 235 [.inr (.inl v49)] S48) fun S50 =>
    zrV S50
  else
  if v4 = 13 then
    za S 13 84000 x3 fun v52 =>
    zV (zc R d 245 [.inl 13, .inl x3, .inl x2, .inl v52] S) fun S53 =>
    zrV S53
  else
  if v4 = 14 then
    za S 13 84000 x3 fun v55 =>
    zV (zc R d 245 [.inl 9, .inl x3, .inl x2, .inl v55] S) fun S56 =>
    zrV S56
  else
  if v4 = 15 then
    za S 13 84000 x3 fun v58 =>
    zV (zc R d 245 [.inl 9, .inl x3, .inl x2, .inl v58] S) fun S59 =>
    zrV S59
  else
  if v4 = 16 then
    zV (zc R d 251 [.inl x3, .inl x2] S) fun S61 =>
    zrV S61
  else
  if v4 = 17 then
    za S 13 84000 x3 fun v63 =>
    zV (zc R d 250 [.inl v63, .inl x2] S) fun S64 =>
    zrV S64
  else
  zV (zc R d 251 [.inl x3, .inl x2] S) fun S66 =>
  zrV S66
def zb_placeIn_p2 (R : ZC ZS) (d : Nat) (x1 : Int) (x2 : Int) (x3 : Int) (S : ZS) : ZR ZS :=
  za S 71 9000 x1 fun v1 =>
  za S 77 380000 (v1 + x3) fun v2 =>
  if v2 = x2 then
    zrI x3 S
  else
  zG (inI (x3 + 1)) <|
  zlet (x3 + 1) fun x3_3 =>
  R d 512 [.inl x1, .inl x2, .inl x3_3] S
def zb_closure_p38 (R : ZC ZS) (d : Nat) (x1 : Int) (x2 : Int) (x3 : Int) (x4 : Int) (S : ZS) : ZR ZS :=
  if x4 < x2 then
    za S 71 9000 x1 fun v1 =>
    za S 77 380000 (v1 + x4) fun v2 =>
    zJ (zc R d 239 [.inl v2] S) fun v4 S3 =>
    zsL S3 91 121000 ((x3 + 1) + x4) v4 fun S5 =>
    zG (inI (x4 + 1)) <|
    zlet (x4 + 1) fun x4_6 =>
    R d 513 [.inl x1, .inl x2, .inl x3, .inl x4_6] S5
  else
  zJ (zc R d 237 [.inr (.inl 7), .inr (.inl x3)] S) fun v8 S7 =>
  zrL v8 S7
def zb_applications0_p2 (R : ZC ZS) (d : Nat) (x2 : Int) (x3 : Int) (S : ZS) : ZR ZS :=
  za S 13 84000 x3 fun v1 =>
  za S 10 84000 v1 fun v2 =>
  if v2 = 6 then
    za S 13 84000 x3 fun v3 =>
    zlet v3 fun x3_4 =>
    R d 514 [.inl x2, .inl x3_4] S
  else
  za S 13 84000 x3 fun v5 =>
  zV (zc R d 245 [.inl 5, .inl x3, .inl x2, .inl v5] S) fun S6 =>
  zrV S6
def zb_sequence_p23 (R : ZC ZS) (d : Nat) (x1 : Int) (x2 : Int) (S : ZS) : ZR ZS :=
  if x2 = 0 then
    zV (zc R d 246 [.inl x1, .inl 0] S) fun S1 =>
    zrV S1
  else
  za S 16 84000 x1 fun v2 =>
  if v2 = (-1) then
    zV (zc R d 246 [.inl x1, .inl 1] S) fun S3 =>
    zrV S3
  else
  zV (zc R d 246 [.inl x1, .inl 0] S) fun S4 =>
  zrV S4
def zb_goesOn_2_p58 (R : ZC ZS) (d : Nat) (x1 : Int) (x2 : Int) (y0 : Int) (S : ZS) : ZR ZS :=
  zlet y0 fun x3_1 =>
  zlet (S.2.1 208) fun x4_2 =>
  if x1 = 0 then
    zV (zc R d 253 [.inr (.inl x4_2)] S) fun S3 =>
    zrV S3
  else
  if x1 = 1 then
    zI (zc R d 254 [.inr (.inl x4_2)] S) fun v6 S5 =>
    if v6 = 0 then
      za S5 15 84000 x2 fun v7 =>
      zV (zc R d 246 [.inl v7, .inl x3_1] S5) fun S8 =>
      zrV S8
    else
    za S5 14 84000 x2 fun v9 =>
    zV (zc R d 246 [.inl v9, .inl x3_1] S5) fun S10 =>
    zrV S10
  else
  if x1 = 2 then
    zV (zc R d 250 [.inl x2, .inl x3_1] S) fun S12 =>
    zrV S12
  else
  if x1 = 3 then
    zV (zc R d 268 [.inl x1, .inl x2, .inl x3_1, .inr (.inl x4_2)] S) fun S14 =>
    zrV S14
  else
  if x1 = 4 then
    zV (zc R d 268 [.inl x1, .inl x2, .inl x3_1, .inr (.inl x4_2)] S) fun S16 =>
    zrV S16
  else
  if x1 = 5 then
    zV (zc R d 234 [.inl 6, .inl x2, .inr (.inl x4_2), .inl x3_1] S) fun S18 =>
    za S18 14 84000 x2 fun v19 =>
    zV (zc R d 246 [.inl v19, .inl 0] S18) fun S20 =>
    zrV S20
  else
  if x1 = 6 then
    zV (zc R d 268 [.inl x1, .inl x2, .inl x3_1, .inr (.inl x4_2)] S) fun S22 =>
    zrV S22
  else
  if x1 = 7 then
    zV (zc R d 234 [.inl 8, .inl x2, .inr (.inl x4_2), .inl x3_1] S) fun S24 =>
    za S24 14 84000 x2 fun v25 =>
    zV (zc R d 246 [.inl v25, .inl 0] S24) fun S26 =>
    zrV S26
  else
  if x1 = 8 then
    zV (zc R d 268 [.inl x1, .inl x2, .inl x3_1, .inr (.inl x4_2)] S) fun S28 =>
    zrV S28
  else
  if x1 = 9 then
    zI (zc R d 254 [.inr (.inl x4_2)] S) fun v31 S30 =>
    za S30 10 84000 x2 fun v32 =>
    if v32 = 15 then
      R d 677 [.inl x2, .inl x3_1, .inl 1, .inl v31] S30
    else
    R d 677 [.inl x2, .inl x3_1, .inl 0, .inl v31] S30
  else
  if x1 = 10 then
    zI (zc R d 254 [.inr (.inl x4_2)] S) fun v35 S34 =>
    if v35 = 0 then
      zJ (zc R d 237 [.inr (.inl 5), .inr (.inl 0)] S34) fun v37 S36 =>
      zV (zc R d 235 [.inr (.inl v37)] S36) fun S38 =>
      zrV S38
    else
    za S34 14 84000 x2 fun v39 =>
    zV (zc R d 245 [.inl 11, .inl x2, .inl 0, .inl v39] S34) fun S40 =>
    zrV S40
  else
  if x1 = 11 then
    zV (zc R d 248 [.inl x2] S) fun S42 =>
    zrV S42
  else
  if x1 = 12 then
    za S 14 84000 x2 fun v44 =>
    zV (zc R d 255 [.inl v44, .inr (.inl x4_2), .inl x3_1, .inl 0] S) fun S45 =>
    zrV S45
  else
  if x1 = 13 then
    zrV S
  else
  if x1 = 14 then
    zV (zc R d 250 [.inl x2, .inl x3_1] S) fun S48 =>
    zrV S48
  else
  if x1 = 15 then
    zV (zc R d 268 [.inl x1, .inl x2, .inl x3_1, .inr (.inl x4_2)] S) fun S50 =>
    zrV S50
  else
  if x1 = 16 then
    zV (zc R d 268 [.inl x1, .inl x2, .inl x3_1, .inr (.inl x4_2)] S) fun S52 =>
    zrV S52
  else
  if x1 = 17 then
    zV (zc R d 267 [] S) fun S54 =>
    zrV S54
  else
  zV (zc R d 268 [.inl x1, .inl x2, .inl x3_1, .inr (.inl x4_2)] S) fun S56 =>
  zrV S56
def zb_choose_p3 (R : ZC ZS) (d : Nat) (x2 : Int) (x4 : Int) (x5 : Int) (x6 : Int) (S : ZS) : ZR ZS :=
  if x6 = (-1) then
    if x5 = 0 then
      zV (zc R d 253 [.inr (.inl (S.2.1 209))] S) fun S1 =>
      zrV S1
    else
    zV (zc R d 253 [.inr (.inl x2)] S) fun S2 =>
    zrV S2
  else
  za S 13 84000 x6 fun v3 =>
  zI (zc R d 256 [.inl v3, .inr (.inl x2)] S) fun v5 S4 =>
  if v5 = 0 then
    za S4 16 84000 x6 fun v6 =>
    zlet v6 fun x6_7 =>
    R d 517 [.inr (.inl x2), .inl x4, .inl x5, .inl x6_7] S4
  else
  za S4 14 84000 x6 fun v8 =>
  zV (zc R d 246 [.inl v8, .inl x4] S4) fun S9 =>
  zrV S9
def zb_matchesRow_p11 (R : ZC ZS) (d : Nat) (x2 : Int) (x4 : Int) (x5 : Int) (S : ZS) : ZR ZS :=
  if x5 = (-1) then
    zrZ x4 S
  else
  if x4 = 0 then
    zrZ x4 S
  else
  za S 13 84000 x5 fun v1 =>
  za S 12 84000 x5 fun v2 =>
  zJ (zc R d 260 [.inr (.inl x2), .inl v2] S) fun v4 S3 =>
  zI (zc R d 256 [.inl v1, .inr (.inl v4)] S3) fun v6 S5 =>
  zlet v6 fun x4_7 =>
  za S5 16 84000 x5 fun v8 =>
  zlet v8 fun x5_9 =>
  R d 518 [.inr (.inl x2), .inl x4_7, .inl x5_9] S5
def zb_part_p10 (R : ZC ZS) (d : Nat) (x1 : Int) (x3 : Int) (x4 : Int) (x5 : Int) (S : ZS) : ZR ZS :=
  if x5 < x4 then
    zI (zc R d 262 [.inr (.inl x1), .inl x5] S) fun v2 S1 =>
    if v2 = x3 then
      zJ (zc R d 263 [.inr (.inl x1), .inl x5] S1) fun v4 S3 =>
      zrL v4 S3
    else
    zG (inI (x5 + 1)) <|
    zlet (x5 + 1) fun x5_5 =>
    R d 519 [.inr (.inl x1), .inl x3, .inl x4, .inl x5_5] S1
  else
  zrL 0 S
def zb_matchesTuple_p14 (R : ZC ZS) (d : Nat) (x2 : Int) (x4 : Int) (x5 : Int) (x6 : Int) (S : ZS) : ZR ZS :=
  if x6 = (-1) then
    zrZ x4 S
  else
  if x4 = 0 then
    zrZ x4 S
  else
  zJ (zc R d 263 [.inr (.inl x2), .inl x5] S) fun v2 S1 =>
  zI (zc R d 256 [.inl x6, .inr (.inl v2)] S1) fun v4 S3 =>
  zlet v4 fun x4_5 =>
  zG (inI (x5 + 1)) <|
  zlet (x5 + 1) fun x5_6 =>
  za S3 16 84000 x6 fun v7 =>
  zlet v7 fun x6_8 =>
  R d 520 [.inr (.inl x2), .inl x4_5, .inl x5_6, .inl x6_8] S3
def zb_matchesList_p11 (R : ZC ZS) (d : Nat) (x4 : Int) (x6 : Int) (S : ZS) : ZR ZS :=
  if x6 = (-1) then
    zJ (zc R d 258 [.inr (.inl x4)] S) fun v2 S1 =>
    if v2 = 3 then
      zrZ 1 S1
    else
    zrZ 0 S1
  else
  zJ (zc R d 258 [.inr (.inl x4)] S) fun v4 S3 =>
  if v4 = 3 then
    zrZ 0 S3
  else
  zI (zc R d 240 [.inr (.inl x4)] S3) fun v6 S5 =>
  zaL S5 91 121000 (v6 + 1) fun v7 =>
  zlet v7 fun x7_8 =>
  zJ (zc R d 263 [.inr (.inl x7_8), .inl 0] S5) fun v10 S9 =>
  zI (zc R d 256 [.inl x6, .inr (.inl v10)] S9) fun v12 S11 =>
  if v12 = 0 then
    zrZ 0 S11
  else
  zJ (zc R d 263 [.inr (.inl x7_8), .inl 1] S11) fun v14 S13 =>
  zlet v14 fun x4_15 =>
  za S13 16 84000 x6 fun v16 =>
  zlet v16 fun x6_17 =>
  R d 521 [.inr (.inl x4_15), .inl x6_17] S13
def zb_isMadeBy_p82 (R : ZC ZS) (d : Nat) (x1 : Int) (x2 : Int) (y0 : Int) (y1 : Int) (S : ZS) : ZR ZS :=
  if y1 = y0 then
    zI (zc R d 240 [.inr (.inl x2)] S) fun v2 S1 =>
    zaL S1 91 121000 v2 fun v3 =>
    zI (zc R d 182 [.inl x1] S1) fun v5 S4 =>
    if v3 = v5 then
      zrZ 1 S4
    else
    zrZ 0 S4
  else
  zrZ 0 S
def zb_goesOnMore_p79 (R : ZC ZS) (d : Nat) (x2 : Int) (x3 : Int) (x4 : Int) (x6 : Int) (S : ZS) : ZR ZS :=
  if x3 = 0 then
    zV (zc R d 269 [.inr (.inl x6), .inr (.inl x4), .inl 0] S) fun S1 =>
    zrV S1
  else
  za S 15 84000 x2 fun v2 =>
  if v2 = (-1) then
    zV (zc R d 269 [.inr (.inl x6), .inr (.inl x4), .inl 1] S) fun S3 =>
    zrV S3
  else
  zV (zc R d 269 [.inr (.inl x6), .inr (.inl x4), .inl 0] S) fun S4 =>
  zrV S4
def zb_apply_p144 (R : ZC ZS) (d : Nat) (x1 : Int) (x3 : Int) (x5 : Int) (x6 : Int) (y0 : Int) (S : ZS) : ZR ZS :=
  zlet y0 fun x7_1 =>
  za S 69 9000 x6 fun v2 =>
  zG (inI (x7_1 + 1)) <|
  if (x7_1 + 1) < v2 then
    zJ (zc R d 292 [.inr (.inl x1), .inr (.inl x3), .inl x7_1] S) fun v4 S3 =>
    zV (zc R d 235 [.inr (.inl v4)] S3) fun S5 =>
    zrV S5
  else
  zV (zc R d 293 [.inr (.inl x1), .inr (.inl x3), .inl x7_1, .inl x5] S) fun S6 =>
  zrV S6
def zb_firstOf_p319 (R : ZC ZS) (d : Nat) (x6 : Int) (x9 : Int) (S : ZS) : ZR ZS :=
  zI (zc R d 224 [.inl x6] S) fun v2 S1 =>
  if x9 < v2 then
    zI (zc R d 225 [.inl x6, .inl x9] S1) fun v4 S3 =>
    zV (zc R d 290 [.inl v4] S3) fun S5 =>
    zG (inI (x9 + 1)) <|
    zlet (x9 + 1) fun x9_6 =>
    R d 525 [.inl x6, .inl x9_6] S5
  else
  zJ (zc R d 237 [.inr (.inl 5), .inr (.inl 0)] S1) fun v8 S7 =>
  zrL v8 S7
def zb_first_p113 (R : ZC ZS) (d : Nat) (y0 : Int) (y1 : Int) (S : ZS) : ZR ZS :=
  if y1 = y0 then
    zJ (zc R d 278 [.inl 1] S) fun v2 S1 =>
    zrL v2 S1
  else
  zJ (zc R d 278 [.inl 0] S) fun v4 S3 =>
  zrL v4 S3
def zb_first_p302 (R : ZC ZS) (d : Nat) (x1 : Int) (x6 : Int) (x8 : Int) (x11 : Int) (S : ZS) : ZR ZS :=
  if x1 = 9 then
    zJ (zc R d 279 [.inr (.inl x11)] S) fun v2 S1 =>
    zrL v2 S1
  else
  zG (inL (x6 - (x11 * x8))) <|
  zJ (zc R d 279 [.inr (.inl (x6 - (x11 * x8)))] S) fun v4 S3 =>
  zrL v4 S3
def zb_first_p281 (R : ZC ZS) (d : Nat) (x1 : Int) (x6 : Int) (x8 : Int) (x11 : Int) (y0 : Int) (S : ZS) : ZR ZS :=
  if x8 < 0 then
    if y0 = 1 then
      R d 527 [.inl x1, .inr (.inl x6), .inr (.inl x8), .inr (.inl x11)] S
    else
    zG (inL (x11 - 1)) <|
    zlet (x11 - 1) fun x11_1 =>
    R d 527 [.inl x1, .inr (.inl x6), .inr (.inl x8), .inr (.inl x11_1)] S
  else
  if y0 = 0 then
    R d 527 [.inl x1, .inr (.inl x6), .inr (.inl x8), .inr (.inl x11)] S
  else
  zG (inL (x11 - 1)) <|
  zlet (x11 - 1) fun x11_2 =>
  R d 527 [.inl x1, .inr (.inl x6), .inr (.inl x8), .inr (.inl x11_2)] S
def zb_areEqual_p9 (R : ZC ZS) (d : Nat) (x5 : Int) (x6 : Int) (x8 : Int) (S : ZS) : ZR ZS :=
  zJ (zc R d 258 [.inr (.inl x6)] S) fun v2 S1 =>
  zlet v2 fun x10_3 =>
  if x10_3 = 4 then
    zJ (zc R d 258 [.inr (.inl x8)] S1) fun v5 S4 =>
    if v5 = 4 then
      zI (zc R d 249 [] S4) fun v7 S6 =>
      if v7 = 0 then
        zrZ 0 S6
      else
      zI (zc R d 240 [.inr (.inl x6)] S6) fun v9 S8 =>
      zaL S8 91 121000 v9 fun v10 =>
      zI (zc R d 240 [.inr (.inl x8)] S8) fun v12 S11 =>
      zaL S11 91 121000 v12 fun v13 =>
      if v10 = v13 then
        zI (zc R d 240 [.inr (.inl x6)] S11) fun v15 S14 =>
        zaL S14 91 121000 (v15 + 1) fun v16 =>
        zlet v16 fun x6_17 =>
        zI (zc R d 240 [.inr (.inl x8)] S14) fun v19 S18 =>
        zaL S18 91 121000 (v19 + 1) fun v20 =>
        zlet v20 fun x8_21 =>
        R d 529 [.inl x5, .inr (.inl x6_17), .inr (.inl x8_21)] S18
      else
      zrZ 0 S11
    else
    R d 678 [.inl x5, .inr (.inl x6), .inr (.inl x8), .inr (.inl x10_3)] S4
  else
  R d 678 [.inl x5, .inr (.inl x6), .inr (.inl x8), .inr (.inl x10_3)] S1
def zb_J19_compare (R : ZC ZS) (d : Nat) (x0 : Int) (x1 : Int) (S : ZS) : ZR ZS :=
  if x0 < x1 then
    zrI (-1) S
  else
  if x0 = x1 then
    zrI 0 S
  else
  zrI 1 S
def zb_joinedStrings_p69 (R : ZC ZS) (d : Nat) (x5 : Int) (x6 : Int) (x8 : Int) (x10 : Int) (S : ZS) : ZR ZS :=
  zI (zc R d 224 [.inl x5] S) fun v2 S1 =>
  if x10 < v2 then
    zI (zc R d 225 [.inl x5, .inl x10] S1) fun v4 S3 =>
    zV (zc R d 38 [.inl v4] S3) fun S5 =>
    zG (inI (x10 + 1)) <|
    zlet (x10 + 1) fun x10_6 =>
    R d 531 [.inl x5, .inl x6, .inr (.inl x8), .inl x10_6] S5
  else
  zlet (0 : Int) fun x10_7 =>
  R d 679 [.inl x6, .inr (.inl x8), .inl x10_7] S1
def zb_substringOf_p55 (R : ZC ZS) (d : Nat) (x1 : Int) (x2 : Int) (x3 : Int) (x4 : Int) (x6 : Int) (S : ZS) : ZR ZS :=
  if x6 < x3 then
    zG (inI (x2 + x6)) <|
    zI (zc R d 225 [.inl x1, .inl (x2 + x6)] S) fun v2 S1 =>
    zV (zc R d 38 [.inl v2] S1) fun S3 =>
    zG (inI (x6 + 1)) <|
    zlet (x6 + 1) fun x6_4 =>
    R d 532 [.inl x1, .inl x2, .inl x3, .inr (.inl x4), .inl x6_4] S3
  else
  zrL x4 S
def zb_exploded_p21 (R : ZC ZS) (d : Nat) (x1 : Int) (x2 : Int) (x4 : Int) (S : ZS) : ZR ZS :=
  if x4 < 0 then
    zrL x2 S
  else
  if (S.1 184) = 0 then
    zI (zc R d 225 [.inl x1, .inl x4] S) fun v2 S1 =>
    zJ (zc R d 237 [.inr (.inl 1), .inr (.inl v2)] S1) fun v4 S3 =>
    zJ (zc R d 284 [.inr (.inl v4), .inr (.inl x2)] S3) fun v6 S5 =>
    zlet v6 fun x5_7 =>
    if (S5.1 184) = 0 then
      zJ (zc R d 270 [.inl (S5.1 173), .inr (.inl x5_7)] S5) fun v9 S8 =>
      zlet v9 fun x2_10 =>
      zG (inI (x4 + (-1))) <|
      zlet (x4 + (-1)) fun x4_11 =>
      R d 533 [.inl x1, .inr (.inl x2_10), .inl x4_11] S8
    else
    zG (inI (x4 + (-1))) <|
    zlet (x4 + (-1)) fun x4_12 =>
    R d 533 [.inl x1, .inr (.inl x2), .inl x4_12] S5
  else
  zrL x2 S
def zb_tuple_p41 (R : ZC ZS) (d : Nat) (x1 : Int) (x2 : Int) (S : ZS) : ZR ZS :=
  if x2 ≤ x1 then
    zI (zc R d 16 [.inl x2] S) fun v2 S1 =>
    zs S1 96 24000 (S.1 202) v2 fun S3 =>
    zG (inI ((S3.1 202) + 1)) <|
    zp S3 202 ((S3.1 202) + 1) fun S4 =>
    zG (inI (x2 + 1)) <|
    zlet (x2 + 1) fun x2_5 =>
    R d 534 [.inl x1, .inl x2_5] S4
  else
  zG (inI ((S.1 201) + 1)) <|
  zp S 201 ((S.1 201) + 1) fun S6 =>
  zG (inI ((S6.1 201) - 1)) <|
  zs S6 97 1002 x1 ((S6.1 201) - 1) fun S7 =>
  za S7 97 1002 x1 fun v8 =>
  zrI v8 S7
def zb_imploded_p5 (R : ZC ZS) (d : Nat) (x1 : Int) (x3 : Int) (x4 : Int) (S : ZS) : ZR ZS :=
  zJ (zc R d 258 [.inr (.inl x4)] S) fun v2 S1 =>
  if v2 = 3 then
    if x3 ≤ 200 then
      zG (inI (1 + x3)) <|
      zI (zc R d 243 [.inl (1 + x3)] S1) fun v4 S3 =>
      if v4 = 0 then
        zrL 0 S3
      else
      zJ (zc R d 281 [.inl x3] S3) fun v6 S5 =>
      zlet v6 fun x4_7 =>
      zlet x1 fun x6_8 =>
      R d 680 [.inr (.inl x4_7), .inr (.inl x6_8)] S5
    else
    zV (zc R d 253 [.inr (.inl (S1.2.1 214))] S1) fun S9 =>
    zrL 0 S9
  else
  zG (inI (x3 + 1)) <|
  zlet (x3 + 1) fun x3_10 =>
  zJ (zc R d 287 [.inr (.inl x4)] S1) fun v12 S11 =>
  zlet v12 fun x4_13 =>
  R d 535 [.inr (.inl x1), .inl x3_10, .inr (.inl x4_13)] S11
def zb_digitsOf_p12 (R : ZC ZS) (d : Nat) (x1 : Int) (y0 : Int) (S : ZS) : ZR ZS :=
  zlet y0 fun x3_1 =>
  if x1 < 0 then
    zlet (2 : Int) fun x5_2 =>
    zlet (1 : Int) fun x6_3 =>
    R d 681 [.inr (.inl x1), .inr (.inl x3_1), .inl x5_2, .inr (.inl x6_3)] S
  else
  zlet (1 : Int) fun x5_4 =>
  zlet (1 : Int) fun x6_5 =>
  R d 681 [.inr (.inl x1), .inr (.inl x3_1), .inl x5_4, .inr (.inl x6_5)] S
def zb_putOut_p20 (R : ZC ZS) (d : Nat)  (S : ZS) : ZR ZS :=
  if (S.1 235) < 1000000000 then
    zG (inI ((S.1 235) + 1)) <|
    zp S 235 ((S.1 235) + 1) fun S1 =>
    zrV S1
  else
  zrV S
def zb_partial_p52 (R : ZC ZS) (d : Nat) (x1 : Int) (x3 : Int) (x5 : Int) (x6 : Int) (x7 : Int) (S : ZS) : ZR ZS :=
  if x7 < x5 then
    zI (zc R d 240 [.inr (.inl x1)] S) fun v2 S1 =>
    zaL S1 91 121000 ((v2 + 2) + x7) fun v3 =>
    zsL S1 91 121000 ((x6 + 2) + x7) v3 fun S4 =>
    zG (inI (x7 + 1)) <|
    zlet (x7 + 1) fun x7_5 =>
    R d 538 [.inr (.inl x1), .inr (.inl x3), .inl x5, .inl x6, .inl x7_5] S4
  else
  zsL S 91 121000 ((x6 + 2) + x5) x3 fun S6 =>
  zJ (zc R d 237 [.inr (.inl 8), .inr (.inl x6)] S6) fun v8 S7 =>
  zrL v8 S7
def zb_J8_max (R : ZC ZS) (d : Nat) (x0 : Int) (x1 : Int) (S : ZS) : ZR ZS :=
  if x0 < x1 then
    zrI x1 S
  else
  zrI x0 S
def zb_call_p115 (R : ZC ZS) (d : Nat) (x1 : Int) (x3 : Int) (x5 : Int) (S : ZS) : ZR ZS :=
  zJ (zc R d 291 [.inr (.inl x1)] S) fun v2 S1 =>
  zpL S1 196 v2 fun S3 =>
  zI (zc R d 240 [.inr (.inl (S3.2.1 196))] S3) fun v5 S4 =>
  zaL S4 91 121000 v5 fun v6 =>
  zp S4 195 (zl2i v6) fun S7 =>
  zlet (0 : Int) fun x7_8 =>
  R d 682 [.inr (.inl x1), .inr (.inl x3), .inl x5, .inl x7_8] S7
def zb_body_p50 (R : ZC ZS) (d : Nat) (x2 : Int) (S : ZS) : ZR ZS :=
  if x2 = (-1) then
    zV (zc R d 253 [.inr (.inl (S.2.1 209))] S) fun S1 =>
    zrV S1
  else
  zlet (0 : Int) fun x3_2 =>
  zlet (1 : Int) fun x4_3 =>
  za S 13 84000 x2 fun v4 =>
  zlet v4 fun x5_5 =>
  R d 683 [.inl x2, .inl x3_2, .inl x4_3, .inl x5_5] S
def zb_rec_p7 (R : ZC ZS) (d : Nat) (x1 : Int) (x2 : Int) (S : ZS) : ZR ZS :=
  if x2 = (-1) then
    za S 13 84000 x1 fun v1 =>
    zlet v1 fun x2_2 =>
    R d 684 [.inl x2_2] S
  else
  za S 14 84000 x2 fun v3 =>
  za S 14 84000 v3 fun v4 =>
  zJ (zc R d 242 [.inl v4] S) fun v6 S5 =>
  zlet v6 fun x3_7 =>
  if (S5.1 184) = 0 then
    za S5 13 84000 x2 fun v8 =>
    zI (zc R d 298 [.inl v8] S5) fun v10 S9 =>
    zV (zc R d 257 [.inl v10, .inr (.inl x3_7)] S9) fun S11 =>
    za S11 16 84000 x2 fun v12 =>
    zlet v12 fun x2_13 =>
    R d 542 [.inl x1, .inl x2_13] S11
  else
  zrV S5
def zb_nameIn_p2 (R : ZC ZS) (d : Nat) (x2 : Int) (S : ZS) : ZR ZS :=
  za S 10 84000 x2 fun v1 =>
  if v1 = 38 then
    za S 13 84000 x2 fun v2 =>
    zlet v2 fun x2_3 =>
    R d 543 [.inl x2_3] S
  else
  za S 14 84000 x2 fun v4 =>
  zrI v4 S
def zb_tie_p3 (R : ZC ZS) (d : Nat) (x1 : Int) (x2 : Int) (x4 : Int) (S : ZS) : ZR ZS :=
  za S 72 9000 x1 fun v1 =>
  if x4 < v1 then
    zI (zc R d 240 [.inr (.inl x2)] S) fun v3 S2 =>
    za S2 71 9000 x1 fun v4 =>
    za S2 77 380000 (v4 + x4) fun v5 =>
    zJ (zc R d 239 [.inl v5] S2) fun v7 S6 =>
    zsL S6 91 121000 ((v3 + 1) + x4) v7 fun S8 =>
    zG (inI (x4 + 1)) <|
    zlet (x4 + 1) fun x4_9 =>
    R d 544 [.inl x1, .inr (.inl x2), .inl x4_9] S8
  else
  zrV S
def zb_fun_p7 (R : ZC ZS) (d : Nat) (x1 : Int) (x2 : Int) (S : ZS) : ZR ZS :=
  if x2 = (-1) then
    za S 13 84000 x1 fun v1 =>
    zlet v1 fun x2_2 =>
    R d 685 [.inl x2_2] S
  else
  za S 14 84000 x2 fun v3 =>
  zJ (zc R d 242 [.inl v3] S) fun v5 S4 =>
  zlet v5 fun x3_6 =>
  if (S4.1 184) = 0 then
    za S4 15 84000 x2 fun v7 =>
    zV (zc R d 257 [.inl v7, .inr (.inl x3_6)] S4) fun S8 =>
    za S8 16 84000 x2 fun v9 =>
    zlet v9 fun x2_10 =>
    R d 545 [.inl x1, .inl x2_10] S8
  else
  zrV S4
def zb_oneMore_p68 (R : ZC ZS) (d : Nat) (x1 : Int) (x2 : Int) (x7 : Int) (x8 : Int) (S : ZS) : ZR ZS :=
  if x8 = (-1) then
    zG (inI ((S.1 205) - x7)) <|
    zp S 205 ((S.1 205) - x7) fun S1 =>
    if x1 = 4 then
      zJ (zc R d 303 [.inl x7] S1) fun v3 S2 =>
      zV (zc R d 235 [.inr (.inl v3)] S2) fun S4 =>
      zrV S4
    else
    if x1 = 3 then
      zJ (zc R d 304 [.inl x2, .inl x7, .inl 1] S1) fun v6 S5 =>
      zV (zc R d 235 [.inr (.inl v6)] S5) fun S7 =>
      zrV S7
    else
    zJ (zc R d 304 [.inl x2, .inl x7, .inl 0] S1) fun v9 S8 =>
    zV (zc R d 235 [.inr (.inl v9)] S8) fun S10 =>
    zrV S10
  else
  zG (inI (x7 + 1)) <|
  zlet (x7 + 1) fun x7_11 =>
  za S 16 84000 x8 fun v12 =>
  zlet v12 fun x8_13 =>
  R d 546 [.inl x1, .inl x2, .inl x7_11, .inl x8_13] S
def zb_listOf_p17 (R : ZC ZS) (d : Nat) (x2 : Int) (x4 : Int) (S : ZS) : ZR ZS :=
  if x4 < 0 then
    zrL x2 S
  else
  if (S.1 184) = 0 then
    zaL S 99 215000 ((S.1 205) + x4) fun v1 =>
    zJ (zc R d 284 [.inr (.inl v1), .inr (.inl x2)] S) fun v3 S2 =>
    zlet v3 fun x5_4 =>
    if (S2.1 184) = 0 then
      zJ (zc R d 270 [.inl (S2.1 173), .inr (.inl x5_4)] S2) fun v6 S5 =>
      zlet v6 fun x2_7 =>
      zG (inI (x4 + (-1))) <|
      zlet (x4 + (-1)) fun x4_8 =>
      R d 547 [.inr (.inl x2_7), .inl x4_8] S5
    else
    zG (inI (x4 + (-1))) <|
    zlet (x4 + (-1)) fun x4_9 =>
    R d 547 [.inr (.inl x2), .inl x4_9] S2
  else
  zrL x2 S
def zb_rowOf_p46 (R : ZC ZS) (d : Nat) (x1 : Int) (x3 : Int) (x4 : Int) (y0 : Int) (y1 : Int) (S : ZS) : ZR ZS :=
  zsL S 91 121000 y1 y0 fun S1 =>
  zlet (0 : Int) fun x5_2 =>
  za S1 13 84000 x1 fun v3 =>
  zlet v3 fun x6_4 =>
  R d 686 [.inl x3, .inl x4, .inl x5_2, .inl x6_4] S1
def zb_shapeOf_p38 (R : ZC ZS) (d : Nat) (x1 : Int) (x2 : Int) (x3 : Int) (S : ZS) : ZR ZS :=
  if x3 = (-1) then
    zI (zc R d 307 [.inl x2] S) fun v2 S1 =>
    zs S1 14 84000 x1 v2 fun S3 =>
    za S3 14 84000 x1 fun v4 =>
    if v4 < (S3.1 201) then
      za S3 14 84000 x1 fun v5 =>
      zrI v5 S3
    else
    zs S3 95 9000 (S3.1 201) x2 fun S6 =>
    zG (inI ((S6.1 202) + x2)) <|
    zp S6 202 ((S6.1 202) + x2) fun S7 =>
    zG (inI ((S7.1 201) + 1)) <|
    zp S7 201 ((S7.1 201) + 1) fun S8 =>
    za S8 14 84000 x1 fun v9 =>
    zrI v9 S8
  else
  zG (inI ((S.1 202) + x2)) <|
  zlet ((S.1 202) + x2) fun x4_10 =>
  R d 687 [.inl x1, .inl x2, .inl x3, .inl x4_10] S
def zb_isAhead_p8 (R : ZC ZS) (d : Nat) (x1 : Int) (x2 : Int) (S : ZS) : ZR ZS :=
  if x1 < 0 then
    if x2 < 0 then
      if x1 ≤ x2 then
        zrZ 0 S
      else
      zrZ 1 S
    else
    zrZ 1 S
  else
  zrZ 0 S
def zb_isAhead_p46 (R : ZC ZS) (d : Nat) (x1 : Int) (x2 : Int) (x3 : Int) (x4 : Int) (S : ZS) : ZR ZS :=
  if x4 < x3 then
    za S 4 15000 x1 fun v1 =>
    za S 3 44000 (v1 + x4) fun v2 =>
    za S 4 15000 x2 fun v3 =>
    za S 3 44000 (v3 + x4) fun v4 =>
    zG (inI (v2 - v4)) <|
    zlet (v2 - v4) fun x5_5 =>
    if x5_5 = 0 then
      zG (inI (x4 + 1)) <|
      zlet (x4 + 1) fun x4_6 =>
      R d 551 [.inl x1, .inl x2, .inl x3, .inl x4_6] S
    else
    if x5_5 < 0 then
      zrZ 1 S
    else
    zrZ 0 S
  else
  za S 5 15000 x1 fun v7 =>
  za S 5 15000 x2 fun v8 =>
  if v7 < v8 then
    zrZ 1 S
  else
  zrZ 0 S
def zb_likeShape_p2 (R : ZC ZS) (d : Nat) (x1 : Int) (x2 : Int) (S : ZS) : ZR ZS :=
  if x2 < (S.1 201) then
    za S 95 9000 x2 fun v1 =>
    if v1 = x1 then
      zlet (1 : Int) fun x3_2 =>
      zlet (0 : Int) fun x4_3 =>
      R d 688 [.inl x1, .inl x2, .inl x3_2, .inl x4_3] S
    else
    zlet (0 : Int) fun x3_4 =>
    zlet (0 : Int) fun x4_5 =>
    R d 688 [.inl x1, .inl x2, .inl x3_4, .inl x4_5] S
  else
  zrI (S.1 201) S
def zb_unwind_p48 (R : ZC ZS) (d : Nat) (x1 : Int) (S : ZS) : ZR ZS :=
  if x1 = 13 then
    zp S 184 0 fun S1 =>
    za S1 98 215000 (S1.1 205) fun v2 =>
    za S1 14 84000 ((zshrI v2 6) - 1) fun v3 =>
    za S1 98 215000 (S1.1 205) fun v4 =>
    if (zandI v4 32) = 0 then
      zV (zc R d 255 [.inl v3, .inr (.inl (S1.2.1 185)), .inl 0, .inl 1] S1) fun S5 =>
      R d 308 [] S5
    else
    zV (zc R d 255 [.inl v3, .inr (.inl (S1.2.1 185)), .inl 1, .inl 1] S1) fun S6 =>
    R d 308 [] S6
  else
  R d 308 [] S
def zb_keepBound_p22 (R : ZC ZS) (d : Nat) (x1 : Int) (x2 : Int) (x3 : Int) (S : ZS) : ZR ZS :=
  if x3 = x1 then
    zp S 246 (S.1 83) fun S1 =>
    zV (zc R d 313 [] S1) fun S2 =>
    zp S2 95 x1 fun S3 =>
    za S3 115 16 3 fun v4 =>
    zlet v4 fun x3_5 =>
    zG (inI (x2 - 1)) <|
    zlet (x2 - 1) fun x4_6 =>
    R d 689 [.inl x3_5, .inl x4_6] S3
  else
  zs S 116 4000 x2 x3 fun S7 =>
  za S7 46 4000 x3 fun v8 =>
  if v8 < (-1) then
    za S7 46 4000 x3 fun v9 =>
    R d 690 [.inl x1, .inl x2, .inl x3, .inl v9, .inl x2] S7
  else
  za S7 46 4000 x3 fun v10 =>
  zI (zc R d 5 [.inl v10] S7) fun v12 S11 =>
  R d 690 [.inl x1, .inl x2, .inl x3, .inl v12, .inl x2] S11
def zb_keepInfix_p7 (R : ZC ZS) (d : Nat) (x1 : Int) (x2 : Int) (S : ZS) : ZR ZS :=
  za S 115 16 2 fun v1 =>
  if x2 = v1 then
    za S 115 16 2 fun v2 =>
    zp S 47 v2 fun S3 =>
    za S3 115 16 14 fun v4 =>
    zlet v4 fun x2_5 =>
    zG (inI (x1 - 1)) <|
    zlet (x1 - 1) fun x3_6 =>
    R d 691 [.inl x2_5, .inl x3_6] S3
  else
  zlet (0 : Int) fun x3_7 =>
  zlet (0 : Int) fun x4_8 =>
  R d 692 [.inl x1, .inl x2, .inl x3_7, .inl x4_8] S
def zb_keepTypes_p7 (R : ZC ZS) (d : Nat) (x1 : Int) (x2 : Int) (S : ZS) : ZR ZS :=
  za S 115 16 1 fun v1 =>
  if x2 = v1 then
    zlet (S.1 246) fun x2_2 =>
    zG (inI (x1 - 1)) <|
    zlet (x1 - 1) fun x3_3 =>
    R d 693 [.inl x2_2, .inl x3_3] S
  else
  zs S 116 4000 x1 x2 fun S4 =>
  zG (inI (x1 + 1)) <|
  zlet (x1 + 1) fun x1_5 =>
  za S4 55 2200 x2 fun v6 =>
  zlet v6 fun x2_7 =>
  R d 556 [.inl x1_5, .inl x2_7] S4
def zb_endOf_p32 (R : ZC ZS) (d : Nat) (x2 : Int) (x3 : Int) (y0 : Int) (S : ZS) : ZR ZS :=
  zlet y0 fun x4_1 =>
  if x4_1 = 0 then
    za S 33 7500 (zshrI x2 2) fun v2 =>
    zlet v2 fun x5_3 =>
    zlet (0 : Int) fun x6_4 =>
    R d 694 [.inl x3, .inl x4_1, .inl x5_3, .inl x6_4] S
  else
  zlet (zshrI x2 2) fun x5_5 =>
  zlet (0 : Int) fun x6_6 =>
  R d 694 [.inl x3, .inl x4_1, .inl x5_5, .inl x6_6] S
def zb_noteLines_p10 (R : ZC ZS) (d : Nat) (x1 : Int) (S : ZS) : ZR ZS :=
  if x1 < (S.1 153) then
    za S 79 3000 x1 fun v1 =>
    zlet v1 fun x2_2 =>
    za S 78 3000 x1 fun v3 =>
    if v3 = 1 then
      za S 15 84000 x2_2 fun v4 =>
      za S 53 2200 v4 fun v5 =>
      zs S 110 1100 x1 v5 fun S6 =>
      R d 695 [.inl x1, .inl x2_2] S6
    else
    R d 695 [.inl x1, .inl x2_2] S
  else
  zrV S
def zb_sayValue_p149 (R : ZC ZS) (d : Nat) (x4 : Int) (x5 : Int) (S : ZS) : ZR ZS :=
  zI (zc R d 224 [.inl x4] S) fun v2 S1 =>
  if x5 < v2 then
    zI (zc R d 225 [.inl x4, .inl x5] S1) fun v4 S3 =>
    zV (zc R d 320 [.inl v4] S3) fun S5 =>
    zG (inI (x5 + 1)) <|
    zlet (x5 + 1) fun x5_6 =>
    R d 560 [.inl x4, .inl x5_6] S5
  else
  zV (zc R d 318 [.inl 34] S1) fun S7 =>
  zrV S7
def zb_sayInt_p12 (R : ZC ZS) (d : Nat) (x1 : Int) (y0 : Int) (S : ZS) : ZR ZS :=
  zlet y0 fun x3_1 =>
  zlet (1 : Int) fun x5_2 =>
  if x1 < 0 then
    zV (zc R d 318 [.inl 126] S) fun S3 =>
    R d 696 [.inr (.inl x3_1), .inr (.inl x5_2)] S3
  else
  R d 696 [.inr (.inl x3_1), .inr (.inl x5_2)] S
def zb_sayByte_p44 (R : ZC ZS) (d : Nat) (x1 : Int) (S : ZS) : ZR ZS :=
  zV (zc R d 318 [.inl 92] S) fun S1 =>
  zV (zc R d 318 [.inl x1] S1) fun S2 =>
  zrV S2
def zb_sayByte_p70 (R : ZC ZS) (d : Nat) (x1 : Int) (S : ZS) : ZR ZS :=
  zV (zc R d 318 [.inl 92] S) fun S1 =>
  zG (inI (48 + (zdivI x1 100))) <|
  zV (zc R d 318 [.inl (48 + (zdivI x1 100))] S1) fun S2 =>
  zG (inI (48 + ((zdivI x1 10) - ((zdivI (zdivI x1 10) 10) * 10)))) <|
  zV (zc R d 318 [.inl (48 + ((zdivI x1 10) - ((zdivI (zdivI x1 10) 10) * 10)))] S2) fun S3 =>
  zG (inI (48 + (x1 - ((zdivI x1 10) * 10)))) <|
  zV (zc R d 318 [.inl (48 + (x1 - ((zdivI x1 10) * 10)))] S3) fun S4 =>
  zrV S4
def zb_sayName_p2 (R : ZC ZS) (d : Nat) (x1 : Int) (x2 : Int) (S : ZS) : ZR ZS :=
  za S 5 15000 x1 fun v1 =>
  if x2 < v1 then
    za S 4 15000 x1 fun v2 =>
    za S 3 44000 (v2 + x2) fun v3 =>
    zV (zc R d 318 [.inl v3] S) fun S4 =>
    zG (inI (x2 + 1)) <|
    zlet (x2 + 1) fun x2_5 =>
    R d 564 [.inl x1, .inl x2_5] S4
  else
  zrV S
def zb_sayRow_p23 (R : ZC ZS) (d : Nat) (x1 : Int) (x3 : Int) (x4 : Int) (x5 : Int) (x6 : Int) (S : ZS) : ZR ZS :=
  if x6 < x4 then
    if x5 = 0 then
      zlet (0 : Int) fun x5_1 =>
      zG (inI (x6 + 1)) <|
      zlet (x6 + 1) fun x6_2 =>
      R d 565 [.inr (.inl x1), .inl x3, .inl x4, .inl x5_1, .inl x6_2] S
    else
    zI (zc R d 262 [.inr (.inl x1), .inl x6] S) fun v4 S3 =>
    zG (inI (x6 + 1)) <|
    zI (zc R d 16 [.inl (x6 + 1)] S3) fun v6 S5 =>
    if v4 = v6 then
      zlet (1 : Int) fun x5_7 =>
      zlet (x6 + 1) fun x6_8 =>
      R d 565 [.inr (.inl x1), .inl x3, .inl x4, .inl x5_7, .inl x6_8] S5
    else
    zlet (0 : Int) fun x5_9 =>
    zlet (x6 + 1) fun x6_10 =>
    R d 565 [.inr (.inl x1), .inl x3, .inl x4, .inl x5_9, .inl x6_10] S5
  else
  if x5 = 0 then
    zV (zc R d 318 [.inl 123] S) fun S11 =>
    zlet (0 : Int) fun x6_12 =>
    R d 697 [.inr (.inl x1), .inl x3, .inl x4, .inl x5, .inl x6_12] S11
  else
  zV (zc R d 318 [.inl 40] S) fun S13 =>
  zlet (0 : Int) fun x6_14 =>
  R d 697 [.inr (.inl x1), .inl x3, .inl x4, .inl x5, .inl x6_14] S13
def zb_sayBehind_p19 (R : ZC ZS) (d : Nat) (x1 : Int) (x3 : Int) (y0 : Int) (S : ZS) : ZR ZS :=
  zlet y0 fun x4_1 =>
  zV (zc R d 318 [.inl 32] S) fun S2 =>
  if x4_1 = 0 then
    R d 698 [.inr (.inl x1), .inl x3, .inl x4_1] S2
  else
  zV (zc R d 318 [.inl 40] S2) fun S3 =>
  R d 698 [.inr (.inl x1), .inl x3, .inl x4_1] S3
def zb_isApplied_p25 (R : ZC ZS) (d : Nat) (x3 : Int) (S : ZS) : ZR ZS :=
  if x3 = 6 then
    zrZ 1 S
  else
  if x3 = 14 then
    zrZ 1 S
  else
  zrZ 0 S
def zb_sayMade_p61 (R : ZC ZS) (d : Nat) (x3 : Int) (x5 : Int) (x6 : Int) (S : ZS) : ZR ZS :=
  zJ (zc R d 258 [.inr (.inl x6)] S) fun v2 S1 =>
  if v2 = 3 then
    zV (zc R d 318 [.inl 93] S1) fun S3 =>
    zrV S3
  else
  zI (zc R d 317 [] S1) fun v5 S4 =>
  if v5 = 0 then
    if x5 = 0 then
      R d 699 [.inl x3, .inr (.inl x6)] S4
    else
    zV (zc R d 318 [.inl 44] S4) fun S6 =>
    R d 699 [.inl x3, .inr (.inl x6)] S6
  else
  zV (zc R d 318 [.inl 93] S4) fun S7 =>
  zrV S7
def zb_sayType_p57 (R : ZC ZS) (d : Nat) (x2 : Int) (x3 : Int) (y0 : Int) (S : ZS) : ZR ZS :=
  zlet y0 fun x4_1 =>
  za S 23 57000 x3 fun v2 =>
  if v2 = 3 then
    zI (zc R d 332 [.inl x3] S) fun v4 S3 =>
    if v4 = 0 then
      R d 700 [.inl x2, .inl x3, .inl x4_1, .inl 0] S3
    else
    R d 700 [.inl x2, .inl x3, .inl x4_1, .inl 1] S3
  else
  R d 700 [.inl x2, .inl x3, .inl x4_1, .inl 0] S
def zb_sayVariable_p2 (R : ZC ZS) (d : Nat) (x1 : Int) (x2 : Int) (S : ZS) : ZR ZS :=
  if x2 < (S.1 229) then
    za S 107 1100 x2 fun v1 =>
    if v1 = x1 then
      R d 701 [.inl x1, .inl x2] S
    else
    zG (inI (x2 + 1)) <|
    zlet (x2 + 1) fun x2_2 =>
    R d 570 [.inl x1, .inl x2_2] S
  else
  R d 701 [.inl x1, .inl x2] S
def zb_isTuple_p9 (R : ZC ZS) (d : Nat) (x1 : Int) (x2 : Int) (x3 : Int) (S : ZS) : ZR ZS :=
  if x3 = (-1) then
    if x2 ≤ 1 then
      zlet (0 : Int) fun x3_1 =>
      zlet (1 : Int) fun x4_2 =>
      R d 702 [.inl x1, .inl x2, .inl x3_1, .inl x4_2] S
    else
    zlet (1 : Int) fun x3_3 =>
    zlet (1 : Int) fun x4_4 =>
    R d 702 [.inl x1, .inl x2, .inl x3_3, .inl x4_4] S
  else
  zG (inI (x2 + 1)) <|
  zlet (x2 + 1) fun x2_5 =>
  za S 31 106000 x3 fun v6 =>
  zlet v6 fun x3_7 =>
  R d 571 [.inl x1, .inl x2_5, .inl x3_7] S
def zb_sayRowType_p31 (R : ZC ZS) (d : Nat) (x1 : Int) (x2 : Int) (x3 : Int) (x4 : Int) (S : ZS) : ZR ZS :=
  if x4 = 0 then
    zV (zc R d 318 [.inl 125] S) fun S1 =>
    zrV S1
  else
  zlet ((-1) : Int) fun x5_2 =>
  za S 26 57000 x1 fun v3 =>
  zlet v3 fun x6_4 =>
  R d 703 [.inl x1, .inl x2, .inl x3, .inl x5_2, .inl x6_4] S
def zb_sayMadeType_p42 (R : ZC ZS) (d : Nat) (x1 : Int) (x2 : Int) (S : ZS) : ZR ZS :=
  if x2 = (-1) then
    R d 574 [.inl x1] S
  else
  zV (zc R d 318 [.inl 40] S) fun S1 =>
  zlet x2 fun x3_2 =>
  R d 704 [.inl x1, .inl x2, .inl x3_2] S1
def zb_sayMadeType_p99 (R : ZC ZS) (d : Nat) (x1 : Int) (S : ZS) : ZR ZS :=
  za S 25 57000 x1 fun v1 =>
  za S 32 7500 v1 fun v2 =>
  zV (zc R d 321 [.inl v2] S) fun S3 =>
  zrV S3
def zb_tellType_p49 (R : ZC ZS) (d : Nat) (x2 : Int) (x4 : Int) (S : ZS) : ZR ZS :=
  if x4 = (-1) then
    zp S 229 (S.1 86) fun S1 =>
    zG (inI ((-2) - x2)) <|
    zI (zc R d 127 [.inl ((-2) - x2), .inl 4] S1) fun v3 S2 =>
    zV (zc R d 330 [.inl v3, .inl 0] S2) fun S4 =>
    zrV S4
  else
  zI (zc R d 4 [.inl 0, .inl 0, .inl (-1), .inl 4, .inl 0] S) fun v6 S5 =>
  zs S5 43 1100 (S.1 86) v6 fun S7 =>
  za S7 43 1100 (S7.1 86) fun v8 =>
  zs S7 107 1100 (S7.1 86) v8 fun S9 =>
  zG (inI ((S9.1 86) + 1)) <|
  zp S9 86 ((S9.1 86) + 1) fun S10 =>
  za S10 16 84000 x4 fun v11 =>
  zlet v11 fun x4_12 =>
  R d 575 [.inl x2, .inl x4_12] S10
def zb_sayVars_p26 (R : ZC ZS) (d : Nat) (x1 : Int) (y0 : Int) (S : ZS) : ZR ZS :=
  zlet y0 fun x2_1 =>
  if x2_1 = 0 then
    zlet x1 fun x3_2 =>
    R d 705 [.inl x1, .inl x2_1, .inl x3_2] S
  else
  zV (zc R d 318 [.inl 40] S) fun S3 =>
  zlet x1 fun x3_4 =>
  R d 705 [.inl x1, .inl x2_1, .inl x3_4] S3
def zb_tellData_p48 (R : ZC ZS) (d : Nat) (x2 : Int) (x3 : Int) (S : ZS) : ZR ZS :=
  za S 34 7500 x2 fun v1 =>
  za S 35 7500 x2 fun v2 =>
  zG (inI (v1 + v2)) <|
  if x3 < (v1 + v2) then
    za S 34 7500 x2 fun v3 =>
    if x3 = v3 then
      zV (zc R d 559 [.inr (.inr (some 229))] S) fun S4 =>
      za S4 56 22000 x3 fun v5 =>
      zV (zc R d 321 [.inl v5] S4) fun S6 =>
      zI (zc R d 200 [.inl x3] S6) fun v8 S7 =>
      if v8 = 0 then
        zG (inI (x3 + 1)) <|
        zlet (x3 + 1) fun x3_9 =>
        R d 577 [.inl x2, .inl x3_9] S7
      else
      zV (zc R d 559 [.inr (.inr (some 231))] S7) fun S10 =>
      za S10 58 22000 x3 fun v11 =>
      zI (zc R d 329 [.inl v11] S10) fun v13 S12 =>
      zlet v13 fun x4_14 =>
      za S12 26 57000 x4_14 fun v15 =>
      za S12 31 106000 v15 fun v16 =>
      za S12 30 106000 v16 fun v17 =>
      zI (zc R d 8 [.inl v17] S12) fun v19 S18 =>
      za S18 26 57000 v19 fun v20 =>
      zV (zc R d 338 [.inl v20] S18) fun S21 =>
      za S21 26 57000 x4_14 fun v22 =>
      za S21 30 106000 v22 fun v23 =>
      zV (zc R d 330 [.inl v23, .inl 0] S21) fun S24 =>
      zG (inI (x3 + 1)) <|
      zlet (x3 + 1) fun x3_25 =>
      R d 577 [.inl x2, .inl x3_25] S24
    else
    zV (zc R d 559 [.inr (.inr (some 230))] S) fun S26 =>
    za S26 56 22000 x3 fun v27 =>
    zV (zc R d 321 [.inl v27] S26) fun S28 =>
    zI (zc R d 200 [.inl x3] S28) fun v30 S29 =>
    if v30 = 0 then
      zG (inI (x3 + 1)) <|
      zlet (x3 + 1) fun x3_31 =>
      R d 577 [.inl x2, .inl x3_31] S29
    else
    zV (zc R d 559 [.inr (.inr (some 231))] S29) fun S32 =>
    za S32 58 22000 x3 fun v33 =>
    zI (zc R d 329 [.inl v33] S32) fun v35 S34 =>
    zlet v35 fun x4_36 =>
    za S34 26 57000 x4_36 fun v37 =>
    za S34 31 106000 v37 fun v38 =>
    za S34 30 106000 v38 fun v39 =>
    zI (zc R d 8 [.inl v39] S34) fun v41 S40 =>
    za S40 26 57000 v41 fun v42 =>
    zV (zc R d 338 [.inl v42] S40) fun S43 =>
    za S43 26 57000 x4_36 fun v44 =>
    za S43 30 106000 v44 fun v45 =>
    zV (zc R d 330 [.inl v45, .inl 0] S43) fun S46 =>
    zG (inI (x3 + 1)) <|
    zlet (x3 + 1) fun x3_47 =>
    R d 577 [.inl x2, .inl x3_47] S46
  else
  zrV S
def zb_listed0_p7 (R : ZC ZS) (d : Nat) (x2 : Int) (S : ZS) : ZR ZS :=
  if x2 = (-1) then
    zrV S
  else
  za S 30 106000 x2 fun v1 =>
  zI (zc R d 8 [.inl v1] S) fun v3 S2 =>
  zs S2 107 1100 (S.1 229) v3 fun S4 =>
  zG (inI ((S4.1 229) + 1)) <|
  zp S4 229 ((S4.1 229) + 1) fun S5 =>
  za S5 31 106000 x2 fun v6 =>
  zlet v6 fun x2_7 =>
  R d 578 [.inl x2_7] S5
def zb_letter_p34 (R : ZC ZS) (d : Nat) (x1 : Int) (x2 : Int) (S : ZS) : ZR ZS :=
  zV (zc R d 315 [.inl x1] S) fun S1 =>
  if x2 < 0 then
    zrI (-1) S1
  else
  if x2 < (S1.1 227) then
    za S1 106 300 x2 fun v2 =>
    zrI v2 S1
  else
  zrI (-1) S1
def zb_feed_p76 (R : ZC ZS) (d : Nat) (x1 : Int) (x2 : Int) (x3 : Int) (x4 : Int) (x5 : Int) (x6 : Int) (y0 : Int) (S : ZS) : ZR ZS :=
  zlet y0 fun x7_1 =>
  zs S 0 8000 ((S.1 4) + x6) (zandI (zshrI x7_1 (24 - (8 * (x6 - ((zdivI x6 4) * 4))))) 255) fun S2 =>
  zG (inI (x6 + 1)) <|
  zlet (x6 + 1) fun x6_3 =>
  R d 346 [.inl x1, .inl x2, .inl x3, .inl x4, .inl x5, .inl x6_3] S2
def zb_sign0_p151 (R : ZC ZS) (d : Nat) (x4 : Int) (S : ZS) : ZR ZS :=
  if x4 = (-1) then
    zrV S
  else
  za S 29 106000 x4 fun v1 =>
  zs S 42 158000 (S.1 83) v1 fun S2 =>
  zG (inI ((S2.1 83) + 1)) <|
  zp S2 83 ((S2.1 83) + 1) fun S3 =>
  za S3 30 106000 x4 fun v4 =>
  zV (zc R d 7 [.inl v4] S3) fun S5 =>
  za S5 31 106000 x4 fun v6 =>
  zlet v6 fun x4_7 =>
  R d 581 [.inl x4_7] S5
def zb_sign0_p235 (R : ZC ZS) (d : Nat) (x2 : Int) (x3 : Int) (S : ZS) : ZR ZS :=
  if x3 = (S.1 86) then
    zs S 43 1100 x3 x2 fun S1 =>
    zG (inI ((S1.1 86) + 1)) <|
    zp S1 86 ((S1.1 86) + 1) fun S2 =>
    R d 706 [.inl x2, .inl x3] S2
  else
  R d 706 [.inl x2, .inl x3] S
def zb_find_p24 (R : ZC ZS) (d : Nat) (x2 : Int) (x3 : Int) (S : ZS) : ZR ZS :=
  za S 23 57000 x3 fun v1 =>
  if v1 = 4 then
    za S 25 57000 x3 fun v2 =>
    if v2 = x2 then
      zrI x2 S
    else
    za S 25 57000 x3 fun v3 =>
    zlet v3 fun x4_4 =>
    zs S 25 57000 x3 x2 fun S5 =>
    zlet x4_4 fun x3_6 =>
    R d 583 [.inl x2, .inl x3_6] S5
  else
  zrI x2 S
def zb_withField_p65 (R : ZC ZS) (d : Nat) (x1 : Int) (x2 : Int) (x3 : Int) (x4 : Int) (S : ZS) : ZR ZS :=
  za S 31 106000 x4 fun v1 =>
  zI (zc R d 11 [.inl x2, .inl x3, .inl v1] S) fun v3 S2 =>
  zs S2 31 106000 x4 v3 fun S4 =>
  zrI x1 S4
def zb_read_p161 (R : ZC ZS) (d : Nat) (x1 : Int) (S : ZS) : ZR ZS :=
  zI (zc R d 40 [.inl x1] S) fun v2 S1 =>
  if v2 = 0 then
    zV (zc R d 42 [.inl x1] S1) fun S3 =>
    zrV S3
  else
  zV (zc R d 41 [] S1) fun S4 =>
  zrV S4
def zb_gaps_p113 (R : ZC ZS) (d : Nat) (x1 : Int) (x2 : Int) (x3 : Int) (S : ZS) : ZR ZS :=
  if x3 = 42 then
    zI (zc R d 29 [.inl 1] S) fun v2 S1 =>
    if v2 = 41 then
      zG (inI (x2 + (-1))) <|
      zlet (x2 + (-1)) fun x2_3 =>
      zG (inI ((S1.1 27) + 2)) <|
      zp S1 27 ((S1.1 27) + 2) fun S4 =>
      R d 358 [.inl x1, .inl x2_3] S4
    else
    R d 707 [.inl x1, .inl x2, .inl x3] S1
  else
  R d 707 [.inl x1, .inl x2, .inl x3] S
def zb_nameAt_text_p6 (R : ZC ZS) (d : Nat) (x2 : Int) (x3 : Int) (x4 : Int) (x5 : Int) (S : ZS) : ZR ZS :=
  if x5 < x3 then
    za S 2 8000 (x2 + x5) fun v1 =>
    zlet (zandI ((x4 * 31) + v1) 1023) fun x4_2 =>
    zG (inI (x5 + 1)) <|
    zlet (x5 + 1) fun x5_3 =>
    R d 587 [.inl x2, .inl x3, .inl x4_2, .inl x5_3] S
  else
  za S 7 1024 x4 fun v4 =>
  zlet v4 fun x5_5 =>
  R d 708 [.inl x2, .inl x3, .inl x4, .inl x5_5] S
def zb_readVariable_p49 (R : ZC ZS) (d : Nat)  (S : ZS) : ZR ZS :=
  zI (zc R d 27 [] S) fun v2 S1 =>
  zI (zc R d 32 [.inl v2] S1) fun v4 S3 =>
  if v4 = 0 then
    zG (inI ((S3.1 27) - (S3.1 23))) <|
    if ((S3.1 27) - (S3.1 23)) ≤ 30 then
      zI (zc R d 360 [.inl (S3.1 23), .inl ((S3.1 27) - (S3.1 23))] S3) fun v6 S5 =>
      zp S5 24 v6 fun S7 =>
      zp S7 22 2 fun S8 =>
      zrV S8
    else
    zthrow 1 (S3.1 23) S3
  else
  zG (inI ((S3.1 27) + 1)) <|
  zp S3 27 ((S3.1 27) + 1) fun S9 =>
  R d 588 [] S9
def zb_readInt_p31 (R : ZC ZS) (d : Nat) (x1 : Int) (x2 : Int) (S : ZS) : ZR ZS :=
  zI (zc R d 27 [] S) fun v2 S1 =>
  zI (zc R d 33 [.inl v2] S1) fun v4 S3 =>
  if v4 = 0 then
    if x1 = 0 then
      R d 709 [.inl x1, .inr (.inl x2), .inr (.inl 2147483647), .inr (.inl x2)] S3
    else
    R d 709 [.inl x1, .inr (.inl x2), .inr (.inl 2147483648), .inr (.inl x2)] S3
  else
  if x2 ≤ 2147483648 then
    zI (zc R d 27 [] S3) fun v6 S5 =>
    zG (inL (((10 * x2) + v6) - 48)) <|
    R d 710 [.inl x1, .inr (.inl (((10 * x2) + v6) - 48))] S5
  else
  R d 710 [.inl x1, .inr (.inl x2)] S3
def zb_readString_p31 (R : ZC ZS) (d : Nat) (x1 : Int) (S : ZS) : ZR ZS :=
  zI (zc R d 27 [] S) fun v2 S1 =>
  if v2 = 34 then
    zG (inI ((S1.1 27) + 1)) <|
    zp S1 27 ((S1.1 27) + 1) fun S3 =>
    zG (inI (((S3.1 30) - (S3.1 25)) - 1)) <|
    zlet (((S3.1 30) - (S3.1 25)) - 1) fun x2_4 =>
    if x1 = 0 then
      if x2_4 ≤ 200 then
        R d 711 [.inl x1, .inl x2_4] S3
      else
      zthrow 1 (S3.1 23) S3
    else
    if x2_4 = 1 then
      R d 711 [.inl x1, .inl x2_4] S3
    else
    zthrow 1 (S3.1 23) S3
  else
  zI (zc R d 27 [] S1) fun v6 S5 =>
  zlet v6 fun x2_7 =>
  if x2_7 = 92 then
    zG (inI ((S5.1 27) + 1)) <|
    zp S5 27 ((S5.1 27) + 1) fun S8 =>
    zV (zc R d 39 [] S8) fun S9 =>
    R d 590 [.inl x1] S9
  else
  if x2_7 < 32 then
    zthrow 1 (S5.1 27) S5
  else
  if x2_7 ≤ 126 then
    zV (zc R d 38 [.inl x2_7] S5) fun S10 =>
    zG (inI ((S10.1 27) + 1)) <|
    zp S10 27 ((S10.1 27) + 1) fun S11 =>
    R d 590 [.inl x1] S11
  else
  zthrow 1 (S5.1 27) S5
def zb_readEscape_p53 (R : ZC ZS) (d : Nat) (y0 : Int) (S : ZS) : ZR ZS :=
  zV (zc R d 38 [.inl y0] S) fun S1 =>
  zG (inI ((S1.1 27) + 1)) <|
  zp S1 27 ((S1.1 27) + 1) fun S2 =>
  zrV S2
def zb_readEscape_p97 (R : ZC ZS) (d : Nat) (x2 : Int) (x3 : Int) (y0 : Int) (S : ZS) : ZR ZS :=
  zlet y0 fun x4_1 =>
  if x4_1 < 0 then
    zthrow 1 (S.1 27) S
  else
  if x3 = 0 then
    zG (inI ((10 * x2) + x4_1)) <|
    R d 712 [.inl x2, .inl x3, .inl x4_1, .inl 100, .inl ((10 * x2) + x4_1)] S
  else
  if x3 = 1 then
    zG (inI ((10 * x2) + x4_1)) <|
    R d 712 [.inl x2, .inl x3, .inl x4_1, .inl 10, .inl ((10 * x2) + x4_1)] S
  else
  zG (inI ((10 * x2) + x4_1)) <|
  R d 712 [.inl x2, .inl x3, .inl x4_1, .inl 1, .inl ((10 * x2) + x4_1)] S
def zb_decs_p57 (R : ZC ZS) (d : Nat) (x1 : Int) (x2 : Int) (x3 : Int) (x4 : Int) (S : ZS) : ZR ZS :=
  if x4 = 0 then
    R d 370 [.inl x1, .inl x2, .inl x3, .inl x4] S
  else
  zI (zc R d 47 [] S) fun v2 S1 =>
  zs S1 16 84000 x3 v2 fun S3 =>
  za S3 16 84000 x3 fun v4 =>
  zlet v4 fun x3_5 =>
  R d 370 [.inl x1, .inl x2, .inl x3_5, .inl x4] S3
def zb_local_p48 (R : ZC ZS) (d : Nat) (x1 : Int) (x2 : Int) (x3 : Int) (y0 : Int) (S : ZS) : ZR ZS :=
  zlet y0 fun x4_1 =>
  zV (zc R d 51 [.inl 7] S) fun S2 =>
  zp S2 47 x2 fun S3 =>
  zI (zc R d 52 [.inl 77, .inl x1, .inl 0, .inl x3, .inl x4_1, .inl 0] S3) fun v5 S4 =>
  zrI v5 S4
def zb_binds_p73 (R : ZC ZS) (d : Nat) (x1 : Int) (x6 : Int) (S : ZS) : ZR ZS :=
  zlet x6 fun x2_1 =>
  zI (zc R d 53 [.inl 0] S) fun v3 S2 =>
  zlet v3 fun x3_4 =>
  R d 373 [.inl x1, .inl x2_1, .inl x3_4] S2
def zb_pattern_p28 (R : ZC ZS) (d : Nat) (x1 : Int) (x2 : Int) (x3 : Int) (x4 : Int) (x5 : Int) (S : ZS) : ZR ZS :=
  zI (zc R d 53 [.inl 38] S) fun v2 S1 =>
  if v2 = 0 then
    zp S1 55 (-1) fun S3 =>
    if x2 = 0 then
      zrI x1 S3
    else
    if x4 ≤ 1 then
      zI (zc R d 45 [.inl 2] S3) fun v5 S4 =>
      if v5 = 0 then
        zrI x1 S4
      else
      zV (zc R d 43 [] S4) fun S6 =>
      zI (zc R d 55 [] S6) fun v8 S7 =>
      zlet v8 fun x6_9 =>
      zp S7 55 (-1) fun S10 =>
      za S10 11 4200 (x5 - (S10.1 41)) fun v11 =>
      za S10 12 84000 x5 fun v12 =>
      if x4 = 0 then
        za S10 15 84000 x5 fun v13 =>
        zI (zc R d 52 [.inl 37, .inl v11, .inl v12, .inl x6_9, .inl (-1), .inl v13] S10) fun v15 S14 =>
        zrI v15 S14
      else
      za S10 15 84000 x5 fun v16 =>
      zI (zc R d 52 [.inl 37, .inl v11, .inl v12, .inl x6_9, .inl x3, .inl v16] S10) fun v18 S17 =>
      zrI v18 S17
    else
    zrI x1 S3
  else
  zI (zc R d 69 [] S1) fun v20 S19 =>
  zlet v20 fun x3_21 =>
  zG (inI (x4 + 1)) <|
  zlet (x4 + 1) fun x4_22 =>
  za S19 11 4200 (x1 - (S19.1 41)) fun v23 =>
  zI (zc R d 52 [.inl 38, .inl v23, .inl 0, .inl x1, .inl x3_21, .inl 0] S19) fun v25 S24 =>
  zlet v25 fun x1_26 =>
  R d 596 [.inl x1_26, .inl x2, .inl x3_21, .inl x4_22, .inl x5] S24
def zb_infixed_p239 (R : ZC ZS) (d : Nat) (x1 : Int) (x2 : Int) (S : ZS) : ZR ZS :=
  if (S.1 54) ≤ x2 then
    zG (inI ((S.1 53) - 1)) <|
    zp S 53 ((S.1 53) - 1) fun S1 =>
    za S1 19 2100 (S1.1 53) fun v2 =>
    zrI v2 S1
  else
  zV (zc R d 95 [.inl x1] S) fun S3 =>
  R d 597 [.inl x1, .inl x2] S3
def zb_infixed_p30 (R : ZC ZS) (d : Nat) (x1 : Int) (x2 : Int) (S : ZS) : ZR ZS :=
  zI (zc R d 61 [.inl (S.1 19)] S) fun v2 S1 =>
  zlet v2 fun x3_3 =>
  if (S1.1 54) ≤ x2 then
    zlet (0 : Int) fun x4_4 =>
    R d 713 [.inl x1, .inl x2, .inl x3_3, .inl x4_4] S1
  else
  zlet (1 : Int) fun x4_5 =>
  R d 713 [.inl x1, .inl x2, .inl x3_3, .inl x4_5] S1
def zb_patternRow_p87 (R : ZC ZS) (d : Nat) (x1 : Int) (x2 : Int) (x5 : Int) (S : ZS) : ZR ZS :=
  zV (zc R d 51 [.inl 33] S) fun S1 =>
  if x5 = 0 then
    zI (zc R d 52 [.inl 35, .inl x1, .inl 0, .inl x2, .inl 0, .inl x1] S1) fun v3 S2 =>
    zrI v3 S2
  else
  zI (zc R d 52 [.inl 35, .inl x1, .inl 0, .inl x2, .inl 1, .inl x1] S1) fun v5 S4 =>
  zrI v5 S4
def zb_patternRow_p73 (R : ZC ZS) (d : Nat) (x1 : Int) (x2 : Int) (x5 : Int) (x6 : Int) (S : ZS) : ZR ZS :=
  zlet x6 fun x3_1 =>
  zI (zc R d 53 [.inl 34] S) fun v3 S2 =>
  zlet v3 fun x4_4 =>
  R d 381 [.inl x1, .inl x2, .inl x3_1, .inl x4_4, .inl x5] S2
def zb_patternField_p75 (R : ZC ZS) (d : Nat) (x1 : Int) (x3 : Int) (x4 : Int) (S : ZS) : ZR ZS :=
  zI (zc R d 53 [.inl 2] S) fun v2 S1 =>
  if v2 = 0 then
    zI (zc R d 52 [.inl 31, .inl x1, .inl x3, .inl 1, .inl 0, .inl x1] S1) fun v4 S3 =>
    zlet v4 fun x5_5 =>
    if x4 = (-1) then
      R d 714 [.inl x1, .inl x3, .inl x5_5] S3
    else
    zI (zc R d 52 [.inl 38, .inl x1, .inl 0, .inl x5_5, .inl x4, .inl 0] S3) fun v7 S6 =>
    zlet v7 fun x5_8 =>
    R d 714 [.inl x1, .inl x3, .inl x5_8] S6
  else
  zI (zc R d 55 [] S1) fun v10 S9 =>
  zI (zc R d 52 [.inl 37, .inl x1, .inl x3, .inl v10, .inl x4, .inl x1] S9) fun v12 S11 =>
  zlet v12 fun x5_13 =>
  R d 714 [.inl x1, .inl x3, .inl x5_13] S11
def zb_tupleType_p131 (R : ZC ZS) (d : Nat) (x1 : Int) (x2 : Int) (S : ZS) : ZR ZS :=
  za S 11 4200 (x1 - (S.1 41)) fun v1 =>
  zI (zc R d 52 [.inl 52, .inl v1, .inl 0, .inl x2, .inl 0, .inl 0] S) fun v3 S2 =>
  zrI v3 S2
def zb_atomicType_p117 (R : ZC ZS) (d : Nat) (x1 : Int) (x2 : Int) (x3 : Int) (x4 : Int) (S : ZS) : ZR ZS :=
  zI (zc R d 53 [.inl 34] S) fun v2 S1 =>
  if v2 = 0 then
    zV (zc R d 51 [.inl 29] S1) fun S3 =>
    if x4 = 0 then
      zrI x2 S3
    else
    if (S3.1 17) = 1 then
      if (S3.1 19) = (S3.1 15) then
        zthrow 2 (S3.1 18) S3
      else
      zI (zc R d 52 [.inl 51, .inl x1, .inl (S3.1 19), .inl x2, .inl (S3.1 18), .inl 0] S3) fun v5 S4 =>
      zlet v5 fun x5_6 =>
      zV (zc R d 43 [] S4) fun S7 =>
      zrI x5_6 S7
    else
    zthrow 2 (S3.1 18) S3
  else
  zlet (1 : Int) fun x4_8 =>
  zI (zc R d 69 [] S1) fun v10 S9 =>
  zs S9 16 84000 x3 v10 fun S11 =>
  za S11 16 84000 x3 fun v12 =>
  zlet v12 fun x3_13 =>
  R d 603 [.inl x1, .inl x2, .inl x3_13, .inl x4_8] S11
def zb_typeRow_p80 (R : ZC ZS) (d : Nat) (x1 : Int) (x2 : Int) (x7 : Int) (S : ZS) : ZR ZS :=
  zlet x7 fun x3_1 =>
  zI (zc R d 53 [.inl 34] S) fun v3 S2 =>
  zlet v3 fun x4_4 =>
  R d 386 [.inl x1, .inl x2, .inl x3_1, .inl x4_4] S2
def zb_patternHeld_p40 (R : ZC ZS) (d : Nat) (x1 : Int) (x2 : Int) (x3 : Int) (x4 : Int) (x5 : Int) (x6 : Int) (x7 : Int) (S : ZS) : ZR ZS :=
  if x7 = 0 then
    zV (zc R d 51 [.inl x3] S) fun S1 =>
    if x2 = 0 then
      if x6 = 1 then
        zs S1 11 4200 (x4 - (S1.1 41)) x1 fun S2 =>
        zrI x4 S2
      else
      if x6 = 0 then
        zI (zc R d 52 [.inl 35, .inl x1, .inl 0, .inl (-1), .inl 0, .inl x1] S1) fun v4 S3 =>
        zrI v4 S3
      else
      zI (zc R d 52 [.inl 41, .inl x1, .inl 0, .inl x4, .inl 0, .inl 0] S1) fun v6 S5 =>
      zrI v6 S5
    else
    zI (zc R d 52 [.inl 39, .inl x1, .inl 0, .inl x4, .inl 0, .inl 0] S1) fun v8 S7 =>
    zrI v8 S7
  else
  zI (zc R d 55 [] S) fun v10 S9 =>
  zlet v10 fun x8_11 =>
  if x4 = (-1) then
    zlet x8_11 fun x4_12 =>
    R d 715 [.inl x1, .inl x2, .inl x3, .inl x4_12, .inl x6, .inl x8_11] S9
  else
  zs S9 16 84000 x5 x8_11 fun S13 =>
  R d 715 [.inl x1, .inl x2, .inl x3, .inl x4, .inl x6, .inl x8_11] S13
def zb_expressionRow_p84 (R : ZC ZS) (d : Nat) (x1 : Int) (x2 : Int) (x7 : Int) (S : ZS) : ZR ZS :=
  zlet x7 fun x3_1 =>
  zI (zc R d 53 [.inl 34] S) fun v3 S2 =>
  zlet v3 fun x4_4 =>
  R d 393 [.inl x1, .inl x2, .inl x3_1, .inl x4_4] S2
def zb_orelse_p36 (R : ZC ZS) (d : Nat) (x1 : Int) (y0 : Int) (S : ZS) : ZR ZS :=
  zlet y0 fun x2_1 =>
  zG (inI ((S.1 48) - 1)) <|
  zp S 48 ((S.1 48) - 1) fun S2 =>
  za S2 11 4200 (x1 - (S2.1 41)) fun v3 =>
  zI (zc R d 52 [.inl 14, .inl v3, .inl 0, .inl x1, .inl x2_1, .inl 0] S2) fun v5 S4 =>
  zlet v5 fun x1_6 =>
  R d 396 [.inl x1_6] S4
def zb_andalso_p35 (R : ZC ZS) (d : Nat) (x1 : Int) (y0 : Int) (S : ZS) : ZR ZS :=
  zlet y0 fun x2_1 =>
  zG (inI ((S.1 48) - 1)) <|
  zp S 48 ((S.1 48) - 1) fun S2 =>
  za S2 11 4200 (x1 - (S2.1 41)) fun v3 =>
  zI (zc R d 52 [.inl 15, .inl v3, .inl 0, .inl x1, .inl x2_1, .inl 0] S2) fun v5 S4 =>
  zlet v5 fun x1_6 =>
  R d 397 [.inl x1_6] S4
def zb_functions_p66 (R : ZC ZS) (d : Nat) (x1 : Int) (x5 : Int) (S : ZS) : ZR ZS :=
  zlet x5 fun x2_1 =>
  zI (zc R d 53 [.inl 0] S) fun v3 S2 =>
  zlet v3 fun x3_4 =>
  R d 404 [.inl x1, .inl x2_1, .inl x3_4] S2
def zb_clause_p67 (R : ZC ZS) (d : Nat) (x1 : Int) (y0 : Int) (S : ZS) : ZR ZS :=
  zlet y0 fun x3_1 =>
  if x3_1 = 0 then
    zI (zc R d 63 [] S) fun v3 S2 =>
    zlet v3 fun x7_4 =>
    zI (zc R d 93 [] S2) fun v6 S5 =>
    if v6 = 0 then
      zthrow 2 (S5.1 18) S5
    else
    zI (zc R d 45 [.inl 40] S5) fun v8 S7 =>
    if v8 = 0 then
      zlet (S7.1 18) fun x5_9 =>
      zI (zc R d 77 [] S7) fun v11 S10 =>
      zlet v11 fun x4_12 =>
      zI (zc R d 63 [] S10) fun v14 S13 =>
      zI (zc R d 99 [.inl x7_4, .inl v14] S13) fun v16 S15 =>
      zlet v16 fun x6_17 =>
      R d 716 [.inl x1, .inl x4_12, .inl x5_9, .inl x6_17] S15
    else
    zthrow 2 (S7.1 18) S7
  else
  zI (zc R d 45 [.inl 20] S) fun v19 S18 =>
  if v19 = 0 then
    R d 717 [.inl x1, .inl x1] S18
  else
  R d 717 [.inl x1, .inl (S18.1 23)] S18
def zb_datas_p73 (R : ZC ZS) (d : Nat) (x1 : Int) (x7 : Int) (S : ZS) : ZR ZS :=
  zlet x7 fun x2_1 =>
  zI (zc R d 53 [.inl 0] S) fun v3 S2 =>
  zlet v3 fun x3_4 =>
  R d 408 [.inl x1, .inl x2_1, .inl x3_4] S2
def zb_constructors_p40 (R : ZC ZS) (d : Nat) (x1 : Int) (x2 : Int) (x5 : Int) (y0 : Int) (S : ZS) : ZR ZS :=
  zlet y0 fun x6_1 =>
  zI (zc R d 53 [.inl 19] S) fun v3 S2 =>
  if v3 = 0 then
    R d 718 [.inl x1, .inl x2, .inl (-1), .inl x6_1, .inl x5, .inl 82] S2
  else
  zI (zc R d 69 [] S2) fun v5 S4 =>
  R d 718 [.inl x1, .inl x2, .inl v5, .inl x6_1, .inl x5, .inl 82] S4
def zb_exception_p68 (R : ZC ZS) (d : Nat) (x1 : Int) (x3 : Int) (x4 : Int) (x6 : Int) (y0 : Int) (S : ZS) : ZR ZS :=
  zlet y0 fun x7_1 =>
  zI (zc R d 52 [.inl 76, .inl x1, .inl x4, .inl x7_1, .inl x6, .inl x3] S) fun v3 S2 =>
  zrI v3 S2
def zb_infixes_p63 (R : ZC ZS) (d : Nat) (x1 : Int) (x2 : Int) (x3 : Int) (S : ZS) : ZR ZS :=
  if (S.1 17) = 1 then
    R d 719 [.inl x1, .inl x2, .inl x3] S
  else
  zthrow 2 (S.1 18) S
def zb_judgedVal_p115 (R : ZC ZS) (d : Nat) (x2 : Int) (x3 : Int) (x4 : Int) (x5 : Int) (x6 : Int) (x10 : Int) (S : ZS) : ZR ZS :=
  if x10 < (S.1 134) then
    za S 14 84000 x6 fun v1 =>
    zI (zc R d 179 [.inl v1] S) fun v3 S2 =>
    zs S2 83 3000 x10 (zbool v3) fun S4 =>
    zG (inI (x10 + 1)) <|
    zlet (x10 + 1) fun x10_5 =>
    R d 615 [.inl x2, .inl x3, .inl x4, .inl x5, .inl x6, .inl x10_5] S4
  else
  zV (zc R d 173 [.inl 2, .inl x6] S) fun S6 =>
  za S6 16 84000 x6 fun v7 =>
  zlet v7 fun x6_8 =>
  R d 412 [.inl x2, .inl x3, .inl x4, .inl x5, .inl x6_8] S6
def zb_enterVariables_p37 (R : ZC ZS) (d : Nat) (x2 : Int) (x3 : Int) (x4 : Int) (x5 : Int) (S : ZS) : ZR ZS :=
  if x5 < x2 then
    if x4 = 0 then
      za S 61 3000 x5 fun v1 =>
      za S 80 1100 x3 fun v2 =>
      if v1 = v2 then
        zlet (1 : Int) fun x4_3 =>
        zG (inI (x5 + 1)) <|
        zlet (x5 + 1) fun x5_4 =>
        R d 616 [.inl x2, .inl x3, .inl x4_3, .inl x5_4] S
      else
      zlet (0 : Int) fun x4_5 =>
      zG (inI (x5 + 1)) <|
      zlet (x5 + 1) fun x5_6 =>
      R d 616 [.inl x2, .inl x3, .inl x4_5, .inl x5_6] S
    else
    zlet (1 : Int) fun x4_7 =>
    zG (inI (x5 + 1)) <|
    zlet (x5 + 1) fun x5_8 =>
    R d 616 [.inl x2, .inl x3, .inl x4_7, .inl x5_8] S
  else
  if x4 = 0 then
    za S 82 1100 x3 fun v9 =>
    if v9 = 0 then
      zG (inI (x3 + 1)) <|
      zlet (x3 + 1) fun x3_10 =>
      R d 413 [.inl x2, .inl x3_10] S
    else
    za S 80 1100 x3 fun v11 =>
    zs S 61 3000 (S.1 125) v11 fun S12 =>
    za S12 80 1100 x3 fun v13 =>
    zI (zc R d 4 [.inl 1, .inl v13, .inl (-1), .inl 0, .inl 0] S12) fun v15 S14 =>
    zs S14 62 3000 (S12.1 125) v15 fun S16 =>
    za S16 81 1100 x3 fun v17 =>
    zs S16 63 3000 (S16.1 125) v17 fun S18 =>
    zG (inI ((S18.1 125) + 1)) <|
    zp S18 125 ((S18.1 125) + 1) fun S19 =>
    zG (inI (x3 + 1)) <|
    zlet (x3 + 1) fun x3_20 =>
    R d 413 [.inl x2, .inl x3_20] S19
  else
  zG (inI (x3 + 1)) <|
  zlet (x3 + 1) fun x3_21 =>
  R d 413 [.inl x2, .inl x3_21] S
def zb_look_p48 (R : ZC ZS) (d : Nat) (x2 : Int) (x3 : Int) (S : ZS) : ZR ZS :=
  za S 10 84000 x3 fun v1 =>
  if v1 = 5 then
    za S 13 84000 x3 fun v2 =>
    zV (zc R d 112 [.inl v2, .inl x2] S) fun S3 =>
    zrV S3
  else
  if v1 = 6 then
    za S 13 84000 x3 fun v5 =>
    zV (zc R d 113 [.inl v5, .inl x2] S) fun S6 =>
    za S6 14 84000 x3 fun v7 =>
    zV (zc R d 113 [.inl v7, .inl x2] S6) fun S8 =>
    zrV S8
  else
  if v1 = 7 then
    za S 13 84000 x3 fun v10 =>
    zV (zc R d 113 [.inl v10, .inl x2] S) fun S11 =>
    za S11 14 84000 x3 fun v12 =>
    zV (zc R d 113 [.inl v12, .inl x2] S11) fun S13 =>
    zrV S13
  else
  if v1 = 8 then
    za S 13 84000 x3 fun v15 =>
    zV (zc R d 113 [.inl v15, .inl x2] S) fun S16 =>
    zrV S16
  else
  if v1 = 9 then
    za S 13 84000 x3 fun v18 =>
    zV (zc R d 113 [.inl v18, .inl x2] S) fun S19 =>
    za S19 14 84000 x3 fun v20 =>
    zV (zc R d 113 [.inl v20, .inl x2] S19) fun S21 =>
    za S21 15 84000 x3 fun v22 =>
    zV (zc R d 113 [.inl v22, .inl x2] S21) fun S23 =>
    zrV S23
  else
  if v1 = 10 then
    za S 13 84000 x3 fun v25 =>
    zV (zc R d 113 [.inl v25, .inl x2] S) fun S26 =>
    za S26 14 84000 x3 fun v27 =>
    zV (zc R d 113 [.inl v27, .inl x2] S26) fun S28 =>
    zrV S28
  else
  if v1 = 11 then
    za S 13 84000 x3 fun v30 =>
    zV (zc R d 113 [.inl v30, .inl x2] S) fun S31 =>
    za S31 14 84000 x3 fun v32 =>
    zV (zc R d 112 [.inl v32, .inl x2] S31) fun S33 =>
    zrV S33
  else
  if v1 = 12 then
    za S 13 84000 x3 fun v35 =>
    zV (zc R d 112 [.inl v35, .inl x2] S) fun S36 =>
    zrV S36
  else
  if v1 = 13 then
    za S 13 84000 x3 fun v38 =>
    zV (zc R d 113 [.inl v38, .inl x2] S) fun S39 =>
    za S39 14 84000 x3 fun v40 =>
    zV (zc R d 112 [.inl v40, .inl x2] S39) fun S41 =>
    zrV S41
  else
  if v1 = 14 then
    za S 13 84000 x3 fun v43 =>
    zV (zc R d 113 [.inl v43, .inl x2] S) fun S44 =>
    za S44 14 84000 x3 fun v45 =>
    zV (zc R d 113 [.inl v45, .inl x2] S44) fun S46 =>
    zrV S46
  else
  if v1 = 15 then
    za S 13 84000 x3 fun v48 =>
    zV (zc R d 113 [.inl v48, .inl x2] S) fun S49 =>
    za S49 14 84000 x3 fun v50 =>
    zV (zc R d 113 [.inl v50, .inl x2] S49) fun S51 =>
    zrV S51
  else
  if v1 = 16 then
    za S 13 84000 x3 fun v53 =>
    zV (zc R d 113 [.inl v53, .inl x2] S) fun S54 =>
    za S54 14 84000 x3 fun v55 =>
    zV (zc R d 113 [.inl v55, .inl x2] S54) fun S56 =>
    zrV S56
  else
  if v1 = 17 then
    za S 13 84000 x3 fun v58 =>
    zV (zc R d 112 [.inl v58, .inl x2] S) fun S59 =>
    zrV S59
  else
  if v1 = 18 then
    za S 13 84000 x3 fun v61 =>
    zV (zc R d 112 [.inl v61, .inl x2] S) fun S62 =>
    za S62 14 84000 x3 fun v63 =>
    zV (zc R d 112 [.inl v63, .inl x2] S62) fun S64 =>
    zrV S64
  else
  if v1 = 19 then
    za S 13 84000 x3 fun v66 =>
    zV (zc R d 112 [.inl v66, .inl x2] S) fun S67 =>
    zrV S67
  else
  if v1 = 20 then
    za S 13 84000 x3 fun v69 =>
    zV (zc R d 112 [.inl v69, .inl x2] S) fun S70 =>
    zrV S70
  else
  if v1 = 21 then
    zrV S
  else
  if v1 = 22 then
    zrV S
  else
  if v1 = 23 then
    zrV S
  else
  if v1 = 24 then
    zrV S
  else
  if v1 = 25 then
    zrV S
  else
  if v1 = 26 then
    zrV S
  else
  if v1 = 27 then
    zrV S
  else
  if v1 = 28 then
    zrV S
  else
  if v1 = 29 then
    zrV S
  else
  if v1 = 30 then
    zrV S
  else
  if v1 = 31 then
    zrV S
  else
  if v1 = 32 then
    zrV S
  else
  if v1 = 33 then
    zrV S
  else
  if v1 = 34 then
    zrV S
  else
  if v1 = 35 then
    za S 13 84000 x3 fun v86 =>
    zV (zc R d 112 [.inl v86, .inl x2] S) fun S87 =>
    zrV S87
  else
  if v1 = 36 then
    za S 13 84000 x3 fun v89 =>
    zV (zc R d 113 [.inl v89, .inl x2] S) fun S90 =>
    zrV S90
  else
  if v1 = 37 then
    za S 13 84000 x3 fun v92 =>
    zV (zc R d 113 [.inl v92, .inl x2] S) fun S93 =>
    za S93 14 84000 x3 fun v94 =>
    if v94 = (-1) then
      zrV S93
    else
    za S93 14 84000 x3 fun v95 =>
    zV (zc R d 113 [.inl v95, .inl x2] S93) fun S96 =>
    zrV S96
  else
  if v1 = 38 then
    za S 13 84000 x3 fun v98 =>
    zV (zc R d 113 [.inl v98, .inl x2] S) fun S99 =>
    za S99 14 84000 x3 fun v100 =>
    zV (zc R d 113 [.inl v100, .inl x2] S99) fun S101 =>
    zrV S101
  else
  if v1 = 39 then
    za S 13 84000 x3 fun v103 =>
    zV (zc R d 112 [.inl v103, .inl x2] S) fun S104 =>
    zrV S104
  else
  if v1 = 40 then
    za S 13 84000 x3 fun v106 =>
    zV (zc R d 113 [.inl v106, .inl x2] S) fun S107 =>
    za S107 14 84000 x3 fun v108 =>
    zV (zc R d 113 [.inl v108, .inl x2] S107) fun S109 =>
    zrV S109
  else
  if v1 = 41 then
    za S 13 84000 x3 fun v111 =>
    zV (zc R d 112 [.inl v111, .inl x2] S) fun S112 =>
    zrV S112
  else
  if v1 = 42 then
    zrV S
  else
  if v1 = 43 then
    zrV S
  else
  if v1 = 44 then
    zrV S
  else
  if v1 = 45 then
    zrV S
  else
  if v1 = 46 then
    zrV S
  else
  if v1 = 47 then
    zrV S
  else
  if v1 = 48 then
    zrV S
  else
  if v1 = 49 then
    zrV S
  else
  if v1 = 50 then
    zV (zc R d 114 [.inl x3, .inl x2] S) fun S122 =>
    zrV S122
  else
  if v1 = 51 then
    za S 13 84000 x3 fun v124 =>
    zV (zc R d 112 [.inl v124, .inl x2] S) fun S125 =>
    zrV S125
  else
  if v1 = 52 then
    za S 13 84000 x3 fun v127 =>
    zV (zc R d 112 [.inl v127, .inl x2] S) fun S128 =>
    zrV S128
  else
  if v1 = 53 then
    za S 13 84000 x3 fun v130 =>
    zV (zc R d 113 [.inl v130, .inl x2] S) fun S131 =>
    za S131 14 84000 x3 fun v132 =>
    zV (zc R d 113 [.inl v132, .inl x2] S131) fun S133 =>
    zrV S133
  else
  if v1 = 54 then
    zrV S
  else
  if v1 = 55 then
    zrV S
  else
  if v1 = 56 then
    zrV S
  else
  if v1 = 57 then
    zrV S
  else
  if v1 = 58 then
    zrV S
  else
  if v1 = 59 then
    zrV S
  else
  if v1 = 60 then
    za S 13 84000 x3 fun v141 =>
    zV (zc R d 113 [.inl v141, .inl x2] S) fun S142 =>
    zrV S142
  else
  if v1 = 61 then
    za S 13 84000 x3 fun v144 =>
    zV (zc R d 113 [.inl v144, .inl x2] S) fun S145 =>
    za S145 14 84000 x3 fun v146 =>
    zV (zc R d 113 [.inl v146, .inl x2] S145) fun S147 =>
    zrV S147
  else
  if v1 = 62 then
    zrV S
  else
  if v1 = 63 then
    zrV S
  else
  if v1 = 64 then
    zrV S
  else
  if v1 = 65 then
    zrV S
  else
  if v1 = 66 then
    zrV S
  else
  if v1 = 67 then
    zrV S
  else
  if v1 = 68 then
    zrV S
  else
  if v1 = 69 then
    zrV S
  else
  if v1 = 70 then
    za S 13 84000 x3 fun v157 =>
    zV (zc R d 112 [.inl v157, .inl 0] S) fun S158 =>
    zrV S158
  else
  if v1 = 71 then
    za S 13 84000 x3 fun v160 =>
    zV (zc R d 112 [.inl v160, .inl 0] S) fun S161 =>
    zrV S161
  else
  if v1 = 72 then
    za S 13 84000 x3 fun v163 =>
    zV (zc R d 112 [.inl v163, .inl 0] S) fun S164 =>
    zrV S164
  else
  if v1 = 73 then
    zrV S
  else
  if v1 = 74 then
    zrV S
  else
  if v1 = 75 then
    zrV S
  else
  if v1 = 76 then
    zrV S
  else
  if v1 = 77 then
    za S 13 84000 x3 fun v170 =>
    zV (zc R d 112 [.inl v170, .inl x2] S) fun S171 =>
    za S171 14 84000 x3 fun v172 =>
    zV (zc R d 112 [.inl v172, .inl x2] S171) fun S173 =>
    zrV S173
  else
  if v1 = 78 then
    za S 13 84000 x3 fun v175 =>
    zV (zc R d 113 [.inl v175, .inl x2] S) fun S176 =>
    za S176 14 84000 x3 fun v177 =>
    zV (zc R d 113 [.inl v177, .inl x2] S176) fun S178 =>
    zrV S178
  else
  if v1 = 79 then
    za S 13 84000 x3 fun v180 =>
    zV (zc R d 112 [.inl v180, .inl x2] S) fun S181 =>
    zrV S181
  else
  if v1 = 80 then
    za S 13 84000 x3 fun v183 =>
    zV (zc R d 112 [.inl v183, .inl x2] S) fun S184 =>
    za S184 14 84000 x3 fun v185 =>
    zV (zc R d 113 [.inl v185, .inl x2] S184) fun S186 =>
    za S186 15 84000 x3 fun v187 =>
    za S186 13 84000 v187 fun v188 =>
    if v188 = (-1) then
      zrV S186
    else
    za S186 15 84000 x3 fun v189 =>
    za S186 13 84000 v189 fun v190 =>
    zV (zc R d 113 [.inl v190, .inl x2] S186) fun S191 =>
    zrV S191
  else
  zrV S
def zb_found_p31 (R : ZC ZS) (d : Nat) (x1 : Int) (x2 : Int) (x3 : Int) (S : ZS) : ZR ZS :=
  if x3 = (S.1 159) then
    za S 12 84000 x1 fun v1 =>
    zs S 80 1100 x3 v1 fun S2 =>
    za S2 11 4200 (x1 - (S2.1 41)) fun v3 =>
    zs S2 81 1100 x3 v3 fun S4 =>
    zs S4 82 1100 x3 0 fun S5 =>
    zG (inI ((S5.1 159) + 1)) <|
    zp S5 159 ((S5.1 159) + 1) fun S6 =>
    R d 720 [.inl x1, .inl x2, .inl x3] S6
  else
  R d 720 [.inl x1, .inl x2, .inl x3] S
def zb_patternName_p81 (R : ZC ZS) (d : Nat) (x1 : Int) (x2 : Int) (x3 : Int) (x4 : Int) (S : ZS) : ZR ZS :=
  if x4 = 0 then
    za S 15 84000 x1 fun v1 =>
    zI (zc R d 132 [.inl x2, .inl v1] S) fun v3 S2 =>
    zlet v3 fun x5_4 =>
    zs S2 13 84000 x1 0 fun S5 =>
    za S5 67 3000 x5_4 fun v6 =>
    zs S5 14 84000 x1 v6 fun S7 =>
    za S7 66 3000 x5_4 fun v8 =>
    zrI v8 S7
  else
  zV (zc R d 120 [.inl x1, .inl x3] S) fun S9 =>
  za S9 46 4000 x3 fun v10 =>
  zI (zc R d 125 [.inl v10] S9) fun v12 S11 =>
  zrI v12 S11
def zb_patternName_p68 (R : ZC ZS) (d : Nat) (x1 : Int) (S : ZS) : ZR ZS :=
  za S 15 84000 x1 fun v1 =>
  zthrow 7 v1 S
def zb_readSign_p109 (R : ZC ZS) (d : Nat) (x3 : Int) (y0 : Int) (y1 : Int) (y2 : Int) (y3 : Int) (y4 : Int) (y6 : Int) (S : ZS) : ZR ZS :=
  zI (zc R d 4 [.inl y4, .inl y3, .inl y2, .inl (zorI y1 y0), .inl 0] S) fun v2 S1 =>
  zs S1 43 1100 y6 v2 fun S3 =>
  za S3 43 1100 x3 fun v4 =>
  zrI v4 S3
def zb_readSign_p153 (R : ZC ZS) (d : Nat) (x1 : Int) (x2 : Int) (x3 : Int) (y0 : Int) (S : ZS) : ZR ZS :=
  zlet y0 fun x4_1 =>
  zlet ((-1) : Int) fun x5_2 =>
  zlet ((-1) : Int) fun x6_3 =>
  zlet (0 : Int) fun x7_4 =>
  R d 721 [.inl x1, .inl x2, .inl x3, .inl x4_1, .inl x5_2, .inl x6_3, .inl x7_4] S
def zb_copied_p62 (R : ZC ZS) (d : Nat) (x1 : Int) (x2 : Int) (S : ZS) : ZR ZS :=
  if x2 = 0 then
    zlet ((-1) : Int) fun x3_1 =>
    zlet ((-1) : Int) fun x4_2 =>
    za S 26 57000 x1 fun v3 =>
    zlet v3 fun x5_4 =>
    R d 722 [.inl x1, .inl x3_1, .inl x4_2, .inl x5_4] S
  else
  zrI x1 S
def zb_copied_p51 (R : ZC ZS) (d : Nat) (x1 : Int) (x3 : Int) (y0 : Int) (S : ZS) : ZR ZS :=
  zlet y0 fun x2_1 =>
  za S 31 106000 x3 fun v2 =>
  zlet v2 fun x3_3 =>
  R d 427 [.inl x1, .inl x2_1, .inl x3_3] S
def zb_joined_p73 (R : ZC ZS) (d : Nat) (x1 : Int) (x3 : Int) (S : ZS) : ZR ZS :=
  if x3 = 0 then
    zrI 8 S
  else
  zI (zc R d 8 [.inl x1] S) fun v2 S1 =>
  zI (zc R d 147 [.inl v2] S1) fun v4 S3 =>
  if v4 = 0 then
    zI (zc R d 148 [] S3) fun v6 S5 =>
    if v6 = 0 then
      zrI 10 S5
    else
    zrI 0 S5
  else
  zrI 9 S3
def zb_merge_p69 (R : ZC ZS) (d : Nat) (x1 : Int) (x2 : Int) (S : ZS) : ZR ZS :=
  za S 23 57000 x1 fun v1 =>
  if v1 = 0 then
    R d 723 [.inl x1, .inl x2, .inl x1] S
  else
  R d 723 [.inl x1, .inl x2, .inl x2] S
def zb_mergeRows_p45 (R : ZC ZS) (d : Nat) (x1 : Int) (x2 : Int) (x3 : Int) (x4 : Int) (x5 : Int) (S : ZS) : ZR ZS :=
  if x5 = (-1) then
    za S 26 57000 x2 fun v1 =>
    zlet v1 fun x5_2 =>
    R d 724 [.inl x1, .inl x2, .inl x3, .inl x4, .inl x5_2] S
  else
  if x4 = 0 then
    za S 26 57000 x2 fun v3 =>
    za S 29 106000 x5 fun v4 =>
    zI (zc R d 143 [.inl v3, .inl v4] S) fun v6 S5 =>
    if v6 = (-1) then
      zrZ 0 S5
    else
    za S5 31 106000 x5 fun v7 =>
    zlet v7 fun x5_8 =>
    R d 627 [.inl x1, .inl x2, .inl x3, .inl x4, .inl x5_8] S5
  else
  za S 31 106000 x5 fun v9 =>
  zlet v9 fun x5_10 =>
  R d 627 [.inl x1, .inl x2, .inl x3, .inl x4, .inl x5_10] S
def zb_allFields_p28 (R : ZC ZS) (d : Nat) (x1 : Int) (x2 : Int) (x3 : Int) (y0 : Int) (S : ZS) : ZR ZS :=
  zlet y0 fun x4_1 =>
  zlet ((-1) : Int) fun x5_2 =>
  zlet x4_1 fun x6_3 =>
  if x3 = 0 then
    zlet x2 fun x7_4 =>
    R d 725 [.inl x3, .inl x4_1, .inl x5_2, .inl x6_3, .inl x7_4] S
  else
  zlet x1 fun x7_5 =>
  R d 725 [.inl x3, .inl x4_1, .inl x5_2, .inl x6_3, .inl x7_5] S
def zb_isEndless_p67 (R : ZC ZS) (d : Nat) (x2 : Int) (S : ZS) : ZR ZS :=
  if x2 ≤ 0 then
    zrZ 0 S
  else
  za S 41 57000 (x2 - 1) fun v1 =>
  zlet v1 fun x3_2 =>
  if x3_2 = (-1) then
    zG (inI (x2 + (-1))) <|
    zlet (x2 + (-1)) fun x2_3 =>
    za S 40 57000 x2_3 fun v4 =>
    zG (inI ((S.1 68) + 1)) <|
    zs S 27 57000 v4 ((S.1 68) + 1) fun S5 =>
    R d 629 [.inl x2_3] S5
  else
  za S 31 106000 x3_2 fun v6 =>
  zs S 41 57000 (x2 - 1) v6 fun S7 =>
  za S7 30 106000 x3_2 fun v8 =>
  zI (zc R d 8 [.inl v8] S7) fun v10 S9 =>
  zlet v10 fun x4_11 =>
  za S9 27 57000 x4_11 fun v12 =>
  if v12 = (S9.1 68) then
    zrZ 1 S9
  else
  za S9 27 57000 x4_11 fun v13 =>
  zG (inI ((S9.1 68) + 1)) <|
  if v13 = ((S9.1 68) + 1) then
    R d 629 [.inl x2] S9
  else
  za S9 23 57000 x4_11 fun v14 =>
  if v14 = 2 then
    R d 726 [.inl x2, .inl x4_11] S9
  else
  za S9 23 57000 x4_11 fun v15 =>
  if v15 = 3 then
    R d 726 [.inl x2, .inl x4_11] S9
  else
  R d 629 [.inl x2] S9
def zb_admit_p152 (R : ZC ZS) (d : Nat) (x2 : Int) (S : ZS) : ZR ZS :=
  if x2 = (-1) then
    R d 148 [] S
  else
  za S 30 106000 x2 fun v1 =>
  zV (zc R d 150 [.inl v1] S) fun S2 =>
  za S2 31 106000 x2 fun v3 =>
  zlet v3 fun x2_4 =>
  R d 630 [.inl x2_4] S2
def zb_patternParts_p120 (R : ZC ZS) (d : Nat) (x1 : Int) (y0 : Int) (y1 : Int) (y2 : Int) (y3 : Int) (S : ZS) : ZR ZS :=
  za S 14 84000 x1 fun v1 =>
  if v1 = 1 then
    za S 15 84000 x1 fun v2 =>
    zI (zc R d 4 [.inl y3, .inl y2, .inl y1, .inl y0, .inl v2] S) fun v4 S3 =>
    zrI v4 S3
  else
  zI (zc R d 4 [.inl y3, .inl y2, .inl y1, .inl y0, .inl 0] S) fun v6 S5 =>
  zrI v6 S5
def zb_toldVariable_p24 (R : ZC ZS) (d : Nat) (x1 : Int) (x2 : Int) (y0 : Int) (y1 : Int) (S : ZS) : ZR ZS :=
  if y1 < y0 then
    R d 727 [.inl x1] S
  else
  if (S.1 127) = 2 then
    R d 727 [.inl x1] S
  else
  za S 61 3000 x2 fun v1 =>
  za S 12 84000 x1 fun v2 =>
  if v1 = v2 then
    za S 62 3000 x2 fun v3 =>
    zrI v3 S
  else
  zG (inI (x2 + (-1))) <|
  zlet (x2 + (-1)) fun x2_4 =>
  R d 443 [.inl x1, .inl x2_4] S
def zb_toldName_p86 (R : ZC ZS) (d : Nat) (x2 : Int) (x4 : Int) (S : ZS) : ZR ZS :=
  if (S.1 129) ≤ x2 then
    zrI x4 S
  else
  zG (inI ((S.1 129) - 1)) <|
  zp S 129 ((S.1 129) - 1) fun S1 =>
  za S1 64 1100 (S1.1 129) fun v2 =>
  zI (zc R d 157 [.inl v2, .inl x4] S1) fun v4 S3 =>
  zlet v4 fun x4_5 =>
  R d 633 [.inl x2, .inl x4_5] S3
def zb_toldOne_p40 (R : ZC ZS) (d : Nat) (x1 : Int) (x2 : Int) (x3 : Int) (x4 : Int) (x5 : Int) (x6 : Int) (y0 : Int) (y1 : Int) (S : ZS) : ZR ZS :=
  zI (zc R d 11 [.inl y1, .inl y0, .inl (-1)] S) fun v2 S1 =>
  zlet v2 fun x7_3 =>
  if x3 = (-1) then
    zlet x7_3 fun x3_4 =>
    R d 728 [.inl x1, .inl x2, .inl x3_4, .inl x5, .inl x6, .inl x7_3] S1
  else
  zs S1 31 106000 x4 x7_3 fun S5 =>
  R d 728 [.inl x1, .inl x2, .inl x3, .inl x5, .inl x6, .inl x7_3] S5
def zb_patternAs_p114 (R : ZC ZS) (d : Nat) (x1 : Int) (x4 : Int) (x5 : Int) (S : ZS) : ZR ZS :=
  za S 13 84000 x1 fun v1 =>
  zI (zc R d 115 [.inl v1] S) fun v3 S2 =>
  zlet v3 fun x6_4 =>
  za S2 13 84000 x1 fun v5 =>
  za S2 11 4200 (v5 - (S2.1 41)) fun v6 =>
  zV (zc R d 136 [.inl x4, .inl x6_4, .inl v6] S2) fun S7 =>
  zs S7 14 84000 x1 x5 fun S8 =>
  zrI x4 S8
def zb_judgedApplication_p40 (R : ZC ZS) (d : Nat) (x1 : Int) (x4 : Int) (x5 : Int) (S : ZS) : ZR ZS :=
  if x5 < 0 then
    zrI x4 S
  else
  zlet x1 fun x6_1 =>
  zlet (0 : Int) fun x7_2 =>
  R d 729 [.inl x1, .inl x4, .inl x5, .inl x6_1, .inl x7_2] S
def zb_rules_p115 (R : ZC ZS) (d : Nat) (x4 : Int) (x5 : Int) (x6 : Int) (x7 : Int) (x9 : Int) (x10 : Int) (x11 : Int) (x12 : Int) (x13 : Int) (x14 : Int) (S : ZS) : ZR ZS :=
  zV (zc R d 170 [.inl x11] S) fun S1 =>
  zp S1 135 x12 fun S2 =>
  za S2 14 84000 x9 fun v3 =>
  zI (zc R d 162 [.inl v3] S2) fun v5 S4 =>
  zlet v5 fun x16_6 =>
  if x6 = (-1) then
    zlet x16_6 fun x6_7 =>
    R d 730 [.inl x4, .inl x5, .inl x6_7, .inr (.inl x7), .inl x9, .inl x10, .inl x13, .inl x14] S4
  else
  za S4 14 84000 x9 fun v8 =>
  za S4 11 4200 (v8 - (S4.1 41)) fun v9 =>
  zV (zc R d 136 [.inl x16_6, .inl x6, .inl v9] S4) fun S10 =>
  R d 730 [.inl x4, .inl x5, .inl x6, .inr (.inl x7), .inl x9, .inl x10, .inl x13, .inl x14] S10
def zb_does_p142 (R : ZC ZS) (d : Nat) (x3 : Int) (y0 : Int) (S : ZS) : ZR ZS :=
  zlet y0 fun x2_1 =>
  za S 16 84000 x3 fun v2 =>
  zlet v2 fun x3_3 =>
  R d 465 [.inl x2_1, .inl x3_3] S
def zb_does_p189 (R : ZC ZS) (d : Nat) (x4 : Int) (y0 : Int) (S : ZS) : ZR ZS :=
  zlet y0 fun x3_1 =>
  za S 16 84000 x4 fun v2 =>
  zlet v2 fun x4_3 =>
  R d 466 [.inl x3_1, .inl x4_3] S
def zb_through_p60 (R : ZC ZS) (d : Nat) (x2 : Int) (x3 : Int) (x4 : Int) (x5 : Int) (S : ZS) : ZR ZS :=
  if x5 < (S.1 125) then
    za S 62 3000 x5 fun v1 =>
    za S 28 57000 v1 fun v2 =>
    if v2 = 0 then
      zG (inI (x5 + 1)) <|
      zlet (x5 + 1) fun x5_3 =>
      R d 640 [.inl x2, .inl x3, .inl x4, .inl x5_3] S
    else
    if x4 = (-1) then
      R d 731 [.inl x2, .inl x3, .inl x5] S
    else
    za S 63 3000 x5 fun v4 =>
    if v4 < x4 then
      R d 731 [.inl x2, .inl x3, .inl x5] S
    else
    zG (inI (x5 + 1)) <|
    zlet (x5 + 1) fun x5_5 =>
    R d 640 [.inl x2, .inl x3, .inl x4, .inl x5_5] S
  else
  if x4 = (-1) then
    zlet x3 fun x5_6 =>
    R d 732 [.inl x2, .inl x3, .inl x5_6] S
  else
  zthrow 12 x4 S
def zb_sizeOf_p138 (R : ZC ZS) (d : Nat) (x2 : Int) (x3 : Int) (x4 : Int) (x6 : Int) (x7 : Int) (S : ZS) : ZR ZS :=
  if x7 = (-1) then
    zs S 28 57000 x4 x6 fun S1 =>
    R d 469 [.inl x2, .inl x3] S1
  else
  za S 30 106000 x7 fun v2 =>
  zI (zc R d 8 [.inl v2] S) fun v4 S3 =>
  za S3 28 57000 v4 fun v5 =>
  zG (inI (x6 + v5)) <|
  zI (zc R d 503 [.inl 1000, .inl (x6 + v5)] S3) fun v7 S6 =>
  zlet v7 fun x6_8 =>
  za S6 31 106000 x7 fun v9 =>
  zlet v9 fun x7_10 =>
  R d 641 [.inl x2, .inl x3, .inl x4, .inl x6_8, .inl x7_10] S6
def zb_markRim_p25 (R : ZC ZS) (d : Nat) (x2 : Int) (x3 : Int) (S : ZS) : ZR ZS :=
  if x3 = (-1) then
    zlet x2 fun x3_1 =>
    R d 733 [.inl x3_1] S
  else
  if x3 < (S.1 154) then
    zlet x2 fun x3_2 =>
    R d 733 [.inl x3_2] S
  else
  za S 46 4000 x3 fun v3 =>
  if v3 < 0 then
    za S 50 4000 x3 fun v4 =>
    zlet v4 fun x3_5 =>
    R d 642 [.inl x2, .inl x3_5] S
  else
  za S 46 4000 x3 fun v6 =>
  zV (zc R d 187 [.inl v6, .inl 1] S) fun S7 =>
  za S7 50 4000 x3 fun v8 =>
  zlet v8 fun x3_9 =>
  R d 642 [.inl x2, .inl x3_9] S7
def zb_spreadRim_p89 (R : ZC ZS) (d : Nat) (x2 : Int) (x4 : Int) (x6 : Int) (S : ZS) : ZR ZS :=
  if x6 = (-1) then
    R d 472 [.inl x2, .inl x4] S
  else
  za S 30 106000 x6 fun v1 =>
  zI (zc R d 8 [.inl v1] S) fun v3 S2 =>
  zlet v3 fun x7_4 =>
  za S2 28 57000 x7_4 fun v5 =>
  if (zandI v5 x2) = 0 then
    za S2 28 57000 x7_4 fun v6 =>
    zs S2 28 57000 x7_4 (zorI v6 x2) fun S7 =>
    zs S7 40 57000 x4 x7_4 fun S8 =>
    zG (inI (x4 + 1)) <|
    zlet (x4 + 1) fun x4_9 =>
    za S8 31 106000 x6 fun v10 =>
    zlet v10 fun x6_11 =>
    R d 643 [.inl x2, .inl x4_9, .inl x6_11] S8
  else
  za S2 31 106000 x6 fun v12 =>
  zlet v12 fun x6_13 =>
  R d 643 [.inl x2, .inl x4, .inl x6_13] S2
def zb_generalise_p94 (R : ZC ZS) (d : Nat) (x3 : Int) (x4 : Int) (S : ZS) : ZR ZS :=
  za S 23 57000 x4 fun v1 =>
  if v1 = 2 then
    za S 26 57000 x4 fun v2 =>
    zlet v2 fun x5_3 =>
    R d 734 [.inl x3, .inl x5_3] S
  else
  za S 23 57000 x4 fun v4 =>
  if v4 = 3 then
    za S 26 57000 x4 fun v5 =>
    zlet v5 fun x5_6 =>
    R d 734 [.inl x3, .inl x5_6] S
  else
  R d 473 [.inl x3] S
def zb_judgedRec_p209 (R : ZC ZS) (d : Nat) (x1 : Int) (x2 : Int) (x3 : Int) (x4 : Int) (x5 : Int) (x6 : Int) (x7 : Int) (x8 : Int) (S : ZS) : ZR ZS :=
  if x8 < x7 then
    za S 65 3000 x8 fun v1 =>
    za S 66 3000 x8 fun v2 =>
    za S 67 3000 x8 fun v3 =>
    za S 68 3000 x8 fun v4 =>
    zI (zc R d 12 [.inl v1, .inl 0, .inl v2, .inl 0, .inl v3, .inl v4] S) fun v6 S5 =>
    zlet v6 fun x9_7 =>
    zG (inI (x8 + 1)) <|
    zlet (x8 + 1) fun x8_8 =>
    R d 645 [.inl x1, .inl x2, .inl x3, .inl x4, .inl x5, .inl x6, .inl x7, .inl x8_8] S5
  else
  za S 13 84000 x1 fun v9 =>
  zlet v9 fun x8_10 =>
  R d 735 [.inl x2, .inl x3, .inl x4, .inl x5, .inl x6, .inl x8_10] S
def zb_judgedRec_p63 (R : ZC ZS) (d : Nat) (x1 : Int) (x2 : Int) (x3 : Int) (x4 : Int) (x5 : Int) (x6 : Int) (x7 : Int) (x8 : Int) (S : ZS) : ZR ZS :=
  za S 10 84000 x8 fun v1 =>
  if v1 = 38 then
    za S 13 84000 x8 fun v2 =>
    zlet v2 fun x8_3 =>
    R d 646 [.inl x1, .inl x2, .inl x3, .inl x4, .inl x5, .inl x6, .inl x7, .inl x8_3] S
  else
  za S 10 84000 x8 fun v4 =>
  if v4 = 31 then
    za S 13 84000 x7 fun v5 =>
    zI (zc R d 115 [.inl v5] S) fun v7 S6 =>
    zs S6 15 84000 x7 v7 fun S8 =>
    za S8 13 84000 x8 fun v9 =>
    if v9 = 0 then
      zs S8 83 3000 ((S8.1 134) - 1) 0 fun S10 =>
      za S10 16 84000 x7 fun v11 =>
      zlet v11 fun x7_12 =>
      R d 475 [.inl x1, .inl x2, .inl x3, .inl x4, .inl x5, .inl x6, .inl x7_12] S10
    else
    za S8 13 84000 x7 fun v13 =>
    za S8 11 4200 (v13 - (S8.1 41)) fun v14 =>
    zthrow 7 v14 S8
  else
  za S 13 84000 x7 fun v15 =>
  za S 11 4200 (v15 - (S.1 41)) fun v16 =>
  zthrow 7 v16 S
def zb_judgedFun_p133 (R : ZC ZS) (d : Nat) (x1 : Int) (x2 : Int) (x3 : Int) (x4 : Int) (x5 : Int) (x6 : Int) (x7 : Int) (x8 : Int) (S : ZS) : ZR ZS :=
  if x8 < x7 then
    za S 65 3000 x8 fun v1 =>
    za S 66 3000 x8 fun v2 =>
    za S 67 3000 x8 fun v3 =>
    za S 68 3000 x8 fun v4 =>
    zI (zc R d 12 [.inl v1, .inl 0, .inl v2, .inl 0, .inl v3, .inl v4] S) fun v6 S5 =>
    zlet v6 fun x9_7 =>
    zG (inI (x8 + 1)) <|
    zlet (x8 + 1) fun x8_8 =>
    R d 647 [.inl x1, .inl x2, .inl x3, .inl x4, .inl x5, .inl x6, .inl x7, .inl x8_8] S5
  else
  zlet x5 fun x8_9 =>
  za S 13 84000 x1 fun v10 =>
  zlet v10 fun x9_11 =>
  R d 736 [.inl x2, .inl x3, .inl x4, .inl x5, .inl x6, .inl x8_9, .inl x9_11] S
def zb_judgedFunction_p128 (R : ZC ZS) (d : Nat) (x1 : Int) (x2 : Int) (x3 : Int) (x4 : Int) (x5 : Int) (x6 : Int) (x7 : Int) (x8 : Int) (x9 : Int) (x10 : Int) (x11 : Int) (x12 : Int) (x14 : Int) (S : ZS) : ZR ZS :=
  if x14 = (-1) then
    zs S 70 9000 x5 (S.1 116) fun S1 =>
    zV (zc R d 175 [.inl x5] S1) fun S2 =>
    zp S2 115 x6 fun S3 =>
    zp S3 116 x7 fun S4 =>
    zpZ S4 111 x8 fun S5 =>
    zpZ S5 112 x9 fun S6 =>
    zlet x11 fun x14_7 =>
    zG (inI (x4 - 1)) <|
    zlet (x4 - 1) fun x15_8 =>
    R d 737 [.inl x1, .inl x2, .inl x3, .inl x10, .inl x14_7, .inl x15_8] S6
  else
  zI (zc R d 194 [.inl x1, .inl x14, .inl x4, .inl x10, .inl x11] S) fun v10 S9 =>
  zlet v10 fun x11_11 =>
  zlet (0 : Int) fun x15_12 =>
  za S9 13 84000 x14 fun v13 =>
  zlet v13 fun x16_14 =>
  R d 738 [.inl x1, .inl x2, .inl x3, .inl x4, .inl x5, .inl x6, .inl x7, .inl x8, .inl x9, .inl x10, .inl x11_11, .inr (.inl x12), .inl x14, .inl x15_12, .inl x16_14] S9
def zb_judgedClause_p135 (R : ZC ZS) (d : Nat) (x1 : Int) (x2 : Int) (x5 : Int) (x6 : Int) (x8 : Int) (x9 : Int) (x10 : Int) (x11 : Int) (x12 : Int) (S : ZS) : ZR ZS :=
  if x12 = (-1) then
    zV (zc R d 170 [.inl x9] S) fun S1 =>
    zp S1 135 x10 fun S2 =>
    za S2 13 84000 x6 fun v3 =>
    if v3 = (-1) then
      R d 739 [.inl x2, .inl x5, .inl x8, .inl (-1)] S2
    else
    za S2 13 84000 x6 fun v4 =>
    zI (zc R d 154 [.inl v4] S2) fun v6 S5 =>
    R d 739 [.inl x2, .inl x5, .inl x8, .inl v6] S5
  else
  zI (zc R d 115 [.inl x12] S) fun v8 S7 =>
  zlet v8 fun x13_9 =>
  za S7 13 84000 x1 fun v10 =>
  if x2 = v10 then
    zs S7 84 1100 x11 x13_9 fun S11 =>
    R d 740 [.inl x1, .inl x2, .inl x5, .inl x6, .inl x8, .inl x9, .inl x10, .inl x11, .inl x12] S11
  else
  za S7 84 1100 x11 fun v12 =>
  za S7 11 4200 (x12 - (S7.1 41)) fun v13 =>
  zV (zc R d 136 [.inl x13_9, .inl v12, .inl v13] S7) fun S14 =>
  R d 740 [.inl x1, .inl x2, .inl x5, .inl x6, .inl x8, .inl x9, .inl x10, .inl x11, .inl x12] S14
def zb_lengthOf_fNext (R : ZC ZS) (d : Nat) (x1 : Int) (S : ZS) : ZR ZS :=
  zlet (0 : Int) fun x2_1 =>
  zlet x1 fun x3_2 =>
  R d 741 [.inl x2_1, .inl x3_2] S
def zb_listed_p22 (R : ZC ZS) (d : Nat) (x2 : Int) (x3 : Int) (x4 : Int) (x5 : Int) (x6 : Int) (S : ZS) : ZR ZS :=
  if x6 < (S.1 125) then
    za S 61 3000 x6 fun v1 =>
    za S 12 84000 x5 fun v2 =>
    if v1 = v2 then
      za S 11 4200 (x5 - (S.1 41)) fun v3 =>
      zthrow 6 v3 S
    else
    zG (inI (x6 + 1)) <|
    zlet (x6 + 1) fun x6_4 =>
    R d 651 [.inl x2, .inl x3, .inl x4, .inl x5, .inl x6_4] S
  else
  za S 12 84000 x5 fun v5 =>
  zI (zc R d 149 [.inl v5] S) fun v7 S6 =>
  if v7 = 0 then
    R d 742 [.inl x2, .inl x3, .inl x4, .inl x5, .inl 0, .inl 4, .inl (-1), .inl 0, .inl 0] S6
  else
  R d 742 [.inl x2, .inl x3, .inl x4, .inl x5, .inl 1, .inl 4, .inl (-1), .inl 0, .inl 0] S6
def zb_judgedData_p212 (R : ZC ZS) (d : Nat) (x1 : Int) (x2 : Int) (x3 : Int) (x4 : Int) (x6 : Int) (S : ZS) : ZR ZS :=
  if x6 = (-1) then
    zlet (S.1 106) fun x6_1 =>
    za S 13 84000 x1 fun v2 =>
    zlet v2 fun x7_3 =>
    R d 743 [.inl x1, .inl x2, .inl x3, .inl x4, .inl x6_1, .inl x7_3] S
  else
  za S 12 84000 x6 fun v4 =>
  za S 15 84000 x6 fun v5 =>
  za S 15 84000 x6 fun v6 =>
  za S 33 7500 v6 fun v7 =>
  zI (zc R d 2 [.inl v4, .inl v5, .inl (-1), .inl v7] S) fun v9 S8 =>
  zlet v9 fun x7_10 =>
  za S8 16 84000 x6 fun v11 =>
  zlet v11 fun x6_12 =>
  R d 652 [.inl x1, .inl x2, .inl x3, .inl x4, .inl x6_12] S8
def zb_judgedData_p53 (R : ZC ZS) (d : Nat) (x1 : Int) (x2 : Int) (x3 : Int) (x4 : Int) (x5 : Int) (x6 : Int) (x7 : Int) (S : ZS) : ZR ZS :=
  if x7 < (S.1 74) then
    za S 32 7500 x7 fun v1 =>
    za S 12 84000 x6 fun v2 =>
    if v1 = v2 then
      za S 15 84000 x6 fun v3 =>
      zthrow 6 v3 S
    else
    zG (inI (x7 + 1)) <|
    zlet (x7 + 1) fun x7_4 =>
    R d 653 [.inl x1, .inl x2, .inl x3, .inl x4, .inl x5, .inl x6, .inl x7_4] S
  else
  za S 15 84000 x6 fun v5 =>
  zV (zc R d 134 [.inl v5] S) fun S6 =>
  zlet (S6.1 74) fun x7_7 =>
  zG (inI ((S6.1 74) + 1)) <|
  zp S6 74 ((S6.1 74) + 1) fun S8 =>
  za S8 12 84000 x6 fun v9 =>
  zs S8 32 7500 x7_7 v9 fun S10 =>
  za S10 13 84000 x6 fun v11 =>
  zI (zc R d 662 [.inl v11] S10) fun v13 S12 =>
  zs S12 33 7500 x7_7 v13 fun S14 =>
  zs S14 36 7500 x7_7 1 fun S15 =>
  zs S15 35 7500 x7_7 0 fun S16 =>
  zs S16 15 84000 x6 x7_7 fun S17 =>
  za S17 16 84000 x6 fun v18 =>
  zlet v18 fun x6_19 =>
  R d 481 [.inl x1, .inl x2, .inl x3, .inl x4, .inl x5, .inl x6_19] S17
def zb_judgedCons_p87 (R : ZC ZS) (d : Nat) (x2 : Int) (x3 : Int) (x4 : Int) (x5 : Int) (x6 : Int) (S : ZS) : ZR ZS :=
  if x6 < (S.1 106) then
    za S 56 22000 x6 fun v1 =>
    za S 12 84000 x5 fun v2 =>
    if v1 = v2 then
      za S 11 4200 (x5 - (S.1 41)) fun v3 =>
      zthrow 6 v3 S
    else
    zG (inI (x6 + 1)) <|
    zlet (x6 + 1) fun x6_4 =>
    R d 654 [.inl x2, .inl x3, .inl x4, .inl x5, .inl x6_4] S
  else
  za S 11 4200 (x5 - (S.1 41)) fun v5 =>
  zV (zc R d 134 [.inl v5] S) fun S6 =>
  za S6 13 84000 x5 fun v7 =>
  if v7 = (-1) then
    R d 744 [.inl x2, .inl x3, .inl x4, .inl x5, .inl (-1)] S6
  else
  za S6 13 84000 x5 fun v8 =>
  zI (zc R d 154 [.inl v8] S6) fun v10 S9 =>
  R d 744 [.inl x2, .inl x3, .inl x4, .inl x5, .inl v10] S9
def zb_admits_p78 (R : ZC ZS) (d : Nat) (x3 : Int) (x4 : Int) (S : ZS) : ZR ZS :=
  za S 23 57000 x4 fun v1 =>
  if v1 = 2 then
    R d 745 [.inl x3, .inl x4] S
  else
  za S 23 57000 x4 fun v2 =>
  if v2 = 3 then
    R d 745 [.inl x3, .inl x4] S
  else
  R d 483 [.inl x3] S
def zb_judgedException_p104 (R : ZC ZS) (d : Nat) (x1 : Int) (x3 : Int) (S : ZS) : ZR ZS :=
  zlet (S.1 108) fun x4_1 =>
  zG (inI ((S.1 108) + 1)) <|
  zp S 108 ((S.1 108) + 1) fun S2 =>
  za S2 12 84000 x1 fun v3 =>
  if x3 = (-1) then
    zG (inI (2 * v3)) <|
    R d 746 [.inl x1, .inl x3, .inl x4_1, .inl 0, .inl (2 * v3), .inl x4_1] S2
  else
  zG (inI (2 * v3)) <|
  R d 746 [.inl x1, .inl x3, .inl x4_1, .inl 1, .inl (2 * v3), .inl x4_1] S2
def zb_judgedLocal_p79 (R : ZC ZS) (d : Nat) (x2 : Int) (x3 : Int) (x5 : Int) (x6 : Int) (x7 : Int) (S : ZS) : ZR ZS :=
  if x7 = (-1) then
    zI (zc R d 747 [.inl (S.1 95), .inl x5, .inl x2] S) fun v2 S1 =>
    zp S1 95 v2 fun S3 =>
    zI (zc R d 748 [.inl (S3.1 102), .inl x6, .inl x3] S3) fun v5 S4 =>
    zp S4 102 v5 fun S6 =>
    zrV S6
  else
  zV (zc R d 109 [.inl x7] S) fun S7 =>
  za S7 16 84000 x7 fun v8 =>
  zlet v8 fun x7_9 =>
  R d 657 [.inl x2, .inl x3, .inl x5, .inl x6, .inl x7_9] S7
def zb_finish_p55 (R : ZC ZS) (d : Nat) (x1 : Int) (x2 : Int) (S : ZS) : ZR ZS :=
  za S 23 57000 x2 fun v1 =>
  if v1 = 3 then
    za S 24 57000 x2 fun v2 =>
    if (zandI v2 8) = 0 then
      zG (inI (x2 + 1)) <|
      zlet (x2 + 1) fun x2_3 =>
      R d 486 [.inl x1, .inl x2_3] S
    else
    if x1 = (-1) then
      R d 749 [.inl x2] S
    else
    za S 25 57000 x2 fun v4 =>
    if v4 < x1 then
      R d 749 [.inl x2] S
    else
    zG (inI (x2 + 1)) <|
    zlet (x2 + 1) fun x2_5 =>
    R d 486 [.inl x1, .inl x2_5] S
  else
  zG (inI (x2 + 1)) <|
  zlet (x2 + 1) fun x2_6 =>
  R d 486 [.inl x1, .inl x2_6] S
def zb_finish_p120 (R : ZC ZS) (d : Nat) (x2 : Int) (S : ZS) : ZR ZS :=
  if x2 < (S.1 153) then
    za S 78 3000 x2 fun v1 =>
    if v1 = 0 then
      za S 79 3000 x2 fun v2 =>
      za S 46 4000 v2 fun v3 =>
      zI (zc R d 184 [.inl v3] S) fun v5 S4 =>
      if v5 ≤ 40 then
        zG (inI (x2 + 1)) <|
        zlet (x2 + 1) fun x2_6 =>
        R d 659 [.inl x2_6] S4
      else
      za S4 79 3000 x2 fun v7 =>
      za S4 49 4000 v7 fun v8 =>
      zthrow 14 v8 S4
    else
    zG (inI (x2 + 1)) <|
    zlet (x2 + 1) fun x2_9 =>
    R d 659 [.inl x2_9] S
  else
  zlet (0 : Int) fun x2_10 =>
  R d 750 [.inl x2_10] S
def zb_hasUnknown_p74 (R : ZC ZS) (d : Nat) (x3 : Int) (x4 : Int) (S : ZS) : ZR ZS :=
  za S 23 57000 x4 fun v1 =>
  if v1 = 2 then
    za S 26 57000 x4 fun v2 =>
    zlet v2 fun x5_3 =>
    R d 751 [.inl x3, .inl x5_3] S
  else
  za S 23 57000 x4 fun v4 =>
  if v4 = 3 then
    za S 26 57000 x4 fun v5 =>
    zlet v5 fun x5_6 =>
    R d 751 [.inl x3, .inl x5_6] S
  else
  R d 487 [.inl x3] S
def zb_noteAll_p224 (R : ZC ZS) (d : Nat) (x1 : Int) (x2 : Int) (x3 : Int) (x4 : Int) (x5 : Int) (S : ZS) : ZR ZS :=
  zG (inI (x4 * x5)) <|
  zp S 171 (x4 * x5) fun S1 =>
  if x3 = 2 then
    zlet (S1.1 171) fun x6_2 =>
    zlet (0 : Int) fun x7_3 =>
    R d 752 [.inl x1, .inl x2, .inl x3, .inl x4, .inl x5, .inl x6_2, .inl x7_3] S1
  else
  zlet (0 : Int) fun x6_4 =>
  R d 753 [.inl x1, .inl x2, .inl x3, .inl x4, .inl x5, .inl x6_4] S1
def zb_lengthOf_next (R : ZC ZS) (d : Nat) (x1 : Int) (S : ZS) : ZR ZS :=
  zlet (0 : Int) fun x2_1 =>
  zlet x1 fun x3_2 =>
  R d 754 [.inl x2_1, .inl x3_2] S
def zb_noteAll_p96 (R : ZC ZS) (d : Nat) (x1 : Int) (x2 : Int) (x3 : Int) (x4 : Int) (x5 : Int) (x6 : Int) (S : ZS) : ZR ZS :=
  if x6 = (-1) then
    R d 661 [.inl x1, .inl x2, .inl x3, .inl x4, .inl x5] S
  else
  zlet (0 : Int) fun x7_1 =>
  za S 13 84000 x6 fun v2 =>
  zlet v2 fun x8_3 =>
  R d 755 [.inl x1, .inl x2, .inl x3, .inl x4, .inl x5, .inl x6, .inl x7_1, .inl x8_3] S
def zb_noteAll_p189 (R : ZC ZS) (d : Nat) (x1 : Int) (x2 : Int) (x3 : Int) (x4 : Int) (x5 : Int) (x6 : Int) (S : ZS) : ZR ZS :=
  if x6 = (-1) then
    R d 661 [.inl x1, .inl x2, .inl x3, .inl x4, .inl x5] S
  else
  za S 13 84000 x6 fun v1 =>
  zs S 89 240000 x4 v1 fun S2 =>
  zG (inI (x4 + 1)) <|
  zlet (x4 + 1) fun x4_3 =>
  za S2 16 84000 x6 fun v4 =>
  zlet v4 fun x6_5 =>
  R d 664 [.inl x1, .inl x2, .inl x3, .inl x4_3, .inl x5, .inl x6_5] S2
def zb_isUseful_p61 (R : ZC ZS) (d : Nat) (x2 : Int) (x3 : Int) (x4 : Int) (x5 : Int) (x6 : Int) (S : ZS) : ZR ZS :=
  if x6 < x3 then
    za S 89 240000 (x4 + x6) fun v1 =>
    zs S 89 240000 ((x5 + (x2 * x3)) + x6) v1 fun S2 =>
    zG (inI (x6 + 1)) <|
    zlet (x6 + 1) fun x6_3 =>
    R d 665 [.inl x2, .inl x3, .inl x4, .inl x5, .inl x6_3] S2
  else
  zG (inI (x5 + ((x2 + 1) * x3))) <|
  zp S 171 (x5 + ((x2 + 1) * x3)) fun S4 =>
  zI (zc R d 209 [.inl x5] S4) fun v6 S5 =>
  zlet v6 fun x6_7 =>
  zp S5 171 x5 fun S8 =>
  zrZ x6_7 S8
def zb_usefulHere_p110 (R : ZC ZS) (d : Nat) (x1 : Int) (x3 : Int) (x4 : Int) (x5 : Int) (x6 : Int) (S : ZS) : ZR ZS :=
  if x5 = 1 then
    zV (zc R d 214 [] S) fun S1 =>
    zV (zc R d 230 [.inl x1] S1) fun S2 =>
    R d 209 [.inl x1] S2
  else
  if x4 = 0 then
    if x5 = 2 then
      zI (zc R d 221 [.inl x6] S) fun v4 S3 =>
      zI (zc R d 199 [.inl v4] S3) fun v6 S5 =>
      zI (zc R d 228 [.inl v6] S5) fun v8 S7 =>
      if v8 = 0 then
        R d 756 [.inl x1] S7
      else
      zI (zc R d 221 [.inl x6] S7) fun v10 S9 =>
      zI (zc R d 199 [.inl v10] S9) fun v12 S11 =>
      za S11 35 7500 v12 fun v13 =>
      if v13 ≤ 1 then
        zI (zc R d 221 [.inl x6] S11) fun v15 S14 =>
        zI (zc R d 221 [.inl x6] S14) fun v17 S16 =>
        zI (zc R d 200 [.inl v17] S16) fun v19 S18 =>
        if v19 = 0 then
          zG (inI ((-2) - v15)) <|
          zV (zc R d 219 [.inl ((-2) - v15), .inl 0] S18) fun S20 =>
          zV (zc R d 230 [.inl x1] S20) fun S21 =>
          R d 209 [.inl x1] S21
        else
        zG (inI ((-2) - v15)) <|
        zV (zc R d 219 [.inl ((-2) - v15), .inl 1] S18) fun S22 =>
        zV (zc R d 230 [.inl x1] S22) fun S23 =>
        R d 209 [.inl x1] S23
      else
      zI (zc R d 221 [.inl x6] S11) fun v25 S24 =>
      zI (zc R d 199 [.inl v25] S24) fun v27 S26 =>
      zI (zc R d 229 [.inl v27] S26) fun v29 S28 =>
      zrZ v29 S28
    else
    R d 756 [.inl x1] S
  else
  zI (zc R d 218 [.inl x3] S) fun v31 S30 =>
  if v31 = 0 then
    zV (zc R d 219 [.inl x3, .inl 0] S30) fun S32 =>
    zV (zc R d 230 [.inl x1] S32) fun S33 =>
    R d 209 [.inl x1] S33
  else
  zV (zc R d 219 [.inl x3, .inl 1] S30) fun S34 =>
  zV (zc R d 230 [.inl x1] S34) fun S35 =>
  R d 209 [.inl x1] S35
def zb_takesAll_p14 (R : ZC ZS) (d : Nat) (x1 : Int) (x2 : Int) (x3 : Int) (S : ZS) : ZR ZS :=
  if x3 < (S.1 176) then
    if x2 = 0 then
      if x2 = 0 then
        zG (inI (x1 + 1)) <|
        zlet (x1 + 1) fun x1_1 =>
        R d 491 [.inl x1_1] S
      else
      zrZ 1 S
    else
    za S 89 240000 (((S.1 174) + (x1 * (S.1 176))) + x3) fun v2 =>
    zI (zc R d 211 [.inl v2] S) fun v4 S3 =>
    if v4 = (-1) then
      zlet (1 : Int) fun x2_5 =>
      zG (inI (x3 + 1)) <|
      zlet (x3 + 1) fun x3_6 =>
      R d 667 [.inl x1, .inl x2_5, .inl x3_6] S3
    else
    zlet (0 : Int) fun x2_7 =>
    zG (inI (x3 + 1)) <|
    zlet (x3 + 1) fun x3_8 =>
    R d 667 [.inl x1, .inl x2_7, .inl x3_8] S3
  else
  if x2 = 0 then
    zG (inI (x1 + 1)) <|
    zlet (x1 + 1) fun x1_9 =>
    R d 491 [.inl x1_9] S
  else
  zrZ 1 S
def zb_bare0_p26 (R : ZC ZS) (d : Nat) (x2 : Int) (S : ZS) : ZR ZS :=
  za S 13 84000 x2 fun v1 =>
  zlet v1 fun x2_2 =>
  R d 492 [.inl x2_2] S
def zb_rowStep_p64 (R : ZC ZS) (d : Nat) (x1 : Int) (x2 : Int) (x3 : Int) (S : ZS) : ZR ZS :=
  if x3 ≤ (S.1 175) then
    zG (inI ((S.1 174) + (x3 * (S.1 176)))) <|
    zlet ((S.1 174) + (x3 * (S.1 176))) fun x4_1 =>
    za S 89 240000 x4_1 fun v2 =>
    zI (zc R d 211 [.inl v2] S) fun v4 S3 =>
    zlet v4 fun x5_5 =>
    zlet (0 : Int) fun x6_6 =>
    R d 757 [.inl x1, .inl x2, .inl x3, .inl x4_1, .inl x5_5, .inl x6_6] S3
  else
  zG (inI (x1 + (((S.1 175) + 1) * x2))) <|
  zp S 171 (x1 + (((S.1 175) + 1) * x2)) fun S7 =>
  zp S7 174 x1 fun S8 =>
  zp S8 176 x2 fun S9 =>
  zrV S9
def zb_labelsOf_p96 (R : ZC ZS) (d : Nat) (x2 : Int) (x3 : Int) (S : ZS) : ZR ZS :=
  zG (inI (x2 + 1)) <|
  zlet (x2 + 1) fun x2_1 =>
  za S 16 84000 x3 fun v2 =>
  zlet v2 fun x3_3 =>
  R d 495 [.inl x2_1, .inl x3_3] S
def zb_narrowed_p90 (R : ZC ZS) (d : Nat) (x1 : Int) (x2 : Int) (x3 : Int) (x4 : Int) (x5 : Int) (x6 : Int) (x7 : Int) (x8 : Int) (S : ZS) : ZR ZS :=
  zG (inI (x3 + (x4 * x5))) <|
  zlet (x3 + (x4 * x5)) fun x9_1 =>
  if x2 = 1 then
    if x8 = (-1) then
      zs S 89 240000 x9_1 (-1) fun S2 =>
      zlet (1 : Int) fun x10_3 =>
      R d 758 [.inl x1, .inl x2, .inl x3, .inl x4, .inl x5, .inl x6, .inl x7, .inl x9_1, .inl x10_3] S2
    else
    zI (zc R d 227 [.inl x8] S) fun v5 S4 =>
    zs S4 89 240000 x9_1 v5 fun S6 =>
    zlet (1 : Int) fun x10_7 =>
    R d 758 [.inl x1, .inl x2, .inl x3, .inl x4, .inl x5, .inl x6, .inl x7, .inl x9_1, .inl x10_7] S6
  else
  zlet (1 : Int) fun x10_8 =>
  R d 758 [.inl x1, .inl x2, .inl x3, .inl x4, .inl x5, .inl x6, .inl x7, .inl x9_1, .inl x10_8] S
def zb_areAllTold_p29 (R : ZC ZS) (d : Nat) (x1 : Int) (x2 : Int) (x3 : Int) (x4 : Int) (S : ZS) : ZR ZS :=
  if x4 < (S.1 175) then
    if x3 = 0 then
      za S 89 240000 ((S.1 174) + (x4 * (S.1 176))) fun v1 =>
      zI (zc R d 211 [.inl v1] S) fun v3 S2 =>
      zlet v3 fun x5_4 =>
      if x5_4 = (-1) then
        zlet (0 : Int) fun x3_5 =>
        zG (inI (x4 + 1)) <|
        zlet (x4 + 1) fun x4_6 =>
        R d 672 [.inl x1, .inl x2, .inl x3_5, .inl x4_6] S2
      else
      zI (zc R d 221 [.inl x5_4] S2) fun v8 S7 =>
      if v8 = x2 then
        zlet (1 : Int) fun x3_9 =>
        zG (inI (x4 + 1)) <|
        zlet (x4 + 1) fun x4_10 =>
        R d 672 [.inl x1, .inl x2, .inl x3_9, .inl x4_10] S7
      else
      zlet (0 : Int) fun x3_11 =>
      zG (inI (x4 + 1)) <|
      zlet (x4 + 1) fun x4_12 =>
      R d 672 [.inl x1, .inl x2, .inl x3_11, .inl x4_12] S7
    else
    if x3 = 0 then
      zrZ 0 S
    else
    zG (inI (x2 + 1)) <|
    zlet (x2 + 1) fun x2_13 =>
    R d 505 [.inl x1, .inl x2_13] S
  else
  if x3 = 0 then
    zrZ 0 S
  else
  zG (inI (x2 + 1)) <|
  zlet (x2 + 1) fun x2_14 =>
  R d 505 [.inl x1, .inl x2_14] S
def zb_usefulByEach_p98 (R : ZC ZS) (d : Nat) (x1 : Int) (x2 : Int) (x3 : Int) (x4 : Int) (x5 : Int) (x7 : Int) (y0 : Int) (y1 : Int) (S : ZS) : ZR ZS :=
  zV (zc R d 219 [.inl y1, .inl y0] S) fun S1 =>
  zI (zc R d 209 [.inl x5] S1) fun v3 S2 =>
  zlet v3 fun x6_4 =>
  zG (inI (x7 + 1)) <|
  zlet (x7 + 1) fun x7_5 =>
  R d 506 [.inl x1, .inl x2, .inl x3, .inl x4, .inl x5, .inl x6_4, .inl x7_5] S2
def zb_note0_p79 (R : ZC ZS) (d : Nat) (x1 : Int) (x2 : Int) (x3 : Int) (S : ZS) : ZR ZS :=
  zs S 88 3000 x3 x2 fun S1 =>
  zs S1 87 3000 x3 x1 fun S2 =>
  zG (inI ((S2.1 169) + 1)) <|
  zp S2 169 ((S2.1 169) + 1) fun S3 =>
  zrV S3
def zb_note0_p45 (R : ZC ZS) (d : Nat) (x1 : Int) (x2 : Int) (x3 : Int) (S : ZS) : ZR ZS :=
  za S 88 3000 (x3 - 1) fun v1 =>
  zs S 88 3000 x3 v1 fun S2 =>
  za S2 87 3000 (x3 - 1) fun v3 =>
  zs S2 87 3000 x3 v3 fun S4 =>
  zG (inI (x3 + (-1))) <|
  zlet (x3 + (-1)) fun x3_5 =>
  R d 508 [.inl x1, .inl x2, .inl x3_5] S4
def zb_runAll_p46 (R : ZC ZS) (d : Nat)  (S : ZS) : ZR ZS :=
  if (S.1 206) = (-1) then
    zV (zc R d 252 [] S) fun S1 =>
    R d 759 [] S1
  else
  zV (zc R d 236 [.inl (S.1 206), .inl (S.1 207)] S) fun S2 =>
  R d 759 [] S2
def zb_goesOn_2_p224 (R : ZC ZS) (d : Nat) (x2 : Int) (x3 : Int) (y0 : Int) (y1 : Int) (S : ZS) : ZR ZS :=
  if y1 = y0 then
    za S 14 84000 x2 fun v1 =>
    zV (zc R d 246 [.inl v1, .inl x3] S) fun S2 =>
    zrV S2
  else
  zrV S
def zb_areEqual_p101 (R : ZC ZS) (d : Nat) (x5 : Int) (x6 : Int) (x8 : Int) (x10 : Int) (S : ZS) : ZR ZS :=
  if x10 = 5 then
    zI (zc R d 240 [.inr (.inl x6)] S) fun v2 S1 =>
    if v2 ≤ 0 then
      R d 760 [.inl x5, .inr (.inl x6), .inr (.inl x8), .inr (.inl x10)] S1
    else
    zI (zc R d 249 [] S1) fun v4 S3 =>
    if v4 = 0 then
      zrZ 0 S3
    else
    zI (zc R d 240 [.inr (.inl x6)] S3) fun v6 S5 =>
    zI (zc R d 240 [.inr (.inl x8)] S5) fun v8 S7 =>
    zI (zc R d 276 [.inl v6, .inl v8, .inl 0, .inl x5] S7) fun v10 S9 =>
    zlet v10 fun x5_11 =>
    R d 761 [.inl x5_11] S9
  else
  R d 760 [.inl x5, .inr (.inl x6), .inr (.inl x8), .inr (.inl x10)] S
def zb_joinedStrings_p101 (R : ZC ZS) (d : Nat) (x6 : Int) (x8 : Int) (x10 : Int) (S : ZS) : ZR ZS :=
  zI (zc R d 224 [.inl x6] S) fun v2 S1 =>
  if x10 < v2 then
    zI (zc R d 225 [.inl x6, .inl x10] S1) fun v4 S3 =>
    zV (zc R d 38 [.inl v4] S3) fun S5 =>
    zG (inI (x10 + 1)) <|
    zlet (x10 + 1) fun x10_6 =>
    R d 679 [.inl x6, .inr (.inl x8), .inl x10_6] S5
  else
  zrL x8 S1
def zb_imploded_p70 (R : ZC ZS) (d : Nat) (x4 : Int) (x6 : Int) (S : ZS) : ZR ZS :=
  zJ (zc R d 258 [.inr (.inl x6)] S) fun v2 S1 =>
  if v2 = 3 then
    zrL x4 S1
  else
  zJ (zc R d 288 [.inr (.inl x6)] S1) fun v4 S3 =>
  zI (zc R d 240 [.inr (.inl v4)] S3) fun v6 S5 =>
  zV (zc R d 38 [.inl v6] S5) fun S7 =>
  zJ (zc R d 287 [.inr (.inl x6)] S7) fun v9 S8 =>
  zlet v9 fun x6_10 =>
  R d 680 [.inr (.inl x4), .inr (.inl x6_10)] S8
def zb_digitsOf_p29 (R : ZC ZS) (d : Nat) (x1 : Int) (x3 : Int) (x5 : Int) (x6 : Int) (S : ZS) : ZR ZS :=
  zG (x6 ≠ 0) <|
  if (zdivL x3 x6) ≤ 9 then
    zG (inI (1 + x5)) <|
    zI (zc R d 243 [.inl (1 + x5)] S) fun v3 S2 =>
    if v3 = 0 then
      zrL 0 S2
    else
    zJ (zc R d 281 [.inl x5] S2) fun v5 S4 =>
    zlet v5 fun x8_6 =>
    if x1 < 0 then
      zV (zc R d 38 [.inl 126] S4) fun S7 =>
      R d 762 [.inr (.inl x3), .inr (.inl x6), .inr (.inl x8_6)] S7
    else
    R d 762 [.inr (.inl x3), .inr (.inl x6), .inr (.inl x8_6)] S4
  else
  zG (inL (x6 * 10)) <|
  zlet (x6 * 10) fun x6_8 =>
  zG (inI (x5 + 1)) <|
  zlet (x5 + 1) fun x5_9 =>
  R d 681 [.inr (.inl x1), .inr (.inl x3), .inl x5_9, .inr (.inl x6_8)] S
def zb_call_p144 (R : ZC ZS) (d : Nat) (x1 : Int) (x3 : Int) (x5 : Int) (x7 : Int) (S : ZS) : ZR ZS :=
  if x7 < x5 then
    zI (zc R d 240 [.inr (.inl x1)] S) fun v2 S1 =>
    zaL S1 91 121000 ((v2 + 2) + x7) fun v3 =>
    zsL S1 93 402000 ((S.1 194) + x7) v3 fun S4 =>
    zG (inI (x7 + 1)) <|
    zlet (x7 + 1) fun x7_5 =>
    R d 682 [.inr (.inl x1), .inr (.inl x3), .inl x5, .inl x7_5] S4
  else
  zsL S 93 402000 ((S.1 194) + x5) x3 fun S6 =>
  za S6 70 9000 (S6.1 195) fun v7 =>
  zG (inI ((S6.1 194) + v7)) <|
  zp S6 191 ((S6.1 194) + v7) fun S8 =>
  zV (zc R d 294 [] S8) fun S9 =>
  zrV S9
def zb_body_p68 (R : ZC ZS) (d : Nat) (x2 : Int) (x3 : Int) (x4 : Int) (x5 : Int) (S : ZS) : ZR ZS :=
  if x5 = (-1) then
    R d 763 [.inl x2, .inl x4] S
  else
  if x4 = 0 then
    R d 763 [.inl x2, .inl x4] S
  else
  zaL S 93 402000 ((S.1 194) + x3) fun v1 =>
  zI (zc R d 256 [.inl x5, .inr (.inl v1)] S) fun v3 S2 =>
  zlet v3 fun x4_4 =>
  zG (inI (x3 + 1)) <|
  zlet (x3 + 1) fun x3_5 =>
  za S2 16 84000 x5 fun v6 =>
  zlet v6 fun x5_7 =>
  R d 683 [.inl x2, .inl x3_5, .inl x4_4, .inl x5_7] S2
def zb_rec_p68 (R : ZC ZS) (d : Nat) (x2 : Int) (S : ZS) : ZR ZS :=
  if x2 = (-1) then
    zrV S
  else
  za S 14 84000 x2 fun v1 =>
  za S 14 84000 v1 fun v2 =>
  za S 13 84000 x2 fun v3 =>
  zI (zc R d 298 [.inl v3] S) fun v5 S4 =>
  zJ (zc R d 239 [.inl v5] S4) fun v7 S6 =>
  zV (zc R d 299 [.inl v2, .inr (.inl v7)] S6) fun S8 =>
  za S8 16 84000 x2 fun v9 =>
  zlet v9 fun x2_10 =>
  R d 684 [.inl x2_10] S8
def zb_fun_p59 (R : ZC ZS) (d : Nat) (x2 : Int) (S : ZS) : ZR ZS :=
  if x2 = (-1) then
    zrV S
  else
  za S 14 84000 x2 fun v1 =>
  za S 15 84000 x2 fun v2 =>
  zJ (zc R d 239 [.inl v2] S) fun v4 S3 =>
  zV (zc R d 299 [.inl v1, .inr (.inl v4)] S3) fun S5 =>
  za S5 16 84000 x2 fun v6 =>
  zlet v6 fun x2_7 =>
  R d 685 [.inl x2_7] S5
def zb_rowOf_p58 (R : ZC ZS) (d : Nat) (x3 : Int) (x4 : Int) (x5 : Int) (x6 : Int) (S : ZS) : ZR ZS :=
  if x6 = (-1) then
    zJ (zc R d 237 [.inr (.inl 5), .inr (.inl x4)] S) fun v2 S1 =>
    zrL v2 S1
  else
  zlet x5 fun x7_3 =>
  if x3 = 0 then
    R d 764 [.inl x3, .inl x4, .inl x5, .inl x6, .inl x7_3] S
  else
  zlet (0 : Int) fun x7_4 =>
  R d 765 [.inl x3, .inl x4, .inl x5, .inl x6, .inl x7_4] S
def zb_shapeOf_p51 (R : ZC ZS) (d : Nat) (x1 : Int) (x2 : Int) (x3 : Int) (x4 : Int) (S : ZS) : ZR ZS :=
  if x4 ≤ (S.1 202) then
    R d 766 [.inl x1, .inl x2, .inl x3, .inl x4] S
  else
  za S 12 84000 x3 fun v1 =>
  za S 96 24000 (x4 - 1) fun v2 =>
  zI (zc R d 306 [.inl v1, .inl v2] S) fun v4 S3 =>
  if v4 = 0 then
    R d 766 [.inl x1, .inl x2, .inl x3, .inl x4] S3
  else
  za S3 96 24000 (x4 - 1) fun v5 =>
  zs S3 96 24000 x4 v5 fun S6 =>
  zG (inI (x4 + (-1))) <|
  zlet (x4 + (-1)) fun x4_7 =>
  R d 687 [.inl x1, .inl x2, .inl x3, .inl x4_7] S6
def zb_likeShape_p29 (R : ZC ZS) (d : Nat) (x1 : Int) (x2 : Int) (x3 : Int) (x4 : Int) (S : ZS) : ZR ZS :=
  if x4 < x1 then
    if x3 = 0 then
      if x3 = 0 then
        zG (inI (x2 + 1)) <|
        zlet (x2 + 1) fun x2_1 =>
        R d 552 [.inl x1, .inl x2_1] S
      else
      zrI x2 S
    else
    za S 94 9000 x2 fun v2 =>
    za S 96 24000 (v2 + x4) fun v3 =>
    za S 96 24000 ((S.1 202) + x4) fun v4 =>
    if v3 = v4 then
      zlet (1 : Int) fun x3_5 =>
      zG (inI (x4 + 1)) <|
      zlet (x4 + 1) fun x4_6 =>
      R d 688 [.inl x1, .inl x2, .inl x3_5, .inl x4_6] S
    else
    zlet (0 : Int) fun x3_7 =>
    zG (inI (x4 + 1)) <|
    zlet (x4 + 1) fun x4_8 =>
    R d 688 [.inl x1, .inl x2, .inl x3_7, .inl x4_8] S
  else
  if x3 = 0 then
    zG (inI (x2 + 1)) <|
    zlet (x2 + 1) fun x2_9 =>
    R d 552 [.inl x1, .inl x2_9] S
  else
  zrI x2 S
def zb_keepBound_p150 (R : ZC ZS) (d : Nat) (x3 : Int) (x4 : Int) (S : ZS) : ZR ZS :=
  if x4 < 0 then
    zp S 94 x3 fun S1 =>
    zlet (0 : Int) fun x2_2 =>
    zlet (S1.1 102) fun x4_3 =>
    R d 767 [.inl x2_2, .inl x4_3] S1
  else
  za S 116 4000 x4 fun v4 =>
  zlet v4 fun x5_5 =>
  za S 44 4000 x5_5 fun v6 =>
  zs S 44 4000 x3 v6 fun S7 =>
  za S7 45 4000 x5_5 fun v8 =>
  zs S7 45 4000 x3 v8 fun S9 =>
  za S9 47 4000 x5_5 fun v10 =>
  zs S9 47 4000 x3 v10 fun S11 =>
  za S11 48 4000 x5_5 fun v12 =>
  zs S11 48 4000 x3 v12 fun S13 =>
  zs S13 49 4000 x3 0 fun S14 =>
  za S14 117 4000 x4 fun v15 =>
  zs S14 46 4000 x3 v15 fun S16 =>
  zs S16 50 4000 x3 (S16.1 95) fun S17 =>
  zp S17 95 x3 fun S18 =>
  zG (inI (x3 + 1)) <|
  zlet (x3 + 1) fun x3_19 =>
  zG (inI (x4 + (-1))) <|
  zlet (x4 + (-1)) fun x4_20 =>
  R d 689 [.inl x3_19, .inl x4_20] S18
def zb_keepBound_p68 (R : ZC ZS) (d : Nat) (x1 : Int) (x2 : Int) (x3 : Int) (y0 : Int) (y1 : Int) (S : ZS) : ZR ZS :=
  zs S 117 4000 y1 y0 fun S1 =>
  za S1 45 4000 x3 fun v2 =>
  if v2 = 1 then
    za S1 47 4000 x3 fun v3 =>
    za S1 117 4000 x2 fun v4 =>
    zs S1 58 22000 v3 v4 fun S5 =>
    R d 768 [.inl x1, .inl x2, .inl x3] S5
  else
  R d 768 [.inl x1, .inl x2, .inl x3] S1
def zb_keepInfix_p118 (R : ZC ZS) (d : Nat) (x2 : Int) (x3 : Int) (S : ZS) : ZR ZS :=
  if x3 < 0 then
    zp S 46 x2 fun S1 =>
    zrV S1
  else
  za S 116 4000 x3 fun v2 =>
  za S 17 23500 v2 fun v3 =>
  zs S 17 23500 x2 v3 fun S4 =>
  zs S4 18 23500 x2 (S4.1 47) fun S5 =>
  zp S5 47 x2 fun S6 =>
  zG (inI (x2 + 1)) <|
  zlet (x2 + 1) fun x2_7 =>
  zG (inI (x3 + (-1))) <|
  zlet (x3 + (-1)) fun x3_8 =>
  R d 691 [.inl x2_7, .inl x3_8] S6
def zb_keepInfix_p22 (R : ZC ZS) (d : Nat) (x1 : Int) (x2 : Int) (x3 : Int) (x4 : Int) (S : ZS) : ZR ZS :=
  if x4 < x1 then
    if x3 = 0 then
      za S 116 4000 x4 fun v1 =>
      za S 17 23500 v1 fun v2 =>
      za S 17 23500 x2 fun v3 =>
      if (zshrI v2 5) = (zshrI v3 5) then
        zlet (1 : Int) fun x3_4 =>
        zG (inI (x4 + 1)) <|
        zlet (x4 + 1) fun x4_5 =>
        R d 692 [.inl x1, .inl x2, .inl x3_4, .inl x4_5] S
      else
      zlet (0 : Int) fun x3_6 =>
      zG (inI (x4 + 1)) <|
      zlet (x4 + 1) fun x4_7 =>
      R d 692 [.inl x1, .inl x2, .inl x3_6, .inl x4_7] S
    else
    R d 769 [.inl x1, .inl x2, .inl x3] S
  else
  R d 769 [.inl x1, .inl x2, .inl x3] S
def zb_keepTypes_p46 (R : ZC ZS) (d : Nat) (x2 : Int) (x3 : Int) (S : ZS) : ZR ZS :=
  if x3 < 0 then
    zp S 83 x2 fun S1 =>
    zrV S1
  else
  za S 116 4000 x3 fun v2 =>
  zlet v2 fun x4_3 =>
  za S 52 2200 x4_3 fun v4 =>
  if v4 = (-1) then
    za S 53 2200 x4_3 fun v5 =>
    zG (inI ((-2) - v5)) <|
    zlet ((-2) - v5) fun x5_6 =>
    zI (zc R d 312 [.inl x5_6] S) fun v8 S7 =>
    zG (inI (v8 - x5_6)) <|
    zlet (v8 - x5_6) fun x6_9 =>
    zlet (0 : Int) fun x7_10 =>
    R d 770 [.inl x2, .inl x3, .inl x4_3, .inl x5_6, .inl x6_9, .inl x7_10] S7
  else
  zG (inI (x3 + (-1))) <|
  zlet (x3 + (-1)) fun x3_11 =>
  R d 693 [.inl x2, .inl x3_11] S
def zb_endOf_p58 (R : ZC ZS) (d : Nat) (x3 : Int) (x4 : Int) (x5 : Int) (x6 : Int) (S : ZS) : ZR ZS :=
  if x6 < x5 then
    if x4 = 0 then
      zI (zc R d 312 [.inl x3] S) fun v2 S1 =>
      zlet v2 fun x3_3 =>
      zG (inI (x6 + 1)) <|
      zlet (x6 + 1) fun x6_4 =>
      R d 694 [.inl x3_3, .inl x4, .inl x5, .inl x6_4] S1
    else
    zG (inI (x3 + 1)) <|
    zI (zc R d 312 [.inl (x3 + 1)] S) fun v6 S5 =>
    zlet v6 fun x3_7 =>
    zG (inI (x6 + 1)) <|
    zlet (x6 + 1) fun x6_8 =>
    R d 694 [.inl x3_7, .inl x4, .inl x5, .inl x6_8] S5
  else
  zrI x3 S
def zb_noteLines_p52 (R : ZC ZS) (d : Nat) (x1 : Int) (x2 : Int) (S : ZS) : ZR ZS :=
  za S 78 3000 x1 fun v1 =>
  if v1 = 1 then
    zG (inI (x1 + 1)) <|
    zlet (x1 + 1) fun x1_2 =>
    R d 558 [.inl x1_2] S
  else
  za S 78 3000 x1 fun v3 =>
  if v3 = 2 then
    zG (inI (x1 + 1)) <|
    zlet (x1 + 1) fun x1_4 =>
    R d 558 [.inl x1_4] S
  else
  za S 44 4000 x2 fun v5 =>
  zs S 108 1100 x1 v5 fun S6 =>
  za S6 78 3000 x1 fun v7 =>
  if v7 = 0 then
    za S6 48 4000 x2 fun v8 =>
    R d 771 [.inl x1, .inl x2, .inl v8, .inl x1] S6
  else
  za S6 47 4000 x2 fun v9 =>
  R d 771 [.inl x1, .inl x2, .inl v9, .inl x1] S6
def zb_sayInt_p28 (R : ZC ZS) (d : Nat) (x3 : Int) (x5 : Int) (S : ZS) : ZR ZS :=
  zG (x5 ≠ 0) <|
  if (zdivL x3 x5) ≤ 9 then
    R d 772 [.inr (.inl x3), .inr (.inl x5)] S
  else
  zG (inL (x5 * 10)) <|
  zlet (x5 * 10) fun x5_2 =>
  R d 696 [.inr (.inl x3), .inr (.inl x5_2)] S
def zb_sayRow_p84 (R : ZC ZS) (d : Nat) (x1 : Int) (x3 : Int) (x4 : Int) (x5 : Int) (x6 : Int) (S : ZS) : ZR ZS :=
  if x6 < x4 then
    if x6 ≤ 0 then
      R d 773 [.inr (.inl x1), .inl x3, .inl x4, .inl x5, .inl x6] S
    else
    zV (zc R d 318 [.inl 44] S) fun S1 =>
    R d 773 [.inr (.inl x1), .inl x3, .inl x4, .inl x5, .inl x6] S1
  else
  if x5 = 0 then
    zV (zc R d 318 [.inl 125] S) fun S2 =>
    zrV S2
  else
  zV (zc R d 318 [.inl 41] S) fun S3 =>
  zrV S3
def zb_sayBehind_p38 (R : ZC ZS) (d : Nat) (x1 : Int) (x3 : Int) (x4 : Int) (S : ZS) : ZR ZS :=
  zV (zc R d 316 [.inr (.inl x1), .inl x3] S) fun S1 =>
  if x4 = 0 then
    zrV S1
  else
  zV (zc R d 318 [.inl 41] S1) fun S2 =>
  zrV S2
def zb_sayMade_p91 (R : ZC ZS) (d : Nat) (x3 : Int) (x6 : Int) (S : ZS) : ZR ZS :=
  zlet (1 : Int) fun x5_1 =>
  zJ (zc R d 288 [.inr (.inl x6)] S) fun v3 S2 =>
  zG (inI (x3 + 1)) <|
  zV (zc R d 316 [.inr (.inl v3), .inl (x3 + 1)] S2) fun S4 =>
  zJ (zc R d 287 [.inr (.inl x6)] S4) fun v6 S5 =>
  zlet v6 fun x6_7 =>
  R d 568 [.inl x3, .inl x5_1, .inr (.inl x6_7)] S5
def zb_sayType_p82 (R : ZC ZS) (d : Nat) (x2 : Int) (x3 : Int) (x4 : Int) (y0 : Int) (S : ZS) : ZR ZS :=
  zlet y0 fun x5_1 =>
  if x4 = 0 then
    R d 774 [.inl x2, .inl x3, .inl x4, .inl x5_1] S
  else
  if x2 ≤ 0 then
    R d 774 [.inl x2, .inl x3, .inl x4, .inl x5_1] S
  else
  R d 775 [.inl x3, .inl x4, .inl x5_1, .inl 1] S
def zb_sayVariable_p26 (R : ZC ZS) (d : Nat) (x1 : Int) (x2 : Int) (S : ZS) : ZR ZS :=
  if x2 = (S.1 229) then
    zs S 107 1100 (S.1 229) x1 fun S1 =>
    zG (inI ((S1.1 229) + 1)) <|
    zp S1 229 ((S1.1 229) + 1) fun S2 =>
    R d 776 [.inl x1, .inl x2] S2
  else
  R d 776 [.inl x1, .inl x2] S
def zb_isTuple_p41 (R : ZC ZS) (d : Nat) (x1 : Int) (x2 : Int) (x3 : Int) (x4 : Int) (S : ZS) : ZR ZS :=
  if x4 ≤ x2 then
    if x3 = 0 then
      zlet (0 : Int) fun x3_1 =>
      zG (inI (x4 + 1)) <|
      zlet (x4 + 1) fun x4_2 =>
      R d 702 [.inl x1, .inl x2, .inl x3_1, .inl x4_2] S
    else
    za S 26 57000 x1 fun v3 =>
    zI (zc R d 16 [.inl x4] S) fun v5 S4 =>
    zI (zc R d 143 [.inl v3, .inl v5] S4) fun v7 S6 =>
    if v7 = (-1) then
      zlet (0 : Int) fun x3_8 =>
      zG (inI (x4 + 1)) <|
      zlet (x4 + 1) fun x4_9 =>
      R d 702 [.inl x1, .inl x2, .inl x3_8, .inl x4_9] S6
    else
    zlet (1 : Int) fun x3_10 =>
    zG (inI (x4 + 1)) <|
    zlet (x4 + 1) fun x4_11 =>
    R d 702 [.inl x1, .inl x2, .inl x3_10, .inl x4_11] S6
  else
  zrZ x3 S
def zb_sayRowType_p47 (R : ZC ZS) (d : Nat) (x1 : Int) (x2 : Int) (x3 : Int) (x5 : Int) (x6 : Int) (S : ZS) : ZR ZS :=
  if x6 = (-1) then
    if x5 = (-1) then
      R d 777 [.inl x1, .inl x2, .inl x3, .inl x5, .inl 0] S
    else
    R d 777 [.inl x1, .inl x2, .inl x3, .inl x5, .inl 1] S
  else
  za S 29 106000 x6 fun v1 =>
  zlet v1 fun x7_2 =>
  if x3 = 0 then
    zI (zc R d 306 [.inl x2, .inl x7_2] S) fun v4 S3 =>
    if v4 = 0 then
      za S3 31 106000 x6 fun v5 =>
      zlet v5 fun x6_6 =>
      R d 703 [.inl x1, .inl x2, .inl x3, .inl x5, .inl x6_6] S3
    else
    R d 778 [.inl x1, .inl x2, .inl x3, .inl x5, .inl x6, .inl x7_2] S3
  else
  R d 778 [.inl x1, .inl x2, .inl x3, .inl x5, .inl x6, .inl x7_2] S
def zb_sayMadeType_p55 (R : ZC ZS) (d : Nat) (x1 : Int) (x2 : Int) (x3 : Int) (S : ZS) : ZR ZS :=
  if x3 = (-1) then
    zV (zc R d 559 [.inr (.inr (some 225))] S) fun S1 =>
    R d 574 [.inl x1] S1
  else
  if x3 = x2 then
    R d 779 [.inl x1, .inl x2, .inl x3] S
  else
  zV (zc R d 318 [.inl 44] S) fun S2 =>
  R d 779 [.inl x1, .inl x2, .inl x3] S2
def zb_sayVars_p39 (R : ZC ZS) (d : Nat) (x1 : Int) (x2 : Int) (x3 : Int) (S : ZS) : ZR ZS :=
  if x3 = (-1) then
    if x2 = 0 then
      zV (zc R d 318 [.inl 32] S) fun S1 =>
      zrV S1
    else
    zV (zc R d 318 [.inl 41] S) fun S2 =>
    zV (zc R d 318 [.inl 32] S2) fun S3 =>
    zrV S3
  else
  if x3 = x1 then
    R d 780 [.inl x1, .inl x2, .inl x3] S
  else
  zV (zc R d 318 [.inl 44] S) fun S4 =>
  R d 780 [.inl x1, .inl x2, .inl x3] S4
def zb_sign0_p260 (R : ZC ZS) (d : Nat) (x2 : Int) (x3 : Int) (S : ZS) : ZR ZS :=
  za S 24 57000 x2 fun v1 =>
  if (zandI v1 2) = 0 then
    za S 24 57000 x2 fun v2 =>
    if (zandI v2 1) = 0 then
      zG (inI (16 * x3)) <|
      R d 781 [.inl 0, .inl 4, .inl (16 * x3), .inl (S.1 83)] S
    else
    zG (inI (16 * x3)) <|
    R d 781 [.inl 1, .inl 4, .inl (16 * x3), .inl (S.1 83)] S
  else
  zG (inI (16 * x3)) <|
  R d 781 [.inl 2, .inl 4, .inl (16 * x3), .inl (S.1 83)] S
def zb_gaps_p145 (R : ZC ZS) (d : Nat) (x1 : Int) (x2 : Int) (x3 : Int) (S : ZS) : ZR ZS :=
  zI (zc R d 28 [.inl x3] S) fun v2 S1 =>
  if v2 = 0 then
    if x3 < 33 then
      zthrow 1 (S1.1 27) S1
    else
    if x3 ≤ 126 then
      R d 782 [.inl x1, .inl x2] S1
    else
    zthrow 1 (S1.1 27) S1
  else
  R d 782 [.inl x1, .inl x2] S1
def zb_nameAt_text_p45 (R : ZC ZS) (d : Nat) (x2 : Int) (x3 : Int) (x4 : Int) (x5 : Int) (S : ZS) : ZR ZS :=
  if x5 = (-1) then
    zs S 4 15000 (S.1 13) (S.1 12) fun S1 =>
    zs S1 5 15000 (S1.1 13) x3 fun S2 =>
    za S2 7 1024 x4 fun v3 =>
    zs S2 6 15000 (S2.1 13) v3 fun S4 =>
    zs S4 7 1024 x4 (S4.1 13) fun S5 =>
    zlet (0 : Int) fun x5_6 =>
    R d 783 [.inl x2, .inl x3, .inl x5_6] S5
  else
  za S 5 15000 x5 fun v7 =>
  if v7 = x3 then
    zlet (1 : Int) fun x6_8 =>
    zlet (0 : Int) fun x7_9 =>
    R d 784 [.inl x2, .inl x3, .inl x4, .inl x5, .inl x6_8, .inl x7_9] S
  else
  zlet (0 : Int) fun x6_10 =>
  zlet (0 : Int) fun x7_11 =>
  R d 784 [.inl x2, .inl x3, .inl x4, .inl x5, .inl x6_10, .inl x7_11] S
def zb_readInt_p96 (R : ZC ZS) (d : Nat) (x1 : Int) (x2 : Int) (y0 : Int) (y1 : Int) (S : ZS) : ZR ZS :=
  if y1 ≤ y0 then
    if x1 = 0 then
      R d 785 [.inl x1, .inr (.inl x2)] S
    else
    zG (inL (-x2)) <|
    R d 785 [.inl x1, .inr (.inl (-x2))] S
  else
  zthrow 1 (S.1 23) S
def zb_readInt_p68 (R : ZC ZS) (d : Nat) (x1 : Int) (y0 : Int) (S : ZS) : ZR ZS :=
  zlet y0 fun x2_1 =>
  zG (inI ((S.1 27) + 1)) <|
  zp S 27 ((S.1 27) + 1) fun S2 =>
  R d 589 [.inl x1, .inr (.inl x2_1)] S2
def zb_readString_p159 (R : ZC ZS) (d : Nat) (x1 : Int) (x2 : Int) (S : ZS) : ZR ZS :=
  zs S 9 184000 (S.1 25) (zbyte x2) fun S1 =>
  if x1 = 0 then
    R d 786 [.inl x1, .inl 4] S1
  else
  R d 786 [.inl x1, .inl 5] S1
def zb_readEscape_p131 (R : ZC ZS) (d : Nat) (x2 : Int) (x3 : Int) (x4 : Int) (y0 : Int) (y1 : Int) (S : ZS) : ZR ZS :=
  zG (inI (y1 * y0)) <|
  if (y1 * y0) ≤ 255 then
    zG (inI ((10 * x2) + x4)) <|
    zlet ((10 * x2) + x4) fun x2_1 =>
    zG (inI ((S.1 27) + 1)) <|
    zp S 27 ((S.1 27) + 1) fun S2 =>
    zG (inI (x3 + 1)) <|
    zlet (x3 + 1) fun x3_3 =>
    R d 365 [.inl x2_1, .inl x3_3] S2
  else
  zthrow 1 (S.1 27) S
def zb_infixed_p54 (R : ZC ZS) (d : Nat) (x1 : Int) (x2 : Int) (x3 : Int) (x4 : Int) (S : ZS) : ZR ZS :=
  if x4 = 0 then
    zs S 20 2100 (S.1 54) x3 fun S1 =>
    zs S1 21 2100 (S1.1 54) (S1.1 19) fun S2 =>
    zs S2 22 2100 (S2.1 54) (S2.1 18) fun S3 =>
    zG (inI ((S3.1 54) + 1)) <|
    zp S3 54 ((S3.1 54) + 1) fun S4 =>
    zV (zc R d 43 [] S4) fun S5 =>
    zV (zc R d 57 [.inl x1] S5) fun S6 =>
    R d 375 [.inl x1, .inl x2] S6
  else
  za S 20 2100 ((S.1 54) - 1) fun v7 =>
  zlet v7 fun x5_8 =>
  zI (zc R d 62 [.inl x5_8] S) fun v10 S9 =>
  zI (zc R d 62 [.inl x3] S9) fun v12 S11 =>
  if v10 = v12 then
    zI (zc R d 94 [.inl x5_8] S11) fun v14 S13 =>
    zI (zc R d 94 [.inl x3] S13) fun v16 S15 =>
    if v14 = v16 then
      R d 787 [.inl x1, .inl x2, .inl x3, .inl x5_8] S15
    else
    zthrow 2 (S15.1 18) S15
  else
  R d 787 [.inl x1, .inl x2, .inl x3, .inl x5_8] S11
def zb_patternField_p137 (R : ZC ZS) (d : Nat) (x1 : Int) (x3 : Int) (x5 : Int) (S : ZS) : ZR ZS :=
  zI (zc R d 52 [.inl 60, .inl x1, .inl x3, .inl x5, .inl 0, .inl 0] S) fun v2 S1 =>
  zrI v2 S1
def zb_patternHeld_p73 (R : ZC ZS) (d : Nat) (x1 : Int) (x2 : Int) (x3 : Int) (x4 : Int) (x6 : Int) (x8 : Int) (S : ZS) : ZR ZS :=
  zlet x8 fun x5_1 =>
  zG (inI (x6 + 1)) <|
  zlet (x6 + 1) fun x6_2 =>
  zI (zc R d 53 [.inl 34] S) fun v4 S3 =>
  zlet v4 fun x7_5 =>
  R d 605 [.inl x1, .inl x2, .inl x3, .inl x4, .inl x5_1, .inl x6_2, .inl x7_5] S3
def zb_clause_p191 (R : ZC ZS) (d : Nat) (x1 : Int) (x4 : Int) (x5 : Int) (x6 : Int) (S : ZS) : ZR ZS :=
  zI (zc R d 53 [.inl 38] S) fun v2 S1 =>
  if v2 = 0 then
    R d 788 [.inl x1, .inl x4, .inl x5, .inl x6, .inl (-1)] S1
  else
  zI (zc R d 69 [] S1) fun v4 S3 =>
  R d 788 [.inl x1, .inl x4, .inl x5, .inl x6, .inl v4] S3
def zb_clause_p89 (R : ZC ZS) (d : Nat) (x1 : Int) (y0 : Int) (S : ZS) : ZR ZS :=
  zlet y0 fun x5_1 =>
  zI (zc R d 75 [] S) fun v3 S2 =>
  zlet v3 fun x4_4 =>
  zI (zc R d 63 [] S2) fun v6 S5 =>
  zlet v6 fun x6_7 =>
  zlet x6_7 fun x7_8 =>
  R d 789 [.inl x1, .inl x4_4, .inl x5_1, .inl x6_7, .inl x7_8] S5
def zb_constructors_p66 (R : ZC ZS) (d : Nat) (x1 : Int) (x2 : Int) (y0 : Int) (y1 : Int) (y2 : Int) (y3 : Int) (S : ZS) : ZR ZS :=
  zI (zc R d 52 [.inl y3, .inl y2, .inl y1, .inl y0, .inl 0, .inl 0] S) fun v2 S1 =>
  zlet v2 fun x7_3 =>
  if x1 = (-1) then
    zlet x7_3 fun x1_4 =>
    R d 790 [.inl x1_4, .inl x7_3] S1
  else
  zs S1 16 84000 x2 x7_3 fun S5 =>
  R d 790 [.inl x1, .inl x7_3] S5
def zb_infixes_p76 (R : ZC ZS) (d : Nat) (x1 : Int) (x2 : Int) (x3 : Int) (S : ZS) : ZR ZS :=
  if (S.1 17) = 1 then
    if x2 = 15 then
      zV (zc R d 20 [.inl (S.1 19), .inl x3, .inl 1] S) fun S1 =>
      zV (zc R d 43 [] S1) fun S2 =>
      R d 719 [.inl x1, .inl x2, .inl x3] S2
    else
    zV (zc R d 20 [.inl (S.1 19), .inl x3, .inl 0] S) fun S3 =>
    zV (zc R d 43 [] S3) fun S4 =>
    R d 719 [.inl x1, .inl x2, .inl x3] S4
  else
  zI (zc R d 52 [.inl 83, .inl x1, .inl 0, .inl 0, .inl 0, .inl 0] S) fun v6 S5 =>
  zrI v6 S5
def zb_found_p85 (R : ZC ZS) (d : Nat) (x1 : Int) (x2 : Int) (x3 : Int) (S : ZS) : ZR ZS :=
  za S 81 1100 x3 fun v1 =>
  za S 11 4200 (x1 - (S.1 41)) fun v2 =>
  zI (zc R d 503 [.inl v1, .inl v2] S) fun v4 S3 =>
  zs S3 81 1100 x3 v4 fun S5 =>
  za S5 82 1100 x3 fun v6 =>
  if v6 = 0 then
    if x2 = 0 then
      zs S5 82 1100 x3 0 fun S7 =>
      zrV S7
    else
    zs S5 82 1100 x3 1 fun S8 =>
    zrV S8
  else
  zs S5 82 1100 x3 1 fun S9 =>
  zrV S9
def zb_readSign_p164 (R : ZC ZS) (d : Nat) (x1 : Int) (x2 : Int) (x3 : Int) (x4 : Int) (x5 : Int) (x6 : Int) (x7 : Int) (S : ZS) : ZR ZS :=
  if x7 < x4 then
    zlet x7 fun x8_1 =>
    if x3 = 0 then
      R d 791 [.inl x1, .inl x2, .inl x3, .inl x4, .inl x5, .inl x6, .inl x7, .inl x8_1] S
    else
    za S 42 158000 (S.1 84) fun v2 =>
    zlet v2 fun x8_3 =>
    zG (inI ((S.1 84) + 1)) <|
    zp S 84 ((S.1 84) + 1) fun S4 =>
    R d 791 [.inl x1, .inl x2, .inl x3, .inl x4, .inl x5, .inl x6, .inl x7, .inl x8_3] S4
  else
  if x3 = 0 then
    R d 792 [.inl x2, .inl x3, .inl x5, .inl 2] S
  else
  R d 792 [.inl x2, .inl x3, .inl x5, .inl 3] S
def zb_copied_p81 (R : ZC ZS) (d : Nat) (x1 : Int) (x3 : Int) (x4 : Int) (x5 : Int) (S : ZS) : ZR ZS :=
  if x5 = (-1) then
    za S 23 57000 x1 fun v1 =>
    za S 25 57000 x1 fun v2 =>
    za S 24 57000 x1 fun v3 =>
    za S 25 57000 x1 fun v4 =>
    zI (zc R d 4 [.inl v1, .inl v2, .inl x3, .inl (zandI v3 (-17)), .inl v4] S) fun v6 S5 =>
    zrI v6 S5
  else
  za S 29 106000 x5 fun v7 =>
  za S 30 106000 x5 fun v8 =>
  zI (zc R d 8 [.inl v8] S) fun v10 S9 =>
  za S9 28 57000 v10 fun v11 =>
  zI (zc R d 11 [.inl v7, .inl v11, .inl (-1)] S9) fun v13 S12 =>
  zlet v13 fun x6_14 =>
  if x3 = (-1) then
    zlet x6_14 fun x3_15 =>
    R d 793 [.inl x1, .inl x3_15, .inl x5, .inl x6_14] S12
  else
  zs S12 31 106000 x4 x6_14 fun S16 =>
  R d 793 [.inl x1, .inl x3, .inl x5, .inl x6_14] S16
def zb_merge_p83 (R : ZC ZS) (d : Nat) (x1 : Int) (x2 : Int) (y0 : Int) (S : ZS) : ZR ZS :=
  zlet y0 fun x3_1 =>
  if x3_1 = x1 then
    R d 794 [.inl x3_1, .inl x2] S
  else
  R d 794 [.inl x3_1, .inl x1] S
def zb_mergeRows_p99 (R : ZC ZS) (d : Nat) (x1 : Int) (x2 : Int) (x3 : Int) (x4 : Int) (x5 : Int) (S : ZS) : ZR ZS :=
  if x5 = (-1) then
    za S 26 57000 x1 fun v1 =>
    za S 26 57000 x2 fun v2 =>
    zI (zc R d 144 [.inl v1, .inl v2] S) fun v4 S3 =>
    zlet v4 fun x5_5 =>
    za S3 25 57000 x1 fun v6 =>
    za S3 25 57000 x2 fun v7 =>
    zI (zc R d 503 [.inl v6, .inl v7] S3) fun v9 S8 =>
    zlet v9 fun x6_10 =>
    zV (zc R d 140 [.inl x1, .inl x2] S8) fun S11 =>
    zs S11 26 57000 x2 x5_5 fun S12 =>
    if x3 = 0 then
      R d 795 [.inl x2, .inl x3, .inl x4, .inl 0, .inl x2] S12
    else
    if x4 = 0 then
      R d 795 [.inl x2, .inl x3, .inl x4, .inl 0, .inl x2] S12
    else
    R d 795 [.inl x2, .inl x3, .inl x4, .inl x6_10, .inl x2] S12
  else
  if x3 = 0 then
    za S 26 57000 x1 fun v13 =>
    za S 29 106000 x5 fun v14 =>
    zI (zc R d 143 [.inl v13, .inl v14] S) fun v16 S15 =>
    if v16 = (-1) then
      zrZ 0 S15
    else
    za S15 31 106000 x5 fun v17 =>
    zlet v17 fun x5_18 =>
    R d 724 [.inl x1, .inl x2, .inl x3, .inl x4, .inl x5_18] S15
  else
  za S 31 106000 x5 fun v19 =>
  zlet v19 fun x5_20 =>
  R d 724 [.inl x1, .inl x2, .inl x3, .inl x4, .inl x5_20] S
def zb_allFields_p48 (R : ZC ZS) (d : Nat) (x3 : Int) (x4 : Int) (x5 : Int) (x6 : Int) (x7 : Int) (S : ZS) : ZR ZS :=
  if x7 = (-1) then
    zrI x4 S
  else
  R d 796 [.inl x3, .inl x4, .inl x5, .inl x6, .inl x7] S
def zb_isEndless_p191 (R : ZC ZS) (d : Nat) (x2 : Int) (x4 : Int) (S : ZS) : ZR ZS :=
  zs S 27 57000 x4 (S.1 68) fun S1 =>
  zs S1 40 57000 x2 x4 fun S2 =>
  za S2 26 57000 x4 fun v3 =>
  zs S2 41 57000 x2 v3 fun S4 =>
  zG (inI (x2 + 1)) <|
  zlet (x2 + 1) fun x2_5 =>
  R d 629 [.inl x2_5] S4
def zb_toldVariable_p63 (R : ZC ZS) (d : Nat) (x1 : Int) (S : ZS) : ZR ZS :=
  za S 11 4200 (x1 - (S.1 41)) fun v1 =>
  zthrow 15 v1 S
def zb_toldOne_p66 (R : ZC ZS) (d : Nat) (x1 : Int) (x2 : Int) (x3 : Int) (x5 : Int) (x6 : Int) (x7 : Int) (S : ZS) : ZR ZS :=
  zlet x7 fun x4_1 =>
  zG (inI (x5 + 1)) <|
  zlet (x5 + 1) fun x5_2 =>
  za S 16 84000 x6 fun v3 =>
  zlet v3 fun x6_4 =>
  R d 445 [.inl x1, .inl x2, .inl x3, .inl x4_1, .inl x5_2, .inl x6_4] S
def zb_judgedApplication_p51 (R : ZC ZS) (d : Nat) (x1 : Int) (x4 : Int) (x5 : Int) (x6 : Int) (x7 : Int) (S : ZS) : ZR ZS :=
  if x7 < x5 then
    za S 13 84000 x6 fun v1 =>
    zlet v1 fun x6_2 =>
    zG (inI (x7 + 1)) <|
    zlet (x7 + 1) fun x7_3 =>
    R d 729 [.inl x1, .inl x4, .inl x5, .inl x6_2, .inl x7_3] S
  else
  zI (zc R d 116 [] S) fun v5 S4 =>
  zlet v5 fun x7_6 =>
  zI (zc R d 116 [] S4) fun v8 S7 =>
  zlet v8 fun x8_9 =>
  za S7 14 84000 x6 fun v10 =>
  zlet v10 fun x9_11 =>
  zI (zc R d 162 [.inl x9_11] S7) fun v13 S12 =>
  zlet v13 fun x10_14 =>
  zI (zc R d 10 [.inl x7_6, .inl x8_9] S12) fun v16 S15 =>
  za S15 13 84000 x6 fun v17 =>
  za S15 11 4200 (v17 - (S15.1 41)) fun v18 =>
  zV (zc R d 136 [.inl x4, .inl v16, .inl v18] S15) fun S19 =>
  za S19 11 4200 (x9_11 - (S19.1 41)) fun v20 =>
  zV (zc R d 136 [.inl x7_6, .inl x10_14, .inl v20] S19) fun S21 =>
  zlet x8_9 fun x4_22 =>
  zG (inI (x5 + (-1))) <|
  zlet (x5 + (-1)) fun x5_23 =>
  R d 636 [.inl x1, .inl x4_22, .inl x5_23] S21
def zb_rules_p178 (R : ZC ZS) (d : Nat) (x4 : Int) (x5 : Int) (x6 : Int) (x7 : Int) (x9 : Int) (x10 : Int) (x13 : Int) (x14 : Int) (S : ZS) : ZR ZS :=
  zpZ S 111 x13 fun S1 =>
  zpZ S1 112 x14 fun S2 =>
  zp S2 95 x10 fun S3 =>
  za S3 13 84000 x9 fun v4 =>
  zI (zc R d 171 [.inl v4] S3) fun v6 S5 =>
  zJ (zc R d 172 [.inr (.inl x7), .inl v6, .inl x4] S5) fun v8 S7 =>
  zlet v8 fun x7_9 =>
  za S7 16 84000 x9 fun v10 =>
  zlet v10 fun x9_11 =>
  R d 455 [.inl x4, .inl x5, .inl x6, .inr (.inl x7_9), .inl x9_11] S7
def zb_through_p102 (R : ZC ZS) (d : Nat) (x2 : Int) (x3 : Int) (x5 : Int) (S : ZS) : ZR ZS :=
  za S 63 3000 x5 fun v1 =>
  zlet v1 fun x4_2 =>
  zG (inI (x5 + 1)) <|
  zlet (x5 + 1) fun x5_3 =>
  R d 640 [.inl x2, .inl x3, .inl x4_2, .inl x5_3] S
def zb_through_p135 (R : ZC ZS) (d : Nat) (x2 : Int) (x3 : Int) (x5 : Int) (S : ZS) : ZR ZS :=
  if x5 < (S.1 125) then
    za S 62 3000 x5 fun v1 =>
    zs S 23 57000 v1 0 fun S2 =>
    za S2 62 3000 x5 fun v3 =>
    za S2 62 3000 x5 fun v4 =>
    za S2 25 57000 v4 fun v5 =>
    zI (zc R d 149 [.inl v5] S2) fun v7 S6 =>
    if v7 = 0 then
      zs S6 24 57000 v3 (zbyte (zorI 4 0)) fun S8 =>
      zG (inI (x5 + 1)) <|
      zlet (x5 + 1) fun x5_9 =>
      R d 732 [.inl x2, .inl x3, .inl x5_9] S8
    else
    zs S6 24 57000 v3 (zbyte (zorI 4 1)) fun S10 =>
    zG (inI (x5 + 1)) <|
    zlet (x5 + 1) fun x5_11 =>
    R d 732 [.inl x2, .inl x3, .inl x5_11] S10
  else
  zp S 125 x3 fun S12 =>
  zlet x2 fun x5_13 =>
  R d 797 [.inl x5_13] S12
def zb_markRim_p70 (R : ZC ZS) (d : Nat) (x3 : Int) (S : ZS) : ZR ZS :=
  if x3 < (S.1 134) then
    za S 83 3000 x3 fun v1 =>
    if v1 = 0 then
      zG (inI (x3 + 1)) <|
      zlet (x3 + 1) fun x3_2 =>
      R d 733 [.inl x3_2] S
    else
    za S 66 3000 x3 fun v3 =>
    zV (zc R d 187 [.inl v3, .inl 2] S) fun S4 =>
    zG (inI (x3 + 1)) <|
    zlet (x3 + 1) fun x3_5 =>
    R d 733 [.inl x3_5] S4
  else
  zlet (0 : Int) fun x3_6 =>
  R d 798 [.inl x3_6] S
def zb_generalise_p128 (R : ZC ZS) (d : Nat) (x3 : Int) (x5 : Int) (S : ZS) : ZR ZS :=
  if x5 = (-1) then
    R d 473 [.inl x3] S
  else
  za S 30 106000 x5 fun v1 =>
  zI (zc R d 8 [.inl v1] S) fun v3 S2 =>
  zlet v3 fun x6_4 =>
  za S2 27 57000 x6_4 fun v5 =>
  if v5 = (S2.1 68) then
    za S2 31 106000 x5 fun v6 =>
    zlet v6 fun x5_7 =>
    R d 734 [.inl x3, .inl x5_7] S2
  else
  zs S2 27 57000 x6_4 (S2.1 68) fun S8 =>
  zs S8 40 57000 x3 x6_4 fun S9 =>
  zG (inI (x3 + 1)) <|
  zlet (x3 + 1) fun x3_10 =>
  za S9 31 106000 x5 fun v11 =>
  zlet v11 fun x5_12 =>
  R d 734 [.inl x3_10, .inl x5_12] S9
def zb_judgedRec_p266 (R : ZC ZS) (d : Nat) (x2 : Int) (x3 : Int) (x4 : Int) (x5 : Int) (x6 : Int) (x8 : Int) (S : ZS) : ZR ZS :=
  if x8 = (-1) then
    zp S 135 x6 fun S1 =>
    zp S1 95 x4 fun S2 =>
    zV (zc R d 183 [.inl x4, .inl x5, .inl x2] S2) fun S3 =>
    zp S3 127 x3 fun S4 =>
    zV (zc R d 189 [.inl x5] S4) fun S5 =>
    zrV S5
  else
  za S 14 84000 x8 fun v6 =>
  za S 10 84000 v6 fun v7 =>
  if v7 = 12 then
    za S 14 84000 x8 fun v8 =>
    zI (zc R d 162 [.inl v8] S) fun v10 S9 =>
    zlet v10 fun x9_11 =>
    za S9 15 84000 x8 fun v12 =>
    za S9 14 84000 x8 fun v13 =>
    za S9 11 4200 (v13 - (S9.1 41)) fun v14 =>
    zV (zc R d 136 [.inl v12, .inl x9_11, .inl v14] S9) fun S15 =>
    za S15 16 84000 x8 fun v16 =>
    zlet v16 fun x8_17 =>
    R d 735 [.inl x2, .inl x3, .inl x4, .inl x5, .inl x6, .inl x8_17] S15
  else
  za S 14 84000 x8 fun v18 =>
  za S 11 4200 (v18 - (S.1 41)) fun v19 =>
  zthrow 7 v19 S
def zb_judgedFun_p194 (R : ZC ZS) (d : Nat) (x2 : Int) (x3 : Int) (x4 : Int) (x5 : Int) (x6 : Int) (x8 : Int) (x9 : Int) (S : ZS) : ZR ZS :=
  if x9 = (-1) then
    zp S 135 x6 fun S1 =>
    zp S1 95 x4 fun S2 =>
    zV (zc R d 183 [.inl x4, .inl x5, .inl x2] S2) fun S3 =>
    zp S3 127 x3 fun S4 =>
    zV (zc R d 189 [.inl x5] S4) fun S5 =>
    zrV S5
  else
  za S 66 3000 x8 fun v6 =>
  zV (zc R d 193 [.inl x9, .inl v6] S) fun S7 =>
  zG (inI (x8 + 1)) <|
  zlet (x8 + 1) fun x8_8 =>
  za S7 16 84000 x9 fun v9 =>
  zlet v9 fun x9_10 =>
  R d 736 [.inl x2, .inl x3, .inl x4, .inl x5, .inl x6, .inl x8_8, .inl x9_10] S7
def zb_judgedFunction_p274 (R : ZC ZS) (d : Nat) (x1 : Int) (x2 : Int) (x3 : Int) (x10 : Int) (x14 : Int) (x15 : Int) (S : ZS) : ZR ZS :=
  if x15 < 0 then
    zp S 163 x10 fun S1 =>
    za S1 15 84000 x3 fun v2 =>
    za S1 11 4200 (v2 - (S1.1 41)) fun v3 =>
    zV (zc R d 136 [.inl x2, .inl x14, .inl v3] S1) fun S4 =>
    zV (zc R d 173 [.inl 3, .inl x1] S4) fun S5 =>
    zrV S5
  else
  za S 84 1100 (x10 + x15) fun v6 =>
  zI (zc R d 10 [.inl v6, .inl x14] S) fun v8 S7 =>
  zlet v8 fun x14_9 =>
  zG (inI (x15 + (-1))) <|
  zlet (x15 + (-1)) fun x15_10 =>
  R d 737 [.inl x1, .inl x2, .inl x3, .inl x10, .inl x14_9, .inl x15_10] S7
def zb_judgedFunction_p161 (R : ZC ZS) (d : Nat) (x1 : Int) (x2 : Int) (x3 : Int) (x4 : Int) (x5 : Int) (x6 : Int) (x7 : Int) (x8 : Int) (x9 : Int) (x10 : Int) (x11 : Int) (x12 : Int) (x14 : Int) (x15 : Int) (x16 : Int) (S : ZS) : ZR ZS :=
  if x16 = (-1) then
    za S 11 4200 (x1 - (S.1 41)) fun v1 =>
    zJ (zc R d 172 [.inr (.inl x12), .inl x15, .inl v1] S) fun v3 S2 =>
    zlet v3 fun x12_4 =>
    za S2 16 84000 x14 fun v5 =>
    zlet v5 fun x14_6 =>
    R d 648 [.inl x1, .inl x2, .inl x3, .inl x4, .inl x5, .inl x6, .inl x7, .inl x8, .inl x9, .inl x10, .inl x11, .inr (.inl x12_4), .inl x14_6] S2
  else
  zI (zc R d 171 [.inl x16] S) fun v8 S7 =>
  zG (inI (x15 + v8)) <|
  zlet (x15 + v8) fun x15_9 =>
  za S7 16 84000 x16 fun v10 =>
  zlet v10 fun x16_11 =>
  R d 738 [.inl x1, .inl x2, .inl x3, .inl x4, .inl x5, .inl x6, .inl x7, .inl x8, .inl x9, .inl x10, .inl x11, .inr (.inl x12), .inl x14, .inl x15_9, .inl x16_11] S7
def zb_judgedClause_p249 (R : ZC ZS) (d : Nat) (x2 : Int) (x5 : Int) (x8 : Int) (y0 : Int) (S : ZS) : ZR ZS :=
  zlet y0 fun x12_1 =>
  za S 14 84000 x2 fun v2 =>
  zI (zc R d 162 [.inl v2] S) fun v4 S3 =>
  zlet v4 fun x13_5 =>
  if x12_1 = (-1) then
    R d 799 [.inl x2, .inl x5, .inl x8, .inl x13_5] S3
  else
  za S3 14 84000 x2 fun v6 =>
  za S3 11 4200 (v6 - (S3.1 41)) fun v7 =>
  zV (zc R d 136 [.inl x13_5, .inl x12_1, .inl v7] S3) fun S8 =>
  R d 799 [.inl x2, .inl x5, .inl x8, .inl x13_5] S8
def zb_judgedClause_p196 (R : ZC ZS) (d : Nat) (x1 : Int) (x2 : Int) (x5 : Int) (x6 : Int) (x8 : Int) (x9 : Int) (x10 : Int) (x11 : Int) (x12 : Int) (S : ZS) : ZR ZS :=
  zG (inI (x11 + 1)) <|
  zlet (x11 + 1) fun x11_1 =>
  za S 16 84000 x12 fun v2 =>
  zlet v2 fun x12_3 =>
  R d 649 [.inl x1, .inl x2, .inl x5, .inl x6, .inl x8, .inl x9, .inl x10, .inl x11_1, .inl x12_3] S
def zb_lengthOf_fNext_p4 (R : ZC ZS) (d : Nat) (x2 : Int) (x3 : Int) (S : ZS) : ZR ZS :=
  if x3 = (-1) then
    zrI x2 S
  else
  zG (inI (x2 + 1)) <|
  zlet (x2 + 1) fun x2_1 =>
  za S 31 106000 x3 fun v2 =>
  zlet v2 fun x3_3 =>
  R d 741 [.inl x2_1, .inl x3_3] S
def zb_listed_p97 (R : ZC ZS) (d : Nat) (x2 : Int) (x3 : Int) (x4 : Int) (x5 : Int) (y0 : Int) (y1 : Int) (y2 : Int) (y3 : Int) (y4 : Int) (S : ZS) : ZR ZS :=
  zI (zc R d 4 [.inl y4, .inl y3, .inl y2, .inl (zorI y1 y0), .inl 0] S) fun v2 S1 =>
  zlet v2 fun x6_3 =>
  za S1 12 84000 x5 fun v4 =>
  zs S1 61 3000 (S1.1 125) v4 fun S5 =>
  zs S5 62 3000 (S5.1 125) x6_3 fun S6 =>
  zG (inI ((S6.1 125) + 1)) <|
  zp S6 125 ((S6.1 125) + 1) fun S7 =>
  zI (zc R d 11 [.inl x4, .inl x6_3, .inl (-1)] S7) fun v9 S8 =>
  zlet v9 fun x7_10 =>
  if x2 = (-1) then
    zlet x7_10 fun x2_11 =>
    R d 800 [.inl x2_11, .inl x4, .inl x5, .inl x7_10] S8
  else
  zs S8 31 106000 x3 x7_10 fun S12 =>
  R d 800 [.inl x2, .inl x4, .inl x5, .inl x7_10] S12
def zb_judgedData_p277 (R : ZC ZS) (d : Nat) (x1 : Int) (x2 : Int) (x3 : Int) (x4 : Int) (x6 : Int) (x7 : Int) (S : ZS) : ZR ZS :=
  if x7 = (-1) then
    zlet (1 : Int) fun x7_1 =>
    R d 801 [.inl x1, .inl x2, .inl x3, .inl x4, .inl x6, .inl x7_1] S
  else
  zV (zc R d 198 [.inl x7, .inl x6] S) fun S2 =>
  za S2 16 84000 x7 fun v3 =>
  zlet v3 fun x7_4 =>
  R d 743 [.inl x1, .inl x2, .inl x3, .inl x4, .inl x6, .inl x7_4] S2
def zb_judgedCons_p180 (R : ZC ZS) (d : Nat) (x2 : Int) (x3 : Int) (x4 : Int) (x5 : Int) (y0 : Int) (S : ZS) : ZR ZS :=
  zlet y0 fun x6_1 =>
  if x6_1 = (-1) then
    zlet ((-1) : Int) fun x7_2 =>
    zlet ((-1) : Int) fun x8_3 =>
    zlet x4 fun x9_4 =>
    R d 802 [.inl x2, .inl x3, .inl x4, .inl x5, .inl x6_1, .inl x7_2, .inl x8_3, .inl x9_4] S
  else
  zI (zc R d 184 [.inl x6_1] S) fun v6 S5 =>
  if v6 ≤ 40 then
    zlet ((-1) : Int) fun x7_7 =>
    zlet ((-1) : Int) fun x8_8 =>
    zlet x4 fun x9_9 =>
    R d 802 [.inl x2, .inl x3, .inl x4, .inl x5, .inl x6_1, .inl x7_7, .inl x8_8, .inl x9_9] S5
  else
  za S5 11 4200 (x5 - (S5.1 41)) fun v10 =>
  zthrow 14 v10 S5
def zb_admits_p100 (R : ZC ZS) (d : Nat) (x3 : Int) (x4 : Int) (S : ZS) : ZR ZS :=
  za S 23 57000 x4 fun v1 =>
  if v1 = 2 then
    za S 25 57000 x4 fun v2 =>
    if v2 = 6 then
      R d 483 [.inl x3] S
    else
    za S 26 57000 x4 fun v3 =>
    zlet v3 fun x5_4 =>
    R d 803 [.inl x3, .inl x5_4] S
  else
  za S 26 57000 x4 fun v5 =>
  zlet v5 fun x5_6 =>
  R d 803 [.inl x3, .inl x5_6] S
def zb_judgedException_p144 (R : ZC ZS) (d : Nat) (x1 : Int) (x3 : Int) (x4 : Int) (y0 : Int) (y1 : Int) (y2 : Int) (S : ZS) : ZR ZS :=
  zG (inI (y1 + y0)) <|
  zs S 59 8000 y2 (y1 + y0) fun S1 =>
  zI (zc R d 17 [] S1) fun v3 S2 =>
  zs S2 14 84000 x1 v3 fun S4 =>
  zs S4 13 84000 x1 x4 fun S5 =>
  za S5 12 84000 x1 fun v6 =>
  if x3 = (-1) then
    zI (zc R d 9 [.inl 4] S5) fun v8 S7 =>
    R d 804 [.inl x1, .inl x4, .inl v8, .inl 2, .inl v6] S7
  else
  zI (zc R d 9 [.inl 4] S5) fun v10 S9 =>
  zI (zc R d 10 [.inl x3, .inl v10] S9) fun v12 S11 =>
  R d 804 [.inl x1, .inl x4, .inl v12, .inl 2, .inl v6] S11
def zb_linked_vBefore (R : ZC ZS) (d : Nat) (x1 : Int) (x2 : Int) (x3 : Int) (S : ZS) : ZR ZS :=
  if x1 = x2 then
    zrI x3 S
  else
  zlet x1 fun x4_1 =>
  R d 805 [.inl x1, .inl x2, .inl x3, .inl x4_1] S
def zb_linked_tBefore (R : ZC ZS) (d : Nat) (x1 : Int) (x2 : Int) (x3 : Int) (S : ZS) : ZR ZS :=
  if x1 = x2 then
    zrI x3 S
  else
  zlet x1 fun x4_1 =>
  R d 806 [.inl x1, .inl x2, .inl x3, .inl x4_1] S
def zb_finish_p92 (R : ZC ZS) (d : Nat) (x2 : Int) (S : ZS) : ZR ZS :=
  za S 25 57000 x2 fun v1 =>
  zlet v1 fun x1_2 =>
  zG (inI (x2 + 1)) <|
  zlet (x2 + 1) fun x2_3 =>
  R d 486 [.inl x1_2, .inl x2_3] S
def zb_finish_p183 (R : ZC ZS) (d : Nat) (x2 : Int) (S : ZS) : ZR ZS :=
  if x2 < (S.1 153) then
    za S 78 3000 x2 fun v1 =>
    if v1 = 0 then
      za S 79 3000 x2 fun v2 =>
      za S 46 4000 v2 fun v3 =>
      zI (zc R d 206 [.inl v3] S) fun v5 S4 =>
      if v5 = 0 then
        zG (inI (x2 + 1)) <|
        zlet (x2 + 1) fun x2_6 =>
        R d 750 [.inl x2_6] S4
      else
      za S4 79 3000 x2 fun v7 =>
      za S4 49 4000 v7 fun v8 =>
      zthrow 13 v8 S4
    else
    zG (inI (x2 + 1)) <|
    zlet (x2 + 1) fun x2_9 =>
    R d 750 [.inl x2_9] S
  else
  zs S 70 9000 (S.1 249) (S.1 116) fun S10 =>
  zrV S10
def zb_hasUnknown_p108 (R : ZC ZS) (d : Nat) (x3 : Int) (x5 : Int) (S : ZS) : ZR ZS :=
  if x5 = (-1) then
    R d 487 [.inl x3] S
  else
  za S 30 106000 x5 fun v1 =>
  zI (zc R d 8 [.inl v1] S) fun v3 S2 =>
  zlet v3 fun x6_4 =>
  za S2 27 57000 x6_4 fun v5 =>
  if v5 = (S2.1 68) then
    za S2 31 106000 x5 fun v6 =>
    zlet v6 fun x5_7 =>
    R d 751 [.inl x3, .inl x5_7] S2
  else
  zs S2 27 57000 x6_4 (S2.1 68) fun S8 =>
  zs S8 40 57000 x3 x6_4 fun S9 =>
  zG (inI (x3 + 1)) <|
  zlet (x3 + 1) fun x3_10 =>
  za S9 31 106000 x5 fun v11 =>
  zlet v11 fun x5_12 =>
  R d 751 [.inl x3_10, .inl x5_12] S9
def zb_noteAll_p305 (R : ZC ZS) (d : Nat) (x1 : Int) (x2 : Int) (x3 : Int) (x4 : Int) (x5 : Int) (x6 : Int) (x7 : Int) (S : ZS) : ZR ZS :=
  if x7 < x5 then
    zs S 89 240000 ((S.1 171) + x7) (-1) fun S1 =>
    zG (inI (x7 + 1)) <|
    zlet (x7 + 1) fun x7_2 =>
    R d 752 [.inl x1, .inl x2, .inl x3, .inl x4, .inl x5, .inl x6, .inl x7_2] S1
  else
  zG (inI ((S.1 171) + x5)) <|
  zp S 171 ((S.1 171) + x5) fun S3 =>
  if x3 = 4 then
    zG (inI (x1 + 1)) <|
    zlet (x1 + 1) fun x1_4 =>
    R d 488 [.inl x1_4] S3
  else
  zI (zc R d 208 [.inl 0, .inl x4, .inl x5, .inl x6] S3) fun v6 S5 =>
  if v6 = 0 then
    zG (inI (x1 + 1)) <|
    zlet (x1 + 1) fun x1_7 =>
    R d 488 [.inl x1_7] S5
  else
  if x3 = 2 then
    R d 807 [.inl x1, .inl x2, .inl x3, .inl 2] S5
  else
  R d 807 [.inl x1, .inl x2, .inl x3, .inl 1] S5
def zb_noteAll_p241 (R : ZC ZS) (d : Nat) (x1 : Int) (x2 : Int) (x3 : Int) (x4 : Int) (x5 : Int) (x6 : Int) (S : ZS) : ZR ZS :=
  if x6 < x4 then
    zG (inI (x6 * x5)) <|
    zI (zc R d 208 [.inl 0, .inl x6, .inl x5, .inl (x6 * x5)] S) fun v2 S1 =>
    if v2 = 0 then
      za S1 89 240000 (x6 * x5) fun v3 =>
      za S1 11 4200 (v3 - (S1.1 41)) fun v4 =>
      zV (zc R d 231 [.inl 3, .inl v4] S1) fun S5 =>
      zG (inI (x6 + 1)) <|
      zlet (x6 + 1) fun x6_6 =>
      R d 753 [.inl x1, .inl x2, .inl x3, .inl x4, .inl x5, .inl x6_6] S5
    else
    zG (inI (x6 + 1)) <|
    zlet (x6 + 1) fun x6_7 =>
    R d 753 [.inl x1, .inl x2, .inl x3, .inl x4, .inl x5, .inl x6_7] S1
  else
  zlet (S.1 171) fun x6_8 =>
  zlet (0 : Int) fun x7_9 =>
  R d 752 [.inl x1, .inl x2, .inl x3, .inl x4, .inl x5, .inl x6_8, .inl x7_9] S
def zb_lengthOf_next_p4 (R : ZC ZS) (d : Nat) (x2 : Int) (x3 : Int) (S : ZS) : ZR ZS :=
  if x3 = (-1) then
    zrI x2 S
  else
  zG (inI (x2 + 1)) <|
  zlet (x2 + 1) fun x2_1 =>
  za S 16 84000 x3 fun v2 =>
  zlet v2 fun x3_3 =>
  R d 754 [.inl x2_1, .inl x3_3] S
def zb_noteAll_p114 (R : ZC ZS) (d : Nat) (x1 : Int) (x2 : Int) (x3 : Int) (x4 : Int) (x5 : Int) (x6 : Int) (x7 : Int) (x8 : Int) (S : ZS) : ZR ZS :=
  if x8 = (-1) then
    zG (inI (x4 + 1)) <|
    zlet (x4 + 1) fun x4_1 =>
    za S 16 84000 x6 fun v2 =>
    zlet v2 fun x6_3 =>
    R d 663 [.inl x1, .inl x2, .inl x3, .inl x4_1, .inl x5, .inl x6_3] S
  else
  zs S 89 240000 ((x4 * x5) + x7) x8 fun S4 =>
  zG (inI (x7 + 1)) <|
  zlet (x7 + 1) fun x7_5 =>
  za S4 16 84000 x8 fun v6 =>
  zlet v6 fun x8_7 =>
  R d 755 [.inl x1, .inl x2, .inl x3, .inl x4, .inl x5, .inl x6, .inl x7_5, .inl x8_7] S4
def zb_usefulHere_p172 (R : ZC ZS) (d : Nat) (x1 : Int) (S : ZS) : ZR ZS :=
  zV (zc R d 219 [.inl (-1), .inl 0] S) fun S1 =>
  zV (zc R d 230 [.inl x1] S1) fun S2 =>
  R d 209 [.inl x1] S2
def zb_rowStep_p101 (R : ZC ZS) (d : Nat) (x1 : Int) (x2 : Int) (x3 : Int) (x4 : Int) (x5 : Int) (x6 : Int) (S : ZS) : ZR ZS :=
  if x6 < (S.1 178) then
    za S 90 1100 x6 fun v1 =>
    zI (zc R d 216 [.inl x5, .inl v1] S) fun v3 S2 =>
    zs S2 89 240000 ((x1 + (x3 * x2)) + x6) v3 fun S4 =>
    zG (inI (x6 + 1)) <|
    zlet (x6 + 1) fun x6_5 =>
    R d 757 [.inl x1, .inl x2, .inl x3, .inl x4, .inl x5, .inl x6_5] S4
  else
  zlet (1 : Int) fun x6_6 =>
  R d 808 [.inl x1, .inl x2, .inl x3, .inl x4, .inl x6_6] S
def zb_narrowed_p130 (R : ZC ZS) (d : Nat) (x1 : Int) (x2 : Int) (x3 : Int) (x4 : Int) (x5 : Int) (x6 : Int) (x7 : Int) (x9 : Int) (x10 : Int) (S : ZS) : ZR ZS :=
  if x10 < (S.1 176) then
    za S 89 240000 (x7 + x10) fun v1 =>
    zs S 89 240000 (((x9 + x2) + x10) - 1) v1 fun S2 =>
    zG (inI (x10 + 1)) <|
    zlet (x10 + 1) fun x10_3 =>
    R d 758 [.inl x1, .inl x2, .inl x3, .inl x4, .inl x5, .inl x6, .inl x7, .inl x9, .inl x10_3] S2
  else
  zG (inI (x4 + 1)) <|
  zlet (x4 + 1) fun x4_4 =>
  zG (inI (x6 + 1)) <|
  zlet (x6 + 1) fun x6_5 =>
  R d 501 [.inl x1, .inl x2, .inl x3, .inl x4_4, .inl x5, .inl x6_5] S
def zb_runAll_p73 (R : ZC ZS) (d : Nat)  (S : ZS) : ZR ZS :=
  if (S.1 184) = 2 then
    zV (zc R d 308 [] S) fun S1 =>
    R d 509 [] S1
  else
  R d 509 [] S
def zb_areEqual_p149 (R : ZC ZS) (d : Nat) (x5 : Int) (x6 : Int) (x8 : Int) (x10 : Int) (S : ZS) : ZR ZS :=
  if x10 = 2 then
    zI (zc R d 277 [.inr (.inl x6), .inr (.inl x8)] S) fun v2 S1 =>
    if v2 = 0 then
      R d 809 [.inl x5] S1
    else
    zrZ 0 S1
  else
  if x6 = x8 then
    R d 809 [.inl x5] S
  else
  zrZ 0 S
def zb_areEqual_p226 (R : ZC ZS) (d : Nat) (x5 : Int) (S : ZS) : ZR ZS :=
  zlet (S.2.1 222) fun x6_1 =>
  zlet (S.2.1 223) fun x8_2 =>
  R d 529 [.inl x5, .inr (.inl x6_1), .inr (.inl x8_2)] S
def zb_digitsOf_p87 (R : ZC ZS) (d : Nat) (x3 : Int) (x6 : Int) (x8 : Int) (S : ZS) : ZR ZS :=
  if x6 ≤ 0 then
    zrL x8 S
  else
  zG (x6 ≠ 0) <|
  zV (zc R d 38 [.inl (zl2i (48 + ((zdivL x3 x6) - ((zdivL (zdivL x3 x6) 10) * 10))))] S) fun S2 =>
  zlet (zdivL x6 10) fun x6_3 =>
  R d 762 [.inr (.inl x3), .inr (.inl x6_3), .inr (.inl x8)] S2
def zb_body_p113 (R : ZC ZS) (d : Nat) (x2 : Int) (x4 : Int) (S : ZS) : ZR ZS :=
  if x4 = 0 then
    za S 16 84000 x2 fun v1 =>
    zlet v1 fun x2_2 =>
    R d 541 [.inl x2_2] S
  else
  za S 14 84000 x2 fun v3 =>
  zV (zc R d 246 [.inl v3, .inl 1] S) fun S4 =>
  zrV S4
def zb_rowOf_p112 (R : ZC ZS) (d : Nat) (x3 : Int) (x4 : Int) (x5 : Int) (x6 : Int) (x7 : Int) (S : ZS) : ZR ZS :=
  zaL S 99 215000 ((S.1 205) + x5) fun v1 =>
  zsL S 91 121000 ((x4 + 1) + x7) v1 fun S2 =>
  zG (inI (x5 + 1)) <|
  zlet (x5 + 1) fun x5_3 =>
  za S2 16 84000 x6 fun v4 =>
  zlet v4 fun x6_5 =>
  R d 686 [.inl x3, .inl x4, .inl x5_3, .inl x6_5] S2
def zb_rowOf_p75 (R : ZC ZS) (d : Nat) (x3 : Int) (x4 : Int) (x5 : Int) (x6 : Int) (x7 : Int) (S : ZS) : ZR ZS :=
  zaL S 91 121000 x4 fun v1 =>
  za S 94 9000 (zl2i v1) fun v2 =>
  za S 96 24000 (v2 + x7) fun v3 =>
  za S 12 84000 x6 fun v4 =>
  if v3 = v4 then
    R d 764 [.inl x3, .inl x4, .inl x5, .inl x6, .inl x7] S
  else
  zG (inI (x7 + 1)) <|
  zlet (x7 + 1) fun x7_5 =>
  R d 765 [.inl x3, .inl x4, .inl x5, .inl x6, .inl x7_5] S
def zb_shapeOf_p104 (R : ZC ZS) (d : Nat) (x1 : Int) (x2 : Int) (x3 : Int) (x4 : Int) (S : ZS) : ZR ZS :=
  za S 12 84000 x3 fun v1 =>
  zs S 96 24000 x4 v1 fun S2 =>
  zG (inI (x2 + 1)) <|
  zlet (x2 + 1) fun x2_3 =>
  za S2 16 84000 x3 fun v4 =>
  zlet v4 fun x3_5 =>
  R d 549 [.inl x1, .inl x2_3, .inl x3_5] S2
def zb_keepBound_p273 (R : ZC ZS) (d : Nat) (x2 : Int) (x4 : Int) (S : ZS) : ZR ZS :=
  za S 115 16 1 fun v1 =>
  if x4 = v1 then
    za S 115 16 1 fun v2 =>
    zp S 102 v2 fun S3 =>
    za S3 115 16 4 fun v4 =>
    zlet v4 fun x3_5 =>
    zG (inI (x2 - 1)) <|
    zlet (x2 - 1) fun x4_6 =>
    R d 810 [.inl x3_5, .inl x4_6] S3
  else
  zs S 116 4000 x2 x4 fun S7 =>
  zG (inI (x2 + 1)) <|
  zlet (x2 + 1) fun x2_8 =>
  za S7 55 2200 x4 fun v9 =>
  zlet v9 fun x4_10 =>
  R d 767 [.inl x2_8, .inl x4_10] S7
def zb_keepBound_p96 (R : ZC ZS) (d : Nat) (x1 : Int) (x2 : Int) (x3 : Int) (S : ZS) : ZR ZS :=
  za S 117 4000 x2 fun v1 =>
  zs S 46 4000 x3 v1 fun S2 =>
  zG (inI (x2 + 1)) <|
  zlet (x2 + 1) fun x2_3 =>
  za S2 50 4000 x3 fun v4 =>
  zlet v4 fun x3_5 =>
  R d 554 [.inl x1, .inl x2_3, .inl x3_5] S2
def zb_keepInfix_p69 (R : ZC ZS) (d : Nat) (x1 : Int) (x2 : Int) (x3 : Int) (S : ZS) : ZR ZS :=
  if x3 = 0 then
    zs S 116 4000 x1 x2 fun S1 =>
    zG (inI (x1 + 1)) <|
    zlet (x1 + 1) fun x1_2 =>
    za S1 18 23500 x2 fun v3 =>
    zlet v3 fun x2_4 =>
    R d 555 [.inl x1_2, .inl x2_4] S1
  else
  za S 18 23500 x2 fun v5 =>
  zlet v5 fun x2_6 =>
  R d 555 [.inl x1, .inl x2_6] S
def zb_keepTypes_p98 (R : ZC ZS) (d : Nat) (x2 : Int) (x3 : Int) (x4 : Int) (x5 : Int) (x6 : Int) (x7 : Int) (S : ZS) : ZR ZS :=
  if x7 < x6 then
    za S 42 158000 (x5 + x7) fun v1 =>
    zs S 42 158000 (x2 + x7) v1 fun S2 =>
    zG (inI (x7 + 1)) <|
    zlet (x7 + 1) fun x7_3 =>
    R d 770 [.inl x2, .inl x3, .inl x4, .inl x5, .inl x6, .inl x7_3] S2
  else
  zG (inI ((-2) - x2)) <|
  zs S 53 2200 x4 ((-2) - x2) fun S4 =>
  zG (inI (x2 + x6)) <|
  zlet (x2 + x6) fun x2_5 =>
  zG (inI (x3 + (-1))) <|
  zlet (x3 + (-1)) fun x3_6 =>
  R d 693 [.inl x2_5, .inl x3_6] S4
def zb_noteLines_p116 (R : ZC ZS) (d : Nat) (x1 : Int) (x2 : Int) (y0 : Int) (y1 : Int) (S : ZS) : ZR ZS :=
  zs S 109 1100 y1 y0 fun S1 =>
  za S1 46 4000 x2 fun v2 =>
  zs S1 110 1100 x1 v2 fun S3 =>
  zG (inI (x1 + 1)) <|
  zlet (x1 + 1) fun x1_4 =>
  R d 558 [.inl x1_4] S3
def zb_sayInt_p50 (R : ZC ZS) (d : Nat) (x3 : Int) (x5 : Int) (S : ZS) : ZR ZS :=
  if x5 ≤ 0 then
    zrV S
  else
  zG (x5 ≠ 0) <|
  zV (zc R d 318 [.inl (zl2i (48 + ((zdivL x3 x5) - ((zdivL (zdivL x3 x5) 10) * 10))))] S) fun S2 =>
  zlet (zdivL x5 10) fun x5_3 =>
  R d 772 [.inr (.inl x3), .inr (.inl x5_3)] S2
def zb_sayRow_p102 (R : ZC ZS) (d : Nat) (x1 : Int) (x3 : Int) (x4 : Int) (x5 : Int) (x6 : Int) (S : ZS) : ZR ZS :=
  if x5 = 0 then
    zI (zc R d 262 [.inr (.inl x1), .inl x6] S) fun v2 S1 =>
    zV (zc R d 323 [.inl v2] S1) fun S3 =>
    zV (zc R d 318 [.inl 61] S3) fun S4 =>
    R d 811 [.inr (.inl x1), .inl x3, .inl x4, .inl x5, .inl x6] S4
  else
  R d 811 [.inr (.inl x1), .inl x3, .inl x4, .inl x5, .inl x6] S
def zb_sayType_p93 (R : ZC ZS) (d : Nat) (x2 : Int) (x3 : Int) (x4 : Int) (x5 : Int) (S : ZS) : ZR ZS :=
  if x5 = 0 then
    R d 775 [.inl x3, .inl x4, .inl x5, .inl 0] S
  else
  if x2 ≤ 1 then
    R d 775 [.inl x3, .inl x4, .inl x5, .inl 0] S
  else
  R d 775 [.inl x3, .inl x4, .inl x5, .inl 1] S
def zb_sayType_p108 (R : ZC ZS) (d : Nat) (x3 : Int) (x4 : Int) (x5 : Int) (y0 : Int) (S : ZS) : ZR ZS :=
  zlet y0 fun x6_1 =>
  if x6_1 = 0 then
    R d 812 [.inl x3, .inl x4, .inl x5, .inl x6_1] S
  else
  zV (zc R d 318 [.inl 40] S) fun S2 =>
  R d 812 [.inl x3, .inl x4, .inl x5, .inl x6_1] S2
def zb_sayVariable_p54 (R : ZC ZS) (d : Nat) (x1 : Int) (x2 : Int) (S : ZS) : ZR ZS :=
  if (S.1 230) = (-1) then
    za S 24 57000 x1 fun v1 =>
    if (zandI v1 1) = 0 then
      zV (zc R d 559 [.inr (.inr (some 222))] S) fun S2 =>
      if x2 ≤ 25 then
        R d 813 [.inl x2] S2
      else
      zG (inI (96 + (zdivI x2 26))) <|
      zV (zc R d 318 [.inl (96 + (zdivI x2 26))] S2) fun S3 =>
      R d 813 [.inl x2] S3
    else
    zV (zc R d 559 [.inr (.inr (some 221))] S) fun S4 =>
    if x2 ≤ 25 then
      R d 813 [.inl x2] S4
    else
    zG (inI (96 + (zdivI x2 26))) <|
    zV (zc R d 318 [.inl (96 + (zdivI x2 26))] S4) fun S5 =>
    R d 813 [.inl x2] S5
  else
  zlet (S.1 230) fun x3_6 =>
  zlet (0 : Int) fun x4_7 =>
  R d 814 [.inl x2, .inl x3_6, .inl x4_7] S
def zb_sayRowType_p128 (R : ZC ZS) (d : Nat) (x1 : Int) (x2 : Int) (x3 : Int) (x5 : Int) (y0 : Int) (S : ZS) : ZR ZS :=
  zlet y0 fun x4_1 =>
  if x4_1 = 0 then
    R d 572 [.inl x1, .inl x2, .inl x3, .inl x4_1] S
  else
  if x3 = 0 then
    zV (zc R d 318 [.inl 44] S) fun S2 =>
    R d 815 [.inl x1, .inl x4_1, .inl x5] S2
  else
  R d 815 [.inl x1, .inl x4_1, .inl x5] S
def zb_sayRowType_p76 (R : ZC ZS) (d : Nat) (x1 : Int) (x2 : Int) (x3 : Int) (x5 : Int) (x6 : Int) (x7 : Int) (S : ZS) : ZR ZS :=
  if x5 = (-1) then
    R d 816 [.inl x1, .inl x2, .inl x3, .inl x6] S
  else
  za S 29 106000 x5 fun v1 =>
  zI (zc R d 306 [.inl x7, .inl v1] S) fun v3 S2 =>
  if v3 = 0 then
    za S2 31 106000 x6 fun v4 =>
    zlet v4 fun x6_5 =>
    R d 703 [.inl x1, .inl x2, .inl x3, .inl x5, .inl x6_5] S2
  else
  R d 816 [.inl x1, .inl x2, .inl x3, .inl x6] S2
def zb_sayMadeType_p71 (R : ZC ZS) (d : Nat) (x1 : Int) (x2 : Int) (x3 : Int) (S : ZS) : ZR ZS :=
  za S 30 106000 x3 fun v1 =>
  zV (zc R d 330 [.inl v1, .inl 0] S) fun S2 =>
  za S2 31 106000 x3 fun v3 =>
  zlet v3 fun x3_4 =>
  R d 704 [.inl x1, .inl x2, .inl x3_4] S2
def zb_sayVars_p55 (R : ZC ZS) (d : Nat) (x1 : Int) (x2 : Int) (x3 : Int) (S : ZS) : ZR ZS :=
  za S 12 84000 x3 fun v1 =>
  zV (zc R d 321 [.inl v1] S) fun S2 =>
  za S2 16 84000 x3 fun v3 =>
  zlet v3 fun x3_4 =>
  R d 705 [.inl x1, .inl x2, .inl x3_4] S2
def zb_sign0_p304 (R : ZC ZS) (d : Nat) (y0 : Int) (y1 : Int) (y2 : Int) (y3 : Int) (S : ZS) : ZR ZS :=
  zG (inI ((y2 + (y1 * y0)) + 1)) <|
  zs S 42 158000 y3 ((y2 + (y1 * y0)) + 1) fun S1 =>
  zG (inI ((S1.1 83) + 1)) <|
  zp S1 83 ((S1.1 83) + 1) fun S2 =>
  zrV S2
def zb_gaps_p174 (R : ZC ZS) (d : Nat) (x1 : Int) (x2 : Int) (S : ZS) : ZR ZS :=
  zG (inI ((S.1 27) + 1)) <|
  zp S 27 ((S.1 27) + 1) fun S1 =>
  R d 358 [.inl x1, .inl x2] S1
def zb_nameAt_text_p193 (R : ZC ZS) (d : Nat) (x2 : Int) (x3 : Int) (x5 : Int) (S : ZS) : ZR ZS :=
  if x5 < x3 then
    za S 2 8000 (x2 + x5) fun v1 =>
    zs S 3 44000 ((S.1 12) + x5) v1 fun S2 =>
    zG (inI (x5 + 1)) <|
    zlet (x5 + 1) fun x5_3 =>
    R d 783 [.inl x2, .inl x3, .inl x5_3] S2
  else
  zG (inI ((S.1 12) + x3)) <|
  zp S 12 ((S.1 12) + x3) fun S4 =>
  zG (inI ((S4.1 13) + 1)) <|
  zp S4 13 ((S4.1 13) + 1) fun S5 =>
  zG (inI ((S5.1 13) - 1)) <|
  zrI ((S5.1 13) - 1) S5
def zb_nameAt_text_p72 (R : ZC ZS) (d : Nat) (x2 : Int) (x3 : Int) (x4 : Int) (x5 : Int) (x6 : Int) (x7 : Int) (S : ZS) : ZR ZS :=
  if x7 < x3 then
    if x6 = 0 then
      R d 817 [.inl x2, .inl x3, .inl x4, .inl x5, .inl x6] S
    else
    za S 4 15000 x5 fun v1 =>
    za S 3 44000 (v1 + x7) fun v2 =>
    za S 2 8000 (x2 + x7) fun v3 =>
    if v2 = v3 then
      zlet (1 : Int) fun x6_4 =>
      zG (inI (x7 + 1)) <|
      zlet (x7 + 1) fun x7_5 =>
      R d 784 [.inl x2, .inl x3, .inl x4, .inl x5, .inl x6_4, .inl x7_5] S
    else
    zlet (0 : Int) fun x6_6 =>
    zG (inI (x7 + 1)) <|
    zlet (x7 + 1) fun x7_7 =>
    R d 784 [.inl x2, .inl x3, .inl x4, .inl x5, .inl x6_6, .inl x7_7] S
  else
  R d 817 [.inl x2, .inl x3, .inl x4, .inl x5, .inl x6] S
def zb_readInt_p121 (R : ZC ZS) (d : Nat) (x1 : Int) (y0 : Int) (S : ZS) : ZR ZS :=
  zp S 24 (zl2i y0) fun S1 =>
  if x1 = 0 then
    zp S1 26 0 fun S2 =>
    zp S2 22 3 fun S3 =>
    zrV S3
  else
  zp S1 26 1 fun S4 =>
  zp S4 22 3 fun S5 =>
  zrV S5
def zb_readString_p180 (R : ZC ZS) (d : Nat) (x1 : Int) (y0 : Int) (S : ZS) : ZR ZS :=
  zp S 22 y0 fun S1 =>
  if x1 = 0 then
    zp S1 24 0 fun S2 =>
    zrV S2
  else
  za S1 9 184000 ((S1.1 25) + 1) fun v3 =>
  zp S1 24 (zandI v3 255) fun S4 =>
  zrV S4
def zb_infixed_p105 (R : ZC ZS) (d : Nat) (x1 : Int) (x2 : Int) (x3 : Int) (x5 : Int) (S : ZS) : ZR ZS :=
  zI (zc R d 62 [.inl x5] S) fun v2 S1 =>
  zI (zc R d 62 [.inl x3] S1) fun v4 S3 =>
  if v2 ≤ v4 then
    zI (zc R d 62 [.inl x5] S3) fun v6 S5 =>
    zI (zc R d 62 [.inl x3] S5) fun v8 S7 =>
    if v6 = v8 then
      zI (zc R d 94 [.inl x3] S7) fun v10 S9 =>
      if v10 = 0 then
        R d 818 [.inl x1, .inl x2, .inl x3, .inl 1] S9
      else
      R d 818 [.inl x1, .inl x2, .inl x3, .inl 0] S9
    else
    R d 818 [.inl x1, .inl x2, .inl x3, .inl 0] S7
  else
  R d 818 [.inl x1, .inl x2, .inl x3, .inl 1] S3
def zb_clause_p208 (R : ZC ZS) (d : Nat) (x1 : Int) (x4 : Int) (x5 : Int) (x6 : Int) (y0 : Int) (S : ZS) : ZR ZS :=
  zlet y0 fun x7_1 =>
  zV (zc R d 50 [.inl 40] S) fun S2 =>
  zI (zc R d 82 [] S2) fun v4 S3 =>
  zlet v4 fun x8_5 =>
  zI (zc R d 52 [.inl 0, .inl x5, .inl 0, .inl x7_1, .inl 0, .inl 0] S3) fun v7 S6 =>
  zlet v7 fun x9_8 =>
  zI (zc R d 52 [.inl 80, .inl x1, .inl x4, .inl x6, .inl x8_5, .inl x9_8] S6) fun v10 S9 =>
  zrI v10 S9
def zb_clause_p107 (R : ZC ZS) (d : Nat) (x1 : Int) (x4 : Int) (x5 : Int) (x6 : Int) (x7 : Int) (S : ZS) : ZR ZS :=
  zI (zc R d 78 [] S) fun v2 S1 =>
  if v2 = 0 then
    R d 716 [.inl x1, .inl x4, .inl x5, .inl x6] S1
  else
  zI (zc R d 63 [] S1) fun v4 S3 =>
  zs S3 16 84000 x7 v4 fun S5 =>
  za S5 16 84000 x7 fun v6 =>
  zlet v6 fun x7_7 =>
  R d 789 [.inl x1, .inl x4, .inl x5, .inl x6, .inl x7_7] S5
def zb_constructors_p92 (R : ZC ZS) (d : Nat) (x1 : Int) (x7 : Int) (S : ZS) : ZR ZS :=
  zlet x7 fun x2_1 =>
  zI (zc R d 53 [.inl 39] S) fun v3 S2 =>
  zlet v3 fun x3_4 =>
  R d 409 [.inl x1, .inl x2_1, .inl x3_4] S2
def zb_readSign_p200 (R : ZC ZS) (d : Nat) (x1 : Int) (x2 : Int) (x3 : Int) (x4 : Int) (x5 : Int) (x6 : Int) (x7 : Int) (x8 : Int) (S : ZS) : ZR ZS :=
  zI (zc R d 128 [.inl x1] S) fun v2 S1 =>
  zI (zc R d 11 [.inl x8, .inl v2, .inl (-1)] S1) fun v4 S3 =>
  zlet v4 fun x9_5 =>
  if x5 = (-1) then
    zlet x9_5 fun x5_6 =>
    zlet x9_5 fun x6_7 =>
    zG (inI (x7 + 1)) <|
    zlet (x7 + 1) fun x7_8 =>
    R d 721 [.inl x1, .inl x2, .inl x3, .inl x4, .inl x5_6, .inl x6_7, .inl x7_8] S3
  else
  zs S3 31 106000 x6 x9_5 fun S9 =>
  zlet x9_5 fun x6_10 =>
  zG (inI (x7 + 1)) <|
  zlet (x7 + 1) fun x7_11 =>
  R d 721 [.inl x1, .inl x2, .inl x3, .inl x4, .inl x5, .inl x6_10, .inl x7_11] S9
def zb_readSign_p256 (R : ZC ZS) (d : Nat) (x2 : Int) (x3 : Int) (x5 : Int) (y0 : Int) (S : ZS) : ZR ZS :=
  if x3 = 0 then
    zI (zc R d 4 [.inl y0, .inl (zshrI x2 2), .inl x5, .inl 0, .inl 0] S) fun v2 S1 =>
    zrI v2 S1
  else
  zI (zc R d 4 [.inl y0, .inl 0, .inl x5, .inl 0, .inl 0] S) fun v4 S3 =>
  zrI v4 S3
def zb_copied_p137 (R : ZC ZS) (d : Nat) (x1 : Int) (x3 : Int) (x5 : Int) (x6 : Int) (S : ZS) : ZR ZS :=
  zlet x6 fun x4_1 =>
  za S 31 106000 x5 fun v2 =>
  zlet v2 fun x5_3 =>
  R d 722 [.inl x1, .inl x3, .inl x4_1, .inl x5_3] S
def zb_merge_p94 (R : ZC ZS) (d : Nat) (x3 : Int) (y0 : Int) (S : ZS) : ZR ZS :=
  zlet y0 fun x4_1 =>
  za S 24 57000 x3 fun v2 =>
  if (zandI v2 2) = 0 then
    zV (zc R d 140 [.inl x3, .inl x4_1] S) fun S3 =>
    zrZ 1 S3
  else
  zI (zc R d 141 [.inl x4_1] S) fun v5 S4 =>
  if v5 = 0 then
    zrZ 0 S4
  else
  zV (zc R d 140 [.inl x3, .inl x4_1] S4) fun S6 =>
  zrZ 1 S6
def zb_mergeRows_p213 (R : ZC ZS) (d : Nat) (x2 : Int) (x3 : Int) (x4 : Int) (y0 : Int) (y1 : Int) (S : ZS) : ZR ZS :=
  zs S 25 57000 y1 y0 fun S1 =>
  if x3 = 0 then
    R d 819 [.inl x2] S1
  else
  if x4 = 0 then
    R d 819 [.inl x2] S1
  else
  zrZ 1 S1
def zb_allFields_p54 (R : ZC ZS) (d : Nat) (x3 : Int) (x4 : Int) (x5 : Int) (x6 : Int) (x7 : Int) (S : ZS) : ZR ZS :=
  if x6 = (-1) then
    R d 820 [.inl x3, .inl x4, .inl x5, .inl x6, .inl x7] S
  else
  za S 29 106000 x6 fun v1 =>
  za S 29 106000 x7 fun v2 =>
  if v1 < v2 then
    zlet x6 fun x5_3 =>
    za S 31 106000 x6 fun v4 =>
    zlet v4 fun x6_5 =>
    R d 796 [.inl x3, .inl x4, .inl x5_3, .inl x6_5, .inl x7] S
  else
  R d 820 [.inl x3, .inl x4, .inl x5, .inl x6, .inl x7] S
def zb_through_p210 (R : ZC ZS) (d : Nat) (x5 : Int) (S : ZS) : ZR ZS :=
  if x5 < (S.1 134) then
    za S 83 3000 x5 fun v1 =>
    if v1 = 0 then
      za S 66 3000 x5 fun v2 =>
      zV (zc R d 188 [.inl v2] S) fun S3 =>
      zG (inI (x5 + 1)) <|
      zlet (x5 + 1) fun x5_4 =>
      R d 797 [.inl x5_4] S3
    else
    zG (inI (x5 + 1)) <|
    zlet (x5 + 1) fun x5_5 =>
    R d 797 [.inl x5_5] S
  else
  zrV S
def zb_markRim_p106 (R : ZC ZS) (d : Nat) (x3 : Int) (S : ZS) : ZR ZS :=
  if x3 < (S.1 66) then
    za S 23 57000 x3 fun v1 =>
    if v1 = 3 then
      za S 24 57000 x3 fun v2 =>
      if (zandI v2 8) = 0 then
        zG (inI (x3 + 1)) <|
        zlet (x3 + 1) fun x3_3 =>
        R d 798 [.inl x3_3] S
      else
      za S 26 57000 x3 fun v4 =>
      zlet v4 fun x4_5 =>
      R d 821 [.inl x3, .inl x4_5] S
    else
    zG (inI (x3 + 1)) <|
    zlet (x3 + 1) fun x3_6 =>
    R d 798 [.inl x3_6] S
  else
  zrV S
def zb_judgedClause_p293 (R : ZC ZS) (d : Nat) (x2 : Int) (x5 : Int) (x8 : Int) (x13 : Int) (S : ZS) : ZR ZS :=
  zlet x5 fun x14_1 =>
  if x14_1 = (-1) then
    zlet x13 fun x14_2 =>
    zp S 95 x8 fun S3 =>
    zrI x14_2 S3
  else
  za S 14 84000 x2 fun v4 =>
  za S 11 4200 (v4 - (S.1 41)) fun v5 =>
  zV (zc R d 136 [.inl x13, .inl x14_1, .inl v5] S) fun S6 =>
  zp S6 95 x8 fun S7 =>
  zrI x14_1 S7
def zb_listed_p171 (R : ZC ZS) (d : Nat) (x2 : Int) (x4 : Int) (x5 : Int) (x7 : Int) (S : ZS) : ZR ZS :=
  zlet x7 fun x3_1 =>
  zG (inI (x4 + 1)) <|
  zlet (x4 + 1) fun x4_2 =>
  za S 16 84000 x5 fun v3 =>
  zlet v3 fun x5_4 =>
  R d 480 [.inl x2, .inl x3_1, .inl x4_2, .inl x5_4] S
def zb_judgedData_p306 (R : ZC ZS) (d : Nat) (x1 : Int) (x2 : Int) (x3 : Int) (x4 : Int) (x6 : Int) (x7 : Int) (S : ZS) : ZR ZS :=
  if x7 = 0 then
    zp S 125 x4 fun S1 =>
    zp S1 126 x3 fun S2 =>
    zp S2 127 x2 fun S3 =>
    za S3 13 84000 x1 fun v4 =>
    zlet v4 fun x8_5 =>
    R d 822 [.inl x8_5] S3
  else
  zlet (0 : Int) fun x7_6 =>
  zlet x6 fun x8_7 =>
  R d 823 [.inl x1, .inl x2, .inl x3, .inl x4, .inl x6, .inl x7_6, .inl x8_7] S
def zb_judgedCons_p228 (R : ZC ZS) (d : Nat) (x2 : Int) (x3 : Int) (x4 : Int) (x5 : Int) (x6 : Int) (x7 : Int) (x8 : Int) (x9 : Int) (S : ZS) : ZR ZS :=
  if x9 = (-1) then
    zI (zc R d 4 [.inl 2, .inl x3, .inl x7, .inl 0, .inl 0] S) fun v2 S1 =>
    zlet v2 fun x9_3 =>
    zlet (S1.1 106) fun x10_4 =>
    zG (inI ((S1.1 106) + 1)) <|
    zp S1 106 ((S1.1 106) + 1) fun S5 =>
    za S5 12 84000 x5 fun v6 =>
    zs S5 56 22000 x10_4 v6 fun S7 =>
    if x6 = (-1) then
      zG (inI (2 * x3)) <|
      R d 824 [.inl x2, .inl x3, .inl x4, .inl x5, .inl x6, .inl x9_3, .inl x10_4, .inl 0, .inl (2 * x3), .inl x10_4] S7
    else
    zG (inI (2 * x3)) <|
    R d 824 [.inl x2, .inl x3, .inl x4, .inl x5, .inl x6, .inl x9_3, .inl x10_4, .inl 1, .inl (2 * x3), .inl x10_4] S7
  else
  za S 29 106000 x9 fun v8 =>
  za S 30 106000 x9 fun v9 =>
  zI (zc R d 11 [.inl v8, .inl v9, .inl (-1)] S) fun v11 S10 =>
  zlet v11 fun x10_12 =>
  if x7 = (-1) then
    zlet x10_12 fun x7_13 =>
    R d 825 [.inl x2, .inl x3, .inl x4, .inl x5, .inl x6, .inl x7_13, .inl x9, .inl x10_12] S10
  else
  zs S10 31 106000 x8 x10_12 fun S14 =>
  R d 825 [.inl x2, .inl x3, .inl x4, .inl x5, .inl x6, .inl x7, .inl x9, .inl x10_12] S14
def zb_admits_p135 (R : ZC ZS) (d : Nat) (x3 : Int) (x5 : Int) (S : ZS) : ZR ZS :=
  if x5 = (-1) then
    R d 483 [.inl x3] S
  else
  za S 30 106000 x5 fun v1 =>
  zI (zc R d 8 [.inl v1] S) fun v3 S2 =>
  zlet v3 fun x6_4 =>
  za S2 27 57000 x6_4 fun v5 =>
  if v5 = (S2.1 68) then
    za S2 31 106000 x5 fun v6 =>
    zlet v6 fun x5_7 =>
    R d 803 [.inl x3, .inl x5_7] S2
  else
  zs S2 27 57000 x6_4 (S2.1 68) fun S8 =>
  zs S8 40 57000 x3 x6_4 fun S9 =>
  zG (inI (x3 + 1)) <|
  zlet (x3 + 1) fun x3_10 =>
  za S9 31 106000 x5 fun v11 =>
  zlet v11 fun x5_12 =>
  R d 803 [.inl x3_10, .inl x5_12] S9
def zb_judgedException_p195 (R : ZC ZS) (d : Nat) (x1 : Int) (x4 : Int) (y0 : Int) (y1 : Int) (y2 : Int) (S : ZS) : ZR ZS :=
  za S 14 84000 x1 fun v1 =>
  za S 15 84000 x1 fun v2 =>
  zI (zc R d 12 [.inl y2, .inl y1, .inl y0, .inl x4, .inl v1, .inl v2] S) fun v4 S3 =>
  zlet v4 fun x5_5 =>
  zV (zc R d 190 [.inl 3, .inl x5_5] S3) fun S6 =>
  zrV S6
def zb_linked_vBefore_p10 (R : ZC ZS) (d : Nat) (x1 : Int) (x2 : Int) (x3 : Int) (x4 : Int) (S : ZS) : ZR ZS :=
  za S 50 4000 x4 fun v1 =>
  if v1 = x2 then
    zs S 50 4000 x4 x3 fun S2 =>
    zrI x1 S2
  else
  za S 50 4000 x4 fun v3 =>
  zlet v3 fun x4_4 =>
  R d 805 [.inl x1, .inl x2, .inl x3, .inl x4_4] S
def zb_linked_tBefore_p10 (R : ZC ZS) (d : Nat) (x1 : Int) (x2 : Int) (x3 : Int) (x4 : Int) (S : ZS) : ZR ZS :=
  za S 55 2200 x4 fun v1 =>
  if v1 = x2 then
    zs S 55 2200 x4 x3 fun S2 =>
    zrI x1 S2
  else
  za S 55 2200 x4 fun v3 =>
  zlet v3 fun x4_4 =>
  R d 806 [.inl x1, .inl x2, .inl x3, .inl x4_4] S
def zb_noteAll_p372 (R : ZC ZS) (d : Nat) (x1 : Int) (x2 : Int) (x3 : Int) (y0 : Int) (S : ZS) : ZR ZS :=
  if x3 = 2 then
    za S 13 84000 x2 fun v1 =>
    za S 11 4200 (v1 - (S.1 41)) fun v2 =>
    zV (zc R d 231 [.inl y0, .inl v2] S) fun S3 =>
    zG (inI (x1 + 1)) <|
    zlet (x1 + 1) fun x1_4 =>
    R d 488 [.inl x1_4] S3
  else
  if x3 = 3 then
    za S 11 4200 (x2 - (S.1 41)) fun v5 =>
    zV (zc R d 231 [.inl y0, .inl v5] S) fun S6 =>
    zG (inI (x1 + 1)) <|
    zlet (x1 + 1) fun x1_7 =>
    R d 488 [.inl x1_7] S6
  else
  za S 15 84000 x2 fun v8 =>
  zV (zc R d 231 [.inl y0, .inl v8] S) fun S9 =>
  zG (inI (x1 + 1)) <|
  zlet (x1 + 1) fun x1_10 =>
  R d 488 [.inl x1_10] S9
def zb_rowStep_p145 (R : ZC ZS) (d : Nat) (x1 : Int) (x2 : Int) (x3 : Int) (x4 : Int) (x6 : Int) (S : ZS) : ZR ZS :=
  if x6 < (S.1 176) then
    za S 89 240000 (x4 + x6) fun v1 =>
    zs S 89 240000 ((((x1 + (x3 * x2)) + (S.1 178)) + x6) - 1) v1 fun S2 =>
    zG (inI (x6 + 1)) <|
    zlet (x6 + 1) fun x6_3 =>
    R d 808 [.inl x1, .inl x2, .inl x3, .inl x4, .inl x6_3] S2
  else
  zG (inI (x3 + 1)) <|
  zlet (x3 + 1) fun x3_4 =>
  R d 669 [.inl x1, .inl x2, .inl x3_4] S
def zb_areEqual_p182 (R : ZC ZS) (d : Nat) (x5 : Int) (S : ZS) : ZR ZS :=
  if x5 = 0 then
    zrZ 1 S
  else
  zG (inI (x5 + (-1))) <|
  zlet (x5 + (-1)) fun x5_1 =>
  zaL S 104 41000 x5_1 fun v2 =>
  zaL S 104 41000 x5_1 fun v3 =>
  za S 105 41000 x5_1 fun v4 =>
  zI (zc R d 276 [.inl (zl2i (zushrL v2 32)), .inl (zl2i v3), .inl v4, .inl x5_1] S) fun v6 S5 =>
  zlet v6 fun x5_7 =>
  R d 761 [.inl x5_7] S5
def zb_keepBound_p329 (R : ZC ZS) (d : Nat) (x3 : Int) (x4 : Int) (S : ZS) : ZR ZS :=
  if x4 < 0 then
    zp S 101 x3 fun S1 =>
    zrV S1
  else
  za S 116 4000 x4 fun v2 =>
  zlet v2 fun x5_3 =>
  za S 51 2200 x5_3 fun v4 =>
  zs S 51 2200 x3 v4 fun S5 =>
  za S5 52 2200 x5_3 fun v6 =>
  zs S5 52 2200 x3 v6 fun S7 =>
  za S7 53 2200 x5_3 fun v8 =>
  zs S7 53 2200 x3 v8 fun S9 =>
  za S9 54 2200 x5_3 fun v10 =>
  zs S9 54 2200 x3 v10 fun S11 =>
  zs S11 55 2200 x3 (S11.1 102) fun S12 =>
  zp S12 102 x3 fun S13 =>
  zG (inI (x3 + 1)) <|
  zlet (x3 + 1) fun x3_14 =>
  zG (inI (x4 + (-1))) <|
  zlet (x4 + (-1)) fun x4_15 =>
  R d 810 [.inl x3_14, .inl x4_15] S13
def zb_sayRow_p124 (R : ZC ZS) (d : Nat) (x1 : Int) (x3 : Int) (x4 : Int) (x5 : Int) (x6 : Int) (S : ZS) : ZR ZS :=
  zJ (zc R d 263 [.inr (.inl x1), .inl x6] S) fun v2 S1 =>
  zG (inI (x3 + 1)) <|
  zV (zc R d 316 [.inr (.inl v2), .inl (x3 + 1)] S1) fun S3 =>
  zG (inI (x6 + 1)) <|
  zlet (x6 + 1) fun x6_4 =>
  R d 697 [.inr (.inl x1), .inl x3, .inl x4, .inl x5, .inl x6_4] S3
def zb_sayType_p121 (R : ZC ZS) (d : Nat) (x3 : Int) (x4 : Int) (x5 : Int) (x6 : Int) (S : ZS) : ZR ZS :=
  if x4 = 0 then
    if x5 = 0 then
      za S 23 57000 x3 fun v1 =>
      if v1 = 3 then
        zV (zc R d 333 [.inl x3] S) fun S2 =>
        if x6 = 0 then
          zrV S2
        else
        zV (zc R d 318 [.inl 41] S2) fun S3 =>
        zrV S3
      else
      zV (zc R d 334 [.inl x3] S) fun S4 =>
      if x6 = 0 then
        zrV S4
      else
      zV (zc R d 318 [.inl 41] S4) fun S5 =>
      zrV S5
    else
    zlet (0 : Int) fun x7_6 =>
    za S 26 57000 x3 fun v7 =>
    zlet v7 fun x8_8 =>
    R d 826 [.inl x3, .inl x6, .inl x7_6, .inl x8_8] S
  else
  za S 26 57000 x3 fun v9 =>
  za S 30 106000 v9 fun v10 =>
  zV (zc R d 330 [.inl v10, .inl 1] S) fun S11 =>
  zV (zc R d 559 [.inr (.inr (some 223))] S11) fun S12 =>
  za S12 26 57000 x3 fun v13 =>
  za S12 31 106000 v13 fun v14 =>
  za S12 30 106000 v14 fun v15 =>
  zV (zc R d 330 [.inl v15, .inl 0] S12) fun S16 =>
  if x6 = 0 then
    zrV S16
  else
  zV (zc R d 318 [.inl 41] S16) fun S17 =>
  zrV S17
def zb_sayVariable_p141 (R : ZC ZS) (d : Nat) (x2 : Int) (S : ZS) : ZR ZS :=
  zG (inI (97 + (x2 - ((zdivI x2 26) * 26)))) <|
  zV (zc R d 318 [.inl (97 + (x2 - ((zdivI x2 26) * 26)))] S) fun S1 =>
  zrV S1
def zb_sayVariable_p70 (R : ZC ZS) (d : Nat) (x2 : Int) (x3 : Int) (x4 : Int) (S : ZS) : ZR ZS :=
  if x4 < x2 then
    za S 16 84000 x3 fun v1 =>
    zlet v1 fun x3_2 =>
    zG (inI (x4 + 1)) <|
    zlet (x4 + 1) fun x4_3 =>
    R d 814 [.inl x2, .inl x3_2, .inl x4_3] S
  else
  za S 12 84000 x3 fun v4 =>
  zV (zc R d 321 [.inl v4] S) fun S5 =>
  zrV S5
def zb_sayRowType_p148 (R : ZC ZS) (d : Nat) (x1 : Int) (x4 : Int) (x5 : Int) (S : ZS) : ZR ZS :=
  zlet (0 : Int) fun x3_1 =>
  za S 29 106000 x5 fun v2 =>
  zlet v2 fun x2_3 =>
  zV (zc R d 323 [.inl x2_3] S) fun S4 =>
  zV (zc R d 318 [.inl 58] S4) fun S5 =>
  za S5 30 106000 x5 fun v6 =>
  zV (zc R d 330 [.inl v6, .inl 0] S5) fun S7 =>
  R d 572 [.inl x1, .inl x2_3, .inl x3_1, .inl x4] S7
def zb_sayRowType_p101 (R : ZC ZS) (d : Nat) (x1 : Int) (x2 : Int) (x3 : Int) (x6 : Int) (S : ZS) : ZR ZS :=
  zlet x6 fun x5_1 =>
  za S 31 106000 x6 fun v2 =>
  zlet v2 fun x6_3 =>
  R d 703 [.inl x1, .inl x2, .inl x3, .inl x5_1, .inl x6_3] S
def zb_nameAt_text_p120 (R : ZC ZS) (d : Nat) (x2 : Int) (x3 : Int) (x4 : Int) (x5 : Int) (x6 : Int) (S : ZS) : ZR ZS :=
  if x6 = 0 then
    za S 6 15000 x5 fun v1 =>
    zlet v1 fun x5_2 =>
    R d 708 [.inl x2, .inl x3, .inl x4, .inl x5_2] S
  else
  zrI x5 S
def zb_infixed_p146 (R : ZC ZS) (d : Nat) (x1 : Int) (x2 : Int) (x3 : Int) (y0 : Int) (S : ZS) : ZR ZS :=
  zlet y0 fun x4_1 =>
  if x4_1 = 0 then
    R d 827 [.inl x1, .inl x2, .inl x3, .inl x4_1] S
  else
  zV (zc R d 95 [.inl x1] S) fun S2 =>
  R d 827 [.inl x1, .inl x2, .inl x3, .inl x4_1] S2
def zb_mergeRows_p223 (R : ZC ZS) (d : Nat) (x2 : Int) (S : ZS) : ZR ZS :=
  za S 24 57000 x2 fun v1 =>
  zs S 24 57000 x2 (zbyte (zandI v1 (-9))) fun S2 =>
  zrZ 1 S2
def zb_allFields_p93 (R : ZC ZS) (d : Nat) (x3 : Int) (x4 : Int) (x5 : Int) (x6 : Int) (x7 : Int) (S : ZS) : ZR ZS :=
  if x6 = (-1) then
    R d 828 [.inl x3, .inl x4, .inl x5, .inl x6, .inl x7] S
  else
  za S 29 106000 x6 fun v1 =>
  za S 29 106000 x7 fun v2 =>
  if v1 = v2 then
    if x3 = 0 then
      R d 829 [.inl x3, .inl x4, .inl x5, .inl x6, .inl x7, .inl x6] S
    else
    R d 829 [.inl x3, .inl x4, .inl x5, .inl x6, .inl x7, .inl x7] S
  else
  R d 828 [.inl x3, .inl x4, .inl x5, .inl x6, .inl x7] S
def zb_markRim_p147 (R : ZC ZS) (d : Nat) (x3 : Int) (x4 : Int) (S : ZS) : ZR ZS :=
  if x4 = (-1) then
    zG (inI (x3 + 1)) <|
    zlet (x3 + 1) fun x3_1 =>
    R d 798 [.inl x3_1] S
  else
  za S 30 106000 x4 fun v2 =>
  zV (zc R d 187 [.inl v2, .inl 4] S) fun S3 =>
  za S3 31 106000 x4 fun v4 =>
  zlet v4 fun x4_5 =>
  R d 821 [.inl x3, .inl x4_5] S3
def zb_judgedData_p429 (R : ZC ZS) (d : Nat) (x8 : Int) (S : ZS) : ZR ZS :=
  if x8 = (-1) then
    zrV S
  else
  zV (zc R d 190 [.inl 2, .inl x8] S) fun S1 =>
  za S1 16 84000 x8 fun v2 =>
  zlet v2 fun x8_3 =>
  R d 822 [.inl x8_3] S1
def zb_judgedData_p318 (R : ZC ZS) (d : Nat) (x1 : Int) (x2 : Int) (x3 : Int) (x4 : Int) (x6 : Int) (x7 : Int) (x8 : Int) (S : ZS) : ZR ZS :=
  if x8 < (S.1 106) then
    zI (zc R d 199 [.inl x8] S) fun v2 S1 =>
    za S1 36 7500 v2 fun v3 =>
    if v3 = 0 then
      zG (inI (x8 + 1)) <|
      zlet (x8 + 1) fun x8_4 =>
      R d 823 [.inl x1, .inl x2, .inl x3, .inl x4, .inl x6, .inl x7, .inl x8_4] S1
    else
    zI (zc R d 200 [.inl x8] S1) fun v6 S5 =>
    if v6 = 0 then
      zG (inI (x8 + 1)) <|
      zlet (x8 + 1) fun x8_7 =>
      R d 823 [.inl x1, .inl x2, .inl x3, .inl x4, .inl x6, .inl x7, .inl x8_7] S5
    else
    za S5 58 22000 x8 fun v8 =>
    zI (zc R d 8 [.inl v8] S5) fun v10 S9 =>
    za S9 26 57000 v10 fun v11 =>
    za S9 30 106000 v11 fun v12 =>
    zI (zc R d 201 [.inl v12] S9) fun v14 S13 =>
    if v14 = 0 then
      zI (zc R d 199 [.inl x8] S13) fun v16 S15 =>
      zs S15 36 7500 v16 0 fun S17 =>
      zlet (1 : Int) fun x7_18 =>
      zG (inI (x8 + 1)) <|
      zlet (x8 + 1) fun x8_19 =>
      R d 823 [.inl x1, .inl x2, .inl x3, .inl x4, .inl x6, .inl x7_18, .inl x8_19] S17
    else
    zG (inI (x8 + 1)) <|
    zlet (x8 + 1) fun x8_20 =>
    R d 823 [.inl x1, .inl x2, .inl x3, .inl x4, .inl x6, .inl x7, .inl x8_20] S13
  else
  R d 801 [.inl x1, .inl x2, .inl x3, .inl x4, .inl x6, .inl x7] S
def zb_judgedCons_p355 (R : ZC ZS) (d : Nat) (x2 : Int) (x3 : Int) (x4 : Int) (x5 : Int) (x6 : Int) (x9 : Int) (x10 : Int) (y0 : Int) (y1 : Int) (y2 : Int) (S : ZS) : ZR ZS :=
  zG (inI (y1 + y0)) <|
  zs S 57 22000 y2 (y1 + y0) fun S1 =>
  za S1 35 7500 x3 fun v2 =>
  zG (inI (v2 + 1)) <|
  zs S1 35 7500 x3 (v2 + 1) fun S3 =>
  if x6 = (-1) then
    R d 830 [.inl x2, .inl x3, .inl x4, .inl x5, .inl x10, .inl x9, .inl x10] S3
  else
  zI (zc R d 10 [.inl x6, .inl x9] S3) fun v5 S4 =>
  R d 830 [.inl x2, .inl x3, .inl x4, .inl x5, .inl x10, .inl v5, .inl x10] S4
def zb_judgedCons_p277 (R : ZC ZS) (d : Nat) (x2 : Int) (x3 : Int) (x4 : Int) (x5 : Int) (x6 : Int) (x7 : Int) (x9 : Int) (x10 : Int) (S : ZS) : ZR ZS :=
  zlet x10 fun x8_1 =>
  za S 31 106000 x9 fun v2 =>
  zlet v2 fun x9_3 =>
  R d 802 [.inl x2, .inl x3, .inl x4, .inl x5, .inl x6, .inl x7, .inl x8_1, .inl x9_3] S
def zb_sayType_p189 (R : ZC ZS) (d : Nat) (x3 : Int) (x6 : Int) (x7 : Int) (x8 : Int) (S : ZS) : ZR ZS :=
  if x8 = (-1) then
    zlet (1 : Int) fun x8_1 =>
    R d 831 [.inl x3, .inl x6, .inl x7, .inl x8_1] S
  else
  zG (inI (x7 + 1)) <|
  zlet (x7 + 1) fun x7_2 =>
  za S 31 106000 x8 fun v3 =>
  zlet v3 fun x8_4 =>
  R d 826 [.inl x3, .inl x6, .inl x7_2, .inl x8_4] S
def zb_infixed_p158 (R : ZC ZS) (d : Nat) (x1 : Int) (x2 : Int) (x3 : Int) (x4 : Int) (S : ZS) : ZR ZS :=
  if x4 = 0 then
    zlet (0 : Int) fun x4_1 =>
    R d 713 [.inl x1, .inl x2, .inl x3, .inl x4_1] S
  else
  if (S.1 54) ≤ x2 then
    zlet (0 : Int) fun x4_2 =>
    R d 713 [.inl x1, .inl x2, .inl x3, .inl x4_2] S
  else
  zlet (1 : Int) fun x4_3 =>
  R d 713 [.inl x1, .inl x2, .inl x3, .inl x4_3] S
def zb_allFields_p155 (R : ZC ZS) (d : Nat) (x3 : Int) (x4 : Int) (x5 : Int) (x6 : Int) (x7 : Int) (S : ZS) : ZR ZS :=
  za S 29 106000 x7 fun v1 =>
  za S 30 106000 x7 fun v2 =>
  zI (zc R d 11 [.inl v1, .inl v2, .inl x6] S) fun v4 S3 =>
  zlet v4 fun x8_5 =>
  if x5 = (-1) then
    zlet x8_5 fun x4_6 =>
    R d 832 [.inl x3, .inl x4_6, .inl x6, .inl x7, .inl x8_5] S3
  else
  zs S3 31 106000 x5 x8_5 fun S7 =>
  R d 832 [.inl x3, .inl x4, .inl x6, .inl x7, .inl x8_5] S7
def zb_allFields_p132 (R : ZC ZS) (d : Nat) (x3 : Int) (x4 : Int) (x5 : Int) (x6 : Int) (x7 : Int) (y0 : Int) (S : ZS) : ZR ZS :=
  za S 30 106000 y0 fun v1 =>
  if x3 = 0 then
    R d 833 [.inl x3, .inl x4, .inl x5, .inl x6, .inl x7, .inl x7, .inl v1] S
  else
  R d 833 [.inl x3, .inl x4, .inl x5, .inl x6, .inl x7, .inl x6, .inl v1] S
def zb_judgedCons_p392 (R : ZC ZS) (d : Nat) (x2 : Int) (x3 : Int) (x4 : Int) (x5 : Int) (x10 : Int) (y0 : Int) (y1 : Int) (S : ZS) : ZR ZS :=
  zs S 58 22000 y1 y0 fun S1 =>
  za S1 12 84000 x5 fun v2 =>
  za S1 58 22000 x10 fun v3 =>
  za S1 11 4200 (x5 - (S1.1 41)) fun v4 =>
  zI (zc R d 12 [.inl v2, .inl 1, .inl v3, .inl x10, .inl 0, .inl v4] S1) fun v6 S5 =>
  zlet v6 fun x11_7 =>
  za S5 16 84000 x5 fun v8 =>
  zlet v8 fun x5_9 =>
  R d 482 [.inl x2, .inl x3, .inl x4, .inl x5_9] S5
def zb_sayType_p213 (R : ZC ZS) (d : Nat) (x3 : Int) (x6 : Int) (x7 : Int) (x8 : Int) (S : ZS) : ZR ZS :=
  if x8 ≤ x7 then
    if x8 ≤ 1 then
      R d 834 [.inl x3, .inl x6, .inl x7, .inl x8] S
    else
    zV (zc R d 559 [.inr (.inr (some 224))] S) fun S1 =>
    R d 834 [.inl x3, .inl x6, .inl x7, .inl x8] S1
  else
  if x6 = 0 then
    zrV S
  else
  zV (zc R d 318 [.inl 41] S) fun S2 =>
  zrV S2
def zb_allFields_p199 (R : ZC ZS) (d : Nat) (x3 : Int) (x4 : Int) (x6 : Int) (x7 : Int) (x8 : Int) (S : ZS) : ZR ZS :=
  zlet x8 fun x5_1 =>
  za S 31 106000 x7 fun v2 =>
  zlet v2 fun x7_3 =>
  R d 725 [.inl x3, .inl x4, .inl x5_1, .inl x6, .inl x7_3] S
def zb_allFields_p148 (R : ZC ZS) (d : Nat) (x3 : Int) (x4 : Int) (x5 : Int) (x6 : Int) (x7 : Int) (y0 : Int) (y2 : Int) (S : ZS) : ZR ZS :=
  za S 30 106000 y0 fun v1 =>
  zV (zc R d 138 [.inl y2, .inl v1] S) fun S2 =>
  za S2 31 106000 x7 fun v3 =>
  zlet v3 fun x7_4 =>
  R d 725 [.inl x3, .inl x4, .inl x5, .inl x6, .inl x7_4] S2
def zb_sayType_p233 (R : ZC ZS) (d : Nat) (x3 : Int) (x6 : Int) (x7 : Int) (x8 : Int) (S : ZS) : ZR ZS :=
  za S 26 57000 x3 fun v1 =>
  zI (zc R d 16 [.inl x8] S) fun v3 S2 =>
  zI (zc R d 143 [.inl v1, .inl v3] S2) fun v5 S4 =>
  za S4 30 106000 v5 fun v6 =>
  zV (zc R d 330 [.inl v6, .inl 2] S4) fun S7 =>
  zG (inI (x8 + 1)) <|
  zlet (x8 + 1) fun x8_8 =>
  R d 831 [.inl x3, .inl x6, .inl x7, .inl x8_8] S7
