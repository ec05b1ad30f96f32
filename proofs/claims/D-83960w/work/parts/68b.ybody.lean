set_option maxRecDepth 100000
/-! THE HOUSE over whole numbers (printed by ygen.py) -/
def yb_MlHouse_isAhead_p4 (C : YC) (R : ZC YS) (d : Nat) (x0 : Option Nat) (x1 : Int) (x2 : Int) (x3 : Int) (h : YS) : ZR YS :=
  if x3 < x1 then
    if x2 = 0 then
      zQ (ycv R d [(5, 528)] x0 [.inl x3] h) fun v2 h1 =>
      ycc 0 4 v2 h1 <|
      zQ (ycv R d [(5, 528)] x0 [.inl x1] h1) fun v4 h3 =>
      zI (ycv R d [(21, 576)] v2 [.inr (.inr v4)] h3) fun v6 h5 =>
      if v6 = 0 then
        zlet (0 : Int) fun x2_7 =>
        zG (inI (x3 + 1)) <|
        zlet (x3 + 1) fun x3_8 =>
        R d 516 [.inr (.inr x0), .inl x1, .inl x2_7, .inl x3_8] h5
      else
      zlet (1 : Int) fun x2_9 =>
      zG (inI (x3 + 1)) <|
      zlet (x3 + 1) fun x3_10 =>
      R d 516 [.inr (.inr x0), .inl x1, .inl x2_9, .inl x3_10] h5
    else
    zlet (1 : Int) fun x2_11 =>
    zG (inI (x3 + 1)) <|
    zlet (x3 + 1) fun x3_12 =>
    R d 516 [.inr (.inr x0), .inl x1, .inl x2_11, .inl x3_12] h
  else
  yrN 1 x2 h
def yb_MlHouse_rowOf_p39 (C : YC) (R : ZC YS) (d : Nat) (x0 : Option Nat) (x2 : Option Nat) (x3 : Option Nat) (x5 : Int) (x6 : Option Nat) (x7 : Int) (x8 : Int) (h : YS) : ZR YS :=
  if x8 < x5 then
    yaI 0 x6 x8 h fun v1 =>
    zQ (ycv R d [(5, 528)] x2 [.inl v1] h) fun v3 h2 =>
    ycc 0 4 v3 h2 <|
    yaI 0 x6 x8 h2 fun v4 =>
    yaI 0 x3 v4 h2 fun v5 =>
    zV (ycv R d [(4, 66)] x0 [.inl x7, .inl x8, .inr (.inr v3), .inl v5] h2) fun h6 =>
    zG (inI (x8 + 1)) <|
    zlet (x8 + 1) fun x8_7 =>
    R d 517 [.inr (.inr x0), .inr (.inr x2), .inr (.inr x3), .inl x5, .inr (.inr x6), .inl x7, .inl x8_7] h6
  else
  zrI x7 h
def yb_MlHouse_inOrder_p11 (C : YC) (R : ZC YS) (d : Nat) (x0 : Option Nat) (x1 : Int) (x2 : Option Nat) (x3 : Int) (h : YS) : ZR YS :=
  if x3 < x1 then
    zlet x3 fun x4_1 =>
    R d 762 [.inr (.inr x0), .inl x1, .inr (.inr x2), .inl x3, .inl x4_1] h
  else
  zrQ x2 h
def yb_MlHouse_typesOf_p9 (C : YC) (R : ZC YS) (d : Nat) (x0 : Option Nat) (x1 : Option Nat) (x2 : Int) (h : YS) : ZR YS :=
  ylen x1 h fun v1 =>
  if x2 < v1 then
    zQ (ycv R d [(5, 528)] x0 [.inl x2] h) fun v3 h2 =>
    ycc 0 96 v3 h2 <|
    ygI 20101 v3 h2 fun v4 =>
    yst 0 x1 x2 v4 h2 fun h5 =>
    zG (inI (x2 + 1)) <|
    zlet (x2 + 1) fun x2_6 =>
    R d 519 [.inr (.inr x0), .inr (.inr x1), .inl x2_6] h5
  else
  zrQ x1 h
def yb_MlHouse_namesOf_p10 (C : YC) (R : ZC YS) (d : Nat) (x0 : Option Nat) (x1 : Option Nat) (x2 : Int) (h : YS) : ZR YS :=
  zI (ycv R d [(5, 506)] x0 [] h) fun v2 h1 =>
  if x2 < v2 then
    zQ (ycv R d [(5, 528)] x0 [.inl x2] h1) fun v4 h3 =>
    ycc 0 65 v4 h3 <|
    ygR 8100 v4 h3 fun v5 =>
    zI (ycv R d [(5, 505)] x1 [.inr (.inr v5)] h3) fun v7 h6 =>
    zG (inI (x2 + 1)) <|
    zlet (x2 + 1) fun x2_8 =>
    R d 520 [.inr (.inr x0), .inr (.inr x1), .inl x2_8] h6
  else
  zrQ x1 h1
def yb_MlHouse_look_p2 (C : YC) (R : ZC YS) (d : Nat) (x0 : Option Nat) (x1 : Option Nat) (x2 : Int) (h : YS) : ZR YS :=
  ygR 2711 x1 h fun v1 =>
  zI (ycv R d [(5, 506)] v1 [] h) fun v3 h2 =>
  if x2 < v3 then
    ygR 2711 x1 h2 fun v4 =>
    zQ (ycv R d [(5, 528)] v4 [.inl x2] h2) fun v6 h5 =>
    ycc 0 554 v6 h5 <|
    zlet v6 fun x3_7 =>
    ygR 4 x0 h5 fun v8 =>
    zV (ycv R d [(10, 205)] v8 [.inr (.inr x3_7)] h5) fun h9 =>
    ygR 4 x0 h9 fun v10 =>
    ygI 3031 v10 h9 fun v11 =>
    if v11 = 0 then
      zlet (0 : Int) fun x4_12 =>
      R d 763 [.inr (.inr x0), .inr (.inr x1), .inl x2, .inr (.inr x3_7), .inl x4_12] h9
    else
    ygI 20701 x3_7 h9 fun v13 =>
    if v13 = 3 then
      zlet (0 : Int) fun x4_14 =>
      R d 763 [.inr (.inr x0), .inr (.inr x1), .inl x2, .inr (.inr x3_7), .inl x4_14] h9
    else
    ygI 20701 x3_7 h9 fun v15 =>
    if v15 = 2 then
      ygI 20700 x3_7 h9 fun v16 =>
      zV (ycv R d [(0, 27)] x0 [.inl 2, .inl v16] h9) fun h17 =>
      zlet (0 : Int) fun x4_18 =>
      R d 763 [.inr (.inr x0), .inr (.inr x1), .inl x2, .inr (.inr x3_7), .inl x4_18] h17
    else
    ygI 20700 x3_7 h9 fun v19 =>
    zV (ycv R d [(0, 27)] x0 [.inl 1, .inl v19] h9) fun h20 =>
    zlet (0 : Int) fun x4_21 =>
    R d 763 [.inr (.inr x0), .inr (.inr x1), .inl x2, .inr (.inr x3_7), .inl x4_21] h20
  else
  zrV h2
def yb_MlHouse_noted_p5 (C : YC) (R : ZC YS) (d : Nat) (x0 : Option Nat) (x1 : Int) (x2 : Int) (x3 : Int) (h : YS) : ZR YS :=
  if x3 ≤ 0 then
    R d 764 [.inr (.inr x0), .inl x1, .inl x2, .inl x3] h
  else
  ygR 29 x0 h fun v1 =>
  yaI 0 v1 (x3 - 1) h fun v2 =>
  if v2 ≤ x2 then
    ygR 29 x0 h fun v3 =>
    yaI 0 v3 (x3 - 1) h fun v4 =>
    if v4 = x2 then
      ygR 28 x0 h fun v5 =>
      yaI 0 v5 (x3 - 1) h fun v6 =>
      if v6 ≤ x1 then
        R d 764 [.inr (.inr x0), .inl x1, .inl x2, .inl x3] h
      else
      R d 765 [.inr (.inr x0), .inl x1, .inl x2, .inl x3] h
    else
    R d 764 [.inr (.inr x0), .inl x1, .inl x2, .inl x3] h
  else
  R d 765 [.inr (.inr x0), .inl x1, .inl x2, .inl x3] h
def yb_MlHouse_run_p19 (C : YC) (R : ZC YS) (d : Nat) (x0 : Option Nat) (x1 : Option Nat) (x2 : Int) (x3 : Option Nat) (x4 : Int) (h : YS) : ZR YS :=
  zI (ycv R d [(5, 506)] x1 [] h) fun v2 h1 =>
  if x4 < v2 then
    zQ (ycv R d [(5, 528)] x1 [.inl x4] h1) fun v4 h3 =>
    ycc 0 520 v4 h3 <|
    zV (ycv R d [(62, 469), (65, 474), (58, 455), (66, 477), (61, 463), (24, 331)] v4 [.inr (.inr x3)] h3) fun h5 =>
    zG (inI (x4 + 1)) <|
    zlet (x4 + 1) fun x4_6 =>
    R d 523 [.inr (.inr x0), .inr (.inr x1), .inl x2, .inr (.inr x3), .inl x4_6] h5
  else
  zI (ycv R d [(70, 484)] x3 [.inl 23, .inl 0, .inl 0] h1) fun v8 h7 =>
  ygR 5 x0 h7 fun v9 =>
  ynew 71 4 h7 fun r10 h11 =>
  zV (ycs R d 502 r10 [.inr (.inr x3), .inl 1] h11) fun h12 =>
  zI (ycv R d [(11, 277)] v9 [.inr (.inr r10), .inl x2] h12) fun v14 h13 =>
  zrI v14 h13
def yb_MlHouse_top_p40 (C : YC) (R : ZC YS) (d : Nat) (x0 : Option Nat) (h : YS) : ZR YS :=
  ygI 15 x0 h fun v1 =>
  zG (inI (v1 + 1)) <|
  ypI 15 0 x0 (v1 + 1) h fun h2 =>
  ygI 15 x0 h2 fun v3 =>
  zG (inI (v3 - 1)) <|
  zrI (v3 - 1) h2
def yb_MlHouse_print_p21 (C : YC) (R : ZC YS) (d : Nat) (x0 : Option Nat) (h : YS) : ZR YS :=
  ygI 24 x0 h fun v1 =>
  if v1 < 1000000000 then
    ygI 24 x0 h fun v2 =>
    zG (inI (v2 + 1)) <|
    ypI 24 0 x0 (v2 + 1) h fun h3 =>
    zrV h3
  else
  zrV h
def yb_MlHouse_keepAll_p20 (C : YC) (R : ZC YS) (d : Nat) (x0 : Option Nat) (x1 : Option Nat) (x2 : Int) (h : YS) : ZR YS :=
  ygR 2702 x1 h fun v1 =>
  zI (ycv R d [(5, 506)] v1 [] h) fun v3 h2 =>
  if x2 < v3 then
    ygR 2702 x1 h2 fun v4 =>
    zQ (ycv R d [(5, 528)] v4 [.inl x2] h2) fun v6 h5 =>
    ycc 0 284 v6 h5 <|
    zlet v6 fun x3_7 =>
    ygR 5405 x3_7 h5 fun v8 =>
    ynull v8 (
      ygI 5401 x3_7 h5 fun v9 =>
      if v9 = 0 then
        ygR 1 x0 h5 fun v10 =>
        ygI 5403 x3_7 h5 fun v11 =>
        yna 0 0 h5 fun r12 h13 =>
        zQ (ycv R d [(4, 53)] v10 [.inl v11, .inr (.inr r12), .inl 0] h13) fun v15 h14 =>
        ypR 5405 x3_7 v15 h14 fun h16 =>
        R d 766 [.inr (.inr x0), .inr (.inr x1), .inl x2, .inr (.inr x3_7)] h16
      else
      R d 766 [.inr (.inr x0), .inr (.inr x1), .inl x2, .inr (.inr x3_7)] h5
    ) <|
    R d 766 [.inr (.inr x0), .inr (.inr x1), .inl x2, .inr (.inr x3_7)] h5
  else
  ygR 7 x0 h2 fun v17 =>
  ygR 4201 v17 h2 fun v18 =>
  zV (ycv R d [(5, 504)] v18 [] h2) fun h19 =>
  zlet (0 : Int) fun x2_20 =>
  R d 767 [.inr (.inr x0), .inr (.inr x1), .inl x2_20] h19
def yb_MlHouse_tell_p77 (C : YC) (R : ZC YS) (d : Nat) (x0 : Option Nat) (x1 : Int) (x2 : Int) (x3 : Int) (h : YS) : ZR YS :=
  ygR 1 x0 h fun v1 =>
  ypI 1211 0 v1 x2 h fun h2 =>
  ygR 1 x0 h2 fun v3 =>
  ypI 1212 0 v3 x3 h2 fun h4 =>
  ypI 22 0 x0 x1 h4 fun h5 =>
  zrV h5
def yb_ArrayList_get (C : YC) (R : ZC YS) (d : Nat) (x0 : Option Nat) (x1 : Int) (h : YS) : ZR YS :=
  ygI 1502 x0 h fun v1 =>
  zI (zc R d 768 [.inl x1, .inl v1] h) fun v3 h2 =>
  zQ (ycv R d [(5, 769)] x0 [.inl x1] h2) fun v5 h4 =>
  zrQ v5 h4
def yb_MlHouse_letter_p30 (C : YC) (R : ZC YS) (d : Nat) (x0 : Option Nat) (x1 : Int) (x2 : Int) (h : YS) : ZR YS :=
  zV (ycv R d [(0, 38)] x0 [.inl x1] h) fun h1 =>
  if x2 < 0 then
    zrI (-1) h1
  else
  ygR 6 x0 h1 fun v2 =>
  ygI 3903 v2 h1 fun v3 =>
  if x2 < v3 then
    ygR 6 x0 h1 fun v4 =>
    ygR 3902 v4 h1 fun v5 =>
    yaI 4 v5 x2 h1 fun v6 =>
    zrI v6 h1
  else
  zrI (-1) h1
def yb_MlHouse_keep_p39 (C : YC) (R : ZC YS) (d : Nat) (x0 : Option Nat) (h : YS) : ZR YS :=
  ygR 8 x0 h fun v1 =>
  ygI 16 x0 h fun v2 =>
  yaR v1 v2 h fun v3 =>
  ygR 7 x0 h fun v4 =>
  zV (ycv R d [(14, 306)] v3 [.inr (.inr v4)] h) fun h5 =>
  ygI 16 x0 h5 fun v6 =>
  zG (inI (v6 + 1)) <|
  ypI 16 0 x0 (v6 + 1) h5 fun h7 =>
  ygI 16 x0 h7 fun v8 =>
  zG (inI (v8 - 1)) <|
  zrI (v8 - 1) h7
def yb_MlHouse_phrase_p86 (C : YC) (R : ZC YS) (d : Nat) (x0 : Option Nat) (x1 : Int) (x2 : Option Nat) (x3 : Int) (h : YS) : ZR YS :=
  ygR 7 x0 h fun v1 =>
  ygR 4202 v1 h fun v2 =>
  zI (ycv R d [(5, 506)] v2 [] h) fun v4 h3 =>
  if x3 < v4 then
    ygR 2 x0 h3 fun v5 =>
    ygR 1802 v5 h3 fun v6 =>
    ygR 7 x0 h3 fun v7 =>
    ygR 4202 v7 h3 fun v8 =>
    zQ (ycv R d [(5, 528)] v8 [.inl x3] h3) fun v10 h9 =>
    ycc 0 320 v10 h9 <|
    zI (ycv R d [(5, 505)] v6 [.inr (.inr v10)] h9) fun v12 h11 =>
    zG (inI (x3 + 1)) <|
    zlet (x3 + 1) fun x3_13 =>
    R d 531 [.inr (.inr x0), .inl x1, .inr (.inr x2), .inl x3_13] h11
  else
  ygR 2 x0 h3 fun v14 =>
  yQh (ycv R d [(6, 101)] v14 [] h3) (fun h16 =>
    R d 770 [.inr (.inr x0), .inr (.inr x2)] h16
  ) fun v17 h15 =>
  zlet v17 fun x3_18 =>
  yVh (ycv R d [(0, 18)] x0 [.inr (.inr x2), .inr (.inr x3_18)] h15) (fun h20 =>
    R d 770 [.inr (.inr x0), .inr (.inr x2)] h20
  ) fun h19 =>
  yVh (ycv R d [(0, 26)] x0 [.inr (.inr x2)] h19) (fun h22 =>
    R d 770 [.inr (.inr x0), .inr (.inr x2)] h22
  ) fun h21 =>
  yIh (ycv R d [(0, 28)] x0 [.inr (.inr x3_18), .inl x1] h21) (fun h24 =>
    R d 770 [.inr (.inr x0), .inr (.inr x2)] h24
  ) fun v25 h23 =>
  ypI 25 0 x0 v25 h23 fun h26 =>
  R d 771 [.inr (.inr x0), .inr (.inr x2)] h26
def yb_Types_scheme_p20 (C : YC) (R : ZC YS) (d : Nat) (x0 : Option Nat) (x1 : Int) (x2 : Option Nat) (x3 : Int) (x4 : Int) (h : YS) : ZR YS :=
  if x4 < x3 then
    yaI 0 x2 x4 h fun v1 =>
    zI (ycv R d [(4, 54)] x0 [.inl v1] h) fun v3 h2 =>
    zG (inI (x4 + 1)) <|
    zlet (x4 + 1) fun x4_4 =>
    R d 532 [.inr (.inr x0), .inl x1, .inr (.inr x2), .inl x3, .inl x4_4] h2
  else
  zV (ycv R d [(4, 55)] x0 [.inl x1] h) fun h5 =>
  ygI 1223 x0 h5 fun v6 =>
  yna 0 v6 h5 fun r7 h8 =>
  zlet r7 fun x4_9 =>
  ygR 1221 x0 h8 fun v10 =>
  ygI 1223 x0 h8 fun v11 =>
  yac v10 0 x4_9 0 v11 h8 fun h12 =>
  ygR 1220 x0 h12 fun v13 =>
  zI (ycv R d [(5, 582)] v13 [] h12) fun v15 h14 =>
  if v15 = 0 then
    ygR 1220 x0 h14 fun v16 =>
    zI (ycv R d [(5, 506)] v16 [] h14) fun v18 h17 =>
    yna 6 v18 h17 fun r19 h20 =>
    zlet r19 fun x5_21 =>
    zlet (0 : Int) fun x6_22 =>
    R d 772 [.inr (.inr x0), .inr (.inr x4_9), .inr (.inr x5_21), .inl x6_22] h20
  else
  ygR 1225 x0 h14 fun v23 =>
  zlet v23 fun x5_24 =>
  zlet (0 : Int) fun x6_25 =>
  R d 772 [.inr (.inr x0), .inr (.inr x4_9), .inr (.inr x5_24), .inl x6_25] h14
def yb_Types_general_p2 (C : YC) (R : ZC YS) (d : Nat) (x0 : Option Nat) (x1 : Int) (x2 : Int) (h : YS) : ZR YS :=
  ygI 1224 x0 h fun v1 =>
  if x2 < v1 then
    ygR 1222 x0 h fun v2 =>
    yaI 0 v2 x2 h fun v3 =>
    if v3 = x1 then
      zrI x2 h
    else
    zG (inI (x2 + 1)) <|
    zlet (x2 + 1) fun x2_4 =>
    R d 533 [.inr (.inr x0), .inl x1, .inl x2_4] h
  else
  ygR 1222 x0 h fun v5 =>
  ygI 1224 x0 h fun v6 =>
  yst 0 v5 v6 x1 h fun h7 =>
  ygI 1224 x0 h7 fun v8 =>
  zG (inI (v8 + 1)) <|
  ypI 1224 0 x0 (v8 + 1) h7 fun h9 =>
  ygI 1224 x0 h9 fun v10 =>
  zG (inI (v10 - 1)) <|
  zrI (v10 - 1) h9
def yb_Types_encode_p36 (C : YC) (R : ZC YS) (d : Nat) (x0 : Option Nat) (x2 : Int) (y0 : Int) (y1 : Int) (h : YS) : ZR YS :=
  zI (ycv R d [(4, 58)] x0 [.inl x2, .inl 8] h) fun v2 h1 =>
  if v2 = 0 then
    R d 535 [.inr (.inr x0), .inl x2, .inl (zorI (zorI y1 y0) 0)] h1
  else
  R d 535 [.inr (.inr x0), .inl x2, .inl (zorI (zorI y1 y0) 1)] h1
def yb_Types_encode_p63 (C : YC) (R : ZC YS) (d : Nat) (x0 : Option Nat) (x2 : Int) (y0 : Int) (h : YS) : ZR YS :=
  zlet y0 fun x3_1 =>
  ygR 1221 x0 h fun v2 =>
  ygI 1223 x0 h fun v3 =>
  zI (ycv R d [(4, 60)] x0 [.inl x2] h) fun v5 h4 =>
  zI (ycv R d [(4, 57)] x0 [.inl x2] h4) fun v7 h6 =>
  yst 0 v2 v3 (zorI (zorI (zshlI x3_1 12) (zshlI v5 3)) v7) h6 fun h8 =>
  ygI 1223 x0 h8 fun v9 =>
  zG (inI (v9 + 1)) <|
  ypI 1223 0 x0 (v9 + 1) h8 fun h10 =>
  zlet (0 : Int) fun x4_11 =>
  R d 773 [.inr (.inr x0), .inl x2, .inl x4_11] h10
def yb_Types_root_p2 (C : YC) (R : ZC YS) (d : Nat) (x0 : Option Nat) (x1 : Int) (x2 : Int) (h : YS) : ZR YS :=
  ygR 1203 x0 h fun v1 =>
  yaI 0 v1 x2 h fun v2 =>
  if v2 < 0 then
    zlet x1 fun x3_3 =>
    R d 774 [.inr (.inr x0), .inl x2, .inl x3_3] h
  else
  ygR 1203 x0 h fun v4 =>
  yaI 0 v4 x2 h fun v5 =>
  zlet v5 fun x2_6 =>
  R d 536 [.inr (.inr x0), .inl x1, .inl x2_6] h
def yb_String_charAt (C : YC) (R : ZC YS) (d : Nat) (x0 : Option Nat) (x1 : Int) (h : YS) : ZR YS :=
  zI (ycv R d [(21, 775)] x0 [] h) fun v2 h1 =>
  if v2 = 0 then
    ygR 6300 x0 h1 fun v3 =>
    zI (zc R d 776 [.inr (.inr v3), .inl x1] h1) fun v5 h4 =>
    yrN 3 v5 h4
  else
  ygR 6300 x0 h1 fun v6 =>
  zI (zc R d 777 [.inr (.inr v6), .inl x1] h1) fun v8 h7 =>
  yrN 3 v8 h7
def yb_Types_compare_p70 (C : YC) (R : ZC YS) (d : Nat) (x0 : Option Nat) (x1 : Option Nat) (x2 : Int) (h : YS) : ZR YS :=
  zI (ycv R d [(21, 539)] x0 [] h) fun v2 h1 =>
  if x2 < v2 then
    zI (ycv R d [(21, 539)] x1 [] h1) fun v4 h3 =>
    if x2 < v4 then
      zI (ycv R d [(21, 537)] x0 [.inl x2] h3) fun v6 h5 =>
      zI (ycv R d [(21, 537)] x1 [.inl x2] h5) fun v8 h7 =>
      if v6 = v8 then
        zG (inI (x2 + 1)) <|
        zlet (x2 + 1) fun x2_9 =>
        R d 538 [.inr (.inr x0), .inr (.inr x1), .inl x2_9] h7
      else
      R d 778 [.inr (.inr x0), .inr (.inr x1), .inl x2] h7
    else
    R d 778 [.inr (.inr x0), .inr (.inr x1), .inl x2] h3
  else
  R d 778 [.inr (.inr x0), .inr (.inr x1), .inl x2] h1
def yb_String_length (C : YC) (R : ZC YS) (d : Nat) (x0 : Option Nat) (h : YS) : ZR YS :=
  ygR 6300 x0 h fun v1 =>
  ylen v1 h fun v2 =>
  zI (ycv R d [(21, 779)] x0 [] h) fun v4 h3 =>
  zrI (zshrI v2 v4) h3
def yb_Types_build_p12 (C : YC) (R : ZC YS) (d : Nat) (x0 : Option Nat) (x1 : Option Nat) (x2 : Option Nat) (x3 : Int) (h : YS) : ZR YS :=
  ygI 5102 x1 h fun v1 =>
  if x3 < v1 then
    ygR 1228 x0 h fun v2 =>
    ynull x2 (
      yst 0 v2 x3 (-1) h fun h3 =>
      zG (inI (x3 + 1)) <|
      zlet (x3 + 1) fun x3_4 =>
      R d 540 [.inr (.inr x0), .inr (.inr x1), .inr (.inr x2), .inl x3_4] h3
    ) <|
    yaI 0 x2 x3 h fun v5 =>
    yst 0 v2 x3 v5 h fun h6 =>
    zG (inI (x3 + 1)) <|
    zlet (x3 + 1) fun x3_7 =>
    R d 540 [.inr (.inr x0), .inr (.inr x1), .inr (.inr x2), .inl x3_7] h6
  else
  zI (ycv R d [(4, 74)] x0 [.inr (.inr x1)] h) fun v9 h8 =>
  zrI v9 h8
def yb_Types_build_2_p92 (C : YC) (R : ZC YS) (d : Nat) (x0 : Option Nat) (x5 : Int) (x6 : Int) (h : YS) : ZR YS :=
  if (zandI x5 3) = 0 then
    ygR 1228 x0 h fun v1 =>
    yaI 0 v1 x6 h fun v2 =>
    zrI v2 h
  else
  ygR 1228 x0 h fun v3 =>
  yaI 0 v3 x6 h fun v4 =>
  zV (ycv R d [(4, 69)] x0 [.inl v4, .inl 8] h) fun h5 =>
  ygR 1228 x0 h5 fun v6 =>
  yaI 0 v6 x6 h5 fun v7 =>
  zrI v7 h5
def yb_Types_build_2_p136 (C : YC) (R : ZC YS) (d : Nat) (x0 : Option Nat) (x1 : Option Nat) (x3 : Int) (x4 : Int) (x6 : Int) (x7 : Int) (h : YS) : ZR YS :=
  if x7 < x4 then
    if x3 = 2 then
      ygR 5101 x1 h fun v1 =>
      ygI 1227 x0 h fun v2 =>
      yaR v1 v2 h fun v3 =>
      R d 780 [.inr (.inr x0), .inr (.inr x1), .inl x3, .inl x4, .inl x6, .inl x7, .inr (.inr v3)] h
    else
    R d 780 [.inr (.inr x0), .inr (.inr x1), .inl x3, .inl x4, .inl x6, .inl x7, .inr (.inr (some (C.1 56)))] h
  else
  zrI x6 h
def yb_Types_count_p12 (C : YC) (R : ZC YS) (d : Nat) (x0 : Option Nat) (x2 : Int) (x3 : Int) (x4 : Int) (x5 : Int) (h : YS) : ZR YS :=
  zI (ycv R d [(4, 60)] x0 [.inl x3] h) fun v2 h1 =>
  if x5 < v2 then
    if x4 ≤ x2 then
      zI (ycv R d [(4, 62)] x0 [.inl x3, .inl x5] h1) fun v4 h3 =>
      zG (inI (x2 - x4)) <|
      zI (ycv R d [(4, 75)] x0 [.inl v4, .inl (x2 - x4)] h3) fun v6 h5 =>
      zG (inI (x4 + v6)) <|
      zlet (x4 + v6) fun x4_7 =>
      zG (inI (x5 + 1)) <|
      zlet (x5 + 1) fun x5_8 =>
      R d 543 [.inr (.inr x0), .inl x2, .inl x3, .inl x4_7, .inl x5_8] h5
    else
    zrI x4 h1
  else
  zrI x4 h1
def yb_Types_join_p16 (C : YC) (R : ZC YS) (d : Nat) (x0 : Option Nat) (x1 : Int) (h : YS) : ZR YS :=
  ygI 1217 x0 h fun v1 =>
  if v1 ≤ 0 then
    zI (ycv R d [(4, 56)] x0 [.inl x1] h) fun v3 h2 =>
    zI (ycv R d [(4, 86)] x0 [.inl v3] h2) fun v5 h4 =>
    if v5 = 0 then
      zV (ycv R d [(4, 87)] x0 [] h4) fun h6 =>
      zI (ycv R d [(4, 88)] x0 [] h6) fun v8 h7 =>
      if v8 = 0 then
        zrI 10 h7
      else
      zrI 0 h7
    else
    zrI 9 h4
  else
  ygI 1217 x0 h fun v9 =>
  zG (inI (v9 - 1)) <|
  ypI 1217 0 x0 (v9 - 1) h fun h10 =>
  ygR 1208 x0 h10 fun v11 =>
  ygI 1217 x0 h10 fun v12 =>
  yaI 1 v11 v12 h10 fun v13 =>
  zI (ycv R d [(4, 56)] x0 [.inl (zl2i (zshrL v13 32))] h10) fun v15 h14 =>
  ygR 1208 x0 h14 fun v16 =>
  ygI 1217 x0 h14 fun v17 =>
  yaI 1 v16 v17 h14 fun v18 =>
  zI (ycv R d [(4, 56)] x0 [.inl (zl2i v18)] h14) fun v20 h19 =>
  zI (ycv R d [(4, 79)] x0 [.inl v15, .inl v20] h19) fun v22 h21 =>
  if v22 = 0 then
    zrI 8 h21
  else
  R d 544 [.inr (.inr x0), .inl x1] h21
def yb_Types_joins_p119 (C : YC) (R : ZC YS) (d : Nat) (x0 : Option Nat) (x1 : Int) (x2 : Int) (x3 : Int) (x4 : Int) (h : YS) : ZR YS :=
  if x4 < x3 then
    zI (ycv R d [(4, 57)] x0 [.inl x1] h) fun v2 h1 =>
    if v2 = 2 then
      zQ (ycv R d [(4, 61)] x0 [.inl x1, .inl x4] h1) fun v4 h3 =>
      zQ (ycv R d [(4, 61)] x0 [.inl x2, .inl x4] h3) fun v6 h5 =>
      zI (ycv R d [(21, 576)] v4 [.inr (.inr v6)] h5) fun v8 h7 =>
      if v8 = 0 then
        yrN 1 0 h7
      else
      zG (inI (x4 + 1)) <|
      zlet (x4 + 1) fun x4_9 =>
      R d 545 [.inr (.inr x0), .inl x1, .inl x2, .inl x3, .inl x4_9] h7
    else
    zV (ycv R d [(4, 81)] x0 [.inl x1, .inl x2] h1) fun h10 =>
    zlet (0 : Int) fun x4_11 =>
    R d 781 [.inr (.inr x0), .inl x1, .inl x2, .inl x3, .inl x4_11] h10
  else
  zV (ycv R d [(4, 81)] x0 [.inl x1, .inl x2] h) fun h12 =>
  zlet (0 : Int) fun x4_13 =>
  R d 781 [.inr (.inr x0), .inl x1, .inl x2, .inl x3, .inl x4_13] h12
def yb_Types_tells_p41 (C : YC) (R : ZC YS) (d : Nat) (x0 : Option Nat) (x1 : Int) (x2 : Int) (y0 : Int) (h : YS) : ZR YS :=
  zlet y0 fun x3_1 =>
  if x3_1 = 0 then
    yrN 1 0 h
  else
  zI (ycv R d [(4, 57)] x0 [.inl x2] h) fun v3 h2 =>
  if v3 = 0 then
    ygR 1201 x0 h2 fun v4 =>
    yaI 0 v4 x2 h2 fun v5 =>
    ygR 1201 x0 h2 fun v6 =>
    yaI 0 v6 x1 h2 fun v7 =>
    yst 0 v4 x2 (zorI v5 (zandI v7 16)) h2 fun h8 =>
    zV (ycv R d [(4, 81)] x0 [.inl x1, .inl x2] h8) fun h9 =>
    yrN 1 1 h9
  else
  zV (ycv R d [(4, 81)] x0 [.inl x1, .inl x2] h2) fun h10 =>
  yrN 1 1 h10
def yb_Math_min (C : YC) (R : ZC YS) (d : Nat) (x0 : Int) (x1 : Int) (h : YS) : ZR YS :=
  if x0 ≤ x1 then
    zrI x0 h
  else
  zrI x1 h
def yb_Types_opens_p11 (C : YC) (R : ZC YS) (d : Nat) (x0 : Option Nat) (x1 : Int) (x2 : Int) (x3 : Int) (h : YS) : ZR YS :=
  zI (ycv R d [(4, 60)] x0 [.inl x1] h) fun v2 h1 =>
  if x3 < v2 then
    zQ (ycv R d [(4, 61)] x0 [.inl x1, .inl x3] h1) fun v4 h3 =>
    zI (ycv R d [(4, 85)] x0 [.inl x2, .inr (.inr v4)] h3) fun v6 h5 =>
    zlet v6 fun x4_7 =>
    if x4_7 = (-1) then
      yrN 1 0 h5
    else
    zI (ycv R d [(4, 63)] x0 [.inl x1, .inl x3] h5) fun v9 h8 =>
    zI (ycv R d [(4, 63)] x0 [.inl x2, .inl x4_7] h8) fun v11 h10 =>
    zV (ycv R d [(4, 78)] x0 [.inl v9, .inl v11] h10) fun h12 =>
    zG (inI (x3 + 1)) <|
    zlet (x3 + 1) fun x3_13 =>
    R d 548 [.inr (.inr x0), .inl x1, .inl x2, .inl x3_13] h12
  else
  zV (ycv R d [(4, 81)] x0 [.inl x1, .inl x2] h1) fun h14 =>
  yrN 1 1 h14
def yb_Types_opens_p92 (C : YC) (R : ZC YS) (d : Nat) (x0 : Option Nat) (x1 : Int) (x2 : Int) (x3 : Int) (x4 : Int) (h : YS) : ZR YS :=
  zI (ycv R d [(4, 60)] x0 [.inl x2] h) fun v2 h1 =>
  if x4 < v2 then
    zQ (ycv R d [(4, 61)] x0 [.inl x2, .inl x4] h1) fun v4 h3 =>
    zI (ycv R d [(4, 85)] x0 [.inl x1, .inr (.inr v4)] h3) fun v6 h5 =>
    if v6 = (-1) then
      zG (inI (x3 + 1)) <|
      zlet (x3 + 1) fun x3_7 =>
      zG (inI (x4 + 1)) <|
      zlet (x4 + 1) fun x4_8 =>
      R d 549 [.inr (.inr x0), .inl x1, .inl x2, .inl x3_7, .inl x4_8] h5
    else
    zG (inI (x3 + 0)) <|
    zlet (x3 + 0) fun x3_9 =>
    zG (inI (x4 + 1)) <|
    zlet (x4 + 1) fun x4_10 =>
    R d 549 [.inr (.inr x0), .inl x1, .inl x2, .inl x3_9, .inl x4_10] h5
  else
  zI (ycv R d [(4, 52)] x0 [.inl 1, .inl (-1), .inl x3] h1) fun v12 h11 =>
  zlet v12 fun x4_13 =>
  zI (ycv R d [(4, 82)] x0 [.inl x1] h11) fun v15 h14 =>
  zI (ycv R d [(4, 82)] x0 [.inl x2] h14) fun v17 h16 =>
  zI (zc R d 547 [.inl v15, .inl v17] h16) fun v19 h18 =>
  zV (ycv R d [(4, 83)] x0 [.inl x4_13, .inl v19] h18) fun h20 =>
  zlet (0 : Int) fun x5_21 =>
  zlet (0 : Int) fun x6_22 =>
  zlet (0 : Int) fun x7_23 =>
  R d 782 [.inr (.inr x0), .inl x1, .inl x2, .inl x3, .inl x4_13, .inl x5_21, .inl x6_22, .inl x7_23] h20
def yb_Types_find_p2 (C : YC) (R : ZC YS) (d : Nat) (x0 : Option Nat) (x1 : Int) (x2 : Option Nat) (x3 : Int) (h : YS) : ZR YS :=
  zI (ycv R d [(4, 60)] x0 [.inl x1] h) fun v2 h1 =>
  if x3 < v2 then
    zQ (ycv R d [(4, 61)] x0 [.inl x1, .inl x3] h1) fun v4 h3 =>
    zI (ycv R d [(21, 576)] v4 [.inr (.inr x2)] h3) fun v6 h5 =>
    if v6 = 0 then
      zG (inI (x3 + 1)) <|
      zlet (x3 + 1) fun x3_7 =>
      R d 550 [.inr (.inr x0), .inl x1, .inr (.inr x2), .inl x3_7] h5
    else
    zrI x3 h5
  else
  zrI (-1) h1
def yb_Types_isRing_p45 (C : YC) (R : ZC YS) (d : Nat) (x0 : Option Nat) (x2 : Int) (x3 : Int) (x4 : Int) (h : YS) : ZR YS :=
  if x4 < 0 then
    yrN 1 0 h
  else
  ygR 1208 x0 h fun v1 =>
  yaI 1 v1 x4 h fun v2 =>
  zlet (zl2i (zshrL v2 32)) fun x5_3 =>
  ygR 1208 x0 h fun v4 =>
  yaI 1 v4 x4 h fun v5 =>
  zlet (zl2i v5) fun x6_6 =>
  zI (ycv R d [(4, 60)] x0 [.inl x5_3] h) fun v8 h7 =>
  if x6_6 = v8 then
    ygR 1204 x0 h7 fun v9 =>
    yst 0 v9 x5_3 x3 h7 fun h10 =>
    zG (inI (x4 + (-1))) <|
    zlet (x4 + (-1)) fun x4_11 =>
    R d 551 [.inr (.inr x0), .inl x2, .inl x3, .inl x4_11] h10
  else
  ygR 1208 x0 h7 fun v12 =>
  yaI 1 v12 x4 h7 fun v13 =>
  zG (inL (v13 + 1)) <|
  yst 1 v12 x4 (v13 + 1) h7 fun h14 =>
  zI (ycv R d [(4, 62)] x0 [.inl x5_3, .inl x6_6] h14) fun v16 h15 =>
  zlet v16 fun x7_17 =>
  ygR 1204 x0 h15 fun v18 =>
  yaI 0 v18 x7_17 h15 fun v19 =>
  if v19 = x2 then
    yrN 1 1 h15
  else
  ygR 1204 x0 h15 fun v20 =>
  yaI 0 v20 x7_17 h15 fun v21 =>
  if v21 = x3 then
    R d 551 [.inr (.inr x0), .inl x2, .inl x3, .inl x4] h15
  else
  zI (ycv R d [(4, 60)] x0 [.inl x7_17] h15) fun v23 h22 =>
  if v23 = 0 then
    R d 551 [.inr (.inr x0), .inl x2, .inl x3, .inl x4] h22
  else
  ygR 1204 x0 h22 fun v24 =>
  yst 0 v24 x7_17 x2 h22 fun h25 =>
  zG (inI (x4 + 1)) <|
  zlet (x4 + 1) fun x4_26 =>
  ygR 1208 x0 h25 fun v27 =>
  yst 1 v27 x4_26 (zshlL x7_17 32) h25 fun h28 =>
  R d 551 [.inr (.inr x0), .inl x2, .inl x3, .inl x4_26] h28
def yb_Types_lower_p2 (C : YC) (R : ZC YS) (d : Nat) (x0 : Option Nat) (x1 : Int) (h : YS) : ZR YS :=
  ygI 1216 x0 h fun v1 =>
  if x1 < v1 then
    ygR 1208 x0 h fun v2 =>
    ygR 1205 x0 h fun v3 =>
    yaI 0 v3 x1 h fun v4 =>
    zI (ycv R d [(4, 56)] x0 [.inl v4] h) fun v6 h5 =>
    yst 1 v2 0 v6 h5 fun h7 =>
    zlet (1 : Int) fun x2_8 =>
    R d 783 [.inr (.inr x0), .inl x1, .inl x2_8] h7
  else
  zrV h
def yb_Types_admits_p14 (C : YC) (R : ZC YS) (d : Nat) (x0 : Option Nat) (x1 : Int) (x2 : Int) (h : YS) : ZR YS :=
  ygI 1216 x0 h fun v1 =>
  if x2 < v1 then
    ygR 1205 x0 h fun v2 =>
    yaI 0 v2 x2 h fun v3 =>
    zI (ycv R d [(4, 56)] x0 [.inl v3] h) fun v5 h4 =>
    zlet v5 fun x3_6 =>
    zI (ycv R d [(4, 58)] x0 [.inl x3_6, .inl 8] h4) fun v8 h7 =>
    if v8 = 0 then
      R d 784 [.inr (.inr x0), .inl x1, .inl x2] h7
    else
    zI (ycv R d [(4, 89)] x0 [.inl x3_6, .inl x1] h7) fun v10 h9 =>
    zlet v10 fun x1_11 =>
    R d 784 [.inr (.inr x0), .inl x1_11, .inl x2] h9
  else
  yrN 1 1 h
def yb_Types_constructor_p30 (C : YC) (R : ZC YS) (d : Nat) (x0 : Option Nat) (x1 : Option Nat) (x2 : Int) (x3 : Int) (x4 : Option Nat) (x5 : Int) (h : YS) : ZR YS :=
  if x5 < x2 then
    zI (ycv R d [(4, 64)] x0 [] h) fun v2 h1 =>
    yst 0 x4 x5 v2 h1 fun h3 =>
    ygR 5701 x1 h3 fun v4 =>
    ygI 4505 v4 h3 fun v5 =>
    if (zandI (zshrI v5 x5) 1) = 1 then
      yaI 0 x4 x5 h3 fun v6 =>
      zV (ycv R d [(4, 69)] x0 [.inl v6, .inl 8] h3) fun h7 =>
      R d 785 [.inr (.inr x0), .inr (.inr x1), .inl x2, .inl x3, .inr (.inr x4), .inl x5] h7
    else
    R d 785 [.inr (.inr x0), .inr (.inr x1), .inl x2, .inl x3, .inr (.inr x4), .inl x5] h3
  else
  ygR 5703 x1 h fun v8 =>
  ynull v8 (
    zrI x3 h
  ) <|
  ygR 5703 x1 h fun v9 =>
  zI (ycv R d [(4, 73)] x0 [.inr (.inr v9), .inr (.inr x4)] h) fun v11 h10 =>
  zI (ycv R d [(4, 70)] x0 [.inl v11, .inl x3] h10) fun v13 h12 =>
  zrI v13 h12
def yb_Types_copy_p90 (C : YC) (R : ZC YS) (d : Nat) (x0 : Option Nat) (x2 : Int) (x3 : Int) (x4 : Int) (y0 : Int) (y1 : Int) (y2 : Int) (y3 : Option Nat) (h : YS) : ZR YS :=
  yst 0 y3 y2 (zorI y1 y0) h fun h1 =>
  ygR 1204 x0 h1 fun v2 =>
  ygI 1213 x0 h1 fun v3 =>
  yst 0 v2 x2 v3 h1 fun h4 =>
  ygR 1205 x0 h4 fun v5 =>
  yst 0 v5 x2 x4 h4 fun h6 =>
  zlet (0 : Int) fun x5_7 =>
  R d 786 [.inr (.inr x0), .inl x2, .inl x3, .inl x4, .inl x5_7] h6
def yb_Types_keepOpen_p2 (C : YC) (R : ZC YS) (d : Nat) (x0 : Option Nat) (x1 : Int) (x2 : Int) (h : YS) : ZR YS :=
  ygI 1215 x0 h fun v1 =>
  if x2 < v1 then
    ygR 1209 x0 h fun v2 =>
    yaI 0 v2 x2 h fun v3 =>
    zI (ycv R d [(4, 56)] x0 [.inl v3] h) fun v5 h4 =>
    zI (ycv R d [(4, 57)] x0 [.inl v5] h4) fun v7 h6 =>
    if v7 = 1 then
      ygR 1209 x0 h6 fun v8 =>
      yaI 0 v8 x2 h6 fun v9 =>
      zV (ycv R d [(4, 94)] x0 [.inl v9, .inl x1] h6) fun h10 =>
      zG (inI (x2 + 1)) <|
      zlet (x2 + 1) fun x2_11 =>
      R d 556 [.inr (.inr x0), .inl x1, .inl x2_11] h10
    else
    zG (inI (x2 + 1)) <|
    zlet (x2 + 1) fun x2_12 =>
    R d 556 [.inr (.inr x0), .inl x1, .inl x2_12] h6
  else
  zrV h
def yb_Types_has_p21 (C : YC) (R : ZC YS) (d : Nat) (x0 : Option Nat) (x2 : Int) (x3 : Int) (x4 : Int) (x5 : Int) (h : YS) : ZR YS :=
  zI (ycv R d [(4, 60)] x0 [.inl x3] h) fun v2 h1 =>
  if x5 < v2 then
    if x4 = 0 then
      zI (ycv R d [(4, 62)] x0 [.inl x3, .inl x5] h1) fun v4 h3 =>
      zI (ycv R d [(4, 95)] x0 [.inl v4, .inl x2] h3) fun v6 h5 =>
      zlet v6 fun x4_7 =>
      zG (inI (x5 + 1)) <|
      zlet (x5 + 1) fun x5_8 =>
      R d 557 [.inr (.inr x0), .inl x2, .inl x3, .inl x4_7, .inl x5_8] h5
    else
    yrN 1 x4 h1
  else
  yrN 1 x4 h1
def yb_Types_generalize_p75 (C : YC) (R : ZC YS) (d : Nat) (x0 : Option Nat) (x2 : Int) (x3 : Int) (h : YS) : ZR YS :=
  zI (ycv R d [(4, 57)] x0 [.inl x3] h) fun v2 h1 =>
  if v2 = 0 then
    zI (ycv R d [(4, 58)] x0 [.inl x3, .inl 16] h1) fun v4 h3 =>
    if v4 = 0 then
      R d 787 [.inr (.inr x0), .inl x3, .inl 1048576, .inl x3, .inr (.inr x0)] h3
    else
    R d 787 [.inr (.inr x0), .inl x3, .inl x2, .inl x3, .inr (.inr x0)] h3
  else
  zlet (0 : Int) fun x4_5 =>
  zlet (0 : Int) fun x5_6 =>
  R d 788 [.inr (.inr x0), .inl x2, .inl x3, .inl x4_5, .inl x5_6] h1
def yb_Types_settle_p2 (C : YC) (R : ZC YS) (d : Nat) (x0 : Option Nat) (x1 : Int) (h : YS) : ZR YS :=
  ygI 1211 x0 h fun v1 =>
  if x1 < v1 then
    ygR 1203 x0 h fun v2 =>
    yaI 0 v2 x1 h fun v3 =>
    if v3 < 0 then
      zI (ycv R d [(4, 57)] x0 [.inl x1] h) fun v5 h4 =>
      if v5 = 0 then
        zI (ycv R d [(4, 58)] x0 [.inl x1, .inl 16] h4) fun v7 h6 =>
        if v7 = 0 then
          zG (inI (x1 + 1)) <|
          zlet (x1 + 1) fun x1_8 =>
          R d 559 [.inr (.inr x0), .inl x1_8] h6
        else
        ygR 1201 x0 h6 fun v9 =>
        ygR 1201 x0 h6 fun v10 =>
        yaI 0 v10 x1 h6 fun v11 =>
        yst 0 v9 x1 (zorI (zandI v11 (-32)) 3) h6 fun h12 =>
        ygR 1203 x0 h12 fun v13 =>
        yst 0 v13 x1 (-2) h12 fun h14 =>
        zG (inI (x1 + 1)) <|
        zlet (x1 + 1) fun x1_15 =>
        R d 559 [.inr (.inr x0), .inl x1_15] h14
      else
      zG (inI (x1 + 1)) <|
      zlet (x1 + 1) fun x1_16 =>
      R d 559 [.inr (.inr x0), .inl x1_16] h4
    else
    zG (inI (x1 + 1)) <|
    zlet (x1 + 1) fun x1_17 =>
    R d 559 [.inr (.inr x0), .inl x1_17] h
  else
  zrV h
def yb_Types_openPlace_p4 (C : YC) (R : ZC YS) (d : Nat) (x0 : Option Nat) (x1 : Int) (x2 : Int) (h : YS) : ZR YS :=
  ygI 1215 x0 h fun v1 =>
  if x2 < v1 then
    ygR 1209 x0 h fun v2 =>
    yaI 0 v2 x2 h fun v3 =>
    zI (ycv R d [(4, 56)] x0 [.inl v3] h) fun v5 h4 =>
    zI (ycv R d [(4, 57)] x0 [.inl v5] h4) fun v7 h6 =>
    if v7 = 1 then
      if x1 = (-1) then
        R d 789 [.inr (.inr x0), .inl x2] h6
      else
      ygR 1210 x0 h6 fun v8 =>
      yaI 0 v8 x2 h6 fun v9 =>
      if v9 < x1 then
        R d 789 [.inr (.inr x0), .inl x2] h6
      else
      zG (inI (x2 + 1)) <|
      zlet (x2 + 1) fun x2_10 =>
      R d 560 [.inr (.inr x0), .inl x1, .inl x2_10] h6
    else
    zG (inI (x2 + 1)) <|
    zlet (x2 + 1) fun x2_11 =>
    R d 560 [.inr (.inr x0), .inl x1, .inl x2_11] h6
  else
  zrI x1 h
def yb_Types_hasUnknown_p33 (C : YC) (R : ZC YS) (d : Nat) (x0 : Option Nat) (x2 : Int) (x3 : Int) (x4 : Int) (h : YS) : ZR YS :=
  zI (ycv R d [(4, 60)] x0 [.inl x2] h) fun v2 h1 =>
  if x4 < v2 then
    if x3 = 0 then
      zI (ycv R d [(4, 62)] x0 [.inl x2, .inl x4] h1) fun v4 h3 =>
      zI (ycv R d [(4, 99)] x0 [.inl v4] h3) fun v6 h5 =>
      zlet v6 fun x3_7 =>
      zG (inI (x4 + 1)) <|
      zlet (x4 + 1) fun x4_8 =>
      R d 561 [.inr (.inr x0), .inl x2, .inl x3_7, .inl x4_8] h5
    else
    yrN 1 x3 h1
  else
  yrN 1 x3 h1
def yb_Parser_input_p63 (C : YC) (R : ZC YS) (d : Nat) (x0 : Option Nat) (y0 : Option Nat) (y1 : Option Nat) (h : YS) : ZR YS :=
  ypR 1805 y1 y0 h fun h1 =>
  ygR 1804 x0 h1 fun v2 =>
  zI (zc R d 102 [.inr (.inr v2)] h1) fun v4 h3 =>
  if v4 = 0 then
    ynew 5 3 h3 fun r5 h6 =>
    zV (ycs R d 503 r5 [] h6) fun h7 =>
    zlet r5 fun x1_8 =>
    ynew 24 7 h7 fun r9 h10 =>
    zV (ycs R d 324 r9 [] h10) fun h11 =>
    zlet r9 fun x2_12 =>
    ygR 1803 x0 h11 fun v13 =>
    zI (ycv R d [(5, 505)] v13 [.inr (.inr x2_12)] h11) fun v15 h14 =>
    ygR 1804 x0 h14 fun v16 =>
    ygI 6601 v16 h14 fun v17 =>
    zlet v17 fun x3_18 =>
    ygR 7205 x2_12 h14 fun v19 =>
    zQ (ycv R d [(6, 140)] x0 [] h14) fun v21 h20 =>
    zI (ycv R d [(5, 505)] v19 [.inr (.inr v21)] h20) fun v23 h22 =>
    ygR 7204 x2_12 h22 fun v24 =>
    ynew 33 6 h22 fun r25 h26 =>
    zV (ycs R d 353 r25 [.inr (.inr (some (C.1 147))), .inl x3_18, .inl x3_18, .inl 0] h26) fun h27 =>
    zI (ycv R d [(5, 505)] v24 [.inr (.inr r25)] h27) fun v29 h28 =>
    zI (ycv R d [(5, 505)] x1_8 [.inr (.inr x2_12)] h28) fun v31 h30 =>
    R d 790 [.inr (.inr x0), .inr (.inr x1_8)] h30
  else
  zQ (ycv R d [(6, 103)] x0 [.inl 1] h3) fun v33 h32 =>
  zlet v33 fun x1_34 =>
  R d 790 [.inr (.inr x0), .inr (.inr x1_34)] h32
def yb_Parser_decs_p16 (C : YC) (R : ZC YS) (d : Nat) (x0 : Option Nat) (x1 : Int) (x2 : Option Nat) (x3 : Int) (h : YS) : ZR YS :=
  if x3 = 0 then
    zrQ x2 h
  else
  zV (ycv R d [(6, 104)] x0 [.inr (.inr x2)] h) fun h1 =>
  ygR 1804 x0 h1 fun v2 =>
  zI (ycv R d [(22, 316)] v2 [.inr (.inr (some (C.1 140)))] h1) fun v4 h3 =>
  if v4 = 0 then
    R d 791 [.inr (.inr x0), .inl x1, .inr (.inr x2)] h3
  else
  if x1 = 0 then
    R d 792 [.inr (.inr x0), .inl x1, .inr (.inr x2)] h3
  else
  ygR 1805 x0 h3 fun v5 =>
  zI (zc R d 102 [.inr (.inr v5)] h3) fun v7 h6 =>
  if v7 = 0 then
    R d 791 [.inr (.inr x0), .inl x1, .inr (.inr x2)] h6
  else
  R d 792 [.inr (.inr x0), .inl x1, .inr (.inr x2)] h6
def yb_Parser_value_p27 (C : YC) (R : ZC YS) (d : Nat) (x0 : Option Nat) (x1 : Option Nat) (h : YS) : ZR YS :=
  ygR 7204 x1 h fun v1 =>
  zQ (ycv R d [(6, 109)] x0 [] h) fun v3 h2 =>
  zI (ycv R d [(5, 505)] v1 [.inr (.inr v3)] h2) fun v5 h4 =>
  zV (ycv R d [(6, 119)] x0 [.inr (.inr (some (C.1 1)))] h4) fun h6 =>
  ygR 7205 x1 h6 fun v7 =>
  zQ (ycv R d [(6, 140)] x0 [] h6) fun v9 h8 =>
  zI (ycv R d [(5, 505)] v7 [.inr (.inr v9)] h8) fun v11 h10 =>
  zI (ycv R d [(6, 108)] x0 [.inr (.inr (some (C.1 146)))] h10) fun v13 h12 =>
  if v13 = 0 then
    zV (ycv R d [(6, 157)] x0 [] h12) fun h14 =>
    zrQ x1 h14
  else
  R d 564 [.inr (.inr x0), .inr (.inr x1)] h12
def yb_Parser_pat_p47 (C : YC) (R : ZC YS) (d : Nat) (x0 : Option Nat) (x1 : Int) (y0 : Int) (h : YS) : ZR YS :=
  zlet y0 fun x2_1 =>
  zQ (ycv R d [(6, 111)] x0 [] h) fun v3 h2 =>
  zlet v3 fun x3_4 =>
  ygR 1804 x0 h2 fun v5 =>
  zI (ycv R d [(22, 316)] v5 [.inr (.inr (some (C.1 122)))] h2) fun v7 h6 =>
  if v7 = 0 then
    ygR 1804 x0 h6 fun v8 =>
    zI (ycv R d [(22, 316)] v8 [.inr (.inr (some (C.1 125)))] h6) fun v10 h9 =>
    if v10 = 0 then
      zrQ x3_4 h9
    else
    R d 793 [.inr (.inr x0), .inl x1, .inl x2_1, .inr (.inr x3_4)] h9
  else
  R d 793 [.inr (.inr x0), .inl x1, .inl x2_1, .inr (.inr x3_4)] h6
def yb_Parser_strength_p22 (C : YC) (R : ZC YS) (d : Nat) (x0 : Option Nat) (x1 : Option Nat) (x2 : Int) (h : YS) : ZR YS :=
  if x2 < 0 then
    zrQ none h
  else
  ygR 1802 x0 h fun v1 =>
  zQ (ycv R d [(5, 528)] v1 [.inl x2] h) fun v3 h2 =>
  ycc 10 21 v3 h2 <|
  ygR 2100 v3 h2 fun v4 =>
  ygR 6602 x1 h2 fun v5 =>
  zI (ycv R d [(21, 576)] v4 [.inr (.inr v5)] h2) fun v7 h6 =>
  if v7 = 0 then
    zG (inI (x2 + (-1))) <|
    zlet (x2 + (-1)) fun x2_8 =>
    R d 566 [.inr (.inr x0), .inr (.inr x1), .inl x2_8] h6
  else
  ygR 1802 x0 h6 fun v9 =>
  zQ (ycv R d [(5, 528)] v9 [.inl x2] h6) fun v11 h10 =>
  ycc 10 21 v11 h10 <|
  ygI 2101 v11 h10 fun v12 =>
  if v12 < 0 then
    zrQ none h10
  else
  ygR 1802 x0 h10 fun v13 =>
  zQ (ycv R d [(5, 528)] v13 [.inl x2] h10) fun v15 h14 =>
  ycc 10 21 v15 h14 <|
  zrQ v15 h14
def yb_Parser_consPat_p40 (C : YC) (R : ZC YS) (d : Nat) (x0 : Option Nat) (x2 : Option Nat) (x3 : Option Nat) (h : YS) : ZR YS :=
  ygR 1804 x0 h fun v1 =>
  zQ (ycv R d [(6, 110)] x0 [.inr (.inr v1)] h) fun v3 h2 =>
  ynull v3 (
    R d 794 [.inr (.inr x0), .inr (.inr x2), .inr (.inr x3)] h2
  ) <|
  R d 795 [.inr (.inr x0), .inr (.inr x2), .inr (.inr x3)] h2
def yb_Parser_appPat_p39 (C : YC) (R : ZC YS) (d : Nat) (x0 : Option Nat) (y0 : Int) (h : YS) : ZR YS :=
  zlet y0 fun x1_1 =>
  zQ (ycv R d [(6, 113)] x0 [] h) fun v3 h2 =>
  zlet v3 fun x2_4 =>
  if x1_1 = 0 then
    zrQ x2_4 h2
  else
  zI (ycv R d [(6, 114)] x0 [] h2) fun v6 h5 =>
  if v6 = 0 then
    zrQ x2_4 h5
  else
  ycc 10 165 x2_4 h5 <|
  zlet x2_4 fun x3_7 =>
  ynew 38 6 h5 fun r8 h9 =>
  ygR 9901 x3_7 h9 fun v10 =>
  ygI 9902 x3_7 h9 fun v11 =>
  ygIk 33 7500 x3_7 h9 fun v12 =>
  zQ (ycv R d [(6, 113)] x0 [] h9) fun v14 h13 =>
  zV (ycs R d 378 r8 [.inr (.inr v10), .inl v11, .inl v12, .inl 0, .inr (.inr v14)] h13) fun h15 =>
  zrQ r8 h15
def yb_Parser_atPat_p119 (C : YC) (R : ZC YS) (d : Nat) (x0 : Option Nat) (x1 : Int) (h : YS) : ZR YS :=
  zI (ycv R d [(6, 108)] x0 [.inr (.inr (some (C.1 112)))] h) fun v2 h1 =>
  ygR 1804 x0 h1 fun v3 =>
  ygI 6601 v3 h1 fun v4 =>
  zlet v4 fun x2_5 =>
  ynew 33 6 h1 fun r6 h7 =>
  zQ (ycv R d [(6, 135)] x0 [] h7) fun v9 h8 =>
  zV (ycs R d 353 r6 [.inr (.inr v9), .inl x2_5, .inl x1, .inl 0] h8) fun h10 =>
  zrQ r6 h10
def yb_Parser_isAtPat_p86 (C : YC) (R : ZC YS) (d : Nat) (x0 : Option Nat) (h : YS) : ZR YS :=
  ygR 1804 x0 h fun v1 =>
  zI (ycv R d [(22, 316)] v1 [.inr (.inr (some (C.1 114)))] h) fun v3 h2 =>
  if v3 = 0 then
    ygR 1804 x0 h2 fun v4 =>
    zI (ycv R d [(22, 316)] v4 [.inr (.inr (some (C.1 115)))] h2) fun v6 h5 =>
    if v6 = 0 then
      ygR 1804 x0 h5 fun v7 =>
      zI (ycv R d [(22, 316)] v7 [.inr (.inr (some (C.1 116)))] h5) fun v9 h8 =>
      if v9 = 0 then
        yrN 1 0 h8
      else
      yrN 1 1 h8
    else
    yrN 1 1 h5
  else
  yrN 1 1 h2
def yb_ArrayList_init_2 (C : YC) (R : ZC YS) (d : Nat) (x0 : Option Nat) (x1 : Int) (h : YS) : ZR YS :=
  zV (ycs R d 753 x0 [] h) fun h1 =>
  if x1 ≤ 0 then
    if x1 = 0 then
      ysvR C 15 fun v2 =>
      ypR 1501 x0 v2 h1 fun h3 =>
      zrV h3
    else
    none
  else
  yna 5 x1 h1 fun r4 h5 =>
  ypR 1501 x0 r4 h5 fun h6 =>
  zrV h6
def yb_Parser_bracketPat_p27 (C : YC) (R : ZC YS) (d : Nat) (x0 : Option Nat) (x1 : Int) (x2 : Option Nat) (h : YS) : ZR YS :=
  zQ (ycv R d [(6, 109)] x0 [] h) fun v2 h1 =>
  zI (ycv R d [(5, 505)] x2 [.inr (.inr v2)] h1) fun v4 h3 =>
  zI (ycv R d [(6, 108)] x0 [.inr (.inr (some (C.1 118)))] h3) fun v6 h5 =>
  if v6 = 0 then
    R d 573 [.inr (.inr x0), .inl x1, .inr (.inr x2)] h5
  else
  R d 572 [.inr (.inr x0), .inl x1, .inr (.inr x2)] h5
def yb_Parser_bracketPat_p46 (C : YC) (R : ZC YS) (d : Nat) (x0 : Option Nat) (x1 : Int) (x2 : Option Nat) (h : YS) : ZR YS :=
  zV (ycv R d [(6, 118)] x0 [.inr (.inr (some (C.1 117)))] h) fun h1 =>
  zI (ycv R d [(5, 506)] x2 [] h1) fun v3 h2 =>
  if v3 = 1 then
    zQ (ycv R d [(5, 528)] x2 [.inl 0] h2) fun v5 h4 =>
    ycc 10 303 v5 h4 <|
    ypI 7500 0 v5 x1 h4 fun h6 =>
    zQ (ycv R d [(5, 528)] x2 [.inl 0] h6) fun v8 h7 =>
    ycc 10 303 v8 h7 <|
    zrQ v8 h7
  else
  ynew 25 7 h2 fun r9 h10 =>
  zI (ycv R d [(5, 506)] x2 [] h10) fun v12 h11 =>
  zQ (ycv R d [(6, 120)] x0 [.inl v12] h11) fun v14 h13 =>
  zV (ycs R d 333 r9 [.inl x1, .inr (.inr v14), .inr (.inr none), .inr (.inr x2), .inl 0] h13) fun h15 =>
  zrQ r9 h15
def yb_Parser_numbered_p11 (C : YC) (R : ZC YS) (d : Nat) (x0 : Option Nat) (x1 : Int) (x2 : Option Nat) (x3 : Int) (h : YS) : ZR YS :=
  if x3 ≤ x1 then
    zQ (ycv R d [(6, 121)] x0 [.inl x3] h) fun v2 h1 =>
    zI (ycv R d [(5, 505)] x2 [.inr (.inr v2)] h1) fun v4 h3 =>
    zG (inI (x3 + 1)) <|
    zlet (x3 + 1) fun x3_5 =>
    R d 574 [.inr (.inr x0), .inl x1, .inr (.inr x2), .inl x3_5] h3
  else
  zrQ x2 h
def yb_Parser_rowPat_p53 (C : YC) (R : ZC YS) (d : Nat) (x0 : Option Nat) (x1 : Int) (x2 : Option Nat) (x3 : Option Nat) (x4 : Option Nat) (x5 : Int) (x6 : Int) (h : YS) : ZR YS :=
  if x6 = 0 then
    R d 796 [.inr (.inr x0), .inl x1, .inr (.inr x2), .inr (.inr x3), .inr (.inr x4), .inl x5] h
  else
  zI (ycv R d [(6, 108)] x0 [.inr (.inr (some (C.1 120)))] h) fun v2 h1 =>
  if v2 = 0 then
    ygR 1804 x0 h1 fun v3 =>
    zI (ycv R d [(22, 317)] v3 [] h1) fun v5 h4 =>
    zlet v5 fun x7_6 =>
    ygR 1804 x0 h4 fun v7 =>
    ygI 6601 v7 h4 fun v8 =>
    zlet v8 fun x8_9 =>
    zQ (zc R d 747 [.inl x8_9] h4) fun v11 h10 =>
    zI (ycv R d [(5, 505)] x3 [.inr (.inr v11)] h10) fun v13 h12 =>
    zQ (ycv R d [(6, 123)] x0 [] h12) fun v15 h14 =>
    zlet v15 fun x9_16 =>
    zI (ycv R d [(5, 505)] x2 [.inr (.inr x9_16)] h14) fun v18 h17 =>
    zI (ycv R d [(6, 108)] x0 [.inr (.inr (some (C.1 1)))] h17) fun v20 h19 =>
    if v20 = 0 then
      zQ (ycv R d [(6, 125)] x0 [.inl x7_6, .inr (.inr x9_16), .inl x8_9] h19) fun v22 h21 =>
      R d 797 [.inr (.inr x0), .inl x1, .inr (.inr x2), .inr (.inr x3), .inr (.inr x4), .inl x5, .inr (.inr v22), .inr (.inr x4)] h21
    else
    zQ (ycv R d [(6, 109)] x0 [] h19) fun v24 h23 =>
    R d 797 [.inr (.inr x0), .inl x1, .inr (.inr x2), .inr (.inr x3), .inr (.inr x4), .inl x5, .inr (.inr v24), .inr (.inr x4)] h23
  else
  zlet (1 : Int) fun x5_25 =>
  R d 796 [.inr (.inr x0), .inl x1, .inr (.inr x2), .inr (.inr x3), .inr (.inr x4), .inl x5_25] h1
def yb_String_equals (C : YC) (R : ZC YS) (d : Nat) (x0 : Option Nat) (x1 : Option Nat) (h : YS) : ZR YS :=
  if x0 = x1 then
    yrN 1 1 h
  else
  yio 30 10 x1 h fun v1 =>
  if v1 = 0 then
    yrN 1 0 h
  else
  ycc 30 10 x1 h <|
  zlet x1 fun x2_2 =>
  ysvI C 4 fun v3 =>
  if v3 = 0 then
    R d 798 [.inr (.inr x0), .inr (.inr x2_2)] h
  else
  ygI 6301 x0 h fun v4 =>
  ygI 6301 x2_2 h fun v5 =>
  if v4 = v5 then
    R d 798 [.inr (.inr x0), .inr (.inr x2_2)] h
  else
  yrN 1 0 h
def yb_Parser_short0_p27 (C : YC) (R : ZC YS) (d : Nat) (x0 : Option Nat) (x2 : Option Nat) (x3 : Int) (y0 : Option Nat) (h : YS) : ZR YS :=
  zlet y0 fun x4_1 =>
  zI (ycv R d [(6, 108)] x0 [.inr (.inr (some (C.1 125)))] h) fun v3 h2 =>
  if v3 = 0 then
    ynew 33 6 h2 fun r4 h5 =>
    zV (ycs R d 353 r4 [.inr (.inr x2), .inl x3, .inl x3, .inl 1] h5) fun h6 =>
    zlet r4 fun x5_7 =>
    ynull x4_1 (
      zrQ x5_7 h6
    ) <|
    ynew 34 3 h6 fun r8 h9 =>
    zV (ycs R d 358 r8 [.inr (.inr x5_7), .inr (.inr x4_1)] h9) fun h10 =>
    zrQ r8 h10
  else
  ynew 32 6 h2 fun r11 h12 =>
  zQ (ycv R d [(6, 109)] x0 [] h12) fun v14 h13 =>
  zV (ycs R d 348 r11 [.inr (.inr x2), .inl x3, .inl x3, .inr (.inr x4_1), .inr (.inr v14)] h13) fun h15 =>
  zrQ r11 h15
def yb_Parser_ty_p42 (C : YC) (R : ZC YS) (d : Nat) (x0 : Option Nat) (x1 : Int) (x3 : Option Nat) (h : YS) : ZR YS :=
  zI (ycv R d [(6, 108)] x0 [.inr (.inr (some (C.1 124)))] h) fun v2 h1 =>
  if v2 = 0 then
    ynew 31 2 h1 fun r3 h4 =>
    zV (ycs R d 346 r3 [.inl x1, .inr (.inr x3)] h4) fun h5 =>
    zrQ r3 h5
  else
  zQ (ycv R d [(6, 127)] x0 [] h1) fun v7 h6 =>
  zI (ycv R d [(5, 505)] x3 [.inr (.inr v7)] h6) fun v9 h8 =>
  R d 578 [.inr (.inr x0), .inl x1, .inr (.inr x3)] h8
def yb_Parser_tuple_p42 (C : YC) (R : ZC YS) (d : Nat) (x0 : Option Nat) (x1 : Int) (x3 : Option Nat) (h : YS) : ZR YS :=
  ygR 1804 x0 h fun v1 =>
  zI (ycv R d [(22, 318)] v1 [.inr (.inr (some (C.1 123)))] h) fun v3 h2 =>
  if v3 = 0 then
    ynew 29 4 h2 fun r4 h5 =>
    zI (ycv R d [(5, 506)] x3 [] h5) fun v7 h6 =>
    zQ (ycv R d [(6, 120)] x0 [.inl v7] h6) fun v9 h8 =>
    zV (ycs R d 342 r4 [.inl x1, .inr (.inr v9), .inr (.inr none), .inr (.inr x3)] h8) fun h10 =>
    zrQ r4 h10
  else
  zV (ycv R d [(6, 106)] x0 [] h2) fun h11 =>
  zQ (ycv R d [(6, 128)] x0 [] h11) fun v13 h12 =>
  zI (ycv R d [(5, 505)] x3 [.inr (.inr v13)] h12) fun v15 h14 =>
  R d 579 [.inr (.inr x0), .inl x1, .inr (.inr x3)] h14
def yb_Parser_suffix_p5 (C : YC) (R : ZC YS) (d : Nat) (x0 : Option Nat) (x1 : Option Nat) (h : YS) : ZR YS :=
  zI (ycv R d [(6, 133)] x0 [] h) fun v2 h1 =>
  if v2 = 0 then
    zrQ x1 h1
  else
  ynew 5 3 h1 fun r3 h4 =>
  zV (ycs R d 503 r3 [] h4) fun h5 =>
  zlet r3 fun x2_6 =>
  zI (ycv R d [(5, 505)] x2_6 [.inr (.inr x1)] h5) fun v8 h7 =>
  zQ (ycv R d [(6, 132)] x0 [.inr (.inr x2_6)] h7) fun v10 h9 =>
  zlet v10 fun x1_11 =>
  R d 580 [.inr (.inr x0), .inr (.inr x1_11)] h9
def yb_Parser_atTy_p74 (C : YC) (R : ZC YS) (d : Nat) (x0 : Option Nat) (x1 : Option Nat) (h : YS) : ZR YS :=
  zQ (ycv R d [(6, 126)] x0 [] h) fun v2 h1 =>
  zI (ycv R d [(5, 505)] x1 [.inr (.inr v2)] h1) fun v4 h3 =>
  zI (ycv R d [(6, 108)] x0 [.inr (.inr (some (C.1 118)))] h3) fun v6 h5 =>
  if v6 = 0 then
    zV (ycv R d [(6, 118)] x0 [.inr (.inr (some (C.1 117)))] h5) fun h7 =>
    zI (ycv R d [(5, 506)] x1 [] h7) fun v9 h8 =>
    if v9 = 1 then
      zQ (ycv R d [(5, 528)] x1 [.inl 0] h8) fun v11 h10 =>
      ycc 10 441 v11 h10 <|
      zrQ v11 h10
    else
    zQ (ycv R d [(6, 132)] x0 [.inr (.inr x1)] h8) fun v13 h12 =>
    zrQ v13 h12
  else
  R d 581 [.inr (.inr x0), .inr (.inr x1)] h5
def yb_ArrayList_isEmpty (C : YC) (R : ZC YS) (d : Nat) (x0 : Option Nat) (h : YS) : ZR YS :=
  ygI 1502 x0 h fun v1 =>
  if v1 = 0 then
    yrN 1 1 h
  else
  yrN 1 0 h
def yb_Parser_variable_p77 (C : YC) (R : ZC YS) (d : Nat) (x0 : Option Nat) (x1 : Option Nat) (h : YS) : ZR YS :=
  zV (ycv R d [(6, 106)] x0 [] h) fun h1 =>
  ynew 28 2 h1 fun r2 h3 =>
  ygR 8100 x1 h3 fun v4 =>
  ygI 8101 x1 h3 fun v5 =>
  zV (ycs R d 340 r2 [.inr (.inr v4), .inl v5] h3) fun h6 =>
  zrQ r2 h6
def yb_Parser_rowTy_p43 (C : YC) (R : ZC YS) (d : Nat) (x0 : Option Nat) (x1 : Int) (x2 : Option Nat) (x3 : Option Nat) (x4 : Option Nat) (h : YS) : ZR YS :=
  ygR 1804 x0 h fun v1 =>
  ygI 6601 v1 h fun v2 =>
  zQ (zc R d 747 [.inl v2] h) fun v4 h3 =>
  zI (ycv R d [(5, 505)] x3 [.inr (.inr v4)] h3) fun v6 h5 =>
  zQ (ycv R d [(6, 123)] x0 [] h5) fun v8 h7 =>
  zI (ycv R d [(5, 505)] x2 [.inr (.inr v8)] h7) fun v10 h9 =>
  zV (ycv R d [(6, 119)] x0 [.inr (.inr (some (C.1 122)))] h9) fun h11 =>
  zQ (ycv R d [(6, 126)] x0 [] h11) fun v13 h12 =>
  zI (ycv R d [(5, 505)] x4 [.inr (.inr v13)] h12) fun v15 h14 =>
  zI (ycv R d [(6, 108)] x0 [.inr (.inr (some (C.1 118)))] h14) fun v17 h16 =>
  if v17 = 0 then
    R d 585 [.inr (.inr x0), .inl x1, .inr (.inr x2), .inr (.inr x3), .inr (.inr x4)] h16
  else
  R d 584 [.inr (.inr x0), .inl x1, .inr (.inr x2), .inr (.inr x3), .inr (.inr x4)] h16
def yb_Parser_rowTy_p94 (C : YC) (R : ZC YS) (d : Nat) (x0 : Option Nat) (x1 : Int) (x2 : Option Nat) (x3 : Option Nat) (x4 : Option Nat) (h : YS) : ZR YS :=
  zV (ycv R d [(6, 118)] x0 [.inr (.inr (some (C.1 119)))] h) fun h1 =>
  ynew 29 4 h1 fun r2 h3 =>
  zV (ycs R d 342 r2 [.inl x1, .inr (.inr x2), .inr (.inr x3), .inr (.inr x4)] h3) fun h4 =>
  zrQ r2 h4
def yb_Parser_listPat_p26 (C : YC) (R : ZC YS) (d : Nat) (x0 : Option Nat) (x1 : Int) (x2 : Option Nat) (h : YS) : ZR YS :=
  zQ (ycv R d [(6, 109)] x0 [] h) fun v2 h1 =>
  zI (ycv R d [(5, 505)] x2 [.inr (.inr v2)] h1) fun v4 h3 =>
  zI (ycv R d [(6, 108)] x0 [.inr (.inr (some (C.1 118)))] h3) fun v6 h5 =>
  if v6 = 0 then
    R d 587 [.inr (.inr x0), .inl x1, .inr (.inr x2)] h5
  else
  R d 586 [.inr (.inr x0), .inl x1, .inr (.inr x2)] h5
def yb_Parser_listPat_p45 (C : YC) (R : ZC YS) (d : Nat) (x0 : Option Nat) (x1 : Int) (x2 : Option Nat) (h : YS) : ZR YS :=
  zV (ycv R d [(6, 118)] x0 [.inr (.inr (some (C.1 126)))] h) fun h1 =>
  ynew 35 2 h1 fun r2 h3 =>
  zV (ycs R d 363 r2 [.inl x1, .inr (.inr x2)] h3) fun h4 =>
  zrQ r2 h4
def yb_Parser_opName_p27 (C : YC) (R : ZC YS) (d : Nat) (x0 : Option Nat) (h : YS) : ZR YS :=
  ygR 1804 x0 h fun v1 =>
  ygR 6602 v1 h fun v2 =>
  zlet v2 fun x1_3 =>
  zV (ycv R d [(6, 106)] x0 [] h) fun h4 =>
  zrQ x1_3 h4
def yb_Parser_isAhead_p50 (C : YC) (R : ZC YS) (d : Nat) (x3 : Option Nat) (x4 : Option Nat) (h : YS) : ZR YS :=
  ygI 2101 x3 h fun v1 =>
  ygI 2101 x4 h fun v2 =>
  if v1 ≤ v2 then
    ygI 2101 x3 h fun v3 =>
    ygI 2101 x4 h fun v4 =>
    if v3 = v4 then
      ygI 2102 x3 h fun v5 =>
      if v5 = 0 then
        yrN 1 1 h
      else
      yrN 1 0 h
    else
    yrN 1 0 h
  else
  yrN 1 1 h
def yb_ArrayList_remove (C : YC) (R : ZC YS) (d : Nat) (x0 : Option Nat) (x1 : Int) (h : YS) : ZR YS :=
  ygI 1502 x0 h fun v1 =>
  zI (zc R d 768 [.inl x1, .inl v1] h) fun v3 h2 =>
  ygR 1501 x0 h2 fun v4 =>
  zlet v4 fun x2_5 =>
  yaR x2_5 x1 h2 fun v6 =>
  zlet v6 fun x3_7 =>
  zV (ycv R d [(5, 799)] x0 [.inr (.inr x2_5), .inl x1] h2) fun h8 =>
  zrQ x3_7 h8
def yb_Parser_exp_p17 (C : YC) (R : ZC YS) (d : Nat) (x0 : Option Nat) (x1 : Option Nat) (h : YS) : ZR YS :=
  ygR 1804 x0 h fun v1 =>
  zI (ycv R d [(22, 316)] v1 [.inr (.inr (some (C.1 145)))] h) fun v3 h2 =>
  if v3 = 0 then
    zrQ x1 h2
  else
  zI (ycv R d [(6, 117)] x0 [] h2) fun v5 h4 =>
  zlet v5 fun x2_6 =>
  ynew 57 4 h4 fun r7 h8 =>
  zQ (ycv R d [(6, 143)] x0 [] h8) fun v10 h9 =>
  zV (ycs R d 450 r7 [.inr (.inr x1), .inr (.inr v10), .inl x2_6] h9) fun h11 =>
  zlet r7 fun x1_12 =>
  ygI 1806 x0 h11 fun v13 =>
  zG (inI (v13 - 1)) <|
  ypI 1806 0 x0 (v13 - 1) h11 fun h14 =>
  R d 591 [.inr (.inr x0), .inr (.inr x1_12)] h14
def yb_Parser_wide_p215 (C : YC) (R : ZC YS) (d : Nat) (x0 : Option Nat) (x6 : Option Nat) (h : YS) : ZR YS :=
  ygI 1806 x0 h fun v1 =>
  zG (inI (v1 - 1)) <|
  ypI 1806 0 x0 (v1 - 1) h fun h2 =>
  zrQ x6 h2
def yb_Parser_rules_p8 (C : YC) (R : ZC YS) (d : Nat) (x0 : Option Nat) (x1 : Option Nat) (h : YS) : ZR YS :=
  zQ (ycv R d [(6, 109)] x0 [] h) fun v2 h1 =>
  zlet v2 fun x2_3 =>
  zV (ycv R d [(6, 119)] x0 [.inr (.inr (some (C.1 136)))] h1) fun h4 =>
  ygR 12900 x1 h4 fun v5 =>
  ynew 44 2 h4 fun r6 h7 =>
  zQ (ycv R d [(6, 140)] x0 [] h7) fun v9 h8 =>
  zV (ycs R d 401 r6 [.inr (.inr x2_3), .inr (.inr v9)] h8) fun h10 =>
  zI (ycv R d [(5, 505)] v5 [.inr (.inr r6)] h10) fun v12 h11 =>
  zI (ycv R d [(6, 108)] x0 [.inr (.inr (some (C.1 137)))] h11) fun v14 h13 =>
  if v14 = 0 then
    zrQ x1 h13
  else
  R d 593 [.inr (.inr x0), .inr (.inr x1)] h13
def yb_Parser_either_p5 (C : YC) (R : ZC YS) (d : Nat) (x0 : Option Nat) (x1 : Option Nat) (h : YS) : ZR YS :=
  ygR 1804 x0 h fun v1 =>
  zI (ycv R d [(22, 316)] v1 [.inr (.inr (some (C.1 144)))] h) fun v3 h2 =>
  if v3 = 0 then
    zrQ x1 h2
  else
  zI (ycv R d [(6, 117)] x0 [] h2) fun v5 h4 =>
  ynew 56 4 h4 fun r6 h7 =>
  zI (ycv R d [(6, 141)] x0 [] h7) fun v9 h8 =>
  if v9 = 0 then
    zQ (ycv R d [(6, 145)] x0 [] h8) fun v11 h10 =>
    R d 800 [.inr (.inr x0), .inr (.inr v11), .inr (.inr x1), .inl 0, .inr (.inr r6), .inr (.inr r6)] h10
  else
  zQ (ycv R d [(6, 142)] x0 [] h8) fun v13 h12 =>
  R d 800 [.inr (.inr x0), .inr (.inr v13), .inr (.inr x1), .inl 0, .inr (.inr r6), .inr (.inr r6)] h12
def yb_Parser_both_p5 (C : YC) (R : ZC YS) (d : Nat) (x0 : Option Nat) (x1 : Option Nat) (h : YS) : ZR YS :=
  ygR 1804 x0 h fun v1 =>
  zI (ycv R d [(22, 316)] v1 [.inr (.inr (some (C.1 143)))] h) fun v3 h2 =>
  if v3 = 0 then
    zrQ x1 h2
  else
  zI (ycv R d [(6, 117)] x0 [] h2) fun v5 h4 =>
  ynew 56 4 h4 fun r6 h7 =>
  zI (ycv R d [(6, 141)] x0 [] h7) fun v9 h8 =>
  if v9 = 0 then
    zQ (ycv R d [(6, 146)] x0 [] h8) fun v11 h10 =>
    R d 801 [.inr (.inr x0), .inr (.inr v11), .inr (.inr x1), .inl 1, .inr (.inr r6), .inr (.inr r6)] h10
  else
  zQ (ycv R d [(6, 142)] x0 [] h8) fun v13 h12 =>
  R d 801 [.inr (.inr x0), .inr (.inr v13), .inr (.inr x1), .inl 1, .inr (.inr r6), .inr (.inr r6)] h12
def yb_Parser_typed_p5 (C : YC) (R : ZC YS) (d : Nat) (x0 : Option Nat) (x1 : Option Nat) (h : YS) : ZR YS :=
  zI (ycv R d [(6, 108)] x0 [.inr (.inr (some (C.1 122)))] h) fun v2 h1 =>
  if v2 = 0 then
    zrQ x1 h1
  else
  ynew 55 3 h1 fun r3 h4 =>
  zQ (ycv R d [(6, 126)] x0 [] h4) fun v6 h5 =>
  zV (ycs R d 443 r3 [.inr (.inr x1), .inr (.inr v6)] h5) fun h7 =>
  zlet r3 fun x1_8 =>
  R d 596 [.inr (.inr x0), .inr (.inr x1_8)] h7
def yb_Parser_infixed_p40 (C : YC) (R : ZC YS) (d : Nat) (x0 : Option Nat) (x2 : Option Nat) (x3 : Option Nat) (h : YS) : ZR YS :=
  ygR 1804 x0 h fun v1 =>
  zQ (ycv R d [(6, 137)] x0 [.inr (.inr v1)] h) fun v3 h2 =>
  ynull v3 (
    R d 802 [.inr (.inr x0), .inr (.inr x2), .inr (.inr x3)] h2
  ) <|
  R d 803 [.inr (.inr x0), .inr (.inr x2), .inr (.inr x3)] h2
def yb_Parser_app_p22 (C : YC) (R : ZC YS) (d : Nat) (x0 : Option Nat) (x1 : Option Nat) (x2 : Option Nat) (h : YS) : ZR YS :=
  zI (ycv R d [(6, 150)] x0 [] h) fun v2 h1 =>
  if v2 = 0 then
    ynew 53 3 h1 fun r3 h4 =>
    zV (ycs R d 434 r3 [.inr (.inr x1), .inr (.inr x2)] h4) fun h5 =>
    zrQ r3 h5
  else
  zQ (ycv R d [(6, 149)] x0 [] h1) fun v7 h6 =>
  zI (ycv R d [(5, 505)] x2 [.inr (.inr v7)] h6) fun v9 h8 =>
  R d 598 [.inr (.inr x0), .inr (.inr x1), .inr (.inr x2)] h8
def yb_Parser_at_p138 (C : YC) (R : ZC YS) (d : Nat) (x0 : Option Nat) (x1 : Int) (h : YS) : ZR YS :=
  zI (ycv R d [(6, 108)] x0 [.inr (.inr (some (C.1 112)))] h) fun v2 h1 =>
  zlet v2 fun x2_3 =>
  ygR 1804 x0 h1 fun v4 =>
  ygI 6601 v4 h1 fun v5 =>
  zlet v5 fun x3_6 =>
  ynew 51 4 h1 fun r7 h8 =>
  if x2_3 = 0 then
    zQ (ycv R d [(6, 124)] x0 [] h8) fun v10 h9 =>
    zV (ycs R d 425 r7 [.inr (.inr v10), .inl x3_6, .inl x1] h9) fun h11 =>
    zrQ r7 h11
  else
  zQ (ycv R d [(6, 135)] x0 [] h8) fun v13 h12 =>
  zV (ycs R d 425 r7 [.inr (.inr v13), .inl x3_6, .inl x1] h12) fun h14 =>
  zrQ r7 h14
def yb_Parser_isAt_p60 (C : YC) (R : ZC YS) (d : Nat) (x0 : Option Nat) (h : YS) : ZR YS :=
  ygR 1804 x0 h fun v1 =>
  zI (ycv R d [(22, 316)] v1 [.inr (.inr (some (C.1 112)))] h) fun v3 h2 =>
  if v3 = 0 then
    ygR 1804 x0 h2 fun v4 =>
    zI (ycv R d [(22, 316)] v4 [.inr (.inr (some (C.1 138)))] h2) fun v6 h5 =>
    if v6 = 0 then
      ygR 1804 x0 h5 fun v7 =>
      zI (ycv R d [(22, 316)] v7 [.inr (.inr (some (C.1 114)))] h5) fun v9 h8 =>
      if v9 = 0 then
        ygR 1804 x0 h8 fun v10 =>
        zI (ycv R d [(22, 316)] v10 [.inr (.inr (some (C.1 115)))] h8) fun v12 h11 =>
        if v12 = 0 then
          ygR 1804 x0 h11 fun v13 =>
          zI (ycv R d [(22, 316)] v13 [.inr (.inr (some (C.1 116)))] h11) fun v15 h14 =>
          if v15 = 0 then
            ygR 1804 x0 h14 fun v16 =>
            zI (ycv R d [(22, 316)] v16 [.inr (.inr (some (C.1 139)))] h14) fun v18 h17 =>
            if v18 = 0 then
              yrN 1 0 h17
            else
            yrN 1 1 h17
          else
          yrN 1 1 h14
        else
        yrN 1 1 h11
      else
      yrN 1 1 h8
    else
    yrN 1 1 h5
  else
  yrN 1 1 h2
def yb_Parser_bracket_p62 (C : YC) (R : ZC YS) (d : Nat) (x0 : Option Nat) (x1 : Int) (x2 : Option Nat) (x3 : Int) (x4 : Option Nat) (h : YS) : ZR YS :=
  zI (ycv R d [(6, 108)] x0 [.inr (.inr x4)] h) fun v2 h1 =>
  if v2 = 0 then
    R d 602 [.inr (.inr x0), .inl x1, .inr (.inr x2), .inl x3] h1
  else
  zQ (ycv R d [(6, 140)] x0 [] h1) fun v4 h3 =>
  zI (ycv R d [(5, 505)] x2 [.inr (.inr v4)] h3) fun v6 h5 =>
  R d 601 [.inr (.inr x0), .inl x1, .inr (.inr x2), .inl x3, .inr (.inr x4)] h5
def yb_Parser_bracket_p83 (C : YC) (R : ZC YS) (d : Nat) (x0 : Option Nat) (x1 : Int) (x2 : Option Nat) (x3 : Int) (h : YS) : ZR YS :=
  zV (ycv R d [(6, 118)] x0 [.inr (.inr (some (C.1 117)))] h) fun h1 =>
  zI (ycv R d [(5, 506)] x2 [] h1) fun v3 h2 =>
  if v3 = 1 then
    zQ (ycv R d [(5, 528)] x2 [.inl 0] h2) fun v5 h4 =>
    ycc 10 639 v5 h4 <|
    ypI 11700 0 v5 x1 h4 fun h6 =>
    zQ (ycv R d [(5, 528)] x2 [.inl 0] h6) fun v8 h7 =>
    ycc 10 639 v8 h7 <|
    zrQ v8 h7
  else
  if x3 = 0 then
    zI (ycv R d [(5, 582)] x2 [] h2) fun v10 h9 =>
    if v10 = 0 then
      ynew 46 2 h9 fun r11 h12 =>
      zV (ycs R d 407 r11 [.inl x1, .inr (.inr x2)] h12) fun h13 =>
      zrQ r11 h13
    else
    R d 804 [.inr (.inr x0), .inl x1, .inr (.inr x2)] h9
  else
  R d 804 [.inr (.inr x0), .inl x1, .inr (.inr x2)] h2
def yb_Parser_row_p43 (C : YC) (R : ZC YS) (d : Nat) (x0 : Option Nat) (x1 : Int) (x2 : Option Nat) (x3 : Option Nat) (x4 : Option Nat) (h : YS) : ZR YS :=
  ygR 1804 x0 h fun v1 =>
  ygI 6601 v1 h fun v2 =>
  zQ (zc R d 747 [.inl v2] h) fun v4 h3 =>
  zI (ycv R d [(5, 505)] x3 [.inr (.inr v4)] h3) fun v6 h5 =>
  zQ (ycv R d [(6, 123)] x0 [] h5) fun v8 h7 =>
  zI (ycv R d [(5, 505)] x2 [.inr (.inr v8)] h7) fun v10 h9 =>
  zV (ycv R d [(6, 119)] x0 [.inr (.inr (some (C.1 1)))] h9) fun h11 =>
  zQ (ycv R d [(6, 140)] x0 [] h11) fun v13 h12 =>
  zI (ycv R d [(5, 505)] x4 [.inr (.inr v13)] h12) fun v15 h14 =>
  zI (ycv R d [(6, 108)] x0 [.inr (.inr (some (C.1 118)))] h14) fun v17 h16 =>
  if v17 = 0 then
    R d 604 [.inr (.inr x0), .inl x1, .inr (.inr x2), .inr (.inr x3), .inr (.inr x4)] h16
  else
  R d 603 [.inr (.inr x0), .inl x1, .inr (.inr x2), .inr (.inr x3), .inr (.inr x4)] h16
def yb_Parser_row_p93 (C : YC) (R : ZC YS) (d : Nat) (x0 : Option Nat) (x1 : Int) (x2 : Option Nat) (x3 : Option Nat) (x4 : Option Nat) (h : YS) : ZR YS :=
  zV (ycv R d [(6, 118)] x0 [.inr (.inr (some (C.1 119)))] h) fun h1 =>
  ynew 47 4 h1 fun r2 h3 =>
  zV (ycs R d 410 r2 [.inl x1, .inr (.inr x2), .inr (.inr x3), .inr (.inr x4)] h3) fun h4 =>
  zrQ r2 h4
def yb_Parser_list_p26 (C : YC) (R : ZC YS) (d : Nat) (x0 : Option Nat) (x1 : Int) (x2 : Option Nat) (h : YS) : ZR YS :=
  zQ (ycv R d [(6, 140)] x0 [] h) fun v2 h1 =>
  zI (ycv R d [(5, 505)] x2 [.inr (.inr v2)] h1) fun v4 h3 =>
  zI (ycv R d [(6, 108)] x0 [.inr (.inr (some (C.1 118)))] h3) fun v6 h5 =>
  if v6 = 0 then
    R d 606 [.inr (.inr x0), .inl x1, .inr (.inr x2)] h5
  else
  R d 605 [.inr (.inr x0), .inl x1, .inr (.inr x2)] h5
def yb_Parser_list_p45 (C : YC) (R : ZC YS) (d : Nat) (x0 : Option Nat) (x1 : Int) (x2 : Option Nat) (h : YS) : ZR YS :=
  zV (ycv R d [(6, 118)] x0 [.inr (.inr (some (C.1 126)))] h) fun h1 =>
  ynew 48 2 h1 fun r2 h3 =>
  zV (ycs R d 414 r2 [.inl x1, .inr (.inr x2)] h3) fun h4 =>
  zrQ r2 h4
def yb_Parser_let_p35 (C : YC) (R : ZC YS) (d : Nat) (x0 : Option Nat) (x1 : Int) (x2 : Int) (x3 : Option Nat) (x4 : Option Nat) (h : YS) : ZR YS :=
  zQ (ycv R d [(6, 140)] x0 [] h) fun v2 h1 =>
  zI (ycv R d [(5, 505)] x4 [.inr (.inr v2)] h1) fun v4 h3 =>
  zI (ycv R d [(6, 108)] x0 [.inr (.inr (some (C.1 140)))] h3) fun v6 h5 =>
  if v6 = 0 then
    zV (ycv R d [(6, 118)] x0 [.inr (.inr (some (C.1 142)))] h5) fun h7 =>
    zV (ycv R d [(6, 155)] x0 [.inl x2] h7) fun h8 =>
    ynew 49 3 h8 fun r9 h10 =>
    zI (ycv R d [(5, 506)] x4 [] h10) fun v12 h11 =>
    if v12 = 1 then
      zQ (ycv R d [(5, 528)] x4 [.inl 0] h11) fun v14 h13 =>
      ycc 10 639 v14 h13 <|
      zV (ycs R d 418 r9 [.inl x1, .inr (.inr x3), .inr (.inr v14)] h13) fun h15 =>
      zrQ r9 h15
    else
    ynew 46 2 h11 fun r16 h17 =>
    zV (ycs R d 407 r16 [.inl x1, .inr (.inr x4)] h17) fun h18 =>
    zV (ycs R d 418 r9 [.inl x1, .inr (.inr x3), .inr (.inr r16)] h18) fun h19 =>
    zrQ r9 h19
  else
  R d 607 [.inr (.inr x0), .inl x1, .inl x2, .inr (.inr x3), .inr (.inr x4)] h5
def yb_Parser_close_p53 (C : YC) (R : ZC YS) (d : Nat) (x1 : Option Nat) (x2 : Option Nat) (x3 : Int) (h : YS) : ZR YS :=
  ygR 7201 x1 h fun v1 =>
  zI (ycv R d [(5, 506)] v1 [] h) fun v3 h2 =>
  if x3 < v3 then
    ygR 7201 x2 h2 fun v4 =>
    ygR 7201 x1 h2 fun v5 =>
    zQ (ycv R d [(5, 528)] v5 [.inl x3] h2) fun v7 h6 =>
    ycc 10 229 v7 h6 <|
    zI (ycv R d [(5, 505)] v4 [.inr (.inr v7)] h6) fun v9 h8 =>
    zG (inI (x3 + 1)) <|
    zlet (x3 + 1) fun x3_10 =>
    R d 608 [.inr (.inr x1), .inr (.inr x2), .inl x3_10] h8
  else
  zrV h2
def yb_Parser_functions_p17 (C : YC) (R : ZC YS) (d : Nat) (x0 : Option Nat) (x1 : Option Nat) (h : YS) : ZR YS :=
  ynew 59 3 h fun r1 h2 =>
  ygR 1804 x0 h2 fun v3 =>
  ygI 6601 v3 h2 fun v4 =>
  zV (ycs R d 456 r1 [.inl v4] h2) fun h5 =>
  zlet r1 fun x2_6 =>
  R d 805 [.inr (.inr x0), .inr (.inr x1), .inr (.inr x2_6)] h5
def yb_Parser_clause_p58 (C : YC) (R : ZC YS) (d : Nat) (x0 : Option Nat) (x1 : Option Nat) (y0 : Int) (h : YS) : ZR YS :=
  zlet y0 fun x4_1 =>
  if x4_1 = 0 then
    zQ (ycv R d [(6, 113)] x0 [] h) fun v3 h2 =>
    zlet v3 fun x5_4 =>
    ygR 1804 x0 h2 fun v5 =>
    zQ (ycv R d [(6, 110)] x0 [.inr (.inr v5)] h2) fun v7 h6 =>
    ynull v7 (
      zQ (ycv R d [(6, 115)] x0 [] h6) fun v9 h8 =>
      ythrow v9 h8
    ) <|
    ygR 1804 x0 h6 fun v10 =>
    ygI 6601 v10 h6 fun v11 =>
    zlet v11 fun x3_12 =>
    ygR 1804 x0 h6 fun v13 =>
    ygR 6602 v13 h6 fun v14 =>
    zlet v14 fun x2_15 =>
    zV (ycv R d [(6, 106)] x0 [] h6) fun h16 =>
    zQ (ycv R d [(6, 113)] x0 [] h16) fun v18 h17 =>
    zQ (ycv R d [(6, 139)] x0 [.inr (.inr x5_4), .inr (.inr v18)] h17) fun v20 h19 =>
    zI (ycv R d [(5, 505)] x1 [.inr (.inr v20)] h19) fun v22 h21 =>
    R d 806 [.inr (.inr x0), .inr (.inr x1), .inr (.inr x2_15), .inl x3_12] h21
  else
  zI (ycv R d [(6, 108)] x0 [.inr (.inr (some (C.1 112)))] h) fun v24 h23 =>
  ygR 1804 x0 h23 fun v25 =>
  ygI 6601 v25 h23 fun v26 =>
  zlet v26 fun x3_27 =>
  zQ (ycv R d [(6, 135)] x0 [] h23) fun v29 h28 =>
  zlet v29 fun x2_30 =>
  R d 807 [.inr (.inr x0), .inr (.inr x1), .inr (.inr x2_30), .inl x3_27] h28
def yb_Parser_vars_p72 (C : YC) (R : ZC YS) (d : Nat) (x0 : Option Nat) (x1 : Option Nat) (h : YS) : ZR YS :=
  ygR 1804 x0 h fun v1 =>
  ygR 6600 v1 h fun v2 =>
  ysvR C 11 fun v3 =>
  if v2 = v3 then
    zI (ycv R d [(5, 506)] x1 [] h) fun v5 h4 =>
    if v5 = 8 then
      ygR 1800 x0 h4 fun v6 =>
      ygR 1804 x0 h4 fun v7 =>
      ygI 6601 v7 h4 fun v8 =>
      zQ (ycv R d [(1, 48)] v6 [.inl 4, .inl v8] h4) fun v10 h9 =>
      ythrow v10 h9
    else
    ynew 27 2 h4 fun r11 h12 =>
    ygR 1804 x0 h12 fun v13 =>
    ygR 6602 v13 h12 fun v14 =>
    ygR 1804 x0 h12 fun v15 =>
    ygI 6601 v15 h12 fun v16 =>
    zV (ycs R d 338 r11 [.inr (.inr v14), .inl v16] h12) fun h17 =>
    zI (ycv R d [(5, 505)] x1 [.inr (.inr r11)] h17) fun v19 h18 =>
    zV (ycv R d [(6, 106)] x0 [] h18) fun h20 =>
    zI (ycv R d [(6, 108)] x0 [.inr (.inr (some (C.1 118)))] h20) fun v22 h21 =>
    if v22 = 0 then
      zV (ycv R d [(6, 118)] x0 [.inr (.inr (some (C.1 117)))] h21) fun h23 =>
      zrQ x1 h23
    else
    R d 611 [.inr (.inr x0), .inr (.inr x1)] h21
  else
  zQ (ycv R d [(6, 115)] x0 [] h) fun v25 h24 =>
  ythrow v25 h24
def yb_Parser_datatype_p12 (C : YC) (R : ZC YS) (d : Nat) (x0 : Option Nat) (x1 : Option Nat) (h : YS) : ZR YS :=
  zQ (ycv R d [(6, 161)] x0 [] h) fun v2 h1 =>
  zlet v2 fun x2_3 =>
  ygR 1804 x0 h1 fun v4 =>
  ygI 6601 v4 h1 fun v5 =>
  zlet v5 fun x3_6 =>
  ynew 63 5 h1 fun r7 h8 =>
  zQ (ycv R d [(6, 124)] x0 [] h8) fun v10 h9 =>
  zV (ycs R d 470 r7 [.inr (.inr x2_3), .inr (.inr v10), .inl x3_6] h9) fun h11 =>
  zlet r7 fun x4_12 =>
  zV (ycv R d [(6, 119)] x0 [.inr (.inr (some (C.1 1)))] h11) fun h13 =>
  R d 808 [.inr (.inr x0), .inr (.inr x1), .inr (.inr x4_12)] h13
def yb_Parser_exception_p35 (C : YC) (R : ZC YS) (d : Nat) (x0 : Option Nat) (x2 : Int) (y0 : Option Nat) (h : YS) : ZR YS :=
  zlet y0 fun x3_1 =>
  zI (ycv R d [(6, 108)] x0 [.inr (.inr (some (C.1 135)))] h) fun v3 h2 =>
  if v3 = 0 then
    zI (ycv R d [(6, 108)] x0 [.inr (.inr (some (C.1 1)))] h2) fun v5 h4 =>
    if v5 = 0 then
      ynew 65 8 h4 fun r6 h7 =>
      zV (ycs R d 472 r6 [.inr (.inr x3_1), .inl x2, .inr (.inr none), .inr (.inr none), .inl 0] h7) fun h8 =>
      zrQ r6 h8
    else
    zI (ycv R d [(6, 108)] x0 [.inr (.inr (some (C.1 112)))] h4) fun v10 h9 =>
    zlet v10 fun x4_11 =>
    ygR 1804 x0 h9 fun v12 =>
    ygI 6601 v12 h9 fun v13 =>
    zlet v13 fun x5_14 =>
    if x4_11 = 0 then
      zQ (ycv R d [(6, 124)] x0 [] h9) fun v16 h15 =>
      R d 809 [.inl x2, .inr (.inr x3_1), .inl x5_14, .inr (.inr v16)] h15
    else
    zQ (ycv R d [(6, 135)] x0 [] h9) fun v18 h17 =>
    R d 809 [.inl x2, .inr (.inr x3_1), .inl x5_14, .inr (.inr v18)] h17
  else
  ynew 65 8 h2 fun r19 h20 =>
  zQ (ycv R d [(6, 162)] x0 [] h20) fun v22 h21 =>
  zV (ycs R d 472 r19 [.inr (.inr x3_1), .inl x2, .inr (.inr v22), .inr (.inr none), .inl 0] h21) fun h23 =>
  zrQ r19 h23
def yb_Parser_fixity_p33 (C : YC) (R : ZC YS) (d : Nat) (x0 : Option Nat) (x1 : Int) (x2 : Int) (y0 : Int) (h : YS) : ZR YS :=
  zlet y0 fun x3_1 =>
  if x1 = 0 then
    ygR 1804 x0 h fun v2 =>
    ygR 6600 v2 h fun v3 =>
    ysvR C 12 fun v4 =>
    if v3 = v4 then
      ygR 1804 x0 h fun v5 =>
      ygR 6602 v5 h fun v6 =>
      zI (ycv R d [(21, 576)] v6 [.inr (.inr (some (C.1 121)))] h) fun v8 h7 =>
      if v8 = 0 then
        ygR 1804 x0 h7 fun v9 =>
        ygI 6603 v9 h7 fun v10 =>
        if v10 ≤ 9 then
          ygR 1804 x0 h7 fun v11 =>
          ygI 6603 v11 h7 fun v12 =>
          zlet v12 fun x3_13 =>
          zV (ycv R d [(6, 106)] x0 [] h7) fun h14 =>
          R d 810 [.inr (.inr x0), .inl x2, .inl x3_13] h14
        else
        zQ (ycv R d [(6, 115)] x0 [] h7) fun v16 h15 =>
        ythrow v16 h15
      else
      zQ (ycv R d [(6, 115)] x0 [] h7) fun v18 h17 =>
      ythrow v18 h17
    else
    R d 810 [.inr (.inr x0), .inl x2, .inl x3_1] h
  else
  R d 810 [.inr (.inr x0), .inl x2, .inl x3_1] h
def yb_Lexer_begin_p19 (C : YC) (R : ZC YS) (d : Nat) (x0 : Option Nat) (x1 : Int) (h : YS) : ZR YS :=
  ygR 2407 x0 h fun v1 =>
  ylen v1 h fun v2 =>
  if x1 < v2 then
    ygR 2407 x0 h fun v3 =>
    yst 0 v3 x1 (-1) h fun h4 =>
    zG (inI (x1 + 1)) <|
    zlet (x1 + 1) fun x1_5 =>
    R d 615 [.inr (.inr x0), .inl x1_5] h4
  else
  zrV h
def yb_Lexer_next_p42 (C : YC) (R : ZC YS) (d : Nat) (x0 : Option Nat) (h : YS) : ZR YS :=
  zI (ycv R d [(8, 171)] x0 [.inl 0] h) fun v2 h1 =>
  if v2 = 40 then
    zV (ycv R d [(8, 173)] x0 [] h1) fun h3 =>
    R d 170 [.inr (.inr x0)] h3
  else
  ygI 2404 x0 h1 fun v4 =>
  zG (inI (v4 + 1)) <|
  ypI 2404 0 x0 (v4 + 1) h1 fun h5 =>
  R d 170 [.inr (.inr x0)] h5
def yb_Lexer_next_p72 (C : YC) (R : ZC YS) (d : Nat) (x0 : Option Nat) (h : YS) : ZR YS :=
  ygI 2404 x0 h fun v1 =>
  ygI 2403 x0 h fun v2 =>
  if v1 < v2 then
    ygI 2405 x0 h fun v3 =>
    zG (inI (v3 + 1)) <|
    ypI 2405 0 x0 (v3 + 1) h fun h4 =>
    ygI 2405 x0 h4 fun v5 =>
    if v5 ≤ 1000 then
      zI (ycv R d [(8, 171)] x0 [.inl 0] h4) fun v7 h6 =>
      zlet v7 fun x1_8 =>
      zI (zc R d 14 [.inl x1_8] h6) fun v10 h9 =>
      if v10 = 0 then
        if x1_8 = 39 then
          zQ (ycv R d [(8, 182)] x0 [] h9) fun v12 h11 =>
          zrQ v12 h11
        else
        zI (zc R d 15 [.inl x1_8] h9) fun v14 h13 =>
        if v14 = 0 then
          if x1_8 = 126 then
            zI (ycv R d [(8, 171)] x0 [.inl 1] h13) fun v16 h15 =>
            zI (zc R d 15 [.inl v16] h15) fun v18 h17 =>
            if v18 = 0 then
              R d 811 [.inr (.inr x0), .inl x1_8] h17
            else
            zQ (ycv R d [(8, 183)] x0 [] h17) fun v20 h19 =>
            zrQ v20 h19
          else
          R d 811 [.inr (.inr x0), .inl x1_8] h13
        else
        zQ (ycv R d [(8, 183)] x0 [] h13) fun v22 h21 =>
        zrQ v22 h21
      else
      ygI 2404 x0 h9 fun v23 =>
      zQ (ycv R d [(8, 176)] x0 [.inl v23] h9) fun v25 h24 =>
      zrQ v25 h24
    else
    ygR 2402 x0 h4 fun v26 =>
    ygI 2404 x0 h4 fun v27 =>
    zQ (ycv R d [(1, 48)] v26 [.inl 4, .inl v27] h4) fun v29 h28 =>
    ythrow v29 h28
  else
  ynew 22 4 h fun r30 h31 =>
  ysvR C 3 fun v32 =>
  ygI 2403 x0 h31 fun v33 =>
  zV (ycs R d 315 r30 [.inr (.inr v32), .inl v33, .inr (.inr (some (C.1 97))), .inl 0] h31) fun h34 =>
  zrQ r30 h34
def yb_Lexer_note_p7 (C : YC) (R : ZC YS) (d : Nat) (x0 : Option Nat) (x1 : Int) (x2 : Int) (h : YS) : ZR YS :=
  ygI 2404 x0 h fun v1 =>
  ygI 2403 x0 h fun v2 =>
  if v1 < v2 then
    zV (ycv R d [(8, 174)] x0 [] h) fun h3 =>
    zI (ycv R d [(8, 171)] x0 [.inl 0] h3) fun v5 h4 =>
    if v5 = 40 then
      zI (ycv R d [(8, 171)] x0 [.inl 1] h4) fun v7 h6 =>
      if v7 = 42 then
        zG (inI (x2 + 1)) <|
        zlet (x2 + 1) fun x2_8 =>
        ygI 2404 x0 h6 fun v9 =>
        zG (inI (v9 + 2)) <|
        ypI 2404 0 x0 (v9 + 2) h6 fun h10 =>
        if x2_8 ≤ 0 then
          zrV h10
        else
        R d 618 [.inr (.inr x0), .inl x1, .inl x2_8] h10
      else
      R d 812 [.inr (.inr x0), .inl x1, .inl x2] h6
    else
    R d 812 [.inr (.inr x0), .inl x1, .inl x2] h4
  else
  ygR 2402 x0 h fun v11 =>
  zQ (ycv R d [(1, 48)] v11 [.inl 1, .inl x1] h) fun v13 h12 =>
  ythrow v13 h12
def yb_Lexer_letters_p42 (C : YC) (R : ZC YS) (d : Nat) (x0 : Option Nat) (h : YS) : ZR YS :=
  ygI 2404 x0 h fun v1 =>
  zG (inI (v1 + 1)) <|
  ypI 2404 0 x0 (v1 + 1) h fun h2 =>
  R d 177 [.inr (.inr x0)] h2
def yb_Lexer_kept_p2 (C : YC) (R : ZC YS) (d : Nat) (x0 : Option Nat) (x1 : Int) (x2 : Int) (h : YS) : ZR YS :=
  ygR 2400 x0 h fun v1 =>
  ylen v1 h fun v2 =>
  if x2 < v2 then
    ygR 2400 x0 h fun v3 =>
    yaR v3 x2 h fun v4 =>
    zI (ycv R d [(8, 180)] x0 [.inl x1, .inr (.inr v4)] h) fun v6 h5 =>
    if v6 = 0 then
      zG (inI (x2 + 1)) <|
      zlet (x2 + 1) fun x2_7 =>
      R d 620 [.inr (.inr x0), .inl x1, .inl x2_7] h5
    else
    zrI x2 h5
  else
  zrI (-1) h
def yb_Lexer_isHere_p22 (C : YC) (R : ZC YS) (d : Nat) (x0 : Option Nat) (x1 : Int) (x2 : Option Nat) (x3 : Int) (x4 : Int) (h : YS) : ZR YS :=
  zI (ycv R d [(21, 539)] x2 [] h) fun v2 h1 =>
  if x4 < v2 then
    if x3 = 0 then
      yrN 1 x3 h1
    else
    zI (ycv R d [(21, 537)] x2 [.inl x4] h1) fun v4 h3 =>
    ygR 2401 x0 h3 fun v5 =>
    yaI 2 v5 (x1 + x4) h3 fun v6 =>
    if v4 = v6 then
      zlet (1 : Int) fun x3_7 =>
      zG (inI (x4 + 1)) <|
      zlet (x4 + 1) fun x4_8 =>
      R d 621 [.inr (.inr x0), .inl x1, .inr (.inr x2), .inl x3_7, .inl x4_8] h3
    else
    zlet (0 : Int) fun x3_9 =>
    zG (inI (x4 + 1)) <|
    zlet (x4 + 1) fun x4_10 =>
    R d 621 [.inr (.inr x0), .inl x1, .inr (.inr x2), .inl x3_9, .inl x4_10] h3
  else
  yrN 1 x3 h1
def yb_Lexer_piece_p43 (C : YC) (R : ZC YS) (d : Nat) (x0 : Option Nat) (x1 : Int) (x2 : Int) (x3 : Int) (h : YS) : ZR YS :=
  if x3 = (-1) then
    ynew 23 4 h fun r1 h2 =>
    ygI 2404 x0 h2 fun v3 =>
    zG (inI (v3 - x1)) <|
    zV (ycs R d 641 r1 [.inl (v3 - x1)] h2) fun h4 =>
    zlet r1 fun x3_5 =>
    zlet x1 fun x4_6 =>
    R d 813 [.inr (.inr x0), .inl x2, .inr (.inr x3_5), .inl x4_6] h4
  else
  ygR 2406 x0 h fun v7 =>
  zQ (ycv R d [(5, 528)] v7 [.inl x3] h) fun v9 h8 =>
  ycc 12 9 v9 h8 <|
  zI (ycv R d [(8, 180)] x0 [.inl x1, .inr (.inr v9)] h8) fun v11 h10 =>
  if v11 = 0 then
    ygR 2408 x0 h10 fun v12 =>
    yaI 0 v12 x3 h10 fun v13 =>
    zlet v13 fun x3_14 =>
    R d 622 [.inr (.inr x0), .inl x1, .inl x2, .inl x3_14] h10
  else
  ygR 2406 x0 h10 fun v15 =>
  zQ (ycv R d [(5, 528)] v15 [.inl x3] h10) fun v17 h16 =>
  ycc 12 9 v17 h16 <|
  zrQ v17 h16
def yb_Lexer_variable_p25 (C : YC) (R : ZC YS) (d : Nat) (x0 : Option Nat) (x1 : Int) (y0 : Int) (y1 : Int) (y2 : Option Nat) (h : YS) : ZR YS :=
  zG (inI (y1 + y0)) <|
  ypI 2404 0 y2 (y1 + y0) h fun h1 =>
  zI (ycv R d [(8, 171)] x0 [.inl 0] h1) fun v3 h2 =>
  zI (zc R d 14 [.inl v3] h2) fun v5 h4 =>
  if v5 = 0 then
    zQ (ycv R d [(8, 175)] x0 [] h4) fun v7 h6 =>
    ythrow v7 h6
  else
  zV (ycv R d [(8, 177)] x0 [] h4) fun h8 =>
  ygI 2404 x0 h8 fun v9 =>
  zG (inI (v9 - x1)) <|
  if (v9 - x1) ≤ 30 then
    ynew 22 4 h8 fun r10 h11 =>
    ysvR C 11 fun v12 =>
    zQ (ycv R d [(8, 181)] x0 [.inl x1] h11) fun v14 h13 =>
    zV (ycs R d 315 r10 [.inr (.inr v12), .inl x1, .inr (.inr v14), .inl 0] h13) fun h15 =>
    zrQ r10 h15
  else
  ygR 2402 x0 h8 fun v16 =>
  zQ (ycv R d [(1, 48)] v16 [.inl 1, .inl x1] h8) fun v18 h17 =>
  ythrow v18 h17
def yb_Lexer_number_p20 (C : YC) (R : ZC YS) (d : Nat) (x0 : Option Nat) (x1 : Int) (y0 : Int) (h : YS) : ZR YS :=
  zlet y0 fun x2_1 =>
  if x2_1 = 0 then
    zlet (0 : Int) fun x3_2 =>
    R d 814 [.inr (.inr x0), .inl x1, .inl x2_1, .inr (.inl x3_2)] h
  else
  ygI 2404 x0 h fun v3 =>
  zG (inI (v3 + 1)) <|
  ypI 2404 0 x0 (v3 + 1) h fun h4 =>
  zlet (0 : Int) fun x3_5 =>
  R d 814 [.inr (.inr x0), .inl x1, .inl x2_1, .inr (.inl x3_5)] h4
def yb_Lexer_quoted_p17 (C : YC) (R : ZC YS) (d : Nat) (x0 : Option Nat) (x1 : Int) (x2 : Option Nat) (y0 : Int) (y1 : Int) (y2 : Option Nat) (h : YS) : ZR YS :=
  zG (inI (y1 + y0)) <|
  ypI 2404 0 y2 (y1 + y0) h fun h1 =>
  ynew 23 4 h1 fun r2 h3 =>
  zV (ycs R d 641 r2 [.inl 16] h3) fun h4 =>
  zlet r2 fun x3_5 =>
  R d 815 [.inr (.inr x0), .inl x1, .inr (.inr x2), .inr (.inr x3_5)] h4
def yb_Lexer_escaped_p118 (C : YC) (R : ZC YS) (d : Nat) (x0 : Option Nat) (x1 : Int) (h : YS) : ZR YS :=
  ygI 2404 x0 h fun v1 =>
  zG (inI (v1 + 1)) <|
  ypI 2404 0 x0 (v1 + 1) h fun h2 =>
  if x1 = 110 then
    zrI 10 h2
  else
  if x1 = 116 then
    zrI 9 h2
  else
  zrI x1 h2
def yb_Lexer_escaped_p18 (C : YC) (R : ZC YS) (d : Nat) (x0 : Option Nat) (x2 : Int) (x3 : Int) (h : YS) : ZR YS :=
  if x3 ≤ 0 then
    zrI x2 h
  else
  zI (ycv R d [(8, 171)] x0 [.inl 0] h) fun v2 h1 =>
  zI (zc R d 15 [.inl v2] h1) fun v4 h3 =>
  if v4 = 0 then
    zQ (ycv R d [(8, 175)] x0 [] h3) fun v6 h5 =>
    ythrow v6 h5
  else
  zI (ycv R d [(8, 171)] x0 [.inl 0] h3) fun v8 h7 =>
  zG (inI (x2 + (x3 * (v8 - 48)))) <|
  if (x2 + (x3 * (v8 - 48))) ≤ 255 then
    zI (ycv R d [(8, 171)] x0 [.inl 0] h7) fun v10 h9 =>
    zG (inI (x2 + (x3 * (v10 - 48)))) <|
    zlet (x2 + (x3 * (v10 - 48))) fun x2_11 =>
    ygI 2404 x0 h9 fun v12 =>
    zG (inI (v12 + 1)) <|
    ypI 2404 0 x0 (v12 + 1) h9 fun h13 =>
    zlet (zdivI x3 10) fun x3_14 =>
    R d 627 [.inr (.inr x0), .inl x2_11, .inl x3_14] h13
  else
  zQ (ycv R d [(8, 175)] x0 [] h7) fun v16 h15 =>
  ythrow v16 h15
def yb_Lexer_dots_p7 (C : YC) (R : ZC YS) (d : Nat) (x0 : Option Nat) (x1 : Int) (x2 : Int) (h : YS) : ZR YS :=
  if x2 < 3 then
    zI (ycv R d [(8, 171)] x0 [.inl 0] h) fun v2 h1 =>
    if v2 = 46 then
      ygI 2404 x0 h1 fun v3 =>
      zG (inI (v3 + 1)) <|
      ypI 2404 0 x0 (v3 + 1) h1 fun h4 =>
      zG (inI (x2 + 1)) <|
      zlet (x2 + 1) fun x2_5 =>
      R d 628 [.inr (.inr x0), .inl x1, .inl x2_5] h4
    else
    zQ (ycv R d [(8, 175)] x0 [] h1) fun v7 h6 =>
    ythrow v7 h6
  else
  ynew 22 4 h fun r8 h9 =>
  ysvR C 10 fun v10 =>
  zV (ycs R d 315 r8 [.inr (.inr v10), .inl x1, .inr (.inr (some (C.1 99))), .inl 0] h9) fun h11 =>
  zrQ r8 h11
def yb_Lexer_signs_p7 (C : YC) (R : ZC YS) (d : Nat) (x0 : Option Nat) (x1 : Int) (x2 : Int) (h : YS) : ZR YS :=
  if x2 = 0 then
    zQ (ycv R d [(8, 178)] x0 [.inl x1] h) fun v2 h1 =>
    zrQ v2 h1
  else
  ygI 2404 x0 h fun v3 =>
  zG (inI (v3 + 1)) <|
  ypI 2404 0 x0 (v3 + 1) h fun h4 =>
  zI (ycv R d [(8, 171)] x0 [.inl 0] h4) fun v6 h5 =>
  zlet v6 fun x3_7 =>
  zI (zc R d 16 [.inl x3_7] h5) fun v9 h8 =>
  if v9 = 0 then
    zlet (0 : Int) fun x2_10 =>
    R d 629 [.inr (.inr x0), .inl x1, .inl x2_10] h8
  else
  if x3_7 = 126 then
    zI (ycv R d [(8, 171)] x0 [.inl 1] h8) fun v12 h11 =>
    zI (zc R d 15 [.inl v12] h11) fun v14 h13 =>
    if v14 = 0 then
      R d 816 [.inr (.inr x0), .inl x1, .inl x3_7] h13
    else
    zlet (0 : Int) fun x2_15 =>
    R d 629 [.inr (.inr x0), .inl x1, .inl x2_15] h13
  else
  R d 816 [.inr (.inr x0), .inl x1, .inl x3_7] h8
def yb_Judge_begin_p57 (C : YC) (R : ZC YS) (d : Nat) (x0 : Option Nat) (x1 : Option Nat) (x3 : Int) (h : YS) : ZR YS :=
  ygR 4200 x1 h fun v1 =>
  zI (ycv R d [(5, 506)] v1 [] h) fun v3 h2 =>
  if x3 < v3 then
    ygR 2702 x0 h2 fun v4 =>
    ygR 4200 x1 h2 fun v5 =>
    zQ (ycv R d [(5, 528)] v5 [.inl x3] h2) fun v7 h6 =>
    ycc 13 69 v7 h6 <|
    zI (ycv R d [(5, 505)] v4 [.inr (.inr v7)] h6) fun v9 h8 =>
    zG (inI (x3 + 1)) <|
    zlet (x3 + 1) fun x3_10 =>
    R d 630 [.inr (.inr x0), .inr (.inr x1), .inl x3_10] h8
  else
  zlet (0 : Int) fun x3_11 =>
  R d 817 [.inr (.inr x0), .inr (.inr x1), .inl x3_11] h2
def yb_Judge_variable_p10 (C : YC) (R : ZC YS) (d : Nat) (x0 : Option Nat) (x1 : Option Nat) (x2 : Int) (h : YS) : ZR YS :=
  if x2 < 0 then
    zrQ none h
  else
  ygR 2704 x0 h fun v1 =>
  zQ (ycv R d [(5, 528)] v1 [.inl x2] h) fun v3 h2 =>
  ycc 13 175 v3 h2 <|
  ygR 20100 v3 h2 fun v4 =>
  zI (ycv R d [(21, 576)] v4 [.inr (.inr x1)] h2) fun v6 h5 =>
  if v6 = 0 then
    zG (inI (x2 + (-1))) <|
    zlet (x2 + (-1)) fun x2_7 =>
    R d 631 [.inr (.inr x0), .inr (.inr x1), .inl x2_7] h5
  else
  ygR 2704 x0 h5 fun v8 =>
  zQ (ycv R d [(5, 528)] v8 [.inl x2] h5) fun v10 h9 =>
  ycc 13 175 v10 h9 <|
  zrQ v10 h9
def yb_Judge_typeName_p10 (C : YC) (R : ZC YS) (d : Nat) (x0 : Option Nat) (x1 : Option Nat) (x2 : Int) (x3 : Int) (h : YS) : ZR YS :=
  if x3 < 0 then
    ygR 2701 x0 h fun v1 =>
    zQ (ycv R d [(1, 48)] v1 [.inl 5, .inl x2] h) fun v3 h2 =>
    ythrow v3 h2
  else
  ygR 2703 x0 h fun v4 =>
  zQ (ycv R d [(5, 528)] v4 [.inl x3] h) fun v6 h5 =>
  ycc 13 76 v6 h5 <|
  ygR 4800 v6 h5 fun v7 =>
  zI (ycv R d [(21, 576)] v7 [.inr (.inr x1)] h5) fun v9 h8 =>
  if v9 = 0 then
    zG (inI (x3 + (-1))) <|
    zlet (x3 + (-1)) fun x3_10 =>
    R d 632 [.inr (.inr x0), .inr (.inr x1), .inl x2, .inl x3_10] h8
  else
  ygR 2703 x0 h8 fun v11 =>
  zQ (ycv R d [(5, 528)] v11 [.inl x3] h8) fun v13 h12 =>
  ycc 13 76 v13 h12 <|
  zrQ v13 h12
def yb_Judge_value_2_p10 (C : YC) (R : ZC YS) (d : Nat) (x0 : Option Nat) (x1 : Option Nat) (x2 : Int) (h : YS) : ZR YS :=
  if x2 < 0 then
    zrQ none h
  else
  ygR 2702 x0 h fun v1 =>
  zQ (ycv R d [(5, 528)] v1 [.inl x2] h) fun v3 h2 =>
  ycc 13 69 v3 h2 <|
  ygR 5400 v3 h2 fun v4 =>
  zI (ycv R d [(21, 576)] v4 [.inr (.inr x1)] h2) fun v6 h5 =>
  if v6 = 0 then
    zG (inI (x2 + (-1))) <|
    zlet (x2 + (-1)) fun x2_7 =>
    R d 633 [.inr (.inr x0), .inr (.inr x1), .inl x2_7] h5
  else
  ygR 2702 x0 h5 fun v8 =>
  zQ (ycv R d [(5, 528)] v8 [.inl x2] h5) fun v10 h9 =>
  ycc 13 69 v10 h9 <|
  zrQ v10 h9
def yb_Judge_bind_p8 (C : YC) (R : ZC YS) (d : Nat) (x0 : Option Nat) (x1 : Option Nat) (x2 : Int) (x3 : Int) (h : YS) : ZR YS :=
  ygR 2706 x0 h fun v1 =>
  zI (ycv R d [(5, 506)] v1 [] h) fun v3 h2 =>
  if x3 < v3 then
    ygR 2706 x0 h2 fun v4 =>
    zQ (ycv R d [(5, 528)] v4 [.inl x3] h2) fun v6 h5 =>
    ycc 13 69 v6 h5 <|
    ygR 5400 v6 h5 fun v7 =>
    zI (ycv R d [(21, 576)] v7 [.inr (.inr x1)] h5) fun v9 h8 =>
    if v9 = 0 then
      zV (ycv R d [(9, 190)] x0 [.inl 1, .inl 6, .inl x2] h8) fun h10 =>
      zG (inI (x3 + 1)) <|
      zlet (x3 + 1) fun x3_11 =>
      R d 634 [.inr (.inr x0), .inr (.inr x1), .inl x2, .inl x3_11] h10
    else
    zV (ycv R d [(9, 190)] x0 [.inl 0, .inl 6, .inl x2] h8) fun h12 =>
    zG (inI (x3 + 1)) <|
    zlet (x3 + 1) fun x3_13 =>
    R d 634 [.inr (.inr x0), .inr (.inr x1), .inl x2, .inl x3_13] h12
  else
  zV (ycv R d [(9, 191)] x0 [.inl x2] h2) fun h14 =>
  ynew 18 13 h14 fun r15 h16 =>
  zV (ycs R d 310 r15 [.inr (.inr x1), .inl 0, .inl x2] h16) fun h17 =>
  zlet r15 fun x3_18 =>
  ygR 2700 x0 h17 fun v19 =>
  zI (ycv R d [(4, 64)] v19 [] h17) fun v21 h20 =>
  ypI 5403 0 x3_18 v21 h20 fun h22 =>
  ygI 2707 x0 h22 fun v23 =>
  ypI 5410 1 x3_18 v23 h22 fun h24 =>
  ygR 2706 x0 h24 fun v25 =>
  zI (ycv R d [(5, 505)] v25 [.inr (.inr x3_18)] h24) fun v27 h26 =>
  zrQ x3_18 h26
def yb_Judge_hide_p5 (C : YC) (R : ZC YS) (d : Nat) (x0 : Option Nat) (x1 : Int) (x3 : Int) (x4 : Int) (x5 : Int) (h : YS) : ZR YS :=
  if x5 < x1 then
    zG (inI (x4 - 1)) <|
    zlet (x4 - 1) fun x5_1 =>
    R d 818 [.inr (.inr x0), .inl x3, .inl x5_1] h
  else
  ygR 2702 x0 h fun v2 =>
  zQ (ycv R d [(5, 590)] v2 [.inl x5] h) fun v4 h3 =>
  zG (inI (x5 + (-1))) <|
  zlet (x5 + (-1)) fun x5_5 =>
  R d 635 [.inr (.inr x0), .inl x1, .inl x3, .inl x4, .inl x5_5] h3
def yb_Cover_look_2_p6 (C : YC) (R : ZC YS) (d : Nat) (x0 : Option Nat) (x1 : Int) (x2 : Int) (x3 : Int) (h : YS) : ZR YS :=
  if x3 = 0 then
    if x1 ≤ 0 then
      zrV h
    else
    R d 819 [.inr (.inr x0), .inl x1, .inl x2, .inl x3] h
  else
  R d 819 [.inr (.inr x0), .inl x1, .inl x2, .inl x3] h
def yb_Cover_firstNot_p7 (C : YC) (R : ZC YS) (d : Nat) (x0 : Option Nat) (x2 : Int) (h : YS) : ZR YS :=
  ygR 3029 x0 h fun v1 =>
  ygR 20702 v1 h fun v2 =>
  zI (ycv R d [(5, 506)] v2 [] h) fun v4 h3 =>
  if x2 < v4 then
    ygI 3028 x0 h3 fun v5 =>
    if v5 = 0 then
      ygR 3029 x0 h3 fun v6 =>
      ygR 20702 v6 h3 fun v7 =>
      zQ (ycv R d [(5, 528)] v7 [.inl x2] h3) fun v9 h8 =>
      ycc 14 134 v9 h8 <|
      zI (ycv R d [(10, 209)] x0 [.inr (.inr v9)] h8) fun v11 h10 =>
      ypI 3028 0 x0 v11 h10 fun h12 =>
      ygI 3028 x0 h12 fun v13 =>
      if v13 = 0 then
        zG (inI (x2 + 1)) <|
        zlet (x2 + 1) fun x2_14 =>
        R d 637 [.inr (.inr x0), .inl x2_14] h12
      else
      R d 637 [.inr (.inr x0), .inl x2] h12
    else
    zrI x2 h3
  else
  zrI x2 h3
def yb_Cover_meets_p41 (C : YC) (R : ZC YS) (d : Nat) (x0 : Option Nat) (x1 : Option Nat) (x2 : Int) (x3 : Int) (x4 : Int) (x5 : Int) (x6 : Option Nat) (x7 : Option Nat) (x8 : Int) (h : YS) : ZR YS :=
  zI (ycv R d [(5, 506)] x1 [] h) fun v2 h1 =>
  if x8 < v2 then
    zQ (ycv R d [(5, 528)] x1 [.inl x8] h1) fun v4 h3 =>
    ycc 14 176 v4 h3 <|
    zI (ycv R d [(5, 506)] x1 [] h3) fun v6 h5 =>
    zI (ycv R d [(10, 213)] x0 [.inl 0, .inl x8, .inl v6] h5) fun v8 h7 =>
    zI (ycv R d [(36, 371), (32, 351), (38, 381), (37, 376), (35, 366), (33, 356), (25, 336), (34, 361)] v4 [.inr (.inr x0), .inl v8] h7) fun v10 h9 =>
    zlet v10 fun x9_11 =>
    if x9_11 = 0 then
      zrI x9_11 h9
    else
    if x9_11 = 1 then
      zG (inI (x8 + 1)) <|
      zlet (x8 + 1) fun x8_12 =>
      R d 638 [.inr (.inr x0), .inr (.inr x1), .inl x2, .inl x3, .inl x4, .inl x5, .inr (.inr x6), .inr (.inr x7), .inl x8_12] h9
    else
    if x2 = 2 then
      zG (inI (x8 + 1)) <|
      zlet (x8 + 1) fun x8_13 =>
      R d 638 [.inr (.inr x0), .inr (.inr x1), .inl x2, .inl x3, .inl x4, .inl x5, .inr (.inr x6), .inr (.inr x7), .inl x8_13] h9
    else
    zlet x9_11 fun x2_14 =>
    ygI 3012 x0 h9 fun v15 =>
    zlet v15 fun x3_16 =>
    ygI 3013 x0 h9 fun v17 =>
    zlet v17 fun x4_18 =>
    ygI 3014 x0 h9 fun v19 =>
    zlet v19 fun x5_20 =>
    ygR 3018 x0 h9 fun v21 =>
    zlet v21 fun x6_22 =>
    ygR 3020 x0 h9 fun v23 =>
    zlet v23 fun x7_24 =>
    zG (inI (x8 + 1)) <|
    zlet (x8 + 1) fun x8_25 =>
    R d 638 [.inr (.inr x0), .inr (.inr x1), .inl x2_14, .inl x3_16, .inl x4_18, .inl x5_20, .inr (.inr x6_22), .inr (.inr x7_24), .inl x8_25] h9
  else
  ypI 3012 0 x0 x3 h1 fun h26 =>
  ypI 3013 0 x0 x4 h26 fun h27 =>
  ypI 3014 0 x0 x5 h27 fun h28 =>
  ypR 3018 x0 x6 h28 fun h29 =>
  ypR 3020 x0 x7 h29 fun h30 =>
  zrI x2 h30
def yb_Cover_asks_p44 (C : YC) (R : ZC YS) (d : Nat) (x0 : Option Nat) (x1 : Int) (x2 : Int) (x3 : Option Nat) (x4 : Option Nat) (x5 : Int) (x6 : Int) (x7 : Int) (h : YS) : ZR YS :=
  if x7 = (-1) then
    if x5 ≤ 0 then
      R d 820 [.inr (.inr x0), .inl x1, .inl x2, .inr (.inr x3), .inr (.inr x4), .inl x5] h
    else
    zG (inI (x5 - 1)) <|
    if x6 = (x5 - 1) then
      zrI 1 h
    else
    R d 820 [.inr (.inr x0), .inl x1, .inl x2, .inr (.inr x3), .inr (.inr x4), .inl x5] h
  else
  zI (ycv R d [(10, 212)] x0 [.inl x7, .inl x2, .inr (.inr x3), .inr (.inr x4)] h) fun v2 h1 =>
  if v2 = 0 then
    zG (inI (x6 + 1)) <|
    zlet (x6 + 1) fun x6_3 =>
    ygR 3005 x0 h1 fun v4 =>
    yaI 0 v4 x7 h1 fun v5 =>
    zlet v5 fun x7_6 =>
    R d 639 [.inr (.inr x0), .inl x1, .inl x2, .inr (.inr x3), .inr (.inr x4), .inl x5, .inl x6_3, .inl x7_6] h1
  else
  zrI 0 h1
def yb_Cover_child_p43 (C : YC) (R : ZC YS) (d : Nat) (x0 : Option Nat) (x1 : Int) (x2 : Int) (x3 : Int) (x4 : Int) (h : YS) : ZR YS :=
  if x4 < x3 then
    zV (ycv R d [(10, 206)] x0 [] h) fun h1 =>
    zG (inI (x4 + 1)) <|
    zlet (x4 + 1) fun x4_2 =>
    R d 640 [.inr (.inr x0), .inl x1, .inl x2, .inl x3, .inl x4_2] h1
  else
  ygR 3002 x0 h fun v3 =>
  yaI 0 v3 x1 h fun v4 =>
  zG (inI (v4 + x2)) <|
  zrI (v4 + x2) h
def yb_StringBuilder_init (C : YC) (R : ZC YS) (d : Nat) (x0 : Option Nat) (x1 : Int) (h : YS) : ZR YS :=
  zV (ycs R d 821 x0 [.inl x1] h) fun h1 =>
  zrV h1
def yb_StringBuilder_toString (C : YC) (R : ZC YS) (d : Nat) (x0 : Option Nat) (h : YS) : ZR YS :=
  ynew 21 4 h fun r1 h2 =>
  zV (ycs R d 822 r1 [.inr (.inr x0)] h2) fun h3 =>
  zrQ r1 h3
def yb_Machine_begin_p33 (C : YC) (R : ZC YS) (d : Nat) (x0 : Option Nat) (x1 : Option Nat) (x3 : Int) (h : YS) : ZR YS :=
  ygI 21302 x1 h fun v1 =>
  if x3 < v1 then
    zV (ycv R d [(11, 226)] x0 [.inr (.inl 0)] h) fun h2 =>
    zG (inI (x3 + 1)) <|
    zlet (x3 + 1) fun x3_3 =>
    R d 643 [.inr (.inr x0), .inr (.inr x1), .inl x3_3] h2
  else
  zrV h
def yb_Machine_push_p40 (C : YC) (R : ZC YS) (d : Nat) (x0 : Option Nat) (x1 : Int) (h : YS) : ZR YS :=
  ygR 3303 x0 h fun v1 =>
  ygI 3311 x0 h fun v2 =>
  yst 1 v1 v2 x1 h fun h3 =>
  ygI 3311 x0 h3 fun v4 =>
  zG (inI (v4 + 1)) <|
  ypI 3311 0 x0 (v4 + 1) h3 fun h5 =>
  zrV h5
def yb_Machine_loaded_p119 (C : YC) (R : ZC YS) (d : Nat) (x0 : Option Nat) (x2 : Int) (y0 : Int) (h : YS) : ZR YS :=
  ygI 3319 x0 h fun v1 =>
  zJ (zc R d 232 [.inl y0, .inr (.inl (zorL (zshlL x2 36) (zandL (v1 - 1) 68719476735)))] h) fun v3 h2 =>
  zrL v3 h2
def yb_Machine_row_p26 (C : YC) (R : ZC YS) (d : Nat) (x0 : Option Nat) (x1 : Int) (x2 : Int) (x3 : Int) (x4 : Int) (x5 : Int) (h : YS) : ZR YS :=
  if x5 < x1 then
    ygR 3302 x0 h fun v1 =>
    ygR 3303 x0 h fun v2 =>
    if x2 = (-1) then
      yaI 1 v2 (x4 + x5) h fun v3 =>
      yst 1 v1 ((x3 + 1) + x5) v3 h fun h4 =>
      zG (inI (x5 + 1)) <|
      zlet (x5 + 1) fun x5_5 =>
      R d 646 [.inr (.inr x0), .inl x1, .inl x2, .inl x3, .inl x4, .inl x5_5] h4
    else
    ygR 3300 x0 h fun v6 =>
    ygR 11 v6 h fun v7 =>
    zQ (ycv R d [(5, 528)] v7 [.inl x2] h) fun v9 h8 =>
    ycc 15 300 v9 h8 <|
    yaI 0 v9 x5 h8 fun v10 =>
    yaI 1 v2 (x4 + v10) h8 fun v11 =>
    yst 1 v1 ((x3 + 1) + x5) v11 h8 fun h12 =>
    zG (inI (x5 + 1)) <|
    zlet (x5 + 1) fun x5_13 =>
    R d 646 [.inr (.inr x0), .inl x1, .inl x2, .inl x3, .inl x4, .inl x5_13] h12
  else
  ypI 3311 0 x0 x4 h fun h14 =>
  zJ (zc R d 232 [.inl 2, .inr (.inl x3)] h14) fun v16 h15 =>
  zV (ycv R d [(11, 226)] x0 [.inr (.inl v16)] h15) fun h17 =>
  zrV h17
def yb_Machine_first_p271 (C : YC) (R : ZC YS) (d : Nat) (x0 : Option Nat) (x2 : Int) (x5 : Int) (h : YS) : ZR YS :=
  zI (ycv R d [(11, 247)] x0 [.inr (.inl x2)] h) fun v2 h1 =>
  if x5 < v2 then
    ygR 3300 x0 h1 fun v3 =>
    zI (ycv R d [(11, 248)] x0 [.inr (.inl x2), .inl x5] h1) fun v5 h4 =>
    zV (ycv R d [(0, 34)] v3 [.inl v5] h4) fun h6 =>
    zG (inI (x5 + 1)) <|
    zlet (x5 + 1) fun x5_7 =>
    R d 647 [.inr (.inr x0), .inr (.inl x2), .inl x5_7] h6
  else
  zrL 1152921504606846976 h1
def yb_Math_floorDiv (C : YC) (R : ZC YS) (d : Nat) (x0 : Int) (x2 : Int) (h : YS) : ZR YS :=
  zG (x2 ≠ 0) <|
  zlet (zdivL x0 x2) fun x4_2 =>
  if (zxorL x0 x2) < 0 then
    zG (inL (x4_2 * x2)) <|
    if (x4_2 * x2) = x0 then
      zrL x4_2 h
    else
    zG (inL (x4_2 - 1)) <|
    zrL (x4_2 - 1) h
  else
  zrL x4_2 h
def yb_Math_floorMod (C : YC) (R : ZC YS) (d : Nat) (x0 : Int) (x2 : Int) (h : YS) : ZR YS :=
  zG (x2 ≠ 0) <|
  zG (inL (x0 - ((zdivL x0 x2) * x2))) <|
  zlet (x0 - ((zdivL x0 x2) * x2)) fun x4_2 =>
  if (zxorL x0 x2) < 0 then
    if x4_2 = 0 then
      zrL x4_2 h
    else
    zG (inL (x4_2 + x2)) <|
    zrL (x4_2 + x2) h
  else
  zrL x4_2 h
def yb_Machine_isEqual_p9 (C : YC) (R : ZC YS) (d : Nat) (x0 : Option Nat) (x5 : Int) (x7 : Int) (x9 : Int) (h : YS) : ZR YS :=
  zI (zc R d 242 [.inr (.inl x5)] h) fun v2 h1 =>
  if v2 = 7 then
    zI (ycv R d [(11, 246)] x0 [.inr (.inl x5), .inr (.inl x7)] h1) fun v4 h3 =>
    if v4 = 0 then
      yrN 1 0 h3
    else
    R d 823 [.inr (.inr x0), .inl x9] h3
  else
  zI (zc R d 242 [.inr (.inl x5)] h1) fun v6 h5 =>
  if v6 = 2 then
    zI (zc R d 242 [.inr (.inl x7)] h5) fun v8 h7 =>
    if v8 = 2 then
      zI (ycv R d [(11, 249)] x0 [.inr (.inl x5)] h7) fun v10 h9 =>
      if v10 = 2 then
        if x5 = x7 then
          R d 823 [.inr (.inr x0), .inl x9] h9
        else
        yrN 1 0 h9
      else
      zV (ycv R d [(11, 250)] x0 [] h9) fun h11 =>
      zI (ycv R d [(11, 249)] x0 [.inr (.inl x5)] h11) fun v13 h12 =>
      if v13 = 0 then
        ygR 3302 x0 h12 fun v14 =>
        yaI 1 v14 (zl2i x5) h12 fun v15 =>
        R d 824 [.inr (.inr x0), .inr (.inl x5), .inr (.inl x7), .inl x9, .inl (zl2i (zushrL v15 8))] h12
      else
      R d 824 [.inr (.inr x0), .inr (.inl x5), .inr (.inl x7), .inl x9, .inl 1] h12
    else
    if x5 = x7 then
      R d 823 [.inr (.inr x0), .inl x9] h7
    else
    yrN 1 0 h7
  else
  if x5 = x7 then
    R d 823 [.inr (.inr x0), .inl x9] h5
  else
  yrN 1 0 h5
def yb_Machine_isSameText_p27 (C : YC) (R : ZC YS) (d : Nat) (x0 : Option Nat) (x1 : Int) (x3 : Int) (x5 : Int) (x6 : Int) (x7 : Int) (h : YS) : ZR YS :=
  if x7 < x5 then
    if x6 = 0 then
      yrN 1 x6 h
    else
    zI (ycv R d [(11, 248)] x0 [.inr (.inl x1), .inl x7] h) fun v2 h1 =>
    zI (ycv R d [(11, 248)] x0 [.inr (.inl x3), .inl x7] h1) fun v4 h3 =>
    if v2 = v4 then
      zlet (1 : Int) fun x6_5 =>
      zG (inI (x7 + 1)) <|
      zlet (x7 + 1) fun x7_6 =>
      R d 651 [.inr (.inr x0), .inr (.inl x1), .inr (.inl x3), .inl x5, .inl x6_5, .inl x7_6] h3
    else
    zlet (0 : Int) fun x6_7 =>
    zG (inI (x7 + 1)) <|
    zlet (x7 + 1) fun x7_8 =>
    R d 651 [.inr (.inr x0), .inr (.inl x1), .inr (.inl x3), .inl x5, .inl x6_7, .inl x7_8] h3
  else
  yrN 1 x6 h
def yb_Machine_compared_p49 (C : YC) (R : ZC YS) (d : Nat) (x0 : Option Nat) (x1 : Int) (x3 : Int) (x5 : Int) (x6 : Int) (h : YS) : ZR YS :=
  if x6 < x5 then
    zI (ycv R d [(11, 248)] x0 [.inr (.inl x1), .inl x6] h) fun v2 h1 =>
    zI (ycv R d [(11, 248)] x0 [.inr (.inl x3), .inl x6] h1) fun v4 h3 =>
    if v2 = v4 then
      zG (inI (x6 + 1)) <|
      zlet (x6 + 1) fun x6_5 =>
      R d 652 [.inr (.inr x0), .inr (.inl x1), .inr (.inl x3), .inl x5, .inl x6_5] h3
    else
    R d 825 [.inr (.inr x0), .inr (.inl x1), .inr (.inl x3), .inl x5, .inl x6] h3
  else
  R d 825 [.inr (.inr x0), .inr (.inl x1), .inr (.inl x3), .inl x5, .inl x6] h
def yb_Machine_raise_p31 (C : YC) (R : ZC YS) (d : Nat) (x0 : Option Nat) (x1 : Int) (h : YS) : ZR YS :=
  ygI 3314 x0 h fun v1 =>
  ygR 3308 x0 h fun v2 =>
  ygI 3315 x0 h fun v3 =>
  yaI 0 v2 v3 h fun v4 =>
  if v1 ≤ v4 then
    ygR 3308 x0 h fun v5 =>
    ygI 3315 x0 h fun v6 =>
    yaI 0 v5 (v6 + 1) h fun v7 =>
    ypI 3311 0 x0 v7 h fun h8 =>
    ygR 3308 x0 h8 fun v9 =>
    ygI 3315 x0 h8 fun v10 =>
    yaI 0 v9 (v10 + 2) h8 fun v11 =>
    ypI 3313 0 x0 v11 h8 fun h12 =>
    zV (ycv R d [(11, 226)] x0 [.inr (.inl x1)] h12) fun h13 =>
    zrV h13
  else
  zV (ycv R d [(11, 229)] x0 [] h) fun h14 =>
  R d 653 [.inr (.inr x0), .inr (.inl x1)] h14
def yb_Machine_joined_p45 (C : YC) (R : ZC YS) (d : Nat) (x0 : Option Nat) (x1 : Int) (x3 : Int) (x5 : Int) (x6 : Int) (x7 : Int) (x8 : Int) (h : YS) : ZR YS :=
  if x8 < x5 then
    ygR 3302 x0 h fun v1 =>
    zI (ycv R d [(11, 248)] x0 [.inr (.inl x1), .inl x8] h) fun v3 h2 =>
    yst 1 v1 ((x7 + 1) + x8) v3 h2 fun h4 =>
    zG (inI (x8 + 1)) <|
    zlet (x8 + 1) fun x8_5 =>
    R d 654 [.inr (.inr x0), .inr (.inl x1), .inr (.inl x3), .inl x5, .inl x6, .inl x7, .inl x8_5] h4
  else
  zlet (0 : Int) fun x8_6 =>
  R d 826 [.inr (.inr x0), .inr (.inl x3), .inl x5, .inl x6, .inl x7, .inl x8_6] h
def yb_Machine_piece_p35 (C : YC) (R : ZC YS) (d : Nat) (x0 : Option Nat) (x1 : Int) (x3 : Int) (x4 : Int) (y0 : Int) (h : YS) : ZR YS :=
  zlet y0 fun x5_1 =>
  if x5_1 = 0 then
    zJ (ycv R d [(11, 256)] x0 [.inl 6] h) fun v3 h2 =>
    zrL v3 h2
  else
  zI (ycv R d [(11, 260)] x0 [.inl x4] h) fun v5 h4 =>
  zlet v5 fun x6_6 =>
  zlet (0 : Int) fun x7_7 =>
  R d 827 [.inr (.inr x0), .inr (.inl x1), .inl x3, .inl x4, .inl x6_6, .inl x7_7] h4
def yb_Machine_exploded_p15 (C : YC) (R : ZC YS) (d : Nat) (x0 : Option Nat) (x1 : Int) (x3 : Int) (x5 : Int) (h : YS) : ZR YS :=
  if x5 < 0 then
    zrL x3 h
  else
  zI (ycv R d [(11, 248)] x0 [.inr (.inl x1), .inl x5] h) fun v2 h1 =>
  zJ (zc R d 231 [.inl v2] h1) fun v4 h3 =>
  zJ (ycv R d [(11, 238)] x0 [.inr (.inl v4), .inr (.inl x3)] h3) fun v6 h5 =>
  zJ (ycv R d [(11, 239)] x0 [.inl 1, .inl 1, .inr (.inl v6)] h5) fun v8 h7 =>
  zlet v8 fun x3_9 =>
  zG (inI (x5 + (-1))) <|
  zlet (x5 + (-1)) fun x5_10 =>
  R d 656 [.inr (.inr x0), .inr (.inl x1), .inr (.inl x3_9), .inl x5_10] h7
def yb_Machine_imploded_p5 (C : YC) (R : ZC YS) (d : Nat) (x0 : Option Nat) (x1 : Int) (x3 : Int) (x4 : Int) (h : YS) : ZR YS :=
  zI (zc R d 242 [.inr (.inl x4)] h) fun v2 h1 =>
  if v2 = 2 then
    zG (inI (x3 + 1)) <|
    zlet (x3 + 1) fun x3_3 =>
    if x3_3 ≤ 200 then
      ygR 3302 x0 h1 fun v4 =>
      ygR 3302 x0 h1 fun v5 =>
      zI (ycv R d [(11, 240)] x0 [.inr (.inl x4)] h1) fun v7 h6 =>
      yaI 1 v5 v7 h6 fun v8 =>
      zI (ycv R d [(11, 240)] x0 [.inr (.inl v8)] h6) fun v10 h9 =>
      yaI 1 v4 (v10 + 1) h9 fun v11 =>
      zlet v11 fun x4_12 =>
      R d 657 [.inr (.inr x0), .inr (.inl x1), .inl x3_3, .inr (.inl x4_12)] h9
    else
    zJ (ycv R d [(11, 256)] x0 [.inl 5] h1) fun v14 h13 =>
    zrL v14 h13
  else
  zI (ycv R d [(11, 260)] x0 [.inl x3] h1) fun v16 h15 =>
  zlet v16 fun x4_17 =>
  zlet x1 fun x5_18 =>
  zlet (1 : Int) fun x7_19 =>
  R d 828 [.inr (.inr x0), .inl x3, .inl x4_17, .inr (.inl x5_18), .inl x7_19] h15
def yb_Machine_digitsOf_p12 (C : YC) (R : ZC YS) (d : Nat) (x0 : Option Nat) (x1 : Int) (x2 : Int) (x4 : Int) (x5 : Int) (h : YS) : ZR YS :=
  if x5 ≤ 9 then
    if x1 < 0 then
      zG (inI (x4 + 1)) <|
      R d 829 [.inr (.inr x0), .inl x1, .inr (.inl x2), .inl x4, .inl (x4 + 1), .inr (.inr x0)] h
    else
    R d 829 [.inr (.inr x0), .inl x1, .inr (.inl x2), .inl x4, .inl x4, .inr (.inr x0)] h
  else
  zG (inI (x4 + 1)) <|
  zlet (x4 + 1) fun x4_1 =>
  zlet (zdivL x5 10) fun x5_2 =>
  R d 658 [.inr (.inr x0), .inl x1, .inr (.inl x2), .inl x4_1, .inr (.inl x5_2)] h
def yb_Machine_apply_p26 (C : YC) (R : ZC YS) (d : Nat) (x0 : Option Nat) (x1 : Int) (x2 : Int) (x4 : Int) (y0 : Int) (h : YS) : ZR YS :=
  zlet y0 fun x5_1 =>
  if x5_1 = 0 then
    R d 830 [.inr (.inr x0), .inl x1, .inr (.inl x2), .inl x4, .inl x5_1, .inl x1] h
  else
  ygR 3302 x0 h fun v2 =>
  yaI 1 v2 (x1 + 1) h fun v3 =>
  R d 830 [.inr (.inr x0), .inl x1, .inr (.inl x2), .inl x4, .inl x5_1, .inl (zl2i v3)] h
def yb_Math_max (C : YC) (R : ZC YS) (d : Nat) (x0 : Int) (x1 : Int) (h : YS) : ZR YS :=
  if x0 < x1 then
    zrI x1 h
  else
  zrI x0 h
def yb_Machine_enter_p23 (C : YC) (R : ZC YS) (d : Nat) (x0 : Option Nat) (x2 : Int) (x4 : Option Nat) (x5 : Int) (h : YS) : ZR YS :=
  ygI 21301 x4 h fun v1 =>
  if x5 < v1 then
    ygR 3303 x0 h fun v2 =>
    ygI 3312 x0 h fun v3 =>
    ygR 3303 x0 h fun v4 =>
    ygI 3311 x0 h fun v5 =>
    ygI 21301 x4 h fun v6 =>
    yaI 1 v4 ((v5 - v6) + x5) h fun v7 =>
    yst 1 v2 (v3 + x5) v7 h fun h8 =>
    zG (inI (x5 + 1)) <|
    zlet (x5 + 1) fun x5_9 =>
    R d 661 [.inr (.inr x0), .inl x2, .inr (.inr x4), .inl x5_9] h8
  else
  ygI 3312 x0 h fun v10 =>
  ygI 21301 x4 h fun v11 =>
  zG (inI (v10 + v11)) <|
  ypI 3311 0 x0 (v10 + v11) h fun h12 =>
  zV (ycv R d [(11, 225)] x0 [.inr (.inr x4), .inl x2] h12) fun h13 =>
  zrV h13
def yb_Machine_handle_p43 (C : YC) (R : ZC YS) (d : Nat) (x0 : Option Nat) (x1 : Int) (h : YS) : ZR YS :=
  ygR 3308 x0 h fun v1 =>
  ygI 3315 x0 h fun v2 =>
  ygI 3314 x0 h fun v3 =>
  yst 0 v1 v2 v3 h fun h4 =>
  ygR 3308 x0 h4 fun v5 =>
  ygI 3315 x0 h4 fun v6 =>
  ygI 3311 x0 h4 fun v7 =>
  yst 0 v5 (v6 + 1) v7 h4 fun h8 =>
  ygR 3308 x0 h8 fun v9 =>
  ygI 3315 x0 h8 fun v10 =>
  yst 0 v9 (v10 + 2) x1 h8 fun h11 =>
  ygI 3315 x0 h11 fun v12 =>
  zG (inI (v12 + 3)) <|
  ypI 3315 0 x0 (v12 + 3) h11 fun h13 =>
  zrV h13
def yb_Teller_say_p2 (C : YC) (R : ZC YS) (d : Nat) (x0 : Option Nat) (x1 : Option Nat) (x2 : Int) (h : YS) : ZR YS :=
  zI (ycv R d [(21, 539)] x1 [] h) fun v2 h1 =>
  if x2 < v2 then
    zI (ycv R d [(21, 537)] x1 [.inl x2] h1) fun v4 h3 =>
    zV (ycv R d [(13, 284)] x0 [.inl v4] h3) fun h5 =>
    zG (inI (x2 + 1)) <|
    zlet (x2 + 1) fun x2_6 =>
    R d 663 [.inr (.inr x0), .inr (.inr x1), .inl x2_6] h5
  else
  zrV h1
def yb_Teller_made_p11 (C : YC) (R : ZC YS) (d : Nat) (x0 : Option Nat) (x1 : Option Nat) (x2 : Int) (x4 : Int) (x5 : Int) (x6 : Int) (h : YS) : ZR YS :=
  zV (ycv R d [(13, 283)] x0 [.inr (.inr x1)] h) fun h1 =>
  zV (ycv R d [(13, 283)] x0 [.inr (.inr (some (C.1 156)))] h1) fun h2 =>
  zG (inI (x6 + 1)) <|
  zV (ycv R d [(13, 287)] x0 [.inr (.inl x2), .inl x4, .inl 1, .inl (x6 + 1)] h2) fun h3 =>
  if x5 = 0 then
    zrV h3
  else
  zV (ycv R d [(13, 283)] x0 [.inr (.inr (some (C.1 162)))] h3) fun h4 =>
  zrV h4
def yb_Teller_row_p28 (C : YC) (R : ZC YS) (d : Nat) (x0 : Option Nat) (x1 : Int) (x3 : Int) (x4 : Int) (x5 : Int) (y0 : Int) (h : YS) : ZR YS :=
  zlet y0 fun x6_1 =>
  if x6_1 = 0 then
    zV (ycv R d [(13, 283)] x0 [.inr (.inr (some (C.1 159)))] h) fun h2 =>
    zlet (0 : Int) fun x7_3 =>
    R d 831 [.inr (.inr x0), .inr (.inl x1), .inl x3, .inl x4, .inl x5, .inl x6_1, .inl x7_3] h2
  else
  zV (ycv R d [(13, 283)] x0 [.inr (.inr (some (C.1 155)))] h) fun h4 =>
  zlet (0 : Int) fun x7_5 =>
  R d 831 [.inr (.inr x0), .inr (.inl x1), .inl x3, .inl x4, .inl x5, .inl x6_1, .inl x7_5] h4
def yb_Teller_isNumbered_p4 (C : YC) (R : ZC YS) (d : Nat) (x0 : Option Nat) (x1 : Int) (x2 : Int) (x3 : Int) (h : YS) : ZR YS :=
  ygR 3900 x0 h fun v1 =>
  zI (ycv R d [(4, 60)] v1 [.inl x1] h) fun v3 h2 =>
  if x3 < v3 then
    if x2 = 0 then
      zlet (0 : Int) fun x2_4 =>
      zG (inI (x3 + 1)) <|
      zlet (x3 + 1) fun x3_5 =>
      R d 666 [.inr (.inr x0), .inl x1, .inl x2_4, .inl x3_5] h2
    else
    ygR 3900 x0 h2 fun v6 =>
    zQ (ycv R d [(4, 61)] v6 [.inl x1, .inl x3] h2) fun v8 h7 =>
    zG (inI (x3 + 1)) <|
    zI (zc R d 291 [.inr (.inr v8), .inl (x3 + 1)] h7) fun v10 h9 =>
    if v10 = 0 then
      zlet (0 : Int) fun x2_11 =>
      zlet (x3 + 1) fun x3_12 =>
      R d 666 [.inr (.inr x0), .inl x1, .inl x2_11, .inl x3_12] h9
    else
    zlet (1 : Int) fun x2_13 =>
    zlet (x3 + 1) fun x3_14 =>
    R d 666 [.inr (.inr x0), .inl x1, .inl x2_13, .inl x3_14] h9
  else
  yrN 1 x2 h2
def yb_Teller_isNumber_p4 (C : YC) (R : ZC YS) (d : Nat) (x0 : Option Nat) (x1 : Int) (x2 : Int) (x3 : Int) (h : YS) : ZR YS :=
  zI (ycv R d [(21, 539)] x0 [] h) fun v2 h1 =>
  if x3 < v2 then
    if x2 < 0 then
      R d 832 [.inl x1, .inl x2] h1
    else
    zI (ycv R d [(21, 537)] x0 [.inl x3] h1) fun v4 h3 =>
    zI (zc R d 15 [.inl v4] h3) fun v6 h5 =>
    if v6 = 0 then
      zlet ((-1) : Int) fun x2_7 =>
      zG (inI (x3 + 1)) <|
      zlet (x3 + 1) fun x3_8 =>
      R d 667 [.inr (.inr x0), .inl x1, .inl x2_7, .inl x3_8] h5
    else
    zI (ycv R d [(21, 537)] x0 [.inl x3] h5) fun v10 h9 =>
    zG (inI (((10 * x2) + v10) - 48)) <|
    zlet (((10 * x2) + v10) - 48) fun x2_11 =>
    zG (inI (x3 + 1)) <|
    zlet (x3 + 1) fun x3_12 =>
    R d 667 [.inr (.inr x0), .inl x1, .inl x2_11, .inl x3_12] h9
  else
  R d 832 [.inl x1, .inl x2] h1
def yb_Teller_named_p70 (C : YC) (R : ZC YS) (d : Nat) (x0 : Option Nat) (x1 : Int) (x7 : Int) (h : YS) : ZR YS :=
  ygR 3901 x0 h fun v1 =>
  zI (ycv R d [(11, 247)] v1 [.inr (.inl x1)] h) fun v3 h2 =>
  if x7 < v3 then
    zI (ycv R d [(13, 285)] x0 [] h2) fun v5 h4 =>
    if v5 = 0 then
      ygR 3901 x0 h4 fun v6 =>
      zI (ycv R d [(11, 248)] v6 [.inr (.inl x1), .inl x7] h4) fun v8 h7 =>
      zV (ycv R d [(13, 294)] x0 [.inl v8] h7) fun h9 =>
      zG (inI (x7 + 1)) <|
      zlet (x7 + 1) fun x7_10 =>
      R d 668 [.inr (.inr x0), .inr (.inl x1), .inl x7_10] h9
    else
    zV (ycv R d [(13, 283)] x0 [.inr (.inr (some (C.1 169)))] h4) fun h11 =>
    zrV h11
  else
  zV (ycv R d [(13, 283)] x0 [.inr (.inr (some (C.1 169)))] h2) fun h12 =>
  zrV h12
def yb_Teller_named_p273 (C : YC) (R : ZC YS) (d : Nat) (x0 : Option Nat) (x1 : Int) (x3 : Int) (x4 : Int) (x5 : Int) (x7 : Option Nat) (x8 : Option Nat) (x9 : Int) (h : YS) : ZR YS :=
  ylen x8 h fun v1 =>
  if x9 < v1 then
    ygR 3900 x0 h fun v2 =>
    zI (ycv R d [(4, 62)] v2 [.inl x3, .inl x9] h) fun v4 h3 =>
    yst 0 x8 x9 v4 h3 fun h5 =>
    zG (inI (x9 + 1)) <|
    zlet (x9 + 1) fun x9_6 =>
    R d 669 [.inr (.inr x0), .inr (.inl x1), .inl x3, .inl x4, .inl x5, .inr (.inr x7), .inr (.inr x8), .inl x9_6] h5
  else
  ygR 5700 x7 h fun v7 =>
  ygR 3901 x0 h fun v8 =>
  ygR 3901 x0 h fun v9 =>
  zI (ycv R d [(11, 240)] v9 [.inr (.inl x1)] h) fun v11 h10 =>
  zJ (ycv R d [(11, 274)] v8 [.inl v11] h10) fun v13 h12 =>
  ygR 3900 x0 h12 fun v14 =>
  ygR 5703 x7 h12 fun v15 =>
  zI (ycv R d [(4, 73)] v14 [.inr (.inr v15), .inr (.inr x8)] h12) fun v17 h16 =>
  zV (ycv R d [(13, 286)] x0 [.inr (.inr v7), .inr (.inl v13), .inl v17, .inl x4, .inl x5] h16) fun h18 =>
  zrV h18
def yb_Teller_number_p19 (C : YC) (R : ZC YS) (d : Nat) (x0 : Option Nat) (x2 : Int) (x4 : Int) (h : YS) : ZR YS :=
  zG (x4 ≠ 0) <|
  if (zdivL x2 x4) ≤ 9 then
    R d 833 [.inr (.inr x0), .inr (.inl x2), .inr (.inl x4)] h
  else
  zG (inL (x4 * 10)) <|
  zlet (x4 * 10) fun x4_2 =>
  R d 670 [.inr (.inr x0), .inr (.inl x2), .inr (.inl x4_2)] h
def yb_Teller_sign_p12 (C : YC) (R : ZC YS) (d : Nat) (x0 : Option Nat) (x1 : Int) (h : YS) : ZR YS :=
  if x1 = 10 then
    zV (ycv R d [(13, 283)] x0 [.inr (.inr (some (C.1 165)))] h) fun h1 =>
    zrV h1
  else
  zV (ycv R d [(13, 283)] x0 [.inr (.inr (some (C.1 166)))] h) fun h2 =>
  zrV h2
def yb_Teller_sign_p44 (C : YC) (R : ZC YS) (d : Nat) (x0 : Option Nat) (x1 : Int) (h : YS) : ZR YS :=
  if x1 = 34 then
    zV (ycv R d [(13, 283)] x0 [.inr (.inr (some (C.1 167)))] h) fun h1 =>
    zrV h1
  else
  zV (ycv R d [(13, 283)] x0 [.inr (.inr (some (C.1 168)))] h) fun h2 =>
  zrV h2
def yb_Teller_list_p13 (C : YC) (R : ZC YS) (d : Nat) (x0 : Option Nat) (x3 : Int) (x4 : Int) (x5 : Int) (x7 : Int) (h : YS) : ZR YS :=
  ygR 3901 x0 h fun v1 =>
  zI (ycv R d [(11, 276)] v1 [.inr (.inl x5)] h) fun v3 h2 =>
  if v3 = 0 then
    zI (ycv R d [(13, 285)] x0 [] h2) fun v5 h4 =>
    if v5 = 0 then
      if x7 = 0 then
        zV (ycv R d [(13, 283)] x0 [.inr (.inr (some (C.1 160)))] h4) fun h6 =>
        R d 834 [.inr (.inr x0), .inl x3, .inl x4, .inr (.inl x5)] h6
      else
      R d 834 [.inr (.inr x0), .inl x3, .inl x4, .inr (.inl x5)] h4
    else
    zV (ycv R d [(13, 283)] x0 [.inr (.inr (some (C.1 171)))] h4) fun h7 =>
    zrV h7
  else
  zV (ycv R d [(13, 283)] x0 [.inr (.inr (some (C.1 171)))] h2) fun h8 =>
  zrV h8
def yb_Teller_line_p43 (C : YC) (R : ZC YS) (d : Nat) (x0 : Option Nat) (x1 : Option Nat) (x2 : Int) (h : YS) : ZR YS :=
  ygR 20401 x1 h fun v1 =>
  ygR 4503 v1 h fun v2 =>
  zI (ycv R d [(5, 506)] v2 [] h) fun v4 h3 =>
  if x2 < v4 then
    if x2 = 0 then
      R d 835 [.inr (.inr x0), .inr (.inr x1), .inl x2, .inr (.inr (some (C.1 156))), .inr (.inr x0)] h3
    else
    R d 835 [.inr (.inr x0), .inr (.inr x1), .inl x2, .inr (.inr (some (C.1 176))), .inr (.inr x0)] h3
  else
  zrV h3
def yb_Teller_vars_p45 (C : YC) (R : ZC YS) (d : Nat) (x0 : Option Nat) (x1 : Option Nat) (x2 : Int) (h : YS) : ZR YS :=
  zI (ycv R d [(5, 506)] x1 [] h) fun v2 h1 =>
  if x2 < v2 then
    if x2 ≤ 0 then
      R d 836 [.inr (.inr x0), .inr (.inr x1), .inl x2] h1
    else
    zV (ycv R d [(13, 283)] x0 [.inr (.inr (some (C.1 160)))] h1) fun h3 =>
    R d 836 [.inr (.inr x0), .inr (.inr x1), .inl x2] h3
  else
  zV (ycv R d [(13, 283)] x0 [.inr (.inr (some (C.1 174)))] h1) fun h4 =>
  zrV h4
def yb_Teller_type_p25 (C : YC) (R : ZC YS) (d : Nat) (x0 : Option Nat) (x1 : Option Nat) (x3 : Int) (x4 : Int) (x5 : Option Nat) (x6 : Int) (h : YS) : ZR YS :=
  if x6 < x4 then
    ygR 3900 x0 h fun v1 =>
    zI (ycv R d [(4, 64)] v1 [] h) fun v3 h2 =>
    yst 0 x5 x6 v3 h2 fun h4 =>
    ygR 3904 x0 h4 fun v5 =>
    yaI 0 x5 x6 h4 fun v6 =>
    yst 0 v5 x6 v6 h4 fun h7 =>
    zG (inI (x6 + 1)) <|
    zlet (x6 + 1) fun x6_8 =>
    R d 676 [.inr (.inr x0), .inr (.inr x1), .inl x3, .inl x4, .inr (.inr x5), .inl x6_8] h7
  else
  ypI 3906 0 x0 x4 h fun h9 =>
  ygR 3900 x0 h9 fun v10 =>
  zI (ycv R d [(4, 73)] v10 [.inr (.inr x1), .inr (.inr x5)] h9) fun v12 h11 =>
  zV (ycv R d [(13, 300)] x0 [.inl v12, .inl x3] h11) fun h13 =>
  zrV h13
def yb_Teller_type_2_p187 (C : YC) (R : ZC YS) (d : Nat) (x0 : Option Nat) (x3 : Int) (x4 : Int) (h : YS) : ZR YS :=
  ygR 3900 x0 h fun v1 =>
  zI (ycv R d [(4, 60)] v1 [.inl x3] h) fun v3 h2 =>
  if x4 < v3 then
    if x4 ≤ 0 then
      R d 837 [.inr (.inr x0), .inl x3, .inl x4] h2
    else
    zV (ycv R d [(13, 283)] x0 [.inr (.inr (some (C.1 160)))] h2) fun h4 =>
    R d 837 [.inr (.inr x0), .inl x3, .inl x4] h4
  else
  zV (ycv R d [(13, 283)] x0 [.inr (.inr (some (C.1 163)))] h2) fun h5 =>
  zrV h5
def yb_Teller_type_2_p119 (C : YC) (R : ZC YS) (d : Nat) (x0 : Option Nat) (x2 : Int) (x3 : Int) (x4 : Int) (h : YS) : ZR YS :=
  ygR 3900 x0 h fun v1 =>
  zI (ycv R d [(4, 60)] v1 [.inl x3] h) fun v3 h2 =>
  if x4 < v3 then
    if x4 ≤ 0 then
      R d 838 [.inr (.inr x0), .inl x2, .inl x3, .inl x4] h2
    else
    zV (ycv R d [(13, 283)] x0 [.inr (.inr (some (C.1 182)))] h2) fun h4 =>
    R d 838 [.inr (.inr x0), .inl x2, .inl x3, .inl x4] h4
  else
  if x2 ≤ 1 then
    zrV h2
  else
  zV (ycv R d [(13, 283)] x0 [.inr (.inr (some (C.1 162)))] h2) fun h5 =>
  zrV h5
def yb_Teller_variable_p2 (C : YC) (R : ZC YS) (d : Nat) (x0 : Option Nat) (x1 : Int) (x2 : Int) (h : YS) : ZR YS :=
  ygI 3906 x0 h fun v1 =>
  if x2 < v1 then
    ygR 3904 x0 h fun v2 =>
    yaI 0 v2 x2 h fun v3 =>
    if v3 = x1 then
      R d 839 [.inr (.inr x0), .inl x1, .inl x2] h
    else
    zG (inI (x2 + 1)) <|
    zlet (x2 + 1) fun x2_4 =>
    R d 679 [.inr (.inr x0), .inl x1, .inl x2_4] h
  else
  R d 839 [.inr (.inr x0), .inl x1, .inl x2] h
def yb_Teller_arrow_p10 (C : YC) (R : ZC YS) (d : Nat) (x0 : Option Nat) (x1 : Int) (x2 : Int) (h : YS) : ZR YS :=
  ygR 3900 x0 h fun v1 =>
  zI (ycv R d [(4, 62)] v1 [.inl x1, .inl 0] h) fun v3 h2 =>
  zV (ycv R d [(13, 300)] x0 [.inl v3, .inl 1] h2) fun h4 =>
  zV (ycv R d [(13, 283)] x0 [.inr (.inr (some (C.1 180)))] h4) fun h5 =>
  ygR 3900 x0 h5 fun v6 =>
  zI (ycv R d [(4, 62)] v6 [.inl x1, .inl 1] h5) fun v8 h7 =>
  zV (ycv R d [(13, 300)] x0 [.inl v8, .inl 0] h7) fun h9 =>
  if x2 ≤ 0 then
    zrV h9
  else
  zV (ycv R d [(13, 283)] x0 [.inr (.inr (some (C.1 162)))] h9) fun h10 =>
  zrV h10
def yb_Teller_named_2_p91 (C : YC) (R : ZC YS) (d : Nat) (x0 : Option Nat) (x1 : Int) (h : YS) : ZR YS :=
  ygR 3900 x0 h fun v1 =>
  ygR 1200 v1 h fun v2 =>
  ygR 3900 x0 h fun v3 =>
  zI (ycv R d [(4, 59)] v3 [.inl x1] h) fun v5 h4 =>
  zQ (ycv R d [(5, 528)] v2 [.inl v5] h4) fun v7 h6 =>
  ycc 17 161 v7 h6 <|
  ygR 4500 v7 h6 fun v8 =>
  zV (ycv R d [(13, 283)] x0 [.inr (.inr v8)] h6) fun h9 =>
  zrV h9
def yb_Teller_named_2_p50 (C : YC) (R : ZC YS) (d : Nat) (x0 : Option Nat) (x1 : Int) (x2 : Int) (x3 : Int) (h : YS) : ZR YS :=
  if x3 < x2 then
    if x3 ≤ 0 then
      R d 840 [.inr (.inr x0), .inl x1, .inl x2, .inl x3] h
    else
    zV (ycv R d [(13, 283)] x0 [.inr (.inr (some (C.1 160)))] h) fun h1 =>
    R d 840 [.inr (.inr x0), .inl x1, .inl x2, .inl x3] h1
  else
  zV (ycv R d [(13, 283)] x0 [.inr (.inr (some (C.1 174)))] h) fun h2 =>
  R d 681 [.inr (.inr x0), .inl x1] h2
def yb_Base_keep_p2 (C : YC) (R : ZC YS) (d : Nat) (x0 : Option Nat) (x1 : Option Nat) (x2 : Int) (h : YS) : ZR YS :=
  ygR 4202 x0 h fun v1 =>
  zI (ycv R d [(5, 506)] v1 [] h) fun v3 h2 =>
  if x2 < v3 then
    ygR 4202 x0 h2 fun v4 =>
    zQ (ycv R d [(5, 528)] v4 [.inl x2] h2) fun v6 h5 =>
    ycc 18 30 v6 h5 <|
    ygR 2100 v6 h5 fun v7 =>
    ygR 2100 x1 h5 fun v8 =>
    zI (ycv R d [(21, 576)] v7 [.inr (.inr v8)] h5) fun v10 h9 =>
    if v10 = 0 then
      zG (inI (x2 + 1)) <|
      zlet (x2 + 1) fun x2_11 =>
      R d 683 [.inr (.inr x0), .inr (.inr x1), .inl x2_11] h9
    else
    ygR 4202 x0 h9 fun v12 =>
    zQ (ycv R d [(5, 841)] v12 [.inl x2, .inr (.inr x1)] h9) fun v14 h13 =>
    zrV h13
  else
  ygR 4202 x0 h2 fun v15 =>
  zI (ycv R d [(5, 505)] v15 [.inr (.inr x1)] h2) fun v17 h16 =>
  zrV h16
def yb_Base_like_p23 (C : YC) (R : ZC YS) (d : Nat) (x0 : Option Nat) (x1 : Option Nat) (x2 : Int) (h : YS) : ZR YS :=
  ygR 4200 x1 h fun v1 =>
  zI (ycv R d [(5, 506)] v1 [] h) fun v3 h2 =>
  if x2 < v3 then
    ygR 4200 x0 h2 fun v4 =>
    ygR 4200 x1 h2 fun v5 =>
    zQ (ycv R d [(5, 528)] v5 [.inl x2] h2) fun v7 h6 =>
    ycc 18 52 v7 h6 <|
    zI (ycv R d [(5, 505)] v4 [.inr (.inr v7)] h6) fun v9 h8 =>
    zG (inI (x2 + 1)) <|
    zlet (x2 + 1) fun x2_10 =>
    R d 684 [.inr (.inr x0), .inr (.inr x1), .inl x2_10] h8
  else
  zlet (0 : Int) fun x2_11 =>
  R d 842 [.inr (.inr x0), .inr (.inr x1), .inl x2_11] h2
def yb_Values_enter_p37 (C : YC) (R : ZC YS) (d : Nat) (x0 : Option Nat) (x1 : Option Nat) (x2 : Int) (h : YS) : ZR YS :=
  ygR 7200 x0 h fun v1 =>
  zI (ycv R d [(5, 506)] v1 [] h) fun v3 h2 =>
  if x2 < v3 then
    ygR 7200 x0 h2 fun v4 =>
    zQ (ycv R d [(5, 528)] v4 [.inl x2] h2) fun v6 h5 =>
    ycc 38 50 v6 h5 <|
    zlet v6 fun x3_7 =>
    ygR 8100 x3_7 h5 fun v8 =>
    zQ (ycv R d [(9, 194)] x1 [.inr (.inr v8)] h5) fun v10 h9 =>
    ynull v10 (
      ygI 8101 x3_7 h9 fun v11 =>
      zlet v11 fun x4_12 =>
      zlet (0 : Int) fun x5_13 =>
      R d 843 [.inr (.inr x0), .inr (.inr x1), .inl x2, .inr (.inr x3_7), .inl x4_12, .inl x5_13] h9
    ) <|
    zG (inI (x2 + 1)) <|
    zlet (x2 + 1) fun x2_14 =>
    R d 685 [.inr (.inr x0), .inr (.inr x1), .inl x2_14] h9
  else
  zrV h2
def yb_Values_leave_p3 (C : YC) (R : ZC YS) (d : Nat) (x0 : Option Nat) (x1 : Option Nat) (x2 : Option Nat) (x3 : Option Nat) (x4 : Option Nat) (x5 : Int) (h : YS) : ZR YS :=
  zI (ycv R d [(5, 506)] x4 [] h) fun v2 h1 =>
  if x5 < v2 then
    ygR 2700 x1 h1 fun v3 =>
    zQ (ycv R d [(5, 528)] x4 [.inl x5] h1) fun v5 h4 =>
    ycc 38 90 v5 h4 <|
    ygI 5403 v5 h4 fun v6 =>
    zI (ycv R d [(4, 75)] v3 [.inl v6, .inl 40] h4) fun v8 h7 =>
    if v8 ≤ 40 then
      R d 844 [.inr (.inr x0), .inr (.inr x1), .inr (.inr x2), .inr (.inr x3), .inr (.inr x4), .inl x5, .inl 1, .inr (.inr x1)] h7
    else
    R d 844 [.inr (.inr x0), .inr (.inr x1), .inr (.inr x2), .inr (.inr x3), .inr (.inr x4), .inl x5, .inl 0, .inr (.inr x1)] h7
  else
  ygR 2700 x1 h1 fun v9 =>
  ygI 7203 x0 h1 fun v10 =>
  zV (ycv R d [(4, 93)] v9 [.inl v10] h1) fun h11 =>
  zlet ((-1) : Int) fun x5_12 =>
  ygI 7202 x0 h11 fun v13 =>
  zlet v13 fun x6_14 =>
  R d 845 [.inr (.inr x0), .inr (.inr x1), .inr (.inr x2), .inr (.inr x3), .inl x5_12, .inl x6_14] h11
def yb_Values_told_p17 (C : YC) (R : ZC YS) (d : Nat) (x0 : Option Nat) (x1 : Option Nat) (x2 : Int) (h : YS) : ZR YS :=
  zI (ycv R d [(5, 506)] x1 [] h) fun v2 h1 =>
  if x2 < v2 then
    ygR 2710 x0 h1 fun v3 =>
    ynew 68 5 h1 fun r4 h5 =>
    zQ (ycv R d [(5, 528)] x1 [.inl x2] h5) fun v7 h6 =>
    ycc 38 90 v7 h6 <|
    zQ (ycv R d [(5, 528)] x1 [.inl x2] h6) fun v9 h8 =>
    ycc 38 90 v9 h8 <|
    ygR 5400 v9 h8 fun v10 =>
    zV (ycs R d 479 r4 [.inr (.inr v7), .inr (.inr none), .inr (.inr v10), .inr (.inr none), .inr (.inr none)] h8) fun h11 =>
    zI (ycv R d [(5, 505)] v3 [.inr (.inr r4)] h11) fun v13 h12 =>
    zG (inI (x2 + 1)) <|
    zlet (x2 + 1) fun x2_14 =>
    R d 687 [.inr (.inr x0), .inr (.inr x1), .inl x2_14] h12
  else
  zrV h1
def yb_ValDec_judge_p59 (C : YC) (R : ZC YS) (d : Nat) (x0 : Option Nat) (x1 : Option Nat) (x2 : Option Nat) (x3 : Option Nat) (x4 : Option Nat) (h : YS) : ZR YS :=
  zV (ycv R d [(24, 322)] x0 [.inr (.inr x1), .inr (.inr x3), .inr (.inr x4), .inr (.inr x2)] h) fun h1 =>
  ygI 7206 x0 h1 fun v2 =>
  if v2 = 0 then
    zlet (0 : Int) fun x5_3 =>
    R d 846 [.inr (.inr x1), .inr (.inr x2), .inl x5_3] h1
  else
  zV (zc R d 323 [.inr (.inr x1), .inr (.inr x2)] h1) fun h4 =>
  zrV h4
def yb_ValDec_recursive_p18 (C : YC) (R : ZC YS) (d : Nat) (x0 : Option Nat) (x1 : Option Nat) (x2 : Option Nat) (x3 : Option Nat) (x4 : Int) (x5 : Option Nat) (x6 : Int) (h : YS) : ZR YS :=
  if x6 < x4 then
    ypR 2706 x1 x2 h fun h1 =>
    ygR 7204 x0 h1 fun v2 =>
    zQ (ycv R d [(5, 528)] v2 [.inl x6] h1) fun v4 h3 =>
    ycc 39 68 v4 h3 <|
    zQ (zc R d 327 [.inr (.inr v4)] h3) fun v6 h5 =>
    zlet v6 fun x7_7 =>
    ynull x7_7 (
      R d 847 [.inr (.inr x0), .inr (.inr x1), .inr (.inr x2), .inr (.inr x3), .inl x4, .inr (.inr x5), .inl x6, .inr (.inr x7_7), .inl 0, .inr (.inr x1)] h5
    ) <|
    R d 847 [.inr (.inr x0), .inr (.inr x1), .inr (.inr x2), .inr (.inr x3), .inl x4, .inr (.inr x5), .inl x6, .inr (.inr x7_7), .inl 1, .inr (.inr x1)] h5
  else
  zlet (0 : Int) fun x6_8 =>
  R d 848 [.inr (.inr x0), .inr (.inr x1), .inr (.inr x2), .inr (.inr x3), .inl x4, .inr (.inr x5), .inl x6_8] h
def yb_ValDec_plain_p3 (C : YC) (R : ZC YS) (d : Nat) (x0 : Option Nat) (x1 : Option Nat) (x2 : Option Nat) (x3 : Option Nat) (x4 : Option Nat) (x5 : Int) (h : YS) : ZR YS :=
  ygR 7204 x0 h fun v1 =>
  zI (ycv R d [(5, 506)] v1 [] h) fun v3 h2 =>
  if x5 < v3 then
    ypR 2706 x1 x2 h2 fun h4 =>
    zI (ycv R d [(5, 506)] x2 [] h4) fun v6 h5 =>
    zlet v6 fun x6_7 =>
    ygR 7204 x0 h5 fun v8 =>
    zQ (ycv R d [(5, 528)] v8 [.inl x5] h5) fun v10 h9 =>
    ycc 39 68 v10 h9 <|
    zI (ycv R d [(36, 369), (32, 349), (38, 379), (37, 374), (35, 364), (33, 354), (25, 334), (34, 359)] v10 [.inr (.inr x1)] h9) fun v12 h11 =>
    zlet v12 fun x7_13 =>
    ygR 7205 x0 h11 fun v14 =>
    zQ (ycv R d [(5, 528)] v14 [.inl x5] h11) fun v16 h15 =>
    ycc 39 74 v16 h15 <|
    zI (ycv R d [(53, 435), (56, 448), (42, 396), (52, 431), (45, 403), (57, 451), (40, 390), (54, 440), (49, 419), (48, 415), (39, 386), (47, 411), (50, 422), (46, 408), (55, 444), (51, 426), (41, 393)] v16 [.inr (.inr x1)] h15) fun v18 h17 =>
    zlet v18 fun x8_19 =>
    ygR 7205 x0 h17 fun v20 =>
    zQ (ycv R d [(5, 528)] v20 [.inl x5] h17) fun v22 h21 =>
    ycc 39 74 v22 h21 <|
    ygI 11700 v22 h21 fun v23 =>
    zV (ycv R d [(9, 199)] x1 [.inl x7_13, .inl x8_19, .inl v23] h21) fun h24 =>
    ygR 7204 x0 h24 fun v25 =>
    zQ (ycv R d [(5, 528)] v25 [.inl x5] h24) fun v27 h26 =>
    ycc 39 68 v27 h26 <|
    zI (zc R d 329 [.inr (.inr v27)] h26) fun v29 h28 =>
    if v29 = 0 then
      ygR 7204 x0 h28 fun v30 =>
      zQ (ycv R d [(5, 528)] v30 [.inl x5] h28) fun v32 h31 =>
      ycc 39 68 v32 h31 <|
      zV (zc R d 330 [.inr (.inr x1), .inr (.inr v32)] h31) fun h33 =>
      zlet x6_7 fun x9_34 =>
      R d 849 [.inr (.inr x0), .inr (.inr x1), .inr (.inr x2), .inr (.inr x3), .inr (.inr x4), .inl x5, .inl x9_34] h33
    else
    zlet x6_7 fun x9_35 =>
    R d 849 [.inr (.inr x0), .inr (.inr x1), .inr (.inr x2), .inr (.inr x3), .inr (.inr x4), .inl x5, .inl x9_35] h28
  else
  zrV h2
def yb_ValDec_make_p124 (C : YC) (R : ZC YS) (d : Nat) (x0 : Option Nat) (x1 : Option Nat) (x2 : Option Nat) (x3 : Int) (h : YS) : ZR YS :=
  ygR 7204 x0 h fun v1 =>
  zI (ycv R d [(5, 506)] v1 [] h) fun v3 h2 =>
  if x3 < v3 then
    ygR 7205 x0 h2 fun v4 =>
    zQ (ycv R d [(5, 528)] v4 [.inl x3] h2) fun v6 h5 =>
    ycc 39 74 v6 h5 <|
    zV (ycv R d [(53, 438), (56, 449), (42, 397), (52, 433), (45, 405), (57, 452), (40, 391), (54, 442), (49, 420), (48, 417), (39, 387), (47, 413), (50, 424), (46, 409), (55, 446), (51, 429), (41, 394)] v6 [.inr (.inr x1), .inl 0] h5) fun h7 =>
    zI (ycv R d [(70, 487)] x1 [] h7) fun v9 h8 =>
    zlet v9 fun x4_10 =>
    zI (ycv R d [(70, 484)] x1 [.inl 12, .inl x4_10, .inl 0] h8) fun v12 h11 =>
    zV (ycv R d [(5, 504)] x2 [] h11) fun h13 =>
    ygR 7204 x0 h13 fun v14 =>
    zQ (ycv R d [(5, 528)] v14 [.inl x3] h13) fun v16 h15 =>
    ycc 39 68 v16 h15 <|
    zV (ycv R d [(36, 372), (32, 352), (38, 382), (37, 377), (35, 367), (33, 357), (25, 337), (34, 362)] v16 [.inr (.inr x1), .inl x4_10, .inr (.inr x2)] h15) fun h17 =>
    zI (ycv R d [(5, 582)] x2 [] h17) fun v19 h18 =>
    if v19 = 0 then
      zI (ycv R d [(70, 484)] x1 [.inl 24, .inl 0, .inl 0] h18) fun v21 h20 =>
      zlet v21 fun x5_22 =>
      zV (ycv R d [(70, 500)] x1 [.inr (.inr x2)] h20) fun h23 =>
      zI (ycv R d [(70, 484)] x1 [.inl 28, .inl 1, .inl 0] h23) fun v25 h24 =>
      zV (ycv R d [(70, 498)] x1 [.inl x5_22] h24) fun h26 =>
      zG (inI (x3 + 1)) <|
      zlet (x3 + 1) fun x3_27 =>
      R d 691 [.inr (.inr x0), .inr (.inr x1), .inr (.inr x2), .inl x3_27] h26
    else
    zG (inI (x3 + 1)) <|
    zlet (x3 + 1) fun x3_28 =>
    R d 691 [.inr (.inr x0), .inr (.inr x1), .inr (.inr x2), .inl x3_28] h18
  else
  zrV h2
def yb_ValDec_make_p29 (C : YC) (R : ZC YS) (d : Nat) (x0 : Option Nat) (x1 : Option Nat) (x2 : Int) (x3 : Option Nat) (x4 : Option Nat) (x5 : Int) (h : YS) : ZR YS :=
  if x5 < x2 then
    ygR 7204 x0 h fun v1 =>
    zQ (ycv R d [(5, 528)] v1 [.inl x5] h) fun v3 h2 =>
    ycc 39 68 v3 h2 <|
    zQ (zc R d 327 [.inr (.inr v3)] h2) fun v5 h4 =>
    ygR 9905 v5 h4 fun v6 =>
    ysR x4 x5 v6 h4 fun h7 =>
    zG (inI (x5 + 1)) <|
    zlet (x5 + 1) fun x5_8 =>
    R d 692 [.inr (.inr x0), .inr (.inr x1), .inl x2, .inr (.inr x3), .inr (.inr x4), .inl x5_8] h7
  else
  zV (ycv R d [(70, 488)] x1 [.inr (.inr x4)] h) fun h9 =>
  zlet (0 : Int) fun x5_10 =>
  R d 850 [.inr (.inr x0), .inr (.inr x1), .inl x2, .inr (.inr x3), .inr (.inr x4), .inl x5_10] h9
def yb_RowPat_judge_p15 (C : YC) (R : ZC YS) (d : Nat) (x0 : Option Nat) (x1 : Option Nat) (x2 : Int) (x3 : Option Nat) (x4 : Int) (h : YS) : ZR YS :=
  if x4 < x2 then
    ygR 7502 x0 h fun v1 =>
    ynull v1 (
      R d 851 [.inr (.inr x0), .inr (.inr x1), .inl x2, .inr (.inr x3), .inl x4] h
    ) <|
    ygR 7501 x0 h fun v2 =>
    zI (zc R d 20 [.inr (.inr v2), .inl x4] h) fun v4 h3 =>
    if v4 = 0 then
      R d 852 [.inr (.inr x0), .inr (.inr x1), .inl x2, .inr (.inr x3), .inl x4, .inl 1, .inr (.inr x1)] h3
    else
    R d 852 [.inr (.inr x0), .inr (.inr x1), .inl x2, .inr (.inr x3), .inl x4, .inl 0, .inr (.inr x1)] h3
  else
  ygR 2700 x1 h fun v5 =>
  ygI 7504 x0 h fun v6 =>
  if v6 = 0 then
    R d 853 [.inr (.inr x0), .inr (.inr x3), .inl 2, .inr (.inr v5), .inr (.inr x0)] h
  else
  R d 853 [.inr (.inr x0), .inr (.inr x3), .inl 1, .inr (.inr v5), .inr (.inr x0)] h
def yb_RowPat_tests_p4 (C : YC) (R : ZC YS) (d : Nat) (x0 : Option Nat) (x1 : Int) (x2 : Int) (h : YS) : ZR YS :=
  ygR 7503 x0 h fun v1 =>
  zI (ycv R d [(5, 506)] v1 [] h) fun v3 h2 =>
  if x2 < v3 then
    ygR 7503 x0 h2 fun v4 =>
    zQ (ycv R d [(5, 528)] v4 [.inl x2] h2) fun v6 h5 =>
    ycc 41 4 v6 h5 <|
    zI (ycv R d [(36, 370), (32, 350), (38, 380), (37, 375), (35, 365), (33, 355), (25, 335), (34, 360)] v6 [] h5) fun v8 h7 =>
    zG (inI (x1 + v8)) <|
    zlet (x1 + v8) fun x1_9 =>
    zG (inI (x2 + 1)) <|
    zlet (x2 + 1) fun x2_10 =>
    R d 694 [.inr (.inr x0), .inl x1_9, .inl x2_10] h7
  else
  zrI x1 h2
def yb_RowPat_meets_p18 (C : YC) (R : ZC YS) (d : Nat) (x0 : Option Nat) (x1 : Option Nat) (x2 : Int) (x3 : Int) (x4 : Int) (x5 : Int) (h : YS) : ZR YS :=
  ygR 7503 x0 h fun v1 =>
  zI (ycv R d [(5, 506)] v1 [] h) fun v3 h2 =>
  if x5 < v3 then
    ygR 7503 x0 h2 fun v4 =>
    zQ (ycv R d [(5, 528)] v4 [.inl x5] h2) fun v6 h5 =>
    ycc 41 4 v6 h5 <|
    ygR 3000 x1 h5 fun v7 =>
    ygR 7501 x0 h5 fun v8 =>
    zQ (ycv R d [(5, 528)] v8 [.inl x5] h5) fun v10 h9 =>
    ycc 41 83 v10 h9 <|
    zI (ycv R d [(4, 85)] v7 [.inl x3, .inr (.inr v10)] h9) fun v12 h11 =>
    ygR 3000 x1 h11 fun v13 =>
    zI (ycv R d [(4, 60)] v13 [.inl x3] h11) fun v15 h14 =>
    zI (ycv R d [(10, 213)] x1 [.inl x2, .inl v12, .inl v15] h14) fun v17 h16 =>
    zI (ycv R d [(36, 371), (32, 351), (38, 381), (37, 376), (35, 366), (33, 356), (25, 336), (34, 361)] v6 [.inr (.inr x1), .inl v17] h16) fun v19 h18 =>
    zlet v19 fun x6_20 =>
    if x6_20 = 0 then
      zrI x6_20 h18
    else
    if x6_20 = 2 then
      if x4 = 1 then
        zlet x6_20 fun x4_21 =>
        zV (ycv R d [(10, 218)] x1 [] h18) fun h22 =>
        zG (inI (x5 + 1)) <|
        zlet (x5 + 1) fun x5_23 =>
        R d 695 [.inr (.inr x0), .inr (.inr x1), .inl x2, .inl x3, .inl x4_21, .inl x5_23] h22
      else
      zG (inI (x5 + 1)) <|
      zlet (x5 + 1) fun x5_24 =>
      R d 695 [.inr (.inr x0), .inr (.inr x1), .inl x2, .inl x3, .inl x4, .inl x5_24] h18
    else
    zG (inI (x5 + 1)) <|
    zlet (x5 + 1) fun x5_25 =>
    R d 695 [.inr (.inr x0), .inr (.inr x1), .inl x2, .inl x3, .inl x4, .inl x5_25] h18
  else
  if x4 = 2 then
    zV (ycv R d [(10, 217)] x1 [] h2) fun h26 =>
    zrI x4 h26
  else
  zrI x4 h2
def yb_RowPat_make_p16 (C : YC) (R : ZC YS) (d : Nat) (x0 : Option Nat) (x1 : Option Nat) (x2 : Int) (x3 : Option Nat) (x4 : Int) (x5 : Int) (h : YS) : ZR YS :=
  ygR 7503 x0 h fun v1 =>
  zI (ycv R d [(5, 506)] v1 [] h) fun v3 h2 =>
  if x5 < v3 then
    ygR 7503 x0 h2 fun v4 =>
    zQ (ycv R d [(5, 528)] v4 [.inl x5] h2) fun v6 h5 =>
    yio 41 81 v6 h5 fun v7 =>
    if v7 = 0 then
      ygR 7503 x0 h5 fun v8 =>
      zQ (ycv R d [(5, 528)] v8 [.inl x5] h5) fun v10 h9 =>
      ycc 41 4 v10 h9 <|
      ygR 21001 x1 h9 fun v11 =>
      ygR 7501 x0 h9 fun v12 =>
      zQ (ycv R d [(5, 528)] v12 [.inl x5] h9) fun v14 h13 =>
      ycc 41 83 v14 h13 <|
      zI (ycv R d [(4, 85)] v11 [.inl x4, .inr (.inr v14)] h13) fun v16 h15 =>
      zI (ycv R d [(70, 491)] x1 [.inl x2, .inl v16] h15) fun v18 h17 =>
      zV (ycv R d [(36, 372), (32, 352), (38, 382), (37, 377), (35, 367), (33, 357), (25, 337), (34, 362)] v10 [.inr (.inr x1), .inl v18, .inr (.inr x3)] h17) fun h19 =>
      zG (inI (x5 + 1)) <|
      zlet (x5 + 1) fun x5_20 =>
      R d 696 [.inr (.inr x0), .inr (.inr x1), .inl x2, .inr (.inr x3), .inl x4, .inl x5_20] h19
    else
    zG (inI (x5 + 1)) <|
    zlet (x5 + 1) fun x5_21 =>
    R d 696 [.inr (.inr x0), .inr (.inr x1), .inl x2, .inr (.inr x3), .inl x4, .inl x5_21] h5
  else
  zrV h2
def yb_VariableTy_make_p21 (C : YC) (R : ZC YS) (d : Nat) (x0 : Option Nat) (x1 : Option Nat) (x2 : Int) (h : YS) : ZR YS :=
  ygR 2705 x1 h fun v1 =>
  zI (ycv R d [(5, 506)] v1 [] h) fun v3 h2 =>
  if x2 < v3 then
    ygR 2705 x1 h2 fun v4 =>
    zQ (ycv R d [(5, 528)] v4 [.inl x2] h2) fun v6 h5 =>
    ycc 46 26 v6 h5 <|
    ygR 20100 v6 h5 fun v7 =>
    ygR 8401 x0 h5 fun v8 =>
    zI (ycv R d [(21, 576)] v7 [.inr (.inr v8)] h5) fun v10 h9 =>
    if v10 = 0 then
      zG (inI (x2 + 1)) <|
      zlet (x2 + 1) fun x2_11 =>
      R d 697 [.inr (.inr x0), .inr (.inr x1), .inl x2_11] h9
    else
    ygR 2705 x1 h9 fun v12 =>
    zQ (ycv R d [(5, 528)] v12 [.inl x2] h9) fun v14 h13 =>
    ycc 46 26 v14 h13 <|
    ygI 20101 v14 h13 fun v15 =>
    zrI v15 h13
  else
  ygR 2701 x1 h2 fun v16 =>
  ygIk 28 8400 x0 h2 fun v17 =>
  zQ (ycv R d [(1, 48)] v16 [.inl 15, .inl v17] h2) fun v19 h18 =>
  ythrow v19 h18
def yb_RowTy_make_p15 (C : YC) (R : ZC YS) (d : Nat) (x0 : Option Nat) (x1 : Option Nat) (x2 : Int) (x3 : Option Nat) (x4 : Int) (h : YS) : ZR YS :=
  if x4 < x2 then
    ygR 8702 x0 h fun v1 =>
    ynull v1 (
      R d 854 [.inr (.inr x0), .inr (.inr x1), .inl x2, .inr (.inr x3), .inl x4] h
    ) <|
    ygR 8701 x0 h fun v2 =>
    zI (zc R d 20 [.inr (.inr v2), .inl x4] h) fun v4 h3 =>
    if v4 = 0 then
      R d 855 [.inr (.inr x0), .inr (.inr x1), .inl x2, .inr (.inr x3), .inl x4, .inl 1, .inr (.inr x1)] h3
    else
    R d 855 [.inr (.inr x0), .inr (.inr x1), .inl x2, .inr (.inr x3), .inl x4, .inl 0, .inr (.inr x1)] h3
  else
  ygR 2700 x1 h fun v5 =>
  ygR 8701 x0 h fun v6 =>
  zI (zc R d 21 [.inr (.inr v5), .inl 2, .inr (.inr v6), .inr (.inr x3), .inl 0] h) fun v8 h7 =>
  zrI v8 h7
def yb_NamedTy_make_p15 (C : YC) (R : ZC YS) (d : Nat) (x0 : Option Nat) (x1 : Option Nat) (x2 : Int) (x3 : Option Nat) (x4 : Int) (h : YS) : ZR YS :=
  if x4 < x2 then
    ygR 9002 x0 h fun v1 =>
    zQ (ycv R d [(5, 528)] v1 [.inl x4] h) fun v3 h2 =>
    ycc 48 4 v3 h2 <|
    zI (ycv R d [(31, 347), (30, 345), (29, 343), (28, 341)] v3 [.inr (.inr x1)] h2) fun v5 h4 =>
    yst 0 x3 x4 v5 h4 fun h6 =>
    zG (inI (x4 + 1)) <|
    zlet (x4 + 1) fun x4_7 =>
    R d 699 [.inr (.inr x0), .inr (.inr x1), .inl x2, .inr (.inr x3), .inl x4_7] h6
  else
  ygR 9001 x0 h fun v8 =>
  ygIk 30 8400 x0 h fun v9 =>
  zQ (ycv R d [(9, 195)] x1 [.inr (.inr v8), .inl v9] h) fun v11 h10 =>
  zlet v11 fun x4_12 =>
  ygI 4801 x4_12 h10 fun v13 =>
  if v13 = x2 then
    R d 856 [.inr (.inr x0), .inr (.inr x1), .inl x2, .inr (.inr x3), .inr (.inr x4_12), .inl 1, .inr (.inr x1)] h10
  else
  R d 856 [.inr (.inr x0), .inr (.inr x1), .inl x2, .inr (.inr x3), .inr (.inr x4_12), .inl 0, .inr (.inr x1)] h10
def yb_ArrowTy_make_p15 (C : YC) (R : ZC YS) (d : Nat) (x0 : Option Nat) (x1 : Option Nat) (x2 : Int) (x3 : Option Nat) (x4 : Int) (h : YS) : ZR YS :=
  if x4 < x2 then
    ygR 9301 x0 h fun v1 =>
    zQ (ycv R d [(5, 528)] v1 [.inl x4] h) fun v3 h2 =>
    ycc 49 2 v3 h2 <|
    zI (ycv R d [(31, 347), (30, 345), (29, 343), (28, 341)] v3 [.inr (.inr x1)] h2) fun v5 h4 =>
    yst 0 x3 x4 v5 h4 fun h6 =>
    zG (inI (x4 + 1)) <|
    zlet (x4 + 1) fun x4_7 =>
    R d 700 [.inr (.inr x0), .inr (.inr x1), .inl x2, .inr (.inr x3), .inl x4_7] h6
  else
  yaI 0 x3 (x2 - 1) h fun v8 =>
  zlet v8 fun x4_9 =>
  zG (inI (x2 - 2)) <|
  zlet (x2 - 2) fun x5_10 =>
  R d 857 [.inr (.inr x1), .inr (.inr x3), .inl x4_9, .inl x5_10] h
def yb_AsPat_judge_p26 (C : YC) (R : ZC YS) (d : Nat) (x0 : Option Nat) (x1 : Option Nat) (y0 : Int) (y1 : Option Nat) (h : YS) : ZR YS :=
  ygI 9602 x0 h fun v1 =>
  zV (ycv R d [(9, 190)] y1 [.inl y0, .inl 7, .inl v1] h) fun h2 =>
  ygR 9601 x0 h2 fun v3 =>
  ygI 9602 x0 h2 fun v4 =>
  zQ (ycv R d [(9, 198)] x1 [.inr (.inr v3), .inl v4] h2) fun v6 h5 =>
  ypR 9605 x0 v6 h5 fun h7 =>
  ygR 9603 x0 h7 fun v8 =>
  ynull v8 (
    R d 858 [.inr (.inr x0), .inr (.inr x1)] h7
  ) <|
  ygR 9605 x0 h7 fun v9 =>
  ygI 5403 v9 h7 fun v10 =>
  ygR 9603 x0 h7 fun v11 =>
  zI (ycv R d [(31, 347), (30, 345), (29, 343), (28, 341)] v11 [.inr (.inr x1)] h7) fun v13 h12 =>
  ygI 9602 x0 h12 fun v14 =>
  zV (ycv R d [(9, 199)] x1 [.inl v10, .inl v13, .inl v14] h12) fun h15 =>
  R d 858 [.inr (.inr x0), .inr (.inr x1)] h15
def yb_NamePat_judge_p20 (C : YC) (R : ZC YS) (d : Nat) (x0 : Option Nat) (x1 : Option Nat) (h : YS) : ZR YS :=
  ygR 9901 x0 h fun v1 =>
  ygI 9902 x0 h fun v2 =>
  zQ (ycv R d [(9, 198)] x1 [.inr (.inr v1), .inl v2] h) fun v4 h3 =>
  ypR 9905 x0 v4 h3 fun h5 =>
  ygR 9905 x0 h5 fun v6 =>
  ygI 5403 v6 h5 fun v7 =>
  zrI v7 h5
def yb_NamePat_judge_p64 (C : YC) (R : ZC YS) (d : Nat) (x0 : Option Nat) (x1 : Option Nat) (x2 : Option Nat) (y0 : Int) (y1 : Option Nat) (h : YS) : ZR YS :=
  ygI 9902 x0 h fun v1 =>
  zV (ycv R d [(9, 190)] y1 [.inl y0, .inl 7, .inl v1] h) fun h2 =>
  ypR 9904 x0 x2 h2 fun h3 =>
  zI (ycv R d [(9, 200)] x1 [.inr (.inr x2)] h3) fun v5 h4 =>
  zrI v5 h4
def yb_ListPat_judge_p4 (C : YC) (R : ZC YS) (d : Nat) (x0 : Option Nat) (x1 : Option Nat) (x2 : Int) (x3 : Int) (h : YS) : ZR YS :=
  ygR 10501 x0 h fun v1 =>
  zI (ycv R d [(5, 506)] v1 [] h) fun v3 h2 =>
  if x3 < v3 then
    ygR 10501 x0 h2 fun v4 =>
    zQ (ycv R d [(5, 528)] v4 [.inl x3] h2) fun v6 h5 =>
    ycc 53 4 v6 h5 <|
    zI (ycv R d [(36, 369), (32, 349), (38, 379), (37, 374), (35, 364), (33, 354), (25, 334), (34, 359)] v6 [.inr (.inr x1)] h5) fun v8 h7 =>
    zlet v8 fun x4_9 =>
    if x2 = (-1) then
      zlet x4_9 fun x2_10 =>
      zG (inI (x3 + 1)) <|
      zlet (x3 + 1) fun x3_11 =>
      R d 704 [.inr (.inr x0), .inr (.inr x1), .inl x2_10, .inl x3_11] h7
    else
    ygR 10501 x0 h7 fun v12 =>
    zQ (ycv R d [(5, 528)] v12 [.inl x3] h7) fun v14 h13 =>
    ycc 53 4 v14 h13 <|
    ygI 7500 v14 h13 fun v15 =>
    zV (ycv R d [(9, 199)] x1 [.inl x2, .inl x4_9, .inl v15] h13) fun h16 =>
    zG (inI (x3 + 1)) <|
    zlet (x3 + 1) fun x3_17 =>
    R d 704 [.inr (.inr x0), .inr (.inr x1), .inl x2, .inl x3_17] h16
  else
  ygR 2700 x1 h2 fun v18 =>
  if x2 = (-1) then
    ygR 2700 x1 h2 fun v19 =>
    zI (ycv R d [(4, 64)] v19 [] h2) fun v21 h20 =>
    zI (ycv R d [(4, 65)] v18 [.inl 5, .inl v21] h20) fun v23 h22 =>
    zrI v23 h22
  else
  zI (ycv R d [(4, 65)] v18 [.inl 5, .inl x2] h2) fun v25 h24 =>
  zrI v25 h24
def yb_ListPat_tests_p4 (C : YC) (R : ZC YS) (d : Nat) (x0 : Option Nat) (x1 : Int) (x2 : Int) (h : YS) : ZR YS :=
  ygR 10501 x0 h fun v1 =>
  zI (ycv R d [(5, 506)] v1 [] h) fun v3 h2 =>
  if x2 < v3 then
    ygR 10501 x0 h2 fun v4 =>
    zQ (ycv R d [(5, 528)] v4 [.inl x2] h2) fun v6 h5 =>
    ycc 53 4 v6 h5 <|
    zI (ycv R d [(36, 370), (32, 350), (38, 380), (37, 375), (35, 365), (33, 355), (25, 335), (34, 360)] v6 [] h5) fun v8 h7 =>
    zG (inI (x1 + (1 + v8))) <|
    zlet (x1 + (1 + v8)) fun x1_9 =>
    zG (inI (x2 + 1)) <|
    zlet (x2 + 1) fun x2_10 =>
    R d 705 [.inr (.inr x0), .inl x1_9, .inl x2_10] h7
  else
  zrI x1 h2
def yb_ListPat_meets_p8 (C : YC) (R : ZC YS) (d : Nat) (x0 : Option Nat) (x1 : Option Nat) (x3 : Int) (x4 : Int) (x5 : Int) (h : YS) : ZR YS :=
  ygR 10501 x0 h fun v1 =>
  zI (ycv R d [(5, 506)] v1 [] h) fun v3 h2 =>
  if x5 ≤ v3 then
    ygR 10501 x0 h2 fun v4 =>
    zI (ycv R d [(5, 506)] v4 [] h2) fun v6 h5 =>
    if x5 < v6 then
      R d 859 [.inr (.inr x0), .inr (.inr x1), .inl x3, .inl x4, .inl x5, .inl 1, .inl x3, .inr (.inr x1)] h5
    else
    R d 859 [.inr (.inr x0), .inr (.inr x1), .inl x3, .inl x4, .inl x5, .inl 0, .inl x3, .inr (.inr x1)] h5
  else
  R d 860 [.inr (.inr x1), .inl x4] h2
def yb_ListPat_make_p9 (C : YC) (R : ZC YS) (d : Nat) (x0 : Option Nat) (x1 : Option Nat) (x3 : Option Nat) (x4 : Int) (x5 : Int) (x6 : Int) (h : YS) : ZR YS :=
  ygR 10501 x0 h fun v1 =>
  zI (ycv R d [(5, 506)] v1 [] h) fun v3 h2 =>
  if x6 < v3 then
    zI (ycv R d [(70, 493)] x1 [.inl 34, .inl x4, .inl 1] h2) fun v5 h4 =>
    zQ (zc R d 747 [.inl v5] h4) fun v7 h6 =>
    zI (ycv R d [(5, 505)] x3 [.inr (.inr v7)] h6) fun v9 h8 =>
    if x5 = (-1) then
      zI (ycv R d [(70, 487)] x1 [] h8) fun v11 h10 =>
      zlet v11 fun x5_12 =>
      R d 861 [.inr (.inr x0), .inr (.inr x1), .inr (.inr x3), .inl x4, .inl x5_12, .inl x6] h10
    else
    R d 861 [.inr (.inr x0), .inr (.inr x1), .inr (.inr x3), .inl x4, .inl x5, .inl x6] h8
  else
  zI (ycv R d [(70, 493)] x1 [.inl 33, .inl x4, .inl 0] h2) fun v14 h13 =>
  zQ (zc R d 747 [.inl v14] h13) fun v16 h15 =>
  zI (ycv R d [(5, 505)] x3 [.inr (.inr v16)] h15) fun v18 h17 =>
  zrV h17
def yb_ConstantPat_make_p22 (C : YC) (R : ZC YS) (d : Nat) (x0 : Option Nat) (x1 : Option Nat) (x2 : Int) (y0 : Int) (y1 : Option Nat) (y2 : Option Nat) (h : YS) : ZR YS :=
  ygR 11101 x0 h fun v1 =>
  ygR 6600 v1 h fun v2 =>
  ysvR C 13 fun v3 =>
  if v2 = v3 then
    ygR 11101 x0 h fun v4 =>
    ygR 6602 v4 h fun v5 =>
    zI (ycv R d [(70, 492)] x1 [.inr (.inr v5)] h) fun v7 h6 =>
    zI (ycv R d [(70, 493)] y1 [.inl y0, .inl x2, .inl v7] h6) fun v9 h8 =>
    zQ (zc R d 747 [.inl v9] h8) fun v11 h10 =>
    zI (ycv R d [(5, 505)] y2 [.inr (.inr v11)] h10) fun v13 h12 =>
    zrV h12
  else
  ygR 11101 x0 h fun v14 =>
  ygI 6603 v14 h fun v15 =>
  zI (ycv R d [(70, 493)] y1 [.inl y0, .inl x2, .inl v15] h) fun v17 h16 =>
  zQ (zc R d 747 [.inl v17] h16) fun v19 h18 =>
  zI (ycv R d [(5, 505)] y2 [.inr (.inr v19)] h18) fun v21 h20 =>
  zrV h20
def yb_ConPat_judge_p42 (C : YC) (R : ZC YS) (d : Nat) (x0 : Option Nat) (x1 : Option Nat) (y0 : Int) (y1 : Option Nat) (h : YS) : ZR YS :=
  ygI 11402 x0 h fun v1 =>
  zV (ycv R d [(9, 190)] y1 [.inl y0, .inl 7, .inl v1] h) fun h2 =>
  ygR 11405 x0 h2 fun v3 =>
  zI (ycv R d [(9, 200)] x1 [.inr (.inr v3)] h2) fun v5 h4 =>
  zlet v5 fun x2_6 =>
  ygR 11404 x0 h4 fun v7 =>
  zI (ycv R d [(36, 369), (32, 349), (38, 379), (37, 374), (35, 364), (33, 354), (25, 334), (34, 359)] v7 [.inr (.inr x1)] h4) fun v9 h8 =>
  zlet v9 fun x3_10 =>
  ygR 2700 x1 h8 fun v11 =>
  zI (ycv R d [(4, 62)] v11 [.inl x2_6, .inl 0] h8) fun v13 h12 =>
  ygI 11403 x0 h12 fun v14 =>
  if v14 = 0 then
    ygR 11404 x0 h12 fun v15 =>
    ygI 7500 v15 h12 fun v16 =>
    zV (ycv R d [(9, 199)] x1 [.inl v13, .inl x3_10, .inl v16] h12) fun h17 =>
    ygR 2700 x1 h17 fun v18 =>
    zI (ycv R d [(4, 62)] v18 [.inl x2_6, .inl 1] h17) fun v20 h19 =>
    zrI v20 h19
  else
  ygI 11402 x0 h12 fun v21 =>
  zV (ycv R d [(9, 199)] x1 [.inl v13, .inl x3_10, .inl v21] h12) fun h22 =>
  ygR 2700 x1 h22 fun v23 =>
  zI (ycv R d [(4, 62)] v23 [.inl x2_6, .inl 1] h22) fun v25 h24 =>
  zrI v25 h24
def yb_Rules_judge_p45 (C : YC) (R : ZC YS) (d : Nat) (x0 : Option Nat) (x1 : Option Nat) (x4 : Int) (x6 : Option Nat) (x7 : Int) (x8 : Int) (x9 : Int) (h : YS) : ZR YS :=
  ygR 12900 x0 h fun v1 =>
  zI (ycv R d [(5, 506)] v1 [] h) fun v3 h2 =>
  if x9 < v3 then
    ygR 12900 x0 h2 fun v4 =>
    zQ (ycv R d [(5, 528)] v4 [.inl x9] h2) fun v6 h5 =>
    ycc 62 48 v6 h5 <|
    zlet v6 fun x10_7 =>
    ynew 5 3 h5 fun r8 h9 =>
    zV (ycs R d 503 r8 [] h9) fun h10 =>
    ypR 2706 x1 r8 h10 fun h11 =>
    ygR 13200 x10_7 h11 fun v12 =>
    zI (ycv R d [(36, 369), (32, 349), (38, 379), (37, 374), (35, 364), (33, 354), (25, 334), (34, 359)] v12 [.inr (.inr x1)] h11) fun v14 h13 =>
    zlet v14 fun x11_15 =>
    ygI 12901 x0 h13 fun v16 =>
    if v16 = (-1) then
      ypI 12901 0 x0 x11_15 h13 fun h17 =>
      ygR 2702 x1 h17 fun v18 =>
      zI (ycv R d [(5, 506)] v18 [] h17) fun v20 h19 =>
      zlet v20 fun x12_21 =>
      zlet (0 : Int) fun x13_22 =>
      R d 862 [.inr (.inr x0), .inr (.inr x1), .inl x4, .inr (.inr x6), .inl x7, .inl x8, .inl x9, .inr (.inr x10_7), .inl x12_21, .inl x13_22] h19
    else
    ygI 12901 x0 h13 fun v23 =>
    ygR 13200 x10_7 h13 fun v24 =>
    ygI 7500 v24 h13 fun v25 =>
    zV (ycv R d [(9, 199)] x1 [.inl v23, .inl x11_15, .inl v25] h13) fun h26 =>
    ygR 2702 x1 h26 fun v27 =>
    zI (ycv R d [(5, 506)] v27 [] h26) fun v29 h28 =>
    zlet v29 fun x12_30 =>
    zlet (0 : Int) fun x13_31 =>
    R d 862 [.inr (.inr x0), .inr (.inr x1), .inl x4, .inr (.inr x6), .inl x7, .inl x8, .inl x9, .inr (.inr x10_7), .inl x12_30, .inl x13_31] h28
  else
  ypI 2707 1 x1 x7 h2 fun h32 =>
  zrI x8 h32
def yb_Rules_make_p12 (C : YC) (R : ZC YS) (d : Nat) (x0 : Option Nat) (x1 : Option Nat) (x2 : Int) (x3 : Int) (x4 : Int) (x5 : Option Nat) (x6 : Int) (h : YS) : ZR YS :=
  ygR 12900 x0 h fun v1 =>
  zI (ycv R d [(5, 506)] v1 [] h) fun v3 h2 =>
  if x6 < v3 then
    ynew 5 3 h2 fun r4 h5 =>
    zV (ycs R d 503 r4 [] h5) fun h6 =>
    zlet r4 fun x7_7 =>
    ygR 12900 x0 h6 fun v8 =>
    zQ (ycv R d [(5, 528)] v8 [.inl x6] h6) fun v10 h9 =>
    ycc 62 48 v10 h9 <|
    ygR 13200 v10 h9 fun v11 =>
    zV (ycv R d [(36, 372), (32, 352), (38, 382), (37, 377), (35, 367), (33, 357), (25, 337), (34, 362)] v11 [.inr (.inr x1), .inl x2, .inr (.inr x7_7)] h9) fun h12 =>
    ygR 12900 x0 h12 fun v13 =>
    zQ (ycv R d [(5, 528)] v13 [.inl x6] h12) fun v15 h14 =>
    ycc 62 48 v15 h14 <|
    ygR 13201 v15 h14 fun v16 =>
    zV (ycv R d [(53, 438), (56, 449), (42, 397), (52, 433), (45, 405), (57, 452), (40, 391), (54, 442), (49, 420), (48, 417), (39, 387), (47, 413), (50, 424), (46, 409), (55, 446), (51, 429), (41, 394)] v16 [.inr (.inr x1), .inl x3] h14) fun h17 =>
    zI (ycv R d [(70, 484)] x1 [.inl 24, .inl 0, .inl 0] h17) fun v19 h18 =>
    zQ (zc R d 747 [.inl v19] h18) fun v21 h20 =>
    zI (ycv R d [(5, 505)] x5 [.inr (.inr v21)] h20) fun v23 h22 =>
    zV (ycv R d [(70, 500)] x1 [.inr (.inr x7_7)] h22) fun h24 =>
    zG (inI (x6 + 1)) <|
    zlet (x6 + 1) fun x6_25 =>
    R d 711 [.inr (.inr x0), .inr (.inr x1), .inl x2, .inl x3, .inl x4, .inr (.inr x5), .inl x6_25] h24
  else
  if x4 = 0 then
    zI (ycv R d [(70, 484)] x1 [.inl 28, .inl 0, .inl 0] h2) fun v27 h26 =>
    zV (ycv R d [(70, 500)] x1 [.inr (.inr x5)] h26) fun h28 =>
    zrV h28
  else
  zI (ycv R d [(70, 484)] x1 [.inl 9, .inl x2, .inl 0] h2) fun v30 h29 =>
  zI (ycv R d [(70, 484)] x1 [.inl 27, .inl 0, .inl 0] h29) fun v32 h31 =>
  zV (ycv R d [(70, 500)] x1 [.inr (.inr x5)] h31) fun h33 =>
  zrV h33
def yb_Sequence_judge_p4 (C : YC) (R : ZC YS) (d : Nat) (x0 : Option Nat) (x1 : Option Nat) (x2 : Int) (x3 : Int) (h : YS) : ZR YS :=
  ygR 13801 x0 h fun v1 =>
  zI (ycv R d [(5, 506)] v1 [] h) fun v3 h2 =>
  if x3 < v3 then
    ygR 13801 x0 h2 fun v4 =>
    zQ (ycv R d [(5, 528)] v4 [.inl x3] h2) fun v6 h5 =>
    ycc 65 4 v6 h5 <|
    zI (ycv R d [(53, 435), (56, 448), (42, 396), (52, 431), (45, 403), (57, 451), (40, 390), (54, 440), (49, 419), (48, 415), (39, 386), (47, 411), (50, 422), (46, 408), (55, 444), (51, 426), (41, 393)] v6 [.inr (.inr x1)] h5) fun v8 h7 =>
    zlet v8 fun x2_9 =>
    zG (inI (x3 + 1)) <|
    zlet (x3 + 1) fun x3_10 =>
    R d 712 [.inr (.inr x0), .inr (.inr x1), .inl x2_9, .inl x3_10] h7
  else
  zrI x2 h2
def yb_Sequence_make_p11 (C : YC) (R : ZC YS) (d : Nat) (x0 : Option Nat) (x1 : Option Nat) (x2 : Int) (x3 : Int) (x4 : Int) (h : YS) : ZR YS :=
  if x4 < x3 then
    ygR 13801 x0 h fun v1 =>
    zQ (ycv R d [(5, 528)] v1 [.inl x4] h) fun v3 h2 =>
    ycc 65 4 v3 h2 <|
    if x2 = 0 then
      R d 863 [.inr (.inr x0), .inr (.inr x1), .inl x2, .inl x3, .inl x4, .inl 0, .inr (.inr x1), .inr (.inr v3)] h2
    else
    zG (inI (x3 - 1)) <|
    if x4 = (x3 - 1) then
      R d 863 [.inr (.inr x0), .inr (.inr x1), .inl x2, .inl x3, .inl x4, .inl 1, .inr (.inr x1), .inr (.inr v3)] h2
    else
    R d 863 [.inr (.inr x0), .inr (.inr x1), .inl x2, .inl x3, .inl x4, .inl 0, .inr (.inr x1), .inr (.inr v3)] h2
  else
  zrV h
def yb_RowExp_judge_p15 (C : YC) (R : ZC YS) (d : Nat) (x0 : Option Nat) (x1 : Option Nat) (x2 : Int) (x3 : Option Nat) (x4 : Int) (h : YS) : ZR YS :=
  if x4 < x2 then
    ygR 14102 x0 h fun v1 =>
    ynull v1 (
      R d 864 [.inr (.inr x0), .inr (.inr x1), .inl x2, .inr (.inr x3), .inl x4] h
    ) <|
    ygR 14101 x0 h fun v2 =>
    zI (zc R d 20 [.inr (.inr v2), .inl x4] h) fun v4 h3 =>
    if v4 = 0 then
      R d 865 [.inr (.inr x0), .inr (.inr x1), .inl x2, .inr (.inr x3), .inl x4, .inl 1, .inr (.inr x1)] h3
    else
    R d 865 [.inr (.inr x0), .inr (.inr x1), .inl x2, .inr (.inr x3), .inl x4, .inl 0, .inr (.inr x1)] h3
  else
  ygR 2700 x1 h fun v5 =>
  ygR 14101 x0 h fun v6 =>
  zI (zc R d 21 [.inr (.inr v5), .inl 2, .inr (.inr v6), .inr (.inr x3), .inl 0] h) fun v8 h7 =>
  zrI v8 h7
def yb_RowExp_isQuiet_p4 (C : YC) (R : ZC YS) (d : Nat) (x0 : Option Nat) (x1 : Int) (x2 : Int) (h : YS) : ZR YS :=
  ygR 14103 x0 h fun v1 =>
  zI (ycv R d [(5, 506)] v1 [] h) fun v3 h2 =>
  if x2 < v3 then
    if x1 = 0 then
      zlet (0 : Int) fun x1_4 =>
      zG (inI (x2 + 1)) <|
      zlet (x2 + 1) fun x2_5 =>
      R d 715 [.inr (.inr x0), .inl x1_4, .inl x2_5] h2
    else
    ygR 14103 x0 h2 fun v6 =>
    zQ (ycv R d [(5, 528)] v6 [.inl x2] h2) fun v8 h7 =>
    ycc 66 4 v8 h7 <|
    zI (ycv R d [(53, 436), (56, 384), (42, 384), (52, 432), (45, 404), (57, 384), (40, 384), (54, 441), (49, 384), (48, 416), (39, 384), (47, 412), (50, 423), (46, 384), (55, 445), (51, 428), (41, 384)] v8 [] h7) fun v10 h9 =>
    if v10 = 0 then
      zlet (0 : Int) fun x1_11 =>
      zG (inI (x2 + 1)) <|
      zlet (x2 + 1) fun x2_12 =>
      R d 715 [.inr (.inr x0), .inl x1_11, .inl x2_12] h9
    else
    zlet (1 : Int) fun x1_13 =>
    zG (inI (x2 + 1)) <|
    zlet (x2 + 1) fun x2_14 =>
    R d 715 [.inr (.inr x0), .inl x1_13, .inl x2_14] h9
  else
  yrN 1 x1 h2
def yb_RowExp_make_p25 (C : YC) (R : ZC YS) (d : Nat) (x0 : Option Nat) (x1 : Option Nat) (x3 : Int) (x4 : Int) (h : YS) : ZR YS :=
  if x4 < x3 then
    ygR 14103 x0 h fun v1 =>
    zQ (ycv R d [(5, 528)] v1 [.inl x4] h) fun v3 h2 =>
    ycc 66 4 v3 h2 <|
    zV (ycv R d [(53, 438), (56, 449), (42, 397), (52, 433), (45, 405), (57, 452), (40, 391), (54, 442), (49, 420), (48, 417), (39, 387), (47, 413), (50, 424), (46, 409), (55, 446), (51, 429), (41, 394)] v3 [.inr (.inr x1), .inl 0] h2) fun h4 =>
    zG (inI (x4 + 1)) <|
    zlet (x4 + 1) fun x4_5 =>
    R d 716 [.inr (.inr x0), .inr (.inr x1), .inl x3, .inl x4_5] h4
  else
  ygR 14101 x0 h fun v6 =>
  zQ (zc R d 22 [.inr (.inr v6)] h) fun v8 h7 =>
  zV (ycv R d [(70, 499)] x1 [.inr (.inr v8)] h7) fun h9 =>
  zrV h9
def yb_ListExp_judge_p4 (C : YC) (R : ZC YS) (d : Nat) (x0 : Option Nat) (x1 : Option Nat) (x2 : Int) (x3 : Int) (h : YS) : ZR YS :=
  ygR 14401 x0 h fun v1 =>
  zI (ycv R d [(5, 506)] v1 [] h) fun v3 h2 =>
  if x3 < v3 then
    ygR 14401 x0 h2 fun v4 =>
    zQ (ycv R d [(5, 528)] v4 [.inl x3] h2) fun v6 h5 =>
    ycc 67 4 v6 h5 <|
    zI (ycv R d [(53, 435), (56, 448), (42, 396), (52, 431), (45, 403), (57, 451), (40, 390), (54, 440), (49, 419), (48, 415), (39, 386), (47, 411), (50, 422), (46, 408), (55, 444), (51, 426), (41, 393)] v6 [.inr (.inr x1)] h5) fun v8 h7 =>
    zlet v8 fun x4_9 =>
    if x2 = (-1) then
      zlet x4_9 fun x2_10 =>
      zG (inI (x3 + 1)) <|
      zlet (x3 + 1) fun x3_11 =>
      R d 717 [.inr (.inr x0), .inr (.inr x1), .inl x2_10, .inl x3_11] h7
    else
    ygR 14401 x0 h7 fun v12 =>
    zQ (ycv R d [(5, 528)] v12 [.inl x3] h7) fun v14 h13 =>
    ycc 67 4 v14 h13 <|
    ygI 11700 v14 h13 fun v15 =>
    zV (ycv R d [(9, 199)] x1 [.inl x2, .inl x4_9, .inl v15] h13) fun h16 =>
    zG (inI (x3 + 1)) <|
    zlet (x3 + 1) fun x3_17 =>
    R d 717 [.inr (.inr x0), .inr (.inr x1), .inl x2, .inl x3_17] h16
  else
  ygR 2700 x1 h2 fun v18 =>
  if x2 = (-1) then
    ygR 2700 x1 h2 fun v19 =>
    zI (ycv R d [(4, 64)] v19 [] h2) fun v21 h20 =>
    zI (ycv R d [(4, 65)] v18 [.inl 5, .inl v21] h20) fun v23 h22 =>
    zrI v23 h22
  else
  zI (ycv R d [(4, 65)] v18 [.inl 5, .inl x2] h2) fun v25 h24 =>
  zrI v25 h24
def yb_ListExp_isQuiet_p4 (C : YC) (R : ZC YS) (d : Nat) (x0 : Option Nat) (x1 : Int) (x2 : Int) (h : YS) : ZR YS :=
  ygR 14401 x0 h fun v1 =>
  zI (ycv R d [(5, 506)] v1 [] h) fun v3 h2 =>
  if x2 < v3 then
    if x1 = 0 then
      zlet (0 : Int) fun x1_4 =>
      zG (inI (x2 + 1)) <|
      zlet (x2 + 1) fun x2_5 =>
      R d 718 [.inr (.inr x0), .inl x1_4, .inl x2_5] h2
    else
    ygR 14401 x0 h2 fun v6 =>
    zQ (ycv R d [(5, 528)] v6 [.inl x2] h2) fun v8 h7 =>
    ycc 67 4 v8 h7 <|
    zI (ycv R d [(53, 436), (56, 384), (42, 384), (52, 432), (45, 404), (57, 384), (40, 384), (54, 441), (49, 384), (48, 416), (39, 384), (47, 412), (50, 423), (46, 384), (55, 445), (51, 428), (41, 384)] v8 [] h7) fun v10 h9 =>
    if v10 = 0 then
      zlet (0 : Int) fun x1_11 =>
      zG (inI (x2 + 1)) <|
      zlet (x2 + 1) fun x2_12 =>
      R d 718 [.inr (.inr x0), .inl x1_11, .inl x2_12] h9
    else
    zlet (1 : Int) fun x1_13 =>
    zG (inI (x2 + 1)) <|
    zlet (x2 + 1) fun x2_14 =>
    R d 718 [.inr (.inr x0), .inl x1_13, .inl x2_14] h9
  else
  yrN 1 x1 h2
def yb_ListExp_make_p2 (C : YC) (R : ZC YS) (d : Nat) (x0 : Option Nat) (x1 : Option Nat) (x3 : Int) (h : YS) : ZR YS :=
  ygR 14401 x0 h fun v1 =>
  zI (ycv R d [(5, 506)] v1 [] h) fun v3 h2 =>
  if x3 < v3 then
    ygR 14401 x0 h2 fun v4 =>
    zQ (ycv R d [(5, 528)] v4 [.inl x3] h2) fun v6 h5 =>
    ycc 67 4 v6 h5 <|
    zV (ycv R d [(53, 438), (56, 449), (42, 397), (52, 433), (45, 405), (57, 452), (40, 391), (54, 442), (49, 420), (48, 417), (39, 387), (47, 413), (50, 424), (46, 409), (55, 446), (51, 429), (41, 394)] v6 [.inr (.inr x1), .inl 0] h5) fun h7 =>
    zG (inI (x3 + 1)) <|
    zlet (x3 + 1) fun x3_8 =>
    R d 719 [.inr (.inr x0), .inr (.inr x1), .inl x3_8] h7
  else
  zI (ycv R d [(70, 484)] x1 [.inl 2, .inl 0, .inl 0] h2) fun v10 h9 =>
  zlet (0 : Int) fun x3_11 =>
  R d 866 [.inr (.inr x0), .inr (.inr x1), .inl x3_11] h9
def yb_Let_judge_p30 (C : YC) (R : ZC YS) (d : Nat) (x0 : Option Nat) (x1 : Option Nat) (x2 : Int) (x3 : Int) (x4 : Int) (x5 : Int) (h : YS) : ZR YS :=
  ygR 14701 x0 h fun v1 =>
  zI (ycv R d [(5, 506)] v1 [] h) fun v3 h2 =>
  if x5 < v3 then
    ygR 14701 x0 h2 fun v4 =>
    zQ (ycv R d [(5, 528)] v4 [.inl x5] h2) fun v6 h5 =>
    ycc 68 39 v6 h5 <|
    zV (ycv R d [(62, 465), (65, 473), (58, 454), (66, 476), (61, 462), (24, 325)] v6 [.inr (.inr x1)] h5) fun h7 =>
    zG (inI (x5 + 1)) <|
    zlet (x5 + 1) fun x5_8 =>
    R d 720 [.inr (.inr x0), .inr (.inr x1), .inl x2, .inl x3, .inl x4, .inl x5_8] h7
  else
  ygR 14702 x0 h2 fun v9 =>
  zI (ycv R d [(53, 435), (56, 448), (42, 396), (52, 431), (45, 403), (57, 451), (40, 390), (54, 440), (49, 419), (48, 415), (39, 386), (47, 411), (50, 422), (46, 408), (55, 444), (51, 426), (41, 393)] v9 [.inr (.inr x1)] h2) fun v11 h10 =>
  zlet v11 fun x5_12 =>
  zV (ycv R d [(9, 202)] x1 [.inl x3] h10) fun h13 =>
  zV (ycv R d [(9, 203)] x1 [.inl x4] h13) fun h14 =>
  ypI 2707 1 x1 x2 h14 fun h15 =>
  zrI x5_12 h15
def yb_Let_make_p2 (C : YC) (R : ZC YS) (d : Nat) (x0 : Option Nat) (x1 : Option Nat) (x2 : Int) (x3 : Int) (h : YS) : ZR YS :=
  ygR 14701 x0 h fun v1 =>
  zI (ycv R d [(5, 506)] v1 [] h) fun v3 h2 =>
  if x3 < v3 then
    ygR 14701 x0 h2 fun v4 =>
    zQ (ycv R d [(5, 528)] v4 [.inl x3] h2) fun v6 h5 =>
    ycc 68 39 v6 h5 <|
    zV (ycv R d [(62, 469), (65, 474), (58, 455), (66, 477), (61, 463), (24, 331)] v6 [.inr (.inr x1)] h5) fun h7 =>
    zG (inI (x3 + 1)) <|
    zlet (x3 + 1) fun x3_8 =>
    R d 721 [.inr (.inr x0), .inr (.inr x1), .inl x2, .inl x3_8] h7
  else
  ygR 14702 x0 h2 fun v9 =>
  zV (ycv R d [(53, 438), (56, 449), (42, 397), (52, 433), (45, 405), (57, 452), (40, 391), (54, 442), (49, 420), (48, 417), (39, 387), (47, 413), (50, 424), (46, 409), (55, 446), (51, 429), (41, 394)] v9 [.inr (.inr x1), .inl x2] h2) fun h10 =>
  zrV h10
def yb_Apply_judge_p11 (C : YC) (R : ZC YS) (d : Nat) (x0 : Option Nat) (x1 : Option Nat) (x2 : Int) (x3 : Int) (h : YS) : ZR YS :=
  ygR 15902 x0 h fun v1 =>
  zI (ycv R d [(5, 506)] v1 [] h) fun v3 h2 =>
  if x3 < v3 then
    ygR 15902 x0 h2 fun v4 =>
    zQ (ycv R d [(5, 528)] v4 [.inl x3] h2) fun v6 h5 =>
    ycc 72 2 v6 h5 <|
    zlet v6 fun x4_7 =>
    zI (ycv R d [(53, 435), (56, 448), (42, 396), (52, 431), (45, 403), (57, 451), (40, 390), (54, 440), (49, 419), (48, 415), (39, 386), (47, 411), (50, 422), (46, 408), (55, 444), (51, 426), (41, 393)] x4_7 [.inr (.inr x1)] h5) fun v9 h8 =>
    zlet v9 fun x5_10 =>
    ygR 15901 x0 h8 fun v11 =>
    ygI 11700 v11 h8 fun v12 =>
    ygI 11700 x4_7 h8 fun v13 =>
    zI (zc R d 437 [.inr (.inr x1), .inl x2, .inl v12, .inl x5_10, .inl v13] h8) fun v15 h14 =>
    zlet v15 fun x2_16 =>
    zG (inI (x3 + 1)) <|
    zlet (x3 + 1) fun x3_17 =>
    R d 722 [.inr (.inr x0), .inr (.inr x1), .inl x2_16, .inl x3_17] h14
  else
  zrI x2 h2
def yb_Apply_applied_p70 (C : YC) (R : ZC YS) (d : Nat) (x0 : Option Nat) (x3 : Int) (x4 : Int) (x5 : Int) (h : YS) : ZR YS :=
  ygR 2700 x0 h fun v1 =>
  zI (ycv R d [(4, 62)] v1 [.inl x5, .inl 0] h) fun v3 h2 =>
  zV (ycv R d [(9, 199)] x0 [.inl v3, .inl x3, .inl x4] h2) fun h4 =>
  ygR 2700 x0 h4 fun v5 =>
  ygR 2700 x0 h4 fun v6 =>
  zI (ycv R d [(4, 56)] v6 [.inl x5] h4) fun v8 h7 =>
  zI (ycv R d [(4, 62)] v5 [.inl v8, .inl 1] h7) fun v10 h9 =>
  zrI v10 h9
def yb_Apply_make_p20 (C : YC) (R : ZC YS) (d : Nat) (x0 : Option Nat) (x1 : Option Nat) (x2 : Int) (x3 : Int) (x4 : Int) (h : YS) : ZR YS :=
  if x4 < x3 then
    ygR 15902 x0 h fun v1 =>
    zQ (ycv R d [(5, 528)] v1 [.inl x4] h) fun v3 h2 =>
    ycc 72 2 v3 h2 <|
    zV (ycv R d [(53, 438), (56, 449), (42, 397), (52, 433), (45, 405), (57, 452), (40, 391), (54, 442), (49, 420), (48, 417), (39, 387), (47, 413), (50, 424), (46, 409), (55, 446), (51, 429), (41, 394)] v3 [.inr (.inr x1), .inl 0] h2) fun h4 =>
    if x2 = 0 then
      R d 867 [.inr (.inr x0), .inr (.inr x1), .inl x2, .inl x3, .inl x4, .inr (.inr x1)] h4
    else
    zG (inI (x3 - 1)) <|
    if x4 = (x3 - 1) then
      zI (ycv R d [(70, 484)] x1 [.inl 21, .inl 0, .inl 0] h4) fun v6 h5 =>
      zG (inI (x4 + 1)) <|
      zlet (x4 + 1) fun x4_7 =>
      R d 724 [.inr (.inr x0), .inr (.inr x1), .inl x2, .inl x3, .inl x4_7] h5
    else
    R d 867 [.inr (.inr x0), .inr (.inr x1), .inl x2, .inl x3, .inl x4, .inr (.inr x1)] h4
  else
  zrV h
def yb_Both_make_p45 (C : YC) (R : ZC YS) (d : Nat) (x0 : Option Nat) (x1 : Option Nat) (x2 : Int) (x3 : Int) (h : YS) : ZR YS :=
  zI (ycv R d [(70, 484)] x1 [.inl 24, .inl 0, .inl 0] h) fun v2 h1 =>
  zlet v2 fun x4_3 =>
  zV (ycv R d [(70, 498)] x1 [.inl x3] h1) fun h4 =>
  ygI 16801 x0 h4 fun v5 =>
  if v5 = 0 then
    ygR 16803 x0 h4 fun v6 =>
    zV (ycv R d [(53, 438), (56, 449), (42, 397), (52, 433), (45, 405), (57, 452), (40, 391), (54, 442), (49, 420), (48, 417), (39, 387), (47, 413), (50, 424), (46, 409), (55, 446), (51, 429), (41, 394)] v6 [.inr (.inr x1), .inl x2] h4) fun h7 =>
    zV (ycv R d [(70, 498)] x1 [.inl x4_3] h7) fun h8 =>
    zrV h8
  else
  zI (ycv R d [(70, 484)] x1 [.inl 2, .inl 0, .inl 0] h4) fun v10 h9 =>
  zV (ycv R d [(70, 498)] x1 [.inl x4_3] h9) fun h11 =>
  zrV h11
def yb_FunDec_judge_p15 (C : YC) (R : ZC YS) (d : Nat) (x0 : Option Nat) (x1 : Option Nat) (x2 : Option Nat) (x3 : Int) (h : YS) : ZR YS :=
  ygR 17404 x0 h fun v1 =>
  zI (ycv R d [(5, 506)] v1 [] h) fun v3 h2 =>
  if x3 < v3 then
    ygR 17404 x0 h2 fun v4 =>
    zQ (ycv R d [(5, 528)] v4 [.inl x3] h2) fun v6 h5 =>
    ycc 77 28 v6 h5 <|
    zlet v6 fun x4_7 =>
    ypR 2706 x1 x2 h5 fun h8 =>
    zQ (ycv R d [(59, 457)] x4_7 [] h8) fun v10 h9 =>
    ygR 18000 v10 h9 fun v11 =>
    zQ (ycv R d [(59, 457)] x4_7 [] h9) fun v13 h12 =>
    ygI 18001 v13 h12 fun v14 =>
    zQ (ycv R d [(9, 198)] x1 [.inr (.inr v11), .inl v14] h12) fun v16 h15 =>
    ypR 17702 x4_7 v16 h15 fun h17 =>
    zG (inI (x3 + 1)) <|
    zlet (x3 + 1) fun x3_18 =>
    R d 726 [.inr (.inr x0), .inr (.inr x1), .inr (.inr x2), .inl x3_18] h17
  else
  zlet (0 : Int) fun x3_19 =>
  R d 868 [.inr (.inr x0), .inr (.inr x1), .inr (.inr x2), .inl x3_19] h2
def yb_FunDec_make_p22 (C : YC) (R : ZC YS) (d : Nat) (x0 : Option Nat) (x1 : Option Nat) (x2 : Int) (x3 : Option Nat) (x4 : Option Nat) (x5 : Int) (h : YS) : ZR YS :=
  if x5 < x2 then
    ygR 17404 x0 h fun v1 =>
    zQ (ycv R d [(5, 528)] v1 [.inl x5] h) fun v3 h2 =>
    ycc 77 28 v3 h2 <|
    ygR 17702 v3 h2 fun v4 =>
    ysR x3 x5 v4 h2 fun h5 =>
    zG (inI (x5 + 1)) <|
    zlet (x5 + 1) fun x5_6 =>
    R d 727 [.inr (.inr x0), .inr (.inr x1), .inl x2, .inr (.inr x3), .inr (.inr x4), .inl x5_6] h5
  else
  zV (ycv R d [(70, 488)] x1 [.inr (.inr x3)] h) fun h7 =>
  zlet (0 : Int) fun x5_8 =>
  R d 869 [.inr (.inr x0), .inr (.inr x1), .inl x2, .inr (.inr x3), .inr (.inr x4), .inl x5_8] h7
def yb_Fun_judge_p56 (C : YC) (R : ZC YS) (d : Nat) (x0 : Option Nat) (x1 : Option Nat) (x2 : Int) (x3 : Option Nat) (x4 : Int) (x5 : Option Nat) (x6 : Int) (x7 : Int) (h : YS) : ZR YS :=
  ygR 17701 x0 h fun v1 =>
  zI (ycv R d [(5, 506)] v1 [] h) fun v3 h2 =>
  if x7 < v3 then
    ygR 17701 x0 h2 fun v4 =>
    zQ (ycv R d [(5, 528)] v4 [.inl x7] h2) fun v6 h5 =>
    ycc 78 26 v6 h5 <|
    zlet v6 fun x8_7 =>
    ygR 18000 x8_7 h5 fun v8 =>
    zQ (ycv R d [(59, 457)] x0 [] h5) fun v10 h9 =>
    ygR 18000 v10 h9 fun v11 =>
    zI (ycv R d [(21, 576)] v8 [.inr (.inr v11)] h9) fun v13 h12 =>
    ygI 18001 x8_7 h12 fun v14 =>
    zV (ycv R d [(9, 190)] x1 [.inl v13, .inl 7, .inl v14] h12) fun h15 =>
    ygR 18002 x8_7 h15 fun v16 =>
    zI (ycv R d [(5, 506)] v16 [] h15) fun v18 h17 =>
    if v18 = x2 then
      R d 870 [.inr (.inr x0), .inr (.inr x1), .inl x2, .inr (.inr x3), .inl x4, .inr (.inr x5), .inl x6, .inl x7, .inr (.inr x8_7), .inl 1, .inr (.inr x1)] h17
    else
    R d 870 [.inr (.inr x0), .inr (.inr x1), .inl x2, .inr (.inr x3), .inl x4, .inr (.inr x5), .inl x6, .inl x7, .inr (.inr x8_7), .inl 0, .inr (.inr x1)] h17
  else
  ypI 2707 1 x1 x6 h2 fun h19 =>
  zlet x4 fun x7_20 =>
  zG (inI (x2 - 1)) <|
  zlet (x2 - 1) fun x8_21 =>
  R d 871 [.inr (.inr x0), .inr (.inr x1), .inr (.inr x3), .inl x7_20, .inl x8_21] h19
def yb_Fun_routine_p37 (C : YC) (R : ZC YS) (d : Nat) (x0 : Option Nat) (x2 : Int) (x3 : Option Nat) (x4 : Option Nat) (x5 : Int) (h : YS) : ZR YS :=
  ygR 17701 x0 h fun v1 =>
  zI (ycv R d [(5, 506)] v1 [] h) fun v3 h2 =>
  if x5 < v3 then
    ynew 5 3 h2 fun r4 h5 =>
    zV (ycs R d 503 r4 [] h5) fun h6 =>
    zlet r4 fun x6_7 =>
    zlet (0 : Int) fun x7_8 =>
    R d 872 [.inr (.inr x0), .inl x2, .inr (.inr x3), .inr (.inr x4), .inl x5, .inr (.inr x6_7), .inl x7_8] h6
  else
  zI (ycv R d [(70, 484)] x3 [.inl 28, .inl 0, .inl 0] h2) fun v10 h9 =>
  zV (ycv R d [(70, 500)] x3 [.inr (.inr x4)] h9) fun h11 =>
  zI (ycv R d [(70, 484)] x3 [.inl 23, .inl 0, .inl 0] h11) fun v13 h12 =>
  zrQ x3 h12
def yb_TypeDec_judge_p57 (C : YC) (R : ZC YS) (d : Nat) (x0 : Option Nat) (x1 : Option Nat) (x2 : Option Nat) (x3 : Int) (y0 : Int) (y1 : Option Nat) (h : YS) : ZR YS :=
  ygI 18302 x0 h fun v1 =>
  zV (ycv R d [(9, 190)] y1 [.inl y0, .inl 14, .inl v1] h) fun h2 =>
  ygR 2700 x1 h2 fun v3 =>
  zQ (zc R d 23 [.inr (.inr x2)] h2) fun v5 h4 =>
  zI (ycv R d [(5, 506)] x2 [] h4) fun v7 h6 =>
  zQ (ycv R d [(4, 53)] v3 [.inl x3, .inr (.inr v5), .inl v7] h6) fun v9 h8 =>
  zlet v9 fun x4_10 =>
  ygR 2703 x1 h8 fun v11 =>
  ynew 16 4 h8 fun r12 h13 =>
  ygR 18301 x0 h13 fun v14 =>
  zI (ycv R d [(5, 506)] x2 [] h13) fun v16 h15 =>
  zV (ycs R d 308 r12 [.inr (.inr v14), .inl v16, .inr (.inr none), .inr (.inr x4_10)] h15) fun h17 =>
  zI (ycv R d [(5, 505)] v11 [.inr (.inr r12)] h17) fun v19 h18 =>
  ygI 2707 x1 h18 fun v20 =>
  if v20 = 0 then
    zrV h18
  else
  ygI 2708 x1 h18 fun v21 =>
  if v21 = 0 then
    ygR 2710 x1 h18 fun v22 =>
    ynew 68 5 h18 fun r23 h24 =>
    ygR 18301 x0 h24 fun v25 =>
    ygR 18300 x0 h24 fun v26 =>
    zQ (zc R d 24 [.inr (.inr v26)] h24) fun v28 h27 =>
    zV (ycs R d 479 r23 [.inr (.inr none), .inr (.inr none), .inr (.inr v25), .inr (.inr v28), .inr (.inr x4_10)] h27) fun h29 =>
    zI (ycv R d [(5, 505)] v22 [.inr (.inr r23)] h29) fun v31 h30 =>
    zrV h30
  else
  zrV h18
def yb_DataDec_judge_p2 (C : YC) (R : ZC YS) (d : Nat) (x0 : Option Nat) (x1 : Option Nat) (x2 : Int) (h : YS) : ZR YS :=
  ygR 18600 x0 h fun v1 =>
  zI (ycv R d [(5, 506)] v1 [] h) fun v3 h2 =>
  if x2 < v3 then
    ygR 18600 x0 h2 fun v4 =>
    zQ (ycv R d [(5, 528)] v4 [.inl x2] h2) fun v6 h5 =>
    ycc 81 26 v6 h5 <|
    zlet v6 fun x3_7 =>
    zlet (0 : Int) fun x4_8 =>
    R d 873 [.inr (.inr x0), .inr (.inr x1), .inl x2, .inr (.inr x3_7), .inl x4_8] h5
  else
  ynew 5 3 h2 fun r9 h10 =>
  zV (ycs R d 503 r9 [] h10) fun h11 =>
  zlet r9 fun x2_12 =>
  zlet (0 : Int) fun x3_13 =>
  R d 874 [.inr (.inr x0), .inr (.inr x1), .inr (.inr x2_12), .inl x3_13] h11
def yb_DataDec_judge_2_p20 (C : YC) (R : ZC YS) (d : Nat) (x1 : Option Nat) (x2 : Option Nat) (x3 : Option Nat) (x4 : Option Nat) (x5 : Int) (x6 : Int) (h : YS) : ZR YS :=
  if x6 < x5 then
    ygR 18904 x2 h fun v1 =>
    ygI 4505 v1 h fun v2 =>
    ygR 2700 x1 h fun v3 =>
    zQ (ycv R d [(5, 528)] x4 [.inl x6] h) fun v5 h4 =>
    ycc 81 122 v5 h4 <|
    ygI 20101 v5 h4 fun v6 =>
    zI (ycv R d [(4, 58)] v3 [.inl v6, .inl 8] h4) fun v8 h7 =>
    if v8 = 0 then
      ypI 4505 0 v1 (zorI v2 0) h7 fun h9 =>
      zG (inI (x6 + 1)) <|
      zlet (x6 + 1) fun x6_10 =>
      R d 732 [.inr (.inr x1), .inr (.inr x2), .inr (.inr x3), .inr (.inr x4), .inl x5, .inl x6_10] h9
    else
    ypI 4505 0 v1 (zorI v2 (zshlI 1 x6)) h7 fun h11 =>
    zG (inI (x6 + 1)) <|
    zlet (x6 + 1) fun x6_12 =>
    R d 732 [.inr (.inr x1), .inr (.inr x2), .inr (.inr x3), .inr (.inr x4), .inl x5, .inl x6_12] h11
  else
  zlet (0 : Int) fun x6_13 =>
  R d 875 [.inr (.inr x1), .inr (.inr x2), .inr (.inr x3), .inr (.inr x4), .inl x5, .inl x6_13] h
def yb_DataDec_admit_p2 (C : YC) (R : ZC YS) (d : Nat) (x0 : Option Nat) (x1 : Option Nat) (x2 : Int) (h : YS) : ZR YS :=
  if x2 = 0 then
    zrV h
  else
  zlet (0 : Int) fun x2_1 =>
  zlet (0 : Int) fun x3_2 =>
  R d 876 [.inr (.inr x0), .inr (.inr x1), .inl x2_1, .inl x3_2] h
def yb_DataDec_admits_p4 (C : YC) (R : ZC YS) (d : Nat) (x0 : Option Nat) (x1 : Option Nat) (x2 : Int) (x3 : Int) (h : YS) : ZR YS :=
  ygR 5100 x1 h fun v1 =>
  ylen v1 h fun v2 =>
  if x2 < v2 then
    ygR 5100 x1 h fun v3 =>
    yaI 0 v3 x2 h fun v4 =>
    zlet (zandI v4 7) fun x4_5 =>
    ygR 5100 x1 h fun v6 =>
    yaI 0 v6 x2 h fun v7 =>
    zlet (zandI (zshrI v7 3) 511) fun x5_8 =>
    ygR 5100 x1 h fun v9 =>
    yaI 0 v9 x2 h fun v10 =>
    zG (inI ((zshrI v10 12) - 1)) <|
    zlet ((zshrI v10 12) - 1) fun x6_11 =>
    zG (inI (x2 + 1)) <|
    zlet (x2 + 1) fun x2_12 =>
    if x3 ≤ 0 then
      if x4_5 = 4 then
        yrN 1 0 h
      else
      if x4_5 = 3 then
        ygR 1200 x0 h fun v13 =>
        zQ (ycv R d [(5, 528)] v13 [.inl x6_11] h) fun v15 h14 =>
        ycc 81 52 v15 h14 <|
        ygI 4504 v15 h14 fun v16 =>
        if v16 = 0 then
          yrN 1 0 h14
        else
        R d 877 [.inr (.inr x0), .inr (.inr x1), .inl x2_12, .inl x3, .inl x4_5, .inl x5_8, .inl x6_11] h14
      else
      R d 877 [.inr (.inr x0), .inr (.inr x1), .inl x2_12, .inl x3, .inl x4_5, .inl x5_8, .inl x6_11] h
    else
    zG (inI (x3 + (x5_8 - 1))) <|
    zlet (x3 + (x5_8 - 1)) fun x3_17 =>
    R d 734 [.inr (.inr x0), .inr (.inr x1), .inl x2_12, .inl x3_17] h
  else
  yrN 1 1 h
def yb_ExceptionDec_judge_p50 (C : YC) (R : ZC YS) (d : Nat) (x0 : Option Nat) (x1 : Option Nat) (x2 : Option Nat) (h : YS) : ZR YS :=
  ygR 19500 x0 h fun v1 =>
  ygI 19501 x0 h fun v2 =>
  zV (ycv R d [(9, 192)] x1 [.inr (.inr v1), .inl v2] h) fun h3 =>
  ygI 19501 x0 h3 fun v4 =>
  zV (ycv R d [(9, 191)] x1 [.inl v4] h3) fun h5 =>
  ynew 18 13 h5 fun r6 h7 =>
  ygR 19500 x0 h7 fun v8 =>
  ygI 19501 x0 h7 fun v9 =>
  zV (ycs R d 310 r6 [.inr (.inr v8), .inl 2, .inl v9] h7) fun h10 =>
  ypR 19505 x0 r6 h10 fun h11 =>
  ygR 19505 x0 h11 fun v12 =>
  ygI 2707 x1 h11 fun v13 =>
  ypI 5410 1 v12 v13 h11 fun h14 =>
  ynull x2 (
    ygR 19505 x0 h14 fun v15 =>
    ygR 19502 x0 h14 fun v16 =>
    ynull v16 (
      R d 878 [.inr (.inr x0), .inr (.inr x1), .inl 0, .inr (.inr v15)] h14
    ) <|
    R d 878 [.inr (.inr x0), .inr (.inr x1), .inl 1, .inr (.inr v15)] h14
  ) <|
  ygR 19505 x0 h14 fun v17 =>
  ygR 5408 x2 h14 fun v18 =>
  ypR 5408 v17 v18 h14 fun h19 =>
  ygR 19505 x0 h19 fun v20 =>
  ygI 5407 x2 h19 fun v21 =>
  ypI 5407 1 v20 v21 h19 fun h22 =>
  ygR 19505 x0 h22 fun v23 =>
  ygR 5405 x2 h22 fun v24 =>
  ypR 5405 v23 v24 h22 fun h25 =>
  R d 879 [.inr (.inr x0), .inr (.inr x1)] h25
def yb_ExceptionDec_judge_p36 (C : YC) (R : ZC YS) (d : Nat) (x0 : Option Nat) (x1 : Option Nat) (x2 : Option Nat) (y0 : Int) (y1 : Option Nat) (h : YS) : ZR YS :=
  ygI 19504 x0 h fun v1 =>
  zV (ycv R d [(9, 190)] y1 [.inl y0, .inl 7, .inl v1] h) fun h2 =>
  ypR 19506 x0 x2 h2 fun h3 =>
  R d 735 [.inr (.inr x0), .inr (.inr x1), .inr (.inr x2)] h3
def yb_LocalDec_judge_p30 (C : YC) (R : ZC YS) (d : Nat) (x0 : Option Nat) (x1 : Option Nat) (x2 : Int) (x3 : Int) (x4 : Int) (x5 : Int) (h : YS) : ZR YS :=
  ygR 19800 x0 h fun v1 =>
  zI (ycv R d [(5, 506)] v1 [] h) fun v3 h2 =>
  if x5 < v3 then
    ygR 19800 x0 h2 fun v4 =>
    zQ (ycv R d [(5, 528)] v4 [.inl x5] h2) fun v6 h5 =>
    ycc 85 2 v6 h5 <|
    zV (ycv R d [(62, 465), (65, 473), (58, 454), (66, 476), (61, 462), (24, 325)] v6 [.inr (.inr x1)] h5) fun h7 =>
    zG (inI (x5 + 1)) <|
    zlet (x5 + 1) fun x5_8 =>
    R d 737 [.inr (.inr x0), .inr (.inr x1), .inl x2, .inl x3, .inl x4, .inl x5_8] h7
  else
  ypI 2708 1 x1 x2 h2 fun h9 =>
  ygR 2702 x1 h9 fun v10 =>
  zI (ycv R d [(5, 506)] v10 [] h9) fun v12 h11 =>
  zlet v12 fun x5_13 =>
  ygR 2703 x1 h11 fun v14 =>
  zI (ycv R d [(5, 506)] v14 [] h11) fun v16 h15 =>
  zlet v16 fun x6_17 =>
  zlet (0 : Int) fun x7_18 =>
  R d 880 [.inr (.inr x0), .inr (.inr x1), .inl x3, .inl x4, .inl x5_13, .inl x6_17, .inl x7_18] h15
def yb_LocalDec_make_p2 (C : YC) (R : ZC YS) (d : Nat) (x0 : Option Nat) (x1 : Option Nat) (x2 : Int) (h : YS) : ZR YS :=
  ygR 19800 x0 h fun v1 =>
  zI (ycv R d [(5, 506)] v1 [] h) fun v3 h2 =>
  if x2 < v3 then
    ygR 19800 x0 h2 fun v4 =>
    zQ (ycv R d [(5, 528)] v4 [.inl x2] h2) fun v6 h5 =>
    ycc 85 2 v6 h5 <|
    zV (ycv R d [(62, 469), (65, 474), (58, 455), (66, 477), (61, 463), (24, 331)] v6 [.inr (.inr x1)] h5) fun h7 =>
    zG (inI (x2 + 1)) <|
    zlet (x2 + 1) fun x2_8 =>
    R d 738 [.inr (.inr x0), .inr (.inr x1), .inl x2_8] h7
  else
  zlet (0 : Int) fun x2_9 =>
  R d 881 [.inr (.inr x0), .inr (.inr x1), .inl x2_9] h2
def yb_Match_add_p13 (C : YC) (R : ZC YS) (d : Nat) (x0 : Option Nat) (x1 : Option Nat) (x2 : Int) (x3 : Int) (h : YS) : ZR YS :=
  zI (ycv R d [(5, 506)] x1 [] h) fun v2 h1 =>
  if x3 < v2 then
    zQ (ycv R d [(5, 528)] x1 [.inl x3] h1) fun v4 h3 =>
    ycc 88 41 v4 h3 <|
    zI (ycv R d [(36, 370), (32, 350), (38, 380), (37, 375), (35, 365), (33, 355), (25, 335), (34, 360)] v4 [] h3) fun v6 h5 =>
    zG (inI (x2 + v6)) <|
    zlet (x2 + v6) fun x2_7 =>
    zG (inI (x3 + 1)) <|
    zlet (x3 + 1) fun x3_8 =>
    R d 739 [.inr (.inr x0), .inr (.inr x1), .inl x2_7, .inl x3_8] h5
  else
  if x2 ≤ 1 then
    R d 882 [.inr (.inr x0)] h1
  else
  ygI 20703 x0 h1 fun v9 =>
  zG (inL (v9 * x2)) <|
  ypI 20703 5 x0 (v9 * x2) h1 fun h10 =>
  R d 882 [.inr (.inr x0)] h10
def yb_Maker_load_p46 (C : YC) (R : ZC YS) (d : Nat) (x1 : Option Nat) (y0 : Int) (y1 : Option Nat) (h : YS) : ZR YS :=
  ygR 5406 x1 h fun v1 =>
  ygR 5701 v1 h fun v2 =>
  ygI 4501 v2 h fun v3 =>
  if v3 = 6 then
    zI (ycv R d [(70, 484)] y1 [.inl y0, .inl (-1), .inl 0] h) fun v5 h4 =>
    zrV h4
  else
  ygR 5406 x1 h fun v6 =>
  ygI 5702 v6 h fun v7 =>
  zI (ycv R d [(70, 484)] y1 [.inl y0, .inl v7, .inl 0] h) fun v9 h8 =>
  zrV h8
def yb_Maker_load_p118 (C : YC) (R : ZC YS) (d : Nat) (x0 : Option Nat) (x1 : Option Nat) (h : YS) : ZR YS :=
  ygI 5410 x1 h fun v1 =>
  if v1 = 0 then
    ygR 5412 x1 h fun v2 =>
    if v2 = x0 then
      ygI 5411 x1 h fun v3 =>
      zI (ycv R d [(70, 484)] x0 [.inl 9, .inl v3, .inl 0] h) fun v5 h4 =>
      zrV h4
    else
    zI (ycv R d [(70, 485)] x0 [.inr (.inr x1)] h) fun v7 h6 =>
    zI (ycv R d [(70, 484)] x0 [.inl 10, .inl v7, .inl 0] h6) fun v9 h8 =>
    zrV h8
  else
  ygI 5411 x1 h fun v10 =>
  zI (ycv R d [(70, 484)] x0 [.inl 11, .inl v10, .inl 0] h) fun v12 h11 =>
  zrV h11
def yb_Maker_put_p33 (C : YC) (R : ZC YS) (d : Nat) (x0 : Option Nat) (x1 : Int) (x2 : Int) (x3 : Int) (x4 : Int) (h : YS) : ZR YS :=
  ygR 21000 x0 h fun v1 =>
  ygR 18 v1 h fun v2 =>
  yst 0 v2 x4 x1 h fun h3 =>
  ygR 21000 x0 h3 fun v4 =>
  ygR 18 v4 h3 fun v5 =>
  yst 0 v5 (x4 + 1) x2 h3 fun h6 =>
  ygR 21000 x0 h6 fun v7 =>
  ygR 18 v7 h6 fun v8 =>
  yst 0 v8 (x4 + 2) x3 h6 fun h9 =>
  ygR 21000 x0 h9 fun v10 =>
  ygR 18 v10 h9 fun v11 =>
  yst 0 v11 (x4 + 3) (-1) h9 fun h12 =>
  ygI 21006 x0 h12 fun v13 =>
  zG (inI (v13 + 4)) <|
  ypI 21006 0 x0 (v13 + 4) h12 fun h14 =>
  ygR 21000 x0 h14 fun v15 =>
  ygI 21005 x0 h14 fun v16 =>
  ygI 21006 x0 h14 fun v17 =>
  zG (inI (v16 + v17)) <|
  ypI 19 0 v15 (v16 + v17) h14 fun h18 =>
  ygI 21006 x0 h18 fun v19 =>
  zG (inI (v19 - 4)) <|
  zrI (v19 - 4) h18
def yb_Maker_capture_p2 (C : YC) (R : ZC YS) (d : Nat) (x0 : Option Nat) (x1 : Option Nat) (x2 : Int) (h : YS) : ZR YS :=
  ygR 21004 x0 h fun v1 =>
  zI (ycv R d [(5, 506)] v1 [] h) fun v3 h2 =>
  if x2 < v3 then
    ygR 21004 x0 h2 fun v4 =>
    zQ (ycv R d [(5, 528)] v4 [.inl x2] h2) fun v6 h5 =>
    if v6 = x1 then
      zrI x2 h5
    else
    zG (inI (x2 + 1)) <|
    zlet (x2 + 1) fun x2_7 =>
    R d 743 [.inr (.inr x0), .inr (.inr x1), .inl x2_7] h5
  else
  ygR 21004 x0 h2 fun v8 =>
  zI (ycv R d [(5, 505)] v8 [.inr (.inr x1)] h2) fun v10 h9 =>
  ygR 21004 x0 h9 fun v11 =>
  zI (ycv R d [(5, 506)] v11 [] h9) fun v13 h12 =>
  zG (inI (v13 - 1)) <|
  zrI (v13 - 1) h12
def yb_Maker_define_p27 (C : YC) (R : ZC YS) (d : Nat) (x0 : Option Nat) (x1 : Option Nat) (y0 : Int) (y1 : Option Nat) (h : YS) : ZR YS :=
  ypI 5411 0 y1 y0 h fun h1 =>
  ygI 5410 x1 h1 fun v2 =>
  if v2 = 0 then
    ygI 5411 x1 h1 fun v3 =>
    zI (ycv R d [(70, 484)] x0 [.inl 12, .inl v3, .inl 0] h1) fun v5 h4 =>
    zrV h4
  else
  ygI 5411 x1 h1 fun v6 =>
  zI (ycv R d [(70, 484)] x0 [.inl 13, .inl v6, .inl 0] h1) fun v8 h7 =>
  zrV h7
def yb_Maker_places_p8 (C : YC) (R : ZC YS) (d : Nat) (x0 : Option Nat) (x2 : Option Nat) (x3 : Int) (x4 : Int) (h : YS) : ZR YS :=
  if x4 < x3 then
    yaR x2 x4 h fun v1 =>
    zlet v1 fun x5_2 =>
    ypR 5412 x5_2 x0 h fun h3 =>
    ygI 5410 x5_2 h3 fun v4 =>
    if v4 = 0 then
      zI (ycv R d [(70, 487)] x0 [] h3) fun v6 h5 =>
      ypI 5411 0 x5_2 v6 h5 fun h7 =>
      zG (inI (x4 + 1)) <|
      zlet (x4 + 1) fun x4_8 =>
      R d 745 [.inr (.inr x0), .inr (.inr x2), .inl x3, .inl x4_8] h7
    else
    ygR 21000 x0 h3 fun v9 =>
    zI (ycv R d [(0, 30)] v9 [] h3) fun v11 h10 =>
    ypI 5411 0 x5_2 v11 h10 fun h12 =>
    zG (inI (x4 + 1)) <|
    zlet (x4 + 1) fun x4_13 =>
    R d 745 [.inr (.inr x0), .inr (.inr x2), .inl x3, .inl x4_13] h12
  else
  zrV h
def yb_Maker_testMade_p42 (C : YC) (R : ZC YS) (d : Nat) (x1 : Option Nat) (x2 : Int) (y0 : Int) (y1 : Option Nat) (y2 : Option Nat) (h : YS) : ZR YS :=
  ygR 5406 x1 h fun v1 =>
  ygI 5702 v1 h fun v2 =>
  zI (ycv R d [(70, 484)] y1 [.inl y0, .inl x2, .inl v2] h) fun v4 h3 =>
  zQ (zc R d 747 [.inl v4] h3) fun v6 h5 =>
  zI (ycv R d [(5, 505)] y2 [.inr (.inr v6)] h5) fun v8 h7 =>
  zrV h7
def yb_Integer_valueOf (C : YC) (R : ZC YS) (d : Nat) (x0 : Int) (h : YS) : ZR YS :=
  if x0 < (-128) then
    ynew 26 1 h fun r1 h2 =>
    zV (ycs R d 883 r1 [.inl x0] h2) fun h3 =>
    zrQ r1 h3
  else
  ysvI C 16 fun v4 =>
  if x0 ≤ v4 then
    ysvR C 17 fun v5 =>
    yaR v5 (x0 + 128) h fun v6 =>
    zrQ v6 h
  else
  ynew 26 1 h fun r7 h8 =>
  zV (ycs R d 883 r7 [.inl x0] h8) fun h9 =>
  zrQ r7 h9
def yb_Maker_functions_p8 (C : YC) (R : ZC YS) (d : Nat) (x0 : Option Nat) (x1 : Option Nat) (x2 : Option Nat) (x3 : Option Nat) (x4 : Int) (h : YS) : ZR YS :=
  ylen x1 h fun v1 =>
  if x4 < v1 then
    ygR 21000 x0 h fun v2 =>
    yaR x2 x4 h fun v3 =>
    zI (ycv R d [(0, 32)] v2 [.inr (.inr v3)] h) fun v5 h4 =>
    yst 0 x3 x4 v5 h4 fun h6 =>
    zG (inI (x4 + 1)) <|
    zlet (x4 + 1) fun x4_7 =>
    R d 748 [.inr (.inr x0), .inr (.inr x1), .inr (.inr x2), .inr (.inr x3), .inl x4_7] h6
  else
  zlet (0 : Int) fun x4_8 =>
  R d 884 [.inr (.inr x0), .inr (.inr x1), .inr (.inr x2), .inr (.inr x3), .inl x4_8] h
def yb_Maker_fill_p2 (C : YC) (R : ZC YS) (d : Nat) (x0 : Option Nat) (x1 : Option Nat) (x2 : Int) (h : YS) : ZR YS :=
  ygR 21004 x1 h fun v1 =>
  zI (ycv R d [(5, 506)] v1 [] h) fun v3 h2 =>
  if x2 < v3 then
    ygR 21004 x1 h2 fun v4 =>
    zQ (ycv R d [(5, 528)] v4 [.inl x2] h2) fun v6 h5 =>
    ycc 89 86 v6 h5 <|
    zV (ycv R d [(70, 483)] x0 [.inr (.inr v6)] h5) fun h7 =>
    zI (ycv R d [(70, 484)] x0 [.inl 19, .inl x2, .inl 0] h7) fun v9 h8 =>
    zG (inI (x2 + 1)) <|
    zlet (x2 + 1) fun x2_10 =>
    R d 749 [.inr (.inr x0), .inr (.inr x1), .inl x2_10] h8
  else
  zrV h2
def yb_Maker_row_p4 (C : YC) (R : ZC YS) (d : Nat) (x0 : Option Nat) (x1 : Option Nat) (x2 : Int) (x3 : Int) (h : YS) : ZR YS :=
  ylen x1 h fun v1 =>
  if x3 < v1 then
    if x2 = 0 then
      zlet (0 : Int) fun x2_2 =>
      zG (inI (x3 + 1)) <|
      zlet (x3 + 1) fun x3_3 =>
      R d 750 [.inr (.inr x0), .inr (.inr x1), .inl x2_2, .inl x3_3] h
    else
    yaI 0 x1 x3 h fun v4 =>
    if v4 = x3 then
      zlet (1 : Int) fun x2_5 =>
      zG (inI (x3 + 1)) <|
      zlet (x3 + 1) fun x3_6 =>
      R d 750 [.inr (.inr x0), .inr (.inr x1), .inl x2_5, .inl x3_6] h
    else
    zlet (0 : Int) fun x2_7 =>
    zG (inI (x3 + 1)) <|
    zlet (x3 + 1) fun x3_8 =>
    R d 750 [.inr (.inr x0), .inr (.inr x1), .inl x2_7, .inl x3_8] h
  else
  ylen x1 h fun v9 =>
  if x2 = 0 then
    ygR 21000 x0 h fun v10 =>
    zI (ycv R d [(0, 33)] v10 [.inr (.inr x1)] h) fun v12 h11 =>
    zI (ycv R d [(70, 484)] x0 [.inl 15, .inl v9, .inl v12] h11) fun v14 h13 =>
    zrV h13
  else
  zI (ycv R d [(70, 484)] x0 [.inl 15, .inl v9, .inl (-1)] h) fun v16 h15 =>
  zrV h15
def yb_Maker_aim_3_p2 (C : YC) (R : ZC YS) (d : Nat) (x0 : Option Nat) (x1 : Option Nat) (x2 : Int) (h : YS) : ZR YS :=
  zI (ycv R d [(5, 506)] x1 [] h) fun v2 h1 =>
  if x2 < v2 then
    zQ (ycv R d [(5, 528)] x1 [.inl x2] h1) fun v4 h3 =>
    ycc 89 65 v4 h3 <|
    zI (ycv R d [(26, 885)] v4 [] h3) fun v6 h5 =>
    zV (ycv R d [(70, 498)] x0 [.inl v6] h5) fun h7 =>
    zG (inI (x2 + 1)) <|
    zlet (x2 + 1) fun x2_8 =>
    R d 751 [.inr (.inr x0), .inr (.inr x1), .inl x2_8] h7
  else
  zrV h1
def yb_Routine_init_p25 (C : YC) (R : ZC YS) (d : Nat) (x0 : Option Nat) (x1 : Option Nat) (x2 : Int) (y0 : Option Nat) (y1 : Option Nat) (h : YS) : ZR YS :=
  ypR 21300 y1 y0 h fun h1 =>
  if x2 = 0 then
    ygR 21000 x1 h1 fun v2 =>
    ygR 18 v2 h1 fun v3 =>
    ygI 21005 x1 h1 fun v4 =>
    ygR 21300 x0 h1 fun v5 =>
    ygI 21006 x1 h1 fun v6 =>
    yac v3 v4 v5 0 v6 h1 fun h7 =>
    R d 886 [.inr (.inr x0), .inr (.inr x1)] h7
  else
  R d 886 [.inr (.inr x0), .inr (.inr x1)] h1
def yb_AbstractList_init (C : YC) (R : ZC YS) (d : Nat) (x0 : Option Nat) (h : YS) : ZR YS :=
  zV (ycs R d 887 x0 [] h) fun h1 =>
  ypI 1500 0 x0 0 h1 fun h2 =>
  zrV h2
def yb_ArrayList_clear_p27 (C : YC) (R : ZC YS) (d : Nat) (x1 : Option Nat) (x2 : Int) (x3 : Int) (h : YS) : ZR YS :=
  if x3 < x2 then
    ysR x1 x3 none h fun h1 =>
    zG (inI (x3 + 1)) <|
    zlet (x3 + 1) fun x3_2 =>
    R d 754 [.inr (.inr x1), .inl x2, .inl x3_2] h1
  else
  zrV h
def yb_ArrayList_add_2 (C : YC) (R : ZC YS) (d : Nat) (x0 : Option Nat) (x1 : Option Nat) (x2 : Option Nat) (x3 : Int) (h : YS) : ZR YS :=
  ylen x2 h fun v1 =>
  if x3 = v1 then
    zQ (ycv R d [(5, 888)] x0 [] h) fun v3 h2 =>
    zlet v3 fun x2_4 =>
    R d 889 [.inr (.inr x0), .inr (.inr x1), .inr (.inr x2_4), .inl x3] h2
  else
  R d 889 [.inr (.inr x0), .inr (.inr x1), .inr (.inr x2), .inl x3] h
def yb_MlHouse_feed_p71 (C : YC) (R : ZC YS) (d : Nat) (x0 : Option Nat) (x1 : Int) (x2 : Int) (x3 : Int) (x4 : Int) (x5 : Int) (x6 : Int) (y0 : Int) (h : YS) : ZR YS :=
  zlet y0 fun x7_1 =>
  ygR 20 x0 h fun v2 =>
  ygI 23 x0 h fun v3 =>
  yst 2 v2 v3 (zbyte (zshrI x7_1 (24 - (8 * (x6 - ((zdivI x6 4) * 4)))))) h fun h4 =>
  ygI 23 x0 h4 fun v5 =>
  zG (inI (v5 + 1)) <|
  ypI 23 0 x0 (v5 + 1) h4 fun h6 =>
  zG (inI (x6 + 1)) <|
  zlet (x6 + 1) fun x6_7 =>
  R d 508 [.inr (.inr x0), .inl x1, .inl x2, .inl x3, .inl x4, .inl x5, .inl x6_7] h6
def yb_String_indexOf_2 (C : YC) (R : ZC YS) (d : Nat) (x0 : Option Nat) (x1 : Int) (x2 : Int) (h : YS) : ZR YS :=
  zI (ycv R d [(21, 775)] x0 [] h) fun v2 h1 =>
  if v2 = 0 then
    ygR 6300 x0 h1 fun v3 =>
    zI (ycv R d [(21, 539)] x0 [] h1) fun v5 h4 =>
    zI (zc R d 890 [.inr (.inr v3), .inl x1, .inl x2, .inl v5] h4) fun v7 h6 =>
    zrI v7 h6
  else
  ygR 6300 x0 h1 fun v8 =>
  zI (ycv R d [(21, 539)] x0 [] h1) fun v10 h9 =>
  zI (zc R d 891 [.inr (.inr v8), .inl x1, .inl x2, .inl v10] h9) fun v12 h11 =>
  zrI v12 h11
def yb_AbstractStringBuilder_append (C : YC) (R : ZC YS) (d : Nat) (x0 : Option Nat) (x1 : Int) (h : YS) : ZR YS :=
  ygI 6903 x0 h fun v1 =>
  zG (inI (v1 + 1)) <|
  zV (ycv R d [(23, 892)] x0 [.inl (v1 + 1)] h) fun h2 =>
  zI (ycv R d [(23, 893)] x0 [] h2) fun v4 h3 =>
  if v4 = 0 then
    zI (ycv R d [(23, 893)] x0 [] h3) fun v6 h5 =>
    if v6 = 0 then
      R d 894 [.inr (.inr x0), .inl x1] h5
    else
    zV (ycv R d [(23, 895)] x0 [] h5) fun h7 =>
    R d 894 [.inr (.inr x0), .inl x1] h7
  else
  zI (zc R d 896 [.inl x1] h3) fun v9 h8 =>
  if v9 = 0 then
    zI (ycv R d [(23, 893)] x0 [] h8) fun v11 h10 =>
    if v11 = 0 then
      R d 894 [.inr (.inr x0), .inl x1] h10
    else
    zV (ycv R d [(23, 895)] x0 [] h10) fun h12 =>
    R d 894 [.inr (.inr x0), .inl x1] h12
  else
  ygR 6900 x0 h8 fun v13 =>
  ygI 6903 x0 h8 fun v14 =>
  zG (inI (v14 + 1)) <|
  ypI 6903 0 x0 (v14 + 1) h8 fun h15 =>
  yst 2 v13 v14 (zbyte x1) h15 fun h16 =>
  zrQ x0 h16
def yb_MlHouse_sayNumber_p42 (C : YC) (R : ZC YS) (d : Nat) (x0 : Option Nat) (x2 : Int) (x4 : Int) (h : YS) : ZR YS :=
  if x4 ≤ 0 then
    zrV h
  else
  zG (x4 ≠ 0) <|
  zQ (ycv R d [(23, 512)] x0 [.inl (zchar (zl2i (48 + ((zdivL x2 x4) - ((zdivL (zdivL x2 x4) 10) * 10)))))] h) fun v3 h2 =>
  zlet (zdivL x4 10) fun x4_4 =>
  R d 759 [.inr (.inr x0), .inr (.inl x2), .inr (.inl x4_4)] h2
def yb_MlHouse_judge_p63 (C : YC) (R : ZC YS) (d : Nat) (x0 : Option Nat) (x1 : Option Nat) (x4 : Int) (h : YS) : ZR YS :=
  if x4 < 0 then
    zrV h
  else
  zlet (0 : Int) fun x5_1 =>
  R d 897 [.inr (.inr x0), .inr (.inr x1), .inl x4, .inl x5_1] h
def yb_MlHouse_declared_p21 (C : YC) (R : ZC YS) (d : Nat) (x0 : Option Nat) (x1 : Option Nat) (x2 : Option Nat) (x3 : Int) (x4 : Int) (h : YS) : ZR YS :=
  if x4 < x3 then
    zQ (ycv R d [(5, 528)] x1 [.inl x4] h) fun v2 h1 =>
    ycc 0 65 v2 h1 <|
    ygR 8100 v2 h1 fun v3 =>
    zQ (ycv R d [(5, 528)] x1 [.inl x3] h1) fun v5 h4 =>
    ycc 0 65 v5 h4 <|
    ygR 8100 v5 h4 fun v6 =>
    zI (ycv R d [(21, 576)] v3 [.inr (.inr v6)] h4) fun v8 h7 =>
    if v8 = 0 then
      R d 898 [.inr (.inr x0), .inr (.inr x1), .inr (.inr x2), .inl x3, .inl x4, .inl 1, .inr (.inr x0)] h7
    else
    R d 898 [.inr (.inr x0), .inr (.inr x1), .inr (.inr x2), .inl x3, .inl x4, .inl 0, .inr (.inr x0)] h7
  else
  ygR 2700 x0 h fun v9 =>
  zI (ycv R d [(4, 64)] v9 [] h) fun v11 h10 =>
  zlet v11 fun x4_12 =>
  zQ (ycv R d [(5, 528)] x1 [.inl x3] h10) fun v14 h13 =>
  ycc 0 65 v14 h13 <|
  ygR 8100 v14 h13 fun v15 =>
  zI (ycv R d [(21, 537)] v15 [.inl 1] h13) fun v17 h16 =>
  if v17 = 39 then
    ygR 2700 x0 h16 fun v18 =>
    zV (ycv R d [(4, 69)] v18 [.inl x4_12, .inl 8] h16) fun h19 =>
    R d 899 [.inr (.inr x0), .inr (.inr x1), .inr (.inr x2), .inl x3, .inl x4_12] h19
  else
  R d 899 [.inr (.inr x0), .inr (.inr x1), .inr (.inr x2), .inl x3, .inl x4_12] h16
def yb_MlHouse_inOrder_p19 (C : YC) (R : ZC YS) (d : Nat) (x0 : Option Nat) (x1 : Int) (x2 : Option Nat) (x3 : Int) (x4 : Int) (h : YS) : ZR YS :=
  if x4 ≤ 0 then
    yst 0 x2 x4 x3 h fun h1 =>
    zG (inI (x3 + 1)) <|
    zlet (x3 + 1) fun x3_2 =>
    R d 518 [.inr (.inr x0), .inl x1, .inr (.inr x2), .inl x3_2] h1
  else
  yaI 0 x2 (x4 - 1) h fun v3 =>
  zQ (ycv R d [(5, 528)] x0 [.inl v3] h) fun v5 h4 =>
  ycc 0 4 v5 h4 <|
  zQ (ycv R d [(5, 528)] x0 [.inl x3] h4) fun v7 h6 =>
  ycc 0 4 v7 h6 <|
  zI (zc R d 71 [.inr (.inr v5), .inr (.inr v7)] h6) fun v9 h8 =>
  if v9 ≤ 0 then
    yst 0 x2 x4 x3 h8 fun h10 =>
    zG (inI (x3 + 1)) <|
    zlet (x3 + 1) fun x3_11 =>
    R d 518 [.inr (.inr x0), .inl x1, .inr (.inr x2), .inl x3_11] h10
  else
  yaI 0 x2 (x4 - 1) h8 fun v12 =>
  yst 0 x2 x4 v12 h8 fun h13 =>
  zG (inI (x4 + (-1))) <|
  zlet (x4 + (-1)) fun x4_14 =>
  R d 762 [.inr (.inr x0), .inl x1, .inr (.inr x2), .inl x3, .inl x4_14] h13
def yb_MlHouse_look_p75 (C : YC) (R : ZC YS) (d : Nat) (x0 : Option Nat) (x1 : Option Nat) (x2 : Int) (x3 : Option Nat) (x4 : Int) (h : YS) : ZR YS :=
  ygR 20702 x3 h fun v1 =>
  zI (ycv R d [(5, 506)] v1 [] h) fun v3 h2 =>
  if x4 < v3 then
    ygR 4 x0 h2 fun v4 =>
    ygR 3030 v4 h2 fun v5 =>
    yaI 2 v5 x4 h2 fun v6 =>
    if v6 = 0 then
      ygR 20702 x3 h2 fun v7 =>
      zQ (ycv R d [(5, 528)] v7 [.inl x4] h2) fun v9 h8 =>
      ycc 0 10 v9 h8 <|
      zQ (ycv R d [(5, 528)] v9 [.inl 0] h8) fun v11 h10 =>
      ycc 0 575 v11 h10 <|
      ygI 7500 v11 h10 fun v12 =>
      zV (ycv R d [(0, 27)] x0 [.inl 3, .inl v12] h10) fun h13 =>
      zG (inI (x4 + 1)) <|
      zlet (x4 + 1) fun x4_14 =>
      R d 763 [.inr (.inr x0), .inr (.inr x1), .inl x2, .inr (.inr x3), .inl x4_14] h13
    else
    zG (inI (x4 + 1)) <|
    zlet (x4 + 1) fun x4_15 =>
    R d 763 [.inr (.inr x0), .inr (.inr x1), .inl x2, .inr (.inr x3), .inl x4_15] h2
  else
  zG (inI (x2 + 1)) <|
  zlet (x2 + 1) fun x2_16 =>
  R d 521 [.inr (.inr x0), .inr (.inr x1), .inl x2_16] h2
def yb_MlHouse_noted_p79 (C : YC) (R : ZC YS) (d : Nat) (x0 : Option Nat) (x1 : Int) (x2 : Int) (x3 : Int) (h : YS) : ZR YS :=
  ygR 28 x0 h fun v1 =>
  yst 0 v1 x3 x1 h fun h2 =>
  ygR 29 x0 h2 fun v3 =>
  yst 0 v3 x3 x2 h2 fun h4 =>
  ygI 30 x0 h4 fun v5 =>
  zG (inI (v5 + 1)) <|
  ypI 30 0 x0 (v5 + 1) h4 fun h6 =>
  zrV h6
def yb_MlHouse_noted_p45 (C : YC) (R : ZC YS) (d : Nat) (x0 : Option Nat) (x1 : Int) (x2 : Int) (x3 : Int) (h : YS) : ZR YS :=
  ygR 28 x0 h fun v1 =>
  ygR 28 x0 h fun v2 =>
  yaI 0 v2 (x3 - 1) h fun v3 =>
  yst 0 v1 x3 v3 h fun h4 =>
  ygR 29 x0 h4 fun v5 =>
  ygR 29 x0 h4 fun v6 =>
  yaI 0 v6 (x3 - 1) h4 fun v7 =>
  yst 0 v5 x3 v7 h4 fun h8 =>
  zG (inI (x3 + (-1))) <|
  zlet (x3 + (-1)) fun x3_9 =>
  R d 522 [.inr (.inr x0), .inl x1, .inl x2, .inl x3_9] h8
def yb_MlHouse_keepAll_p76 (C : YC) (R : ZC YS) (d : Nat) (x0 : Option Nat) (x1 : Option Nat) (x2 : Int) (x3 : Option Nat) (h : YS) : ZR YS :=
  ygR 7 x0 h fun v1 =>
  ygR 4200 v1 h fun v2 =>
  zI (ycv R d [(5, 505)] v2 [.inr (.inr x3)] h) fun v4 h3 =>
  zG (inI (x2 + 1)) <|
  zlet (x2 + 1) fun x2_5 =>
  R d 526 [.inr (.inr x0), .inr (.inr x1), .inl x2_5] h3
def yb_MlHouse_keepAll_p106 (C : YC) (R : ZC YS) (d : Nat) (x0 : Option Nat) (x1 : Option Nat) (x2 : Int) (h : YS) : ZR YS :=
  ygR 2703 x1 h fun v1 =>
  zI (ycv R d [(5, 506)] v1 [] h) fun v3 h2 =>
  if x2 < v3 then
    ygR 7 x0 h2 fun v4 =>
    ygR 4201 v4 h2 fun v5 =>
    ygR 2703 x1 h2 fun v6 =>
    zQ (ycv R d [(5, 528)] v6 [.inl x2] h2) fun v8 h7 =>
    ycc 0 279 v8 h7 <|
    zI (ycv R d [(5, 505)] v5 [.inr (.inr v8)] h7) fun v10 h9 =>
    zG (inI (x2 + 1)) <|
    zlet (x2 + 1) fun x2_11 =>
    R d 767 [.inr (.inr x0), .inr (.inr x1), .inl x2_11] h9
  else
  ygR 7 x0 h2 fun v12 =>
  ygR 4202 v12 h2 fun v13 =>
  zI (ycv R d [(5, 506)] v13 [] h2) fun v15 h14 =>
  zlet v15 fun x2_16 =>
  R d 900 [.inr (.inr x0), .inl x2_16] h14
def yb_Objects_checkIndex (C : YC) (R : ZC YS) (d : Nat) (x0 : Int) (x1 : Int) (h : YS) : ZR YS :=
  zI (zc R d 901 [.inl x0, .inl x1, .inr (.inr none)] h) fun v2 h1 =>
  zrI v2 h1
def yb_ArrayList_elementData (C : YC) (R : ZC YS) (d : Nat) (x0 : Option Nat) (x1 : Int) (h : YS) : ZR YS :=
  ygR 1501 x0 h fun v1 =>
  yaR v1 x1 h fun v2 =>
  zrQ v2 h
def yb_MlHouse_phrase_p164 (C : YC) (R : ZC YS) (d : Nat) (x0 : Option Nat) (x2 : Option Nat) (h : YS) : ZR YS :=
  ypI 25 0 x0 1 h fun h1 =>
  ygR 0 x0 h1 fun v2 =>
  ygI 301 v2 h1 fun v3 =>
  ypI 26 0 x0 v3 h1 fun h4 =>
  ygR 0 x0 h4 fun v5 =>
  ygI 302 v5 h4 fun v6 =>
  ypI 27 0 x0 v6 h4 fun h7 =>
  R d 771 [.inr (.inr x0), .inr (.inr x2)] h7
def yb_MlHouse_phrase_p191 (C : YC) (R : ZC YS) (d : Nat) (x0 : Option Nat) (x2 : Option Nat) (h : YS) : ZR YS :=
  ygI 25 x0 h fun v1 =>
  if v1 = 0 then
    zV (ycv R d [(0, 35)] x0 [.inr (.inr x2)] h) fun h2 =>
    R d 902 [.inr (.inr x0)] h2
  else
  R d 902 [.inr (.inr x0)] h
def yb_Types_scheme_p101 (C : YC) (R : ZC YS) (d : Nat) (x0 : Option Nat) (x4 : Option Nat) (x5 : Option Nat) (x6 : Int) (h : YS) : ZR YS :=
  ylen x5 h fun v1 =>
  if x6 < v1 then
    ygR 1220 x0 h fun v2 =>
    zQ (ycv R d [(5, 528)] v2 [.inl x6] h) fun v4 h3 =>
    ycc 6 39 v4 h3 <|
    ysR x5 x6 v4 h3 fun h5 =>
    zG (inI (x6 + 1)) <|
    zlet (x6 + 1) fun x6_6 =>
    R d 772 [.inr (.inr x0), .inr (.inr x4), .inr (.inr x5), .inl x6_6] h5
  else
  ynew 17 3 h fun r7 h8 =>
  ygI 1224 x0 h8 fun v9 =>
  zV (ycs R d 309 r7 [.inr (.inr x4), .inr (.inr x5), .inl v9] h8) fun h10 =>
  zrQ r7 h10
def yb_Types_encode_p104 (C : YC) (R : ZC YS) (d : Nat) (x0 : Option Nat) (x2 : Int) (x4 : Int) (h : YS) : ZR YS :=
  zI (ycv R d [(4, 60)] x0 [.inl x2] h) fun v2 h1 =>
  if x4 < v2 then
    zI (ycv R d [(4, 57)] x0 [.inl x2] h1) fun v4 h3 =>
    if v4 = 2 then
      ygR 1220 x0 h3 fun v5 =>
      zQ (ycv R d [(4, 61)] x0 [.inl x2, .inl x4] h3) fun v7 h6 =>
      zI (ycv R d [(5, 505)] v5 [.inr (.inr v7)] h6) fun v9 h8 =>
      R d 903 [.inr (.inr x0), .inl x2, .inl x4] h8
    else
    R d 903 [.inr (.inr x0), .inl x2, .inl x4] h3
  else
  zrV h1
def yb_Types_root_p23 (C : YC) (R : ZC YS) (d : Nat) (x0 : Option Nat) (x2 : Int) (x3 : Int) (h : YS) : ZR YS :=
  ygR 1203 x0 h fun v1 =>
  yaI 0 v1 x3 h fun v2 =>
  if v2 < 0 then
    zrI x2 h
  else
  ygR 1203 x0 h fun v3 =>
  yaI 0 v3 x3 h fun v4 =>
  zlet v4 fun x4_5 =>
  ygR 1203 x0 h fun v6 =>
  yst 0 v6 x3 x2 h fun h7 =>
  zlet x4_5 fun x3_8 =>
  R d 774 [.inr (.inr x0), .inl x2, .inl x3_8] h7
def yb_String_isLatin1 (C : YC) (R : ZC YS) (d : Nat) (x0 : Option Nat) (h : YS) : ZR YS :=
  ysvI C 4 fun v1 =>
  if v1 = 0 then
    yrN 1 0 h
  else
  ygI 6301 x0 h fun v2 =>
  if v2 = 0 then
    yrN 1 1 h
  else
  yrN 1 0 h
def yb_StringUTF16_charAt (C : YC) (R : ZC YS) (d : Nat) (x0 : Option Nat) (x1 : Int) (h : YS) : ZR YS :=
  zV (zc R d 904 [.inl x1, .inr (.inr x0)] h) fun h1 =>
  zI (zc R d 905 [.inr (.inr x0), .inl x1] h1) fun v3 h2 =>
  yrN 3 v3 h2
def yb_StringLatin1_charAt (C : YC) (R : ZC YS) (d : Nat) (x0 : Option Nat) (x1 : Int) (h : YS) : ZR YS :=
  ylen x0 h fun v1 =>
  zV (zc R d 906 [.inl x1, .inl v1] h) fun h2 =>
  yaI 2 x0 x1 h2 fun v3 =>
  yrN 3 (zchar (zandI v3 255)) h2
def yb_Types_compare_p105 (C : YC) (R : ZC YS) (d : Nat) (x0 : Option Nat) (x1 : Option Nat) (x2 : Int) (h : YS) : ZR YS :=
  zI (ycv R d [(21, 539)] x0 [] h) fun v2 h1 =>
  if x2 < v2 then
    zI (ycv R d [(21, 539)] x1 [] h1) fun v4 h3 =>
    if x2 < v4 then
      zI (ycv R d [(21, 537)] x0 [.inl x2] h3) fun v6 h5 =>
      zI (ycv R d [(21, 537)] x1 [.inl x2] h5) fun v8 h7 =>
      if v6 < v8 then
        zrI (-1) h7
      else
      zrI 1 h7
    else
    zI (ycv R d [(21, 539)] x0 [] h3) fun v10 h9 =>
    zI (ycv R d [(21, 539)] x1 [] h9) fun v12 h11 =>
    zG (inI (v10 - v12)) <|
    zrI (v10 - v12) h11
  else
  zI (ycv R d [(21, 539)] x0 [] h1) fun v14 h13 =>
  zI (ycv R d [(21, 539)] x1 [] h13) fun v16 h15 =>
  zG (inI (v14 - v16)) <|
  zrI (v14 - v16) h15
def yb_String_coder (C : YC) (R : ZC YS) (d : Nat) (x0 : Option Nat) (h : YS) : ZR YS :=
  ysvI C 4 fun v1 =>
  if v1 = 0 then
    yrN 2 1 h
  else
  ygI 6301 x0 h fun v2 =>
  yrN 2 v2 h
def yb_Types_build_2_p162 (C : YC) (R : ZC YS) (d : Nat) (x0 : Option Nat) (x1 : Option Nat) (x3 : Int) (x4 : Int) (x6 : Int) (x7 : Int) (y0 : Option Nat) (h : YS) : ZR YS :=
  zlet y0 fun x8_1 =>
  ygI 1227 x0 h fun v2 =>
  if x3 = 2 then
    R d 907 [.inr (.inr x0), .inr (.inr x1), .inl x3, .inl x4, .inl x6, .inl x7, .inr (.inr x8_1), .inl 1, .inl v2, .inr (.inr x0)] h
  else
  R d 907 [.inr (.inr x0), .inr (.inr x1), .inl x3, .inl x4, .inl x6, .inl x7, .inr (.inr x8_1), .inl 0, .inl v2, .inr (.inr x0)] h
def yb_Types_joins_p171 (C : YC) (R : ZC YS) (d : Nat) (x0 : Option Nat) (x1 : Int) (x2 : Int) (x3 : Int) (x4 : Int) (h : YS) : ZR YS :=
  if x4 < x3 then
    zI (ycv R d [(4, 63)] x0 [.inl x1, .inl x4] h) fun v2 h1 =>
    zI (ycv R d [(4, 63)] x0 [.inl x2, .inl x4] h1) fun v4 h3 =>
    zV (ycv R d [(4, 78)] x0 [.inl v2, .inl v4] h3) fun h5 =>
    zG (inI (x4 + 1)) <|
    zlet (x4 + 1) fun x4_6 =>
    R d 781 [.inr (.inr x0), .inl x1, .inl x2, .inl x3, .inl x4_6] h5
  else
  yrN 1 1 h
def yb_Types_opens_p169 (C : YC) (R : ZC YS) (d : Nat) (x0 : Option Nat) (x1 : Int) (x2 : Int) (x3 : Int) (x4 : Int) (x5 : Int) (x6 : Int) (x7 : Int) (h : YS) : ZR YS :=
  if x7 < x3 then
    zI (ycv R d [(4, 60)] x0 [.inl x1] h) fun v2 h1 =>
    if x5 = v2 then
      R d 908 [.inr (.inr x0), .inl x1, .inl x2, .inl x3, .inl x4, .inl x5, .inl x6, .inl x7, .inl 1] h1
    else
    zI (ycv R d [(4, 60)] x0 [.inl x2] h1) fun v4 h3 =>
    if x6 = v4 then
      R d 908 [.inr (.inr x0), .inl x1, .inl x2, .inl x3, .inl x4, .inl x5, .inl x6, .inl x7, .inl (-1)] h3
    else
    zQ (ycv R d [(4, 61)] x0 [.inl x1, .inl x5] h3) fun v6 h5 =>
    zQ (ycv R d [(4, 61)] x0 [.inl x2, .inl x6] h5) fun v8 h7 =>
    zI (zc R d 71 [.inr (.inr v6), .inr (.inr v8)] h7) fun v10 h9 =>
    R d 908 [.inr (.inr x0), .inl x1, .inl x2, .inl x3, .inl x4, .inl x5, .inl x6, .inl x7, .inl v10] h9
  else
  zV (ycv R d [(4, 81)] x0 [.inl x1, .inl x4] h) fun h11 =>
  zV (ycv R d [(4, 81)] x0 [.inl x2, .inl x4] h11) fun h12 =>
  yrN 1 1 h12
def yb_Types_lower_p29 (C : YC) (R : ZC YS) (d : Nat) (x0 : Option Nat) (x1 : Int) (x2 : Int) (h : YS) : ZR YS :=
  if x2 ≤ 0 then
    zG (inI (x1 + 1)) <|
    zlet (x1 + 1) fun x1_1 =>
    R d 552 [.inr (.inr x0), .inl x1_1] h
  else
  zG (inI (x2 + (-1))) <|
  zlet (x2 + (-1)) fun x2_2 =>
  ygR 1208 x0 h fun v3 =>
  yaI 1 v3 x2_2 h fun v4 =>
  zlet (zl2i v4) fun x3_5 =>
  zlet (0 : Int) fun x4_6 =>
  R d 909 [.inr (.inr x0), .inl x1, .inl x2_2, .inl x3_5, .inl x4_6] h
def yb_Types_admits_p50 (C : YC) (R : ZC YS) (d : Nat) (x0 : Option Nat) (x1 : Int) (x2 : Int) (h : YS) : ZR YS :=
  if x1 ≤ 0 then
    zG (inI (x2 + 1)) <|
    zlet (x2 + 1) fun x2_1 =>
    R d 553 [.inr (.inr x0), .inl x1, .inl x2_1] h
  else
  zG (inI (x1 + (-1))) <|
  zlet (x1 + (-1)) fun x1_2 =>
  ygR 1208 x0 h fun v3 =>
  yaI 1 v3 x1_2 h fun v4 =>
  zlet (zl2i v4) fun x4_5 =>
  zI (ycv R d [(4, 57)] x0 [.inl x4_5] h) fun v7 h6 =>
  if v7 = 4 then
    R d 910 [.inr (.inr x0), .inl x1_2, .inl x2, .inl x4_5, .inl 1] h6
  else
  zI (ycv R d [(4, 57)] x0 [.inl x4_5] h6) fun v9 h8 =>
  if v9 = 3 then
    ygR 1200 x0 h8 fun v10 =>
    zI (ycv R d [(4, 59)] x0 [.inl x4_5] h8) fun v12 h11 =>
    zQ (ycv R d [(5, 528)] v10 [.inl v12] h11) fun v14 h13 =>
    ycc 6 206 v14 h13 <|
    ygI 4504 v14 h13 fun v15 =>
    if v15 = 0 then
      R d 910 [.inr (.inr x0), .inl x1_2, .inl x2, .inl x4_5, .inl 1] h13
    else
    R d 911 [.inr (.inr x0), .inl x1_2, .inl x2, .inl x4_5] h13
  else
  R d 911 [.inr (.inr x0), .inl x1_2, .inl x2, .inl x4_5] h8
def yb_Types_constructor_p72 (C : YC) (R : ZC YS) (d : Nat) (x0 : Option Nat) (x1 : Option Nat) (x2 : Int) (x3 : Int) (x4 : Option Nat) (x5 : Int) (h : YS) : ZR YS :=
  yaI 0 x4 x5 h fun v1 =>
  zV (ycv R d [(4, 66)] x0 [.inl x3, .inl x5, .inr (.inr (some (C.1 56))), .inl v1] h) fun h2 =>
  zG (inI (x5 + 1)) <|
  zlet (x5 + 1) fun x5_3 =>
  R d 554 [.inr (.inr x0), .inr (.inr x1), .inl x2, .inl x3, .inr (.inr x4), .inl x5_3] h2
def yb_Types_copy_p113 (C : YC) (R : ZC YS) (d : Nat) (x0 : Option Nat) (x2 : Int) (x3 : Int) (x4 : Int) (x5 : Int) (h : YS) : ZR YS :=
  if x5 < x3 then
    zI (ycv R d [(4, 62)] x0 [.inl x2, .inl x5] h) fun v2 h1 =>
    zI (ycv R d [(4, 92)] x0 [.inl v2] h1) fun v4 h3 =>
    zlet v4 fun x6_5 =>
    zQ (ycv R d [(4, 61)] x0 [.inl x2, .inl x5] h3) fun v7 h6 =>
    zV (ycv R d [(4, 66)] x0 [.inl x4, .inl x5, .inr (.inr v7), .inl x6_5] h6) fun h8 =>
    zG (inI (x5 + 1)) <|
    zlet (x5 + 1) fun x5_9 =>
    R d 786 [.inr (.inr x0), .inl x2, .inl x3, .inl x4, .inl x5_9] h8
  else
  zrI x4 h
def yb_Types_generalize_p101 (C : YC) (R : ZC YS) (d : Nat) (x0 : Option Nat) (x3 : Int) (y0 : Int) (y1 : Int) (y2 : Option Nat) (h : YS) : ZR YS :=
  zV (ycv R d [(4, 83)] y2 [.inl y1, .inl y0] h) fun h1 =>
  zI (ycv R d [(4, 58)] x0 [.inl x3, .inl 16] h1) fun v3 h2 =>
  if v3 = 0 then
    yrN 1 1 h2
  else
  yrN 1 0 h2
def yb_Types_generalize_p126 (C : YC) (R : ZC YS) (d : Nat) (x0 : Option Nat) (x2 : Int) (x3 : Int) (x4 : Int) (x5 : Int) (h : YS) : ZR YS :=
  zI (ycv R d [(4, 60)] x0 [.inl x3] h) fun v2 h1 =>
  if x5 < v2 then
    zI (ycv R d [(4, 62)] x0 [.inl x3, .inl x5] h1) fun v4 h3 =>
    zI (ycv R d [(4, 96)] x0 [.inl v4, .inl x2] h3) fun v6 h5 =>
    zlet (zorI x4 v6) fun x4_7 =>
    zG (inI (x5 + 1)) <|
    zlet (x5 + 1) fun x5_8 =>
    R d 788 [.inr (.inr x0), .inl x2, .inl x3, .inl x4_7, .inl x5_8] h5
  else
  if x4 = 0 then
    yrN 1 x4 h1
  else
  zV (ycv R d [(4, 83)] x0 [.inl x3, .inl 1048576] h1) fun h9 =>
  yrN 1 x4 h9
def yb_Types_openPlace_p45 (C : YC) (R : ZC YS) (d : Nat) (x0 : Option Nat) (x2 : Int) (h : YS) : ZR YS :=
  ygR 1210 x0 h fun v1 =>
  yaI 0 v1 x2 h fun v2 =>
  zlet v2 fun x1_3 =>
  zG (inI (x2 + 1)) <|
  zlet (x2 + 1) fun x2_4 =>
  R d 560 [.inr (.inr x0), .inl x1_3, .inl x2_4] h
def yb_Parser_input_p156 (C : YC) (R : ZC YS) (d : Nat) (x0 : Option Nat) (x1 : Option Nat) (h : YS) : ZR YS :=
  zI (ycv R d [(6, 108)] x0 [.inr (.inr (some (C.1 140)))] h) fun v2 h1 =>
  ygR 1804 x0 h1 fun v3 =>
  ygR 6600 v3 h1 fun v4 =>
  ysvR C 3 fun v5 =>
  if v4 = v5 then
    zrQ x1 h1
  else
  zQ (ycv R d [(6, 115)] x0 [] h1) fun v7 h6 =>
  ythrow v7 h6
def yb_Parser_decs_p55 (C : YC) (R : ZC YS) (d : Nat) (x0 : Option Nat) (x1 : Int) (x2 : Option Nat) (h : YS) : ZR YS :=
  zlet (0 : Int) fun x4_1 =>
  if x4_1 = 0 then
    R d 912 [.inr (.inr x0), .inl x1, .inr (.inr x2), .inl x4_1] h
  else
  zV (ycv R d [(6, 106)] x0 [] h) fun h2 =>
  R d 912 [.inr (.inr x0), .inl x1, .inr (.inr x2), .inl x4_1] h2
def yb_Parser_decs_p51 (C : YC) (R : ZC YS) (d : Nat) (x0 : Option Nat) (x1 : Int) (x2 : Option Nat) (h : YS) : ZR YS :=
  zlet (1 : Int) fun x4_1 =>
  if x4_1 = 0 then
    R d 912 [.inr (.inr x0), .inl x1, .inr (.inr x2), .inl x4_1] h
  else
  zV (ycv R d [(6, 106)] x0 [] h) fun h2 =>
  R d 912 [.inr (.inr x0), .inl x1, .inr (.inr x2), .inl x4_1] h2
def yb_Parser_pat_p81 (C : YC) (R : ZC YS) (d : Nat) (x0 : Option Nat) (x1 : Int) (x2 : Int) (x3 : Option Nat) (h : YS) : ZR YS :=
  if x2 = 0 then
    R d 913 [.inr (.inr x0), .inl x1, .inr (.inr x3), .inr (.inr none)] h
  else
  yio 10 165 x3 h fun v1 =>
  if v1 = 0 then
    R d 913 [.inr (.inr x0), .inl x1, .inr (.inr x3), .inr (.inr none)] h
  else
  ycc 10 165 x3 h <|
  zlet x3 fun x5_2 =>
  R d 913 [.inr (.inr x0), .inl x1, .inr (.inr x3), .inr (.inr x5_2)] h
def yb_Parser_consPat_p116 (C : YC) (R : ZC YS) (d : Nat) (x0 : Option Nat) (x2 : Option Nat) (x3 : Option Nat) (h : YS) : ZR YS :=
  zI (ycv R d [(5, 582)] x3 [] h) fun v2 h1 =>
  if v2 = 0 then
    zV (ycv R d [(6, 138)] x0 [.inr (.inr x2), .inr (.inr x3)] h1) fun h3 =>
    R d 794 [.inr (.inr x0), .inr (.inr x2), .inr (.inr x3)] h3
  else
  zQ (ycv R d [(5, 528)] x2 [.inl 0] h1) fun v5 h4 =>
  ycc 10 303 v5 h4 <|
  zrQ v5 h4
def yb_Parser_consPat_p51 (C : YC) (R : ZC YS) (d : Nat) (x0 : Option Nat) (x2 : Option Nat) (x3 : Option Nat) (h : YS) : ZR YS :=
  zI (ycv R d [(5, 582)] x3 [] h) fun v2 h1 =>
  if v2 = 0 then
    zI (ycv R d [(5, 506)] x3 [] h1) fun v4 h3 =>
    zG (inI (v4 - 1)) <|
    zQ (ycv R d [(5, 528)] x3 [.inl (v4 - 1)] h3) fun v6 h5 =>
    ycc 10 56 v6 h5 <|
    ygR 1804 x0 h5 fun v7 =>
    zI (ycv R d [(6, 136)] x0 [.inr (.inr v6), .inr (.inr v7)] h5) fun v9 h8 =>
    if v9 = 0 then
      R d 914 [.inr (.inr x0), .inr (.inr x2), .inr (.inr x3)] h8
    else
    zV (ycv R d [(6, 138)] x0 [.inr (.inr x2), .inr (.inr x3)] h8) fun h10 =>
    R d 795 [.inr (.inr x0), .inr (.inr x2), .inr (.inr x3)] h10
  else
  R d 914 [.inr (.inr x0), .inr (.inr x2), .inr (.inr x3)] h1
def yb_Parser_rowPat_p159 (C : YC) (R : ZC YS) (d : Nat) (x0 : Option Nat) (x1 : Int) (x2 : Option Nat) (x3 : Option Nat) (x4 : Option Nat) (x5 : Int) (h : YS) : ZR YS :=
  zV (ycv R d [(6, 118)] x0 [.inr (.inr (some (C.1 119)))] h) fun h1 =>
  ynew 25 7 h1 fun r2 h3 =>
  zV (ycs R d 333 r2 [.inl x1, .inr (.inr x2), .inr (.inr x3), .inr (.inr x4), .inl x5] h3) fun h4 =>
  zrQ r2 h4
def yb_Parser_rowPat_p143 (C : YC) (R : ZC YS) (d : Nat) (x0 : Option Nat) (x1 : Int) (x2 : Option Nat) (x3 : Option Nat) (x4 : Option Nat) (x5 : Int) (y0 : Option Nat) (y1 : Option Nat) (h : YS) : ZR YS :=
  zI (ycv R d [(5, 505)] y1 [.inr (.inr y0)] h) fun v2 h1 =>
  zI (ycv R d [(6, 108)] x0 [.inr (.inr (some (C.1 118)))] h1) fun v4 h3 =>
  zlet v4 fun x6_5 =>
  R d 575 [.inr (.inr x0), .inl x1, .inr (.inr x2), .inr (.inr x3), .inr (.inr x4), .inl x5, .inl x6_5] h3
def yb_String_equals_p36 (C : YC) (R : ZC YS) (d : Nat) (x0 : Option Nat) (x2 : Option Nat) (h : YS) : ZR YS :=
  ygR 6300 x0 h fun v1 =>
  ygR 6300 x2 h fun v2 =>
  zI (zc R d 915 [.inr (.inr v1), .inr (.inr v2)] h) fun v4 h3 =>
  if v4 = 0 then
    yrN 1 0 h3
  else
  yrN 1 1 h3
def yb_ArrayList_fastRemove (C : YC) (R : ZC YS) (d : Nat) (x0 : Option Nat) (x1 : Option Nat) (x2 : Int) (h : YS) : ZR YS :=
  ygI 1500 x0 h fun v1 =>
  ypI 1500 0 x0 (zw32 (v1 + 1)) h fun h2 =>
  ygI 1502 x0 h2 fun v3 =>
  zG (inI (v3 - 1)) <|
  zlet (v3 - 1) fun x3_4 =>
  if (v3 - 1) ≤ x2 then
    R d 916 [.inr (.inr x0), .inr (.inr x1), .inl x3_4] h2
  else
  zG (inI (x2 + 1)) <|
  zG (inI (x3_4 - x2)) <|
  yac x1 (x2 + 1) x1 x2 (x3_4 - x2) h2 fun h5 =>
  R d 916 [.inr (.inr x0), .inr (.inr x1), .inl x3_4] h5
def yb_Parser_either_p47 (C : YC) (R : ZC YS) (d : Nat) (x0 : Option Nat) (y0 : Option Nat) (y1 : Option Nat) (y2 : Int) (y3 : Option Nat) (y4 : Option Nat) (h : YS) : ZR YS :=
  zV (ycs R d 447 y3 [.inl y2, .inr (.inr y1), .inr (.inr y0)] h) fun h1 =>
  zlet y4 fun x1_2 =>
  ygI 1806 x0 h1 fun v3 =>
  zG (inI (v3 - 1)) <|
  ypI 1806 0 x0 (v3 - 1) h1 fun h4 =>
  R d 594 [.inr (.inr x0), .inr (.inr x1_2)] h4
def yb_Parser_both_p47 (C : YC) (R : ZC YS) (d : Nat) (x0 : Option Nat) (y0 : Option Nat) (y1 : Option Nat) (y2 : Int) (y3 : Option Nat) (y4 : Option Nat) (h : YS) : ZR YS :=
  zV (ycs R d 447 y3 [.inl y2, .inr (.inr y1), .inr (.inr y0)] h) fun h1 =>
  zlet y4 fun x1_2 =>
  ygI 1806 x0 h1 fun v3 =>
  zG (inI (v3 - 1)) <|
  ypI 1806 0 x0 (v3 - 1) h1 fun h4 =>
  R d 595 [.inr (.inr x0), .inr (.inr x1_2)] h4
def yb_Parser_infixed_p116 (C : YC) (R : ZC YS) (d : Nat) (x0 : Option Nat) (x2 : Option Nat) (x3 : Option Nat) (h : YS) : ZR YS :=
  zI (ycv R d [(5, 582)] x3 [] h) fun v2 h1 =>
  if v2 = 0 then
    zV (ycv R d [(6, 156)] x0 [.inr (.inr x2), .inr (.inr x3)] h1) fun h3 =>
    R d 802 [.inr (.inr x0), .inr (.inr x2), .inr (.inr x3)] h3
  else
  zQ (ycv R d [(5, 528)] x2 [.inl 0] h1) fun v5 h4 =>
  ycc 10 639 v5 h4 <|
  zrQ v5 h4
def yb_Parser_infixed_p51 (C : YC) (R : ZC YS) (d : Nat) (x0 : Option Nat) (x2 : Option Nat) (x3 : Option Nat) (h : YS) : ZR YS :=
  zI (ycv R d [(5, 582)] x3 [] h) fun v2 h1 =>
  if v2 = 0 then
    zI (ycv R d [(5, 506)] x3 [] h1) fun v4 h3 =>
    zG (inI (v4 - 1)) <|
    zQ (ycv R d [(5, 528)] x3 [.inl (v4 - 1)] h3) fun v6 h5 =>
    ycc 10 56 v6 h5 <|
    ygR 1804 x0 h5 fun v7 =>
    zI (ycv R d [(6, 136)] x0 [.inr (.inr v6), .inr (.inr v7)] h5) fun v9 h8 =>
    if v9 = 0 then
      R d 917 [.inr (.inr x0), .inr (.inr x2), .inr (.inr x3)] h8
    else
    zV (ycv R d [(6, 156)] x0 [.inr (.inr x2), .inr (.inr x3)] h8) fun h10 =>
    R d 803 [.inr (.inr x0), .inr (.inr x2), .inr (.inr x3)] h10
  else
  R d 917 [.inr (.inr x0), .inr (.inr x2), .inr (.inr x3)] h1
def yb_Parser_bracket_p140 (C : YC) (R : ZC YS) (d : Nat) (x0 : Option Nat) (x1 : Int) (x2 : Option Nat) (h : YS) : ZR YS :=
  ynew 47 4 h fun r1 h2 =>
  zI (ycv R d [(5, 506)] x2 [] h2) fun v4 h3 =>
  zQ (ycv R d [(6, 120)] x0 [.inl v4] h3) fun v6 h5 =>
  zV (ycs R d 410 r1 [.inl x1, .inr (.inr v6), .inr (.inr none), .inr (.inr x2)] h5) fun h7 =>
  zrQ r1 h7
def yb_Parser_functions_p32 (C : YC) (R : ZC YS) (d : Nat) (x0 : Option Nat) (x1 : Option Nat) (x2 : Option Nat) (h : YS) : ZR YS :=
  ygR 17701 x2 h fun v1 =>
  zQ (ycv R d [(6, 159)] x0 [] h) fun v3 h2 =>
  zI (ycv R d [(5, 505)] v1 [.inr (.inr v3)] h2) fun v5 h4 =>
  zI (ycv R d [(6, 108)] x0 [.inr (.inr (some (C.1 137)))] h4) fun v7 h6 =>
  if v7 = 0 then
    ygR 17404 x1 h6 fun v8 =>
    zI (ycv R d [(5, 505)] v8 [.inr (.inr x2)] h6) fun v10 h9 =>
    zI (ycv R d [(6, 108)] x0 [.inr (.inr (some (C.1 146)))] h9) fun v12 h11 =>
    if v12 = 0 then
      zV (ycv R d [(6, 157)] x0 [] h11) fun h13 =>
      zrQ x1 h13
    else
    R d 609 [.inr (.inr x0), .inr (.inr x1)] h11
  else
  R d 805 [.inr (.inr x0), .inr (.inr x1), .inr (.inr x2)] h6
def yb_Parser_clause_p162 (C : YC) (R : ZC YS) (d : Nat) (x0 : Option Nat) (x1 : Option Nat) (x2 : Option Nat) (x3 : Int) (h : YS) : ZR YS :=
  zI (ycv R d [(6, 108)] x0 [.inr (.inr (some (C.1 122)))] h) fun v2 h1 =>
  if v2 = 0 then
    R d 918 [.inr (.inr x0), .inr (.inr x1), .inr (.inr x2), .inl x3, .inr (.inr none)] h1
  else
  zQ (ycv R d [(6, 126)] x0 [] h1) fun v4 h3 =>
  R d 918 [.inr (.inr x0), .inr (.inr x1), .inr (.inr x2), .inl x3, .inr (.inr v4)] h3
def yb_Parser_clause_p86 (C : YC) (R : ZC YS) (d : Nat) (x0 : Option Nat) (x1 : Option Nat) (x2 : Option Nat) (x3 : Int) (h : YS) : ZR YS :=
  zQ (ycv R d [(6, 113)] x0 [] h) fun v2 h1 =>
  zI (ycv R d [(5, 505)] x1 [.inr (.inr v2)] h1) fun v4 h3 =>
  zI (ycv R d [(6, 114)] x0 [] h3) fun v6 h5 =>
  if v6 = 0 then
    R d 806 [.inr (.inr x0), .inr (.inr x1), .inr (.inr x2), .inl x3] h5
  else
  R d 807 [.inr (.inr x0), .inr (.inr x1), .inr (.inr x2), .inl x3] h5
def yb_Parser_datatype_p46 (C : YC) (R : ZC YS) (d : Nat) (x0 : Option Nat) (x1 : Option Nat) (x4 : Option Nat) (h : YS) : ZR YS :=
  zI (ycv R d [(6, 108)] x0 [.inr (.inr (some (C.1 112)))] h) fun v2 h1 =>
  zlet v2 fun x5_3 =>
  ygR 1804 x0 h1 fun v4 =>
  ygI 6601 v4 h1 fun v5 =>
  zlet v5 fun x6_6 =>
  if x5_3 = 0 then
    zQ (ycv R d [(6, 124)] x0 [] h1) fun v8 h7 =>
    R d 919 [.inr (.inr x0), .inr (.inr x1), .inr (.inr x4), .inl x6_6, .inr (.inr v8)] h7
  else
  zQ (ycv R d [(6, 135)] x0 [] h1) fun v10 h9 =>
  R d 919 [.inr (.inr x0), .inr (.inr x1), .inr (.inr x4), .inl x6_6, .inr (.inr v10)] h9
def yb_Parser_exception_p118 (C : YC) (R : ZC YS) (d : Nat) (x2 : Int) (x3 : Option Nat) (x5 : Int) (y0 : Option Nat) (h : YS) : ZR YS :=
  zlet y0 fun x6_1 =>
  ynew 65 8 h fun r2 h3 =>
  zV (ycs R d 472 r2 [.inr (.inr x3), .inl x2, .inr (.inr none), .inr (.inr x6_1), .inl x5] h3) fun h4 =>
  zrQ r2 h4
def yb_Parser_fixity_p96 (C : YC) (R : ZC YS) (d : Nat) (x0 : Option Nat) (x2 : Int) (x3 : Int) (h : YS) : ZR YS :=
  ygR 1802 x0 h fun v1 =>
  ynew 7 3 h fun r2 h3 =>
  zQ (ycv R d [(6, 124)] x0 [] h3) fun v5 h4 =>
  zV (ycs R d 167 r2 [.inr (.inr v5), .inl x3, .inl x2] h4) fun h6 =>
  zI (ycv R d [(5, 505)] v1 [.inr (.inr r2)] h6) fun v8 h7 =>
  ygR 1804 x0 h7 fun v9 =>
  zI (ycv R d [(22, 317)] v9 [] h7) fun v11 h10 =>
  if v11 = 0 then
    zrV h10
  else
  R d 810 [.inr (.inr x0), .inl x2, .inl x3] h10
def yb_Lexer_next_p196 (C : YC) (R : ZC YS) (d : Nat) (x0 : Option Nat) (x1 : Int) (h : YS) : ZR YS :=
  if x1 = 34 then
    ygI 2404 x0 h fun v1 =>
    ysvR C 13 fun v2 =>
    zQ (ycv R d [(8, 184)] x0 [.inl v1, .inr (.inr v2)] h) fun v4 h3 =>
    zrQ v4 h3
  else
  if x1 = 35 then
    zI (ycv R d [(8, 171)] x0 [.inl 1] h) fun v6 h5 =>
    if v6 = 34 then
      ygI 2404 x0 h5 fun v7 =>
      ysvR C 14 fun v8 =>
      zQ (ycv R d [(8, 184)] x0 [.inl v7, .inr (.inr v8)] h5) fun v10 h9 =>
      zrQ v10 h9
    else
    R d 920 [.inr (.inr x0), .inl x1] h5
  else
  R d 920 [.inr (.inr x0), .inl x1] h
def yb_Lexer_note_p68 (C : YC) (R : ZC YS) (d : Nat) (x0 : Option Nat) (x1 : Int) (x2 : Int) (h : YS) : ZR YS :=
  zI (ycv R d [(8, 171)] x0 [.inl 0] h) fun v2 h1 =>
  if v2 = 42 then
    zI (ycv R d [(8, 171)] x0 [.inl 1] h1) fun v4 h3 =>
    if v4 = 41 then
      zG (inI (x2 + (-1))) <|
      zlet (x2 + (-1)) fun x2_5 =>
      ygI 2404 x0 h3 fun v6 =>
      zG (inI (v6 + 2)) <|
      ypI 2404 0 x0 (v6 + 2) h3 fun h7 =>
      if x2_5 ≤ 0 then
        zrV h7
      else
      R d 618 [.inr (.inr x0), .inl x1, .inl x2_5] h7
    else
    R d 921 [.inr (.inr x0), .inl x1, .inl x2] h3
  else
  R d 921 [.inr (.inr x0), .inl x1, .inl x2] h1
def yb_Lexer_piece_p106 (C : YC) (R : ZC YS) (d : Nat) (x0 : Option Nat) (x2 : Int) (x3 : Option Nat) (x4 : Int) (h : YS) : ZR YS :=
  ygI 2404 x0 h fun v1 =>
  if x4 < v1 then
    ygR 2401 x0 h fun v2 =>
    yaI 2 v2 x4 h fun v3 =>
    zQ (ycv R d [(23, 512)] x3 [.inl (zchar v3)] h) fun v5 h4 =>
    zG (inI (x4 + 1)) <|
    zlet (x4 + 1) fun x4_6 =>
    R d 813 [.inr (.inr x0), .inl x2, .inr (.inr x3), .inl x4_6] h4
  else
  ygR 2408 x0 h fun v7 =>
  ygR 2406 x0 h fun v8 =>
  zI (ycv R d [(5, 506)] v8 [] h) fun v10 h9 =>
  ygR 2407 x0 h9 fun v11 =>
  yaI 0 v11 x2 h9 fun v12 =>
  yst 0 v7 v10 v12 h9 fun h13 =>
  ygR 2407 x0 h13 fun v14 =>
  ygR 2406 x0 h13 fun v15 =>
  zI (ycv R d [(5, 506)] v15 [] h13) fun v17 h16 =>
  yst 0 v14 x2 v17 h16 fun h18 =>
  ygR 2406 x0 h18 fun v19 =>
  zQ (ycv R d [(23, 642)] x3 [] h18) fun v21 h20 =>
  zI (ycv R d [(5, 505)] v19 [.inr (.inr v21)] h20) fun v23 h22 =>
  ygR 2406 x0 h22 fun v24 =>
  ygR 2406 x0 h22 fun v25 =>
  zI (ycv R d [(5, 506)] v25 [] h22) fun v27 h26 =>
  zG (inI (v27 - 1)) <|
  zQ (ycv R d [(5, 528)] v24 [.inl (v27 - 1)] h26) fun v29 h28 =>
  ycc 12 9 v29 h28 <|
  zrQ v29 h28
def yb_Lexer_number_p37 (C : YC) (R : ZC YS) (d : Nat) (x0 : Option Nat) (x1 : Int) (x2 : Int) (x3 : Int) (h : YS) : ZR YS :=
  zI (ycv R d [(8, 171)] x0 [.inl 0] h) fun v2 h1 =>
  zI (zc R d 15 [.inl v2] h1) fun v4 h3 =>
  if v4 = 0 then
    if x2 = 0 then
      R d 922 [.inr (.inr x0), .inl x1, .inl x2, .inr (.inl x3), .inr (.inl 2147483647), .inr (.inl x3)] h3
    else
    R d 922 [.inr (.inr x0), .inl x1, .inl x2, .inr (.inl x3), .inr (.inl 2147483648), .inr (.inl x3)] h3
  else
  zI (ycv R d [(8, 171)] x0 [.inl 0] h3) fun v6 h5 =>
  zG (inL (((10 * x3) + v6) - 48)) <|
  zJ (zc R d 923 [.inr (.inl (((10 * x3) + v6) - 48)), .inr (.inl 1099511627776)] h5) fun v8 h7 =>
  zlet v8 fun x3_9 =>
  ygI 2404 x0 h7 fun v10 =>
  zG (inI (v10 + 1)) <|
  ypI 2404 0 x0 (v10 + 1) h7 fun h11 =>
  R d 814 [.inr (.inr x0), .inl x1, .inl x2, .inr (.inl x3_9)] h11
def yb_Lexer_quoted_p31 (C : YC) (R : ZC YS) (d : Nat) (x0 : Option Nat) (x1 : Int) (x2 : Option Nat) (x3 : Option Nat) (h : YS) : ZR YS :=
  zI (ycv R d [(8, 171)] x0 [.inl 0] h) fun v2 h1 =>
  if v2 = 34 then
    ygI 2404 x0 h1 fun v3 =>
    zG (inI (v3 + 1)) <|
    ypI 2404 0 x0 (v3 + 1) h1 fun h4 =>
    ysvR C 14 fun v5 =>
    if x2 = v5 then
      zI (ycv R d [(23, 924)] x3 [] h4) fun v7 h6 =>
      if v7 = 1 then
        R d 925 [.inl x1, .inr (.inr x2), .inr (.inr x3)] h6
      else
      ygR 2402 x0 h6 fun v8 =>
      zQ (ycv R d [(1, 48)] v8 [.inl 1, .inl x1] h6) fun v10 h9 =>
      ythrow v10 h9
    else
    zI (ycv R d [(23, 924)] x3 [] h4) fun v12 h11 =>
    if v12 ≤ 200 then
      R d 925 [.inl x1, .inr (.inr x2), .inr (.inr x3)] h11
    else
    ygR 2402 x0 h11 fun v13 =>
    zQ (ycv R d [(1, 48)] v13 [.inl 1, .inl x1] h11) fun v15 h14 =>
    ythrow v15 h14
  else
  ygI 2404 x0 h1 fun v16 =>
  ygI 2403 x0 h1 fun v17 =>
  if v16 < v17 then
    zI (ycv R d [(8, 171)] x0 [.inl 0] h1) fun v19 h18 =>
    if v19 < 32 then
      zQ (ycv R d [(8, 175)] x0 [] h18) fun v21 h20 =>
      ythrow v21 h20
    else
    zI (ycv R d [(8, 171)] x0 [.inl 0] h18) fun v23 h22 =>
    if v23 ≤ 126 then
      zI (ycv R d [(8, 171)] x0 [.inl 0] h22) fun v25 h24 =>
      zlet v25 fun x4_26 =>
      ygI 2404 x0 h24 fun v27 =>
      zG (inI (v27 + 1)) <|
      ypI 2404 0 x0 (v27 + 1) h24 fun h28 =>
      if x4_26 = 92 then
        zI (ycv R d [(8, 185)] x0 [] h28) fun v30 h29 =>
        zQ (ycv R d [(23, 512)] x3 [.inl (zchar v30)] h29) fun v32 h31 =>
        R d 815 [.inr (.inr x0), .inl x1, .inr (.inr x2), .inr (.inr x3)] h31
      else
      zQ (ycv R d [(23, 512)] x3 [.inl (zchar x4_26)] h28) fun v34 h33 =>
      R d 815 [.inr (.inr x0), .inl x1, .inr (.inr x2), .inr (.inr x3)] h33
    else
    zQ (ycv R d [(8, 175)] x0 [] h22) fun v36 h35 =>
    ythrow v36 h35
  else
  zQ (ycv R d [(8, 175)] x0 [] h1) fun v38 h37 =>
  ythrow v38 h37
def yb_Lexer_signs_p51 (C : YC) (R : ZC YS) (d : Nat) (x0 : Option Nat) (x1 : Int) (x3 : Int) (h : YS) : ZR YS :=
  if x3 = 35 then
    zI (ycv R d [(8, 171)] x0 [.inl 1] h) fun v2 h1 =>
    if v2 = 34 then
      zlet (0 : Int) fun x2_3 =>
      R d 629 [.inr (.inr x0), .inl x1, .inl x2_3] h1
    else
    zlet (1 : Int) fun x2_4 =>
    R d 629 [.inr (.inr x0), .inl x1, .inl x2_4] h1
  else
  zlet (1 : Int) fun x2_5 =>
  R d 629 [.inr (.inr x0), .inl x1, .inl x2_5] h
def yb_Judge_begin_p95 (C : YC) (R : ZC YS) (d : Nat) (x0 : Option Nat) (x1 : Option Nat) (x3 : Int) (h : YS) : ZR YS :=
  ygR 4201 x1 h fun v1 =>
  zI (ycv R d [(5, 506)] v1 [] h) fun v3 h2 =>
  if x3 < v3 then
    ygR 2703 x0 h2 fun v4 =>
    ygR 4201 x1 h2 fun v5 =>
    zQ (ycv R d [(5, 528)] v5 [.inl x3] h2) fun v7 h6 =>
    ycc 13 76 v7 h6 <|
    zI (ycv R d [(5, 505)] v4 [.inr (.inr v7)] h6) fun v9 h8 =>
    zG (inI (x3 + 1)) <|
    zlet (x3 + 1) fun x3_10 =>
    R d 817 [.inr (.inr x0), .inr (.inr x1), .inl x3_10] h8
  else
  zrV h2
def yb_Judge_hide_p33 (C : YC) (R : ZC YS) (d : Nat) (x0 : Option Nat) (x3 : Int) (x5 : Int) (h : YS) : ZR YS :=
  if x5 < x3 then
    zrV h
  else
  ygR 2703 x0 h fun v1 =>
  zQ (ycv R d [(5, 590)] v1 [.inl x5] h) fun v3 h2 =>
  zG (inI (x5 + (-1))) <|
  zlet (x5 + (-1)) fun x5_4 =>
  R d 818 [.inr (.inr x0), .inl x3, .inl x5_4] h2
def yb_Cover_look_2_p14 (C : YC) (R : ZC YS) (d : Nat) (x0 : Option Nat) (x1 : Int) (x2 : Int) (x3 : Int) (h : YS) : ZR YS :=
  if x3 = 0 then
    ygR 3027 x0 h fun v1 =>
    yaI 2 v1 (x1 - 1) h fun v2 =>
    if v2 = 0 then
      zlet (1 : Int) fun x3_3 =>
      ygR 3022 x0 h fun v4 =>
      yaI 0 v4 (x1 - 1) h fun v5 =>
      zlet v5 fun x2_6 =>
      zG (inI (x1 - 1)) <|
      zV (ycv R d [(10, 220)] x0 [.inl (x1 - 1)] h) fun h7 =>
      R d 636 [.inr (.inr x0), .inl x1, .inl x2_6, .inl x3_3] h7
    else
    zG (inI (x1 + (-1))) <|
    zlet (x1 + (-1)) fun x1_8 =>
    ygR 3026 x0 h fun v9 =>
    yaI 0 v9 x1_8 h fun v10 =>
    zlet v10 fun x4_11 =>
    ygR 3003 x0 h fun v12 =>
    ygR 3023 x0 h fun v13 =>
    yaI 0 v13 x1_8 h fun v14 =>
    ygR 3005 x0 h fun v15 =>
    yaI 0 v15 x4_11 h fun v16 =>
    yst 0 v12 v14 v16 h fun h17 =>
    ygR 3024 x0 h17 fun v18 =>
    yaI 0 v18 x1_8 h17 fun v19 =>
    ygR 3025 x0 h17 fun v20 =>
    yaI 0 v20 x1_8 h17 fun v21 =>
    zV (ycv R d [(10, 221)] x0 [.inl v19, .inl v21] h17) fun h22 =>
    ypI 3010 0 x0 x4_11 h22 fun h23 =>
    R d 636 [.inr (.inr x0), .inl x1_8, .inl x2, .inl x3] h23
  else
  zI (ycv R d [(10, 208)] x0 [.inl x2] h) fun v25 h24 =>
  zlet v25 fun x2_26 =>
  ygR 3029 x0 h24 fun v27 =>
  ygR 20702 v27 h24 fun v28 =>
  zI (ycv R d [(5, 506)] v28 [] h24) fun v30 h29 =>
  if x2_26 < v30 then
    ygI 3028 x0 h29 fun v31 =>
    if v31 = 2 then
      zV (ycv R d [(10, 219)] x0 [.inl x1, .inl x2_26] h29) fun h32 =>
      zG (inI (x1 + 1)) <|
      zlet (x1 + 1) fun x1_33 =>
      R d 636 [.inr (.inr x0), .inl x1_33, .inl x2_26, .inl x3] h32
    else
    R d 926 [.inr (.inr x0), .inl x1, .inl x2_26] h29
  else
  R d 926 [.inr (.inr x0), .inl x1, .inl x2_26] h29
def yb_Cover_asks_p96 (C : YC) (R : ZC YS) (d : Nat) (x0 : Option Nat) (x1 : Int) (x2 : Int) (x3 : Option Nat) (x4 : Option Nat) (x5 : Int) (h : YS) : ZR YS :=
  ypI 3012 0 x0 x1 h fun h1 =>
  ypI 3013 0 x0 x2 h1 fun h2 =>
  ypI 3014 0 x0 x5 h2 fun h3 =>
  ypR 3018 x0 x3 h3 fun h4 =>
  ypR 3020 x0 x4 h4 fun h5 =>
  zrI 2 h5
def yb_AbstractStringBuilder_init (C : YC) (R : ZC YS) (d : Nat) (x0 : Option Nat) (x1 : Int) (h : YS) : ZR YS :=
  ynull x0 none <|
  ysvI C 4 fun v2 =>
  if v2 = 0 then
    zQ (zc R d 927 [.inl x1] h) fun v4 h3 =>
    ypR 6900 x0 v4 h3 fun h5 =>
    ypI 6901 2 x0 1 h5 fun h6 =>
    zrV h6
  else
  yna 2 x1 h fun r7 h8 =>
  ypR 6900 x0 r7 h8 fun h9 =>
  ypI 6901 2 x0 0 h9 fun h10 =>
  zrV h10
def yb_String_init (C : YC) (R : ZC YS) (d : Nat) (x0 : Option Nat) (x1 : Option Nat) (h : YS) : ZR YS :=
  zV (ycs R d 928 x0 [.inr (.inr x1), .inr (.inr none)] h) fun h1 =>
  zrV h1
def yb_Machine_isEqual_p178 (C : YC) (R : ZC YS) (d : Nat) (x0 : Option Nat) (x9 : Int) (h : YS) : ZR YS :=
  if x9 = 0 then
    yrN 1 1 h
  else
  ygR 3324 x0 h fun v1 =>
  yaI 0 v1 (x9 - 1) h fun v2 =>
  zlet (zandI v2 1023) fun x10_3 =>
  ygR 3324 x0 h fun v4 =>
  yaI 0 v4 (x9 - 1) h fun v5 =>
  zlet (zshrI v5 10) fun x11_6 =>
  ygR 3302 x0 h fun v7 =>
  ygR 3323 x0 h fun v8 =>
  yaI 1 v8 (x9 - 1) h fun v9 =>
  yaI 1 v7 ((zl2i (zshrL v9 32)) + x11_6) h fun v10 =>
  zlet v10 fun x5_11 =>
  ygR 3302 x0 h fun v12 =>
  ygR 3323 x0 h fun v13 =>
  yaI 1 v13 (x9 - 1) h fun v14 =>
  yaI 1 v12 ((zl2i v14) + x11_6) h fun v15 =>
  zlet v15 fun x7_16 =>
  ygR 3324 x0 h fun v17 =>
  yaI 0 v17 (x9 - 1) h fun v18 =>
  zG (inI (v18 + 1024)) <|
  yst 0 v17 (x9 - 1) (v18 + 1024) h fun h19 =>
  zG (inI (x11_6 + 1)) <|
  if (x11_6 + 1) = x10_3 then
    zG (inI (x9 + (-1))) <|
    zlet (x9 + (-1)) fun x9_20 =>
    R d 650 [.inr (.inr x0), .inr (.inl x5_11), .inr (.inl x7_16), .inl x9_20] h19
  else
  R d 650 [.inr (.inr x0), .inr (.inl x5_11), .inr (.inl x7_16), .inl x9] h19
def yb_Machine_isEqual_p99 (C : YC) (R : ZC YS) (d : Nat) (x0 : Option Nat) (x5 : Int) (x7 : Int) (x9 : Int) (y0 : Int) (h : YS) : ZR YS :=
  zlet y0 fun x10_1 =>
  zI (ycv R d [(11, 249)] x0 [.inr (.inl x5)] h) fun v3 h2 =>
  if v3 = 0 then
    R d 929 [.inr (.inr x0), .inr (.inl x5), .inr (.inl x7), .inl x9, .inl x10_1] h2
  else
  zI (ycv R d [(11, 251)] x0 [.inr (.inl x5)] h2) fun v5 h4 =>
  zI (ycv R d [(11, 251)] x0 [.inr (.inl x7)] h4) fun v7 h6 =>
  if v5 = v7 then
    R d 929 [.inr (.inr x0), .inr (.inl x5), .inr (.inl x7), .inl x9, .inl x10_1] h6
  else
  yrN 1 0 h6
def yb_Machine_compared_p79 (C : YC) (R : ZC YS) (d : Nat) (x0 : Option Nat) (x1 : Int) (x3 : Int) (x5 : Int) (x6 : Int) (h : YS) : ZR YS :=
  if x6 < x5 then
    zI (ycv R d [(11, 248)] x0 [.inr (.inl x1), .inl x6] h) fun v2 h1 =>
    zI (ycv R d [(11, 248)] x0 [.inr (.inl x3), .inl x6] h1) fun v4 h3 =>
    zG (inI (v2 - v4)) <|
    zrI (v2 - v4) h3
  else
  zI (ycv R d [(11, 247)] x0 [.inr (.inl x1)] h) fun v6 h5 =>
  zI (ycv R d [(11, 247)] x0 [.inr (.inl x3)] h5) fun v8 h7 =>
  zG (inI (v6 - v8)) <|
  zrI (v6 - v8) h7
def yb_Machine_joined_p81 (C : YC) (R : ZC YS) (d : Nat) (x0 : Option Nat) (x3 : Int) (x5 : Int) (x6 : Int) (x7 : Int) (x8 : Int) (h : YS) : ZR YS :=
  if x8 < x6 then
    ygR 3302 x0 h fun v1 =>
    zI (ycv R d [(11, 248)] x0 [.inr (.inl x3), .inl x8] h) fun v3 h2 =>
    yst 1 v1 (((x7 + 1) + x5) + x8) v3 h2 fun h4 =>
    zG (inI (x8 + 1)) <|
    zlet (x8 + 1) fun x8_5 =>
    R d 826 [.inr (.inr x0), .inr (.inl x3), .inl x5, .inl x6, .inl x7, .inl x8_5] h4
  else
  zJ (zc R d 261 [.inl x7] h) fun v7 h6 =>
  zrL v7 h6
def yb_Machine_piece_p60 (C : YC) (R : ZC YS) (d : Nat) (x0 : Option Nat) (x1 : Int) (x3 : Int) (x4 : Int) (x6 : Int) (x7 : Int) (h : YS) : ZR YS :=
  if x7 < x4 then
    ygR 3302 x0 h fun v1 =>
    zG (inI (x3 + x7)) <|
    zI (ycv R d [(11, 248)] x0 [.inr (.inl x1), .inl (x3 + x7)] h) fun v3 h2 =>
    yst 1 v1 ((x6 + 1) + x7) v3 h2 fun h4 =>
    zG (inI (x7 + 1)) <|
    zlet (x7 + 1) fun x7_5 =>
    R d 827 [.inr (.inr x0), .inr (.inl x1), .inl x3, .inl x4, .inl x6, .inl x7_5] h4
  else
  zJ (zc R d 261 [.inl x6] h) fun v7 h6 =>
  zrL v7 h6
def yb_Machine_imploded_p70 (C : YC) (R : ZC YS) (d : Nat) (x0 : Option Nat) (x3 : Int) (x4 : Int) (x5 : Int) (x7 : Int) (h : YS) : ZR YS :=
  if x7 ≤ x3 then
    ygR 3302 x0 h fun v1 =>
    zI (ycv R d [(11, 240)] x0 [.inr (.inl x5)] h) fun v3 h2 =>
    yaI 1 v1 v3 h2 fun v4 =>
    zI (ycv R d [(11, 240)] x0 [.inr (.inl v4)] h2) fun v6 h5 =>
    zlet v6 fun x8_7 =>
    ygR 3302 x0 h5 fun v8 =>
    ygR 3302 x0 h5 fun v9 =>
    yaI 1 v9 x8_7 h5 fun v10 =>
    yst 1 v8 (x4 + x7) (zl2i v10) h5 fun h11 =>
    ygR 3302 x0 h11 fun v12 =>
    yaI 1 v12 (x8_7 + 1) h11 fun v13 =>
    zlet v13 fun x5_14 =>
    zG (inI (x7 + 1)) <|
    zlet (x7 + 1) fun x7_15 =>
    R d 828 [.inr (.inr x0), .inl x3, .inl x4, .inr (.inl x5_14), .inl x7_15] h11
  else
  zJ (zc R d 261 [.inl x4] h) fun v17 h16 =>
  zrL v17 h16
def yb_Machine_digitsOf_p49 (C : YC) (R : ZC YS) (d : Nat) (x0 : Option Nat) (x1 : Int) (x2 : Int) (x4 : Int) (y0 : Int) (y1 : Option Nat) (h : YS) : ZR YS :=
  zI (ycv R d [(11, 260)] y1 [.inl y0] h) fun v2 h1 =>
  zlet v2 fun x5_3 =>
  if x1 < 0 then
    zG (inI (x5_3 + (x4 + 1))) <|
    zlet (x5_3 + (x4 + 1)) fun x6_4 =>
    zlet (0 : Int) fun x7_5 =>
    R d 930 [.inr (.inr x0), .inl x1, .inr (.inl x2), .inl x4, .inl x5_3, .inl x6_4, .inl x7_5] h1
  else
  zG (inI (x5_3 + x4)) <|
  zlet (x5_3 + x4) fun x6_6 =>
  zlet (0 : Int) fun x7_7 =>
  R d 930 [.inr (.inr x0), .inl x1, .inr (.inl x2), .inl x4, .inl x5_3, .inl x6_6, .inl x7_7] h1
def yb_Machine_apply_p46 (C : YC) (R : ZC YS) (d : Nat) (x0 : Option Nat) (x1 : Int) (x2 : Int) (x4 : Int) (x5 : Int) (y0 : Int) (h : YS) : ZR YS :=
  zlet y0 fun x6_1 =>
  if x5 = 0 then
    R d 931 [.inr (.inr x0), .inl x1, .inr (.inl x2), .inl x4, .inl x6_1, .inl 0] h
  else
  ygR 3302 x0 h fun v2 =>
  yaI 1 v2 x1 h fun v3 =>
  R d 931 [.inr (.inr x0), .inl x1, .inr (.inl x2), .inl x4, .inl x6_1, .inl (zl2i (zushrL v3 8))] h
def yb_Teller_row_p49 (C : YC) (R : ZC YS) (d : Nat) (x0 : Option Nat) (x1 : Int) (x3 : Int) (x4 : Int) (x5 : Int) (x6 : Int) (x7 : Int) (h : YS) : ZR YS :=
  if x7 < x5 then
    zI (ycv R d [(13, 285)] x0 [] h) fun v2 h1 =>
    if v2 = 0 then
      if x7 ≤ 0 then
        R d 932 [.inr (.inr x0), .inr (.inl x1), .inl x3, .inl x4, .inl x5, .inl x6, .inl x7] h1
      else
      zV (ycv R d [(13, 283)] x0 [.inr (.inr (some (C.1 160)))] h1) fun h3 =>
      R d 932 [.inr (.inr x0), .inr (.inl x1), .inl x3, .inl x4, .inl x5, .inl x6, .inl x7] h3
    else
    R d 933 [.inr (.inr x0), .inl x6] h1
  else
  R d 933 [.inr (.inr x0), .inl x6] h
def yb_Teller_isNumber_p51 (C : YC) (R : ZC YS) (d : Nat) (x1 : Int) (x2 : Int) (h : YS) : ZR YS :=
  if x2 = x1 then
    yrN 1 1 h
  else
  yrN 1 0 h
def yb_Teller_number_p41 (C : YC) (R : ZC YS) (d : Nat) (x0 : Option Nat) (x2 : Int) (x4 : Int) (h : YS) : ZR YS :=
  if x4 ≤ 0 then
    zrV h
  else
  zG (x4 ≠ 0) <|
  zV (ycv R d [(13, 284)] x0 [.inl (zchar (zl2i (48 + ((zdivL x2 x4) - ((zdivL (zdivL x2 x4) 10) * 10)))))] h) fun h2 =>
  zlet (zdivL x4 10) fun x4_3 =>
  R d 833 [.inr (.inr x0), .inr (.inl x2), .inr (.inl x4_3)] h2
def yb_Teller_list_p43 (C : YC) (R : ZC YS) (d : Nat) (x0 : Option Nat) (x3 : Int) (x4 : Int) (x5 : Int) (h : YS) : ZR YS :=
  zlet (0 : Int) fun x7_1 =>
  ygR 3901 x0 h fun v2 =>
  ygR 3901 x0 h fun v3 =>
  ygR 3901 x0 h fun v4 =>
  zI (ycv R d [(11, 240)] v4 [.inr (.inl x5)] h) fun v6 h5 =>
  zJ (ycv R d [(11, 274)] v3 [.inl v6] h5) fun v8 h7 =>
  zI (ycv R d [(11, 240)] v2 [.inr (.inl v8)] h7) fun v10 h9 =>
  zlet v10 fun x8_11 =>
  ygR 3901 x0 h9 fun v12 =>
  zJ (ycv R d [(11, 274)] v12 [.inl x8_11] h9) fun v14 h13 =>
  zG (inI (x4 + 1)) <|
  zV (ycv R d [(13, 287)] x0 [.inr (.inl v14), .inl x3, .inl 0, .inl (x4 + 1)] h13) fun h15 =>
  ygR 3901 x0 h15 fun v16 =>
  zG (inI (x8_11 + 1)) <|
  zJ (ycv R d [(11, 274)] v16 [.inl (x8_11 + 1)] h15) fun v18 h17 =>
  zlet v18 fun x5_19 =>
  R d 673 [.inr (.inr x0), .inl x3, .inl x4, .inr (.inl x5_19), .inl x7_1] h17
def yb_Teller_line_p70 (C : YC) (R : ZC YS) (d : Nat) (x0 : Option Nat) (x1 : Option Nat) (x2 : Int) (y0 : Option Nat) (y1 : Option Nat) (h : YS) : ZR YS :=
  zV (ycv R d [(13, 283)] y1 [.inr (.inr y0)] h) fun h1 =>
  ygR 20401 x1 h1 fun v2 =>
  ygR 4503 v2 h1 fun v3 =>
  zQ (ycv R d [(5, 528)] v3 [.inl x2] h1) fun v5 h4 =>
  ycc 17 242 v5 h4 <|
  ygR 5700 v5 h4 fun v6 =>
  zV (ycv R d [(13, 283)] x0 [.inr (.inr v6)] h4) fun h7 =>
  ygR 20401 x1 h7 fun v8 =>
  ygR 4503 v8 h7 fun v9 =>
  zQ (ycv R d [(5, 528)] v9 [.inl x2] h7) fun v11 h10 =>
  ycc 17 242 v11 h10 <|
  zI (ycv R d [(19, 314)] v11 [] h10) fun v13 h12 =>
  if v13 = 0 then
    zG (inI (x2 + 1)) <|
    zlet (x2 + 1) fun x2_14 =>
    R d 674 [.inr (.inr x0), .inr (.inr x1), .inl x2_14] h12
  else
  zV (ycv R d [(13, 283)] x0 [.inr (.inr (some (C.1 177)))] h12) fun h15 =>
  ygR 20401 x1 h15 fun v16 =>
  ygR 4503 v16 h15 fun v17 =>
  zQ (ycv R d [(5, 528)] v17 [.inl x2] h15) fun v19 h18 =>
  ycc 17 242 v19 h18 <|
  ygR 5703 v19 h18 fun v20 =>
  ygR 20403 x1 h18 fun v21 =>
  zV (ycv R d [(13, 299)] x0 [.inr (.inr v20), .inr (.inr v21), .inl 0] h18) fun h22 =>
  zG (inI (x2 + 1)) <|
  zlet (x2 + 1) fun x2_23 =>
  R d 674 [.inr (.inr x0), .inr (.inr x1), .inl x2_23] h22
def yb_Teller_vars_p63 (C : YC) (R : ZC YS) (d : Nat) (x0 : Option Nat) (x1 : Option Nat) (x2 : Int) (h : YS) : ZR YS :=
  zQ (ycv R d [(5, 528)] x1 [.inl x2] h) fun v2 h1 =>
  ycc 17 36 v2 h1 <|
  zV (ycv R d [(13, 283)] x0 [.inr (.inr v2)] h1) fun h3 =>
  zG (inI (x2 + 1)) <|
  zlet (x2 + 1) fun x2_4 =>
  R d 675 [.inr (.inr x0), .inr (.inr x1), .inl x2_4] h3
def yb_Teller_type_2_p211 (C : YC) (R : ZC YS) (d : Nat) (x0 : Option Nat) (x3 : Int) (x4 : Int) (h : YS) : ZR YS :=
  ygR 3900 x0 h fun v1 =>
  zQ (ycv R d [(4, 61)] v1 [.inl x3, .inl x4] h) fun v3 h2 =>
  zV (ycv R d [(13, 283)] x0 [.inr (.inr v3)] h2) fun h4 =>
  zV (ycv R d [(13, 283)] x0 [.inr (.inr (some (C.1 183)))] h4) fun h5 =>
  ygR 3900 x0 h5 fun v6 =>
  zI (ycv R d [(4, 62)] v6 [.inl x3, .inl x4] h5) fun v8 h7 =>
  zV (ycv R d [(13, 300)] x0 [.inl v8, .inl 0] h7) fun h9 =>
  zG (inI (x4 + 1)) <|
  zlet (x4 + 1) fun x4_10 =>
  R d 677 [.inr (.inr x0), .inl x3, .inl x4_10] h9
def yb_Teller_type_2_p143 (C : YC) (R : ZC YS) (d : Nat) (x0 : Option Nat) (x2 : Int) (x3 : Int) (x4 : Int) (h : YS) : ZR YS :=
  ygR 3900 x0 h fun v1 =>
  zI (ycv R d [(4, 62)] v1 [.inl x3, .inl x4] h) fun v3 h2 =>
  zV (ycv R d [(13, 300)] x0 [.inl v3, .inl 2] h2) fun h4 =>
  zG (inI (x4 + 1)) <|
  zlet (x4 + 1) fun x4_5 =>
  R d 678 [.inr (.inr x0), .inl x2, .inl x3, .inl x4_5] h4
def yb_Teller_variable_p26 (C : YC) (R : ZC YS) (d : Nat) (x0 : Option Nat) (x1 : Int) (x2 : Int) (h : YS) : ZR YS :=
  ygI 3906 x0 h fun v1 =>
  if x2 = v1 then
    ygR 3904 x0 h fun v2 =>
    yst 0 v2 x2 x1 h fun h3 =>
    ygI 3906 x0 h3 fun v4 =>
    zG (inI (v4 + 1)) <|
    ypI 3906 0 x0 (v4 + 1) h3 fun h5 =>
    R d 934 [.inr (.inr x0), .inl x1, .inl x2] h5
  else
  R d 934 [.inr (.inr x0), .inl x1, .inl x2] h
def yb_Teller_named_2_p65 (C : YC) (R : ZC YS) (d : Nat) (x0 : Option Nat) (x1 : Int) (x2 : Int) (x3 : Int) (h : YS) : ZR YS :=
  ygR 3900 x0 h fun v1 =>
  zI (ycv R d [(4, 62)] v1 [.inl x1, .inl x3] h) fun v3 h2 =>
  zV (ycv R d [(13, 300)] x0 [.inl v3, .inl 0] h2) fun h4 =>
  zG (inI (x3 + 1)) <|
  zlet (x3 + 1) fun x3_5 =>
  R d 682 [.inr (.inr x0), .inl x1, .inl x2, .inl x3_5] h4
def yb_ArrayList_set (C : YC) (R : ZC YS) (d : Nat) (x0 : Option Nat) (x1 : Int) (x2 : Option Nat) (h : YS) : ZR YS :=
  ygI 1502 x0 h fun v1 =>
  zI (zc R d 768 [.inl x1, .inl v1] h) fun v3 h2 =>
  zQ (ycv R d [(5, 769)] x0 [.inl x1] h2) fun v5 h4 =>
  zlet v5 fun x3_6 =>
  ygR 1501 x0 h4 fun v7 =>
  ysR v7 x1 x2 h4 fun h8 =>
  zrQ x3_6 h8
def yb_Base_like_p61 (C : YC) (R : ZC YS) (d : Nat) (x0 : Option Nat) (x1 : Option Nat) (x2 : Int) (h : YS) : ZR YS :=
  ygR 4201 x1 h fun v1 =>
  zI (ycv R d [(5, 506)] v1 [] h) fun v3 h2 =>
  if x2 < v3 then
    ygR 4201 x0 h2 fun v4 =>
    ygR 4201 x1 h2 fun v5 =>
    zQ (ycv R d [(5, 528)] v5 [.inl x2] h2) fun v7 h6 =>
    ycc 18 54 v7 h6 <|
    zI (ycv R d [(5, 505)] v4 [.inr (.inr v7)] h6) fun v9 h8 =>
    zG (inI (x2 + 1)) <|
    zlet (x2 + 1) fun x2_10 =>
    R d 842 [.inr (.inr x0), .inr (.inr x1), .inl x2_10] h8
  else
  zlet (0 : Int) fun x2_11 =>
  R d 935 [.inr (.inr x0), .inr (.inr x1), .inl x2_11] h2
def yb_Values_enter_p83 (C : YC) (R : ZC YS) (d : Nat) (x0 : Option Nat) (x1 : Option Nat) (x2 : Int) (x3 : Option Nat) (x4 : Int) (x5 : Int) (h : YS) : ZR YS :=
  ygR 7201 x0 h fun v1 =>
  zI (ycv R d [(5, 506)] v1 [] h) fun v3 h2 =>
  if x5 < v3 then
    ygR 7201 x0 h2 fun v4 =>
    zQ (ycv R d [(5, 528)] v4 [.inl x5] h2) fun v6 h5 =>
    ycc 38 50 v6 h5 <|
    ygR 8100 v6 h5 fun v7 =>
    ygR 8100 x3 h5 fun v8 =>
    zI (ycv R d [(21, 576)] v7 [.inr (.inr v8)] h5) fun v10 h9 =>
    if v10 = 0 then
      zG (inI (x5 + 1)) <|
      zlet (x5 + 1) fun x5_11 =>
      R d 843 [.inr (.inr x0), .inr (.inr x1), .inl x2, .inr (.inr x3), .inl x4, .inl x5_11] h9
    else
    ygR 7201 x0 h9 fun v12 =>
    zQ (ycv R d [(5, 528)] v12 [.inl x5] h9) fun v14 h13 =>
    ycc 38 50 v14 h13 <|
    ygI 8101 v14 h13 fun v15 =>
    zI (zc R d 547 [.inl x4, .inl v15] h13) fun v17 h16 =>
    zlet v17 fun x4_18 =>
    zG (inI (x5 + 1)) <|
    zlet (x5 + 1) fun x5_19 =>
    R d 843 [.inr (.inr x0), .inr (.inr x1), .inl x2, .inr (.inr x3), .inl x4_18, .inl x5_19] h16
  else
  ygR 2704 x1 h2 fun v20 =>
  ynew 67 3 h2 fun r21 h22 =>
  ygR 8100 x3 h22 fun v23 =>
  ygR 2700 x1 h22 fun v24 =>
  ygR 8100 x3 h22 fun v25 =>
  zI (ycv R d [(21, 537)] v25 [.inl 1] h22) fun v27 h26 =>
  if v27 = 39 then
    R d 936 [.inr (.inr x0), .inr (.inr x1), .inl x2, .inl x4, .inl 1, .inr (.inr v24), .inr (.inr v23), .inr (.inr r21), .inr (.inr r21), .inr (.inr v20)] h26
  else
  R d 936 [.inr (.inr x0), .inr (.inr x1), .inl x2, .inl x4, .inl 0, .inr (.inr v24), .inr (.inr v23), .inr (.inr r21), .inr (.inr r21), .inr (.inr v20)] h26
def yb_Values_leave_p46 (C : YC) (R : ZC YS) (d : Nat) (x0 : Option Nat) (x1 : Option Nat) (x2 : Option Nat) (x3 : Option Nat) (x4 : Option Nat) (x5 : Int) (y0 : Int) (y1 : Option Nat) (h : YS) : ZR YS :=
  zQ (ycv R d [(5, 528)] x4 [.inl x5] h) fun v2 h1 =>
  ycc 38 90 v2 h1 <|
  ygI 5402 v2 h1 fun v3 =>
  zV (ycv R d [(9, 190)] y1 [.inl y0, .inl 14, .inl v3] h1) fun h4 =>
  zG (inI (x5 + 1)) <|
  zlet (x5 + 1) fun x5_5 =>
  R d 686 [.inr (.inr x0), .inr (.inr x1), .inr (.inr x2), .inr (.inr x3), .inr (.inr x4), .inl x5_5] h4
def yb_Values_leave_p90 (C : YC) (R : ZC YS) (d : Nat) (x0 : Option Nat) (x1 : Option Nat) (x2 : Option Nat) (x3 : Option Nat) (x5 : Int) (x6 : Int) (h : YS) : ZR YS :=
  ygR 2704 x1 h fun v1 =>
  zI (ycv R d [(5, 506)] v1 [] h) fun v3 h2 =>
  if x6 < v3 then
    ygR 2704 x1 h2 fun v4 =>
    zQ (ycv R d [(5, 528)] v4 [.inl x6] h2) fun v6 h5 =>
    ycc 38 75 v6 h5 <|
    zlet v6 fun x7_7 =>
    ygR 2700 x1 h5 fun v8 =>
    ygR 2700 x1 h5 fun v9 =>
    ygI 20101 x7_7 h5 fun v10 =>
    zI (ycv R d [(4, 56)] v9 [.inl v10] h5) fun v12 h11 =>
    zI (ycv R d [(4, 82)] v8 [.inl v12] h11) fun v14 h13 =>
    ygI 7203 x0 h13 fun v15 =>
    if v14 ≤ v15 then
      zlet (1 : Int) fun x8_16 =>
      zlet (0 : Int) fun x9_17 =>
      R d 937 [.inr (.inr x0), .inr (.inr x1), .inr (.inr x2), .inr (.inr x3), .inl x5, .inl x6, .inr (.inr x7_7), .inl x8_16, .inl x9_17] h13
    else
    zlet (0 : Int) fun x8_18 =>
    zlet (0 : Int) fun x9_19 =>
    R d 937 [.inr (.inr x0), .inr (.inr x1), .inr (.inr x2), .inr (.inr x3), .inl x5, .inl x6, .inr (.inr x7_7), .inl x8_18, .inl x9_19] h13
  else
  if x5 = (-1) then
    zV (ycv R d [(9, 190)] x1 [.inl 1, .inl 12, .inl x5] h2) fun h20 =>
    zlet (0 : Int) fun x6_21 =>
    R d 938 [.inr (.inr x0), .inr (.inr x1), .inr (.inr x2), .inr (.inr x3), .inl x6_21] h20
  else
  zV (ycv R d [(9, 190)] x1 [.inl 0, .inl 12, .inl x5] h2) fun h22 =>
  zlet (0 : Int) fun x6_23 =>
  R d 938 [.inr (.inr x0), .inr (.inr x1), .inr (.inr x2), .inr (.inr x3), .inl x6_23] h22
def yb_ValDec_judge_p78 (C : YC) (R : ZC YS) (d : Nat) (x1 : Option Nat) (x2 : Option Nat) (x5 : Int) (h : YS) : ZR YS :=
  zI (ycv R d [(5, 506)] x2 [] h) fun v2 h1 =>
  if x5 < v2 then
    ygR 2702 x1 h1 fun v3 =>
    zQ (ycv R d [(5, 528)] x2 [.inl x5] h1) fun v5 h4 =>
    ycc 39 55 v5 h4 <|
    zI (ycv R d [(5, 505)] v3 [.inr (.inr v5)] h4) fun v7 h6 =>
    zG (inI (x5 + 1)) <|
    zlet (x5 + 1) fun x5_8 =>
    R d 846 [.inr (.inr x1), .inr (.inr x2), .inl x5_8] h6
  else
  zV (zc R d 323 [.inr (.inr x1), .inr (.inr x2)] h1) fun h9 =>
  zrV h9
def yb_ValDec_recursive_p58 (C : YC) (R : ZC YS) (d : Nat) (x0 : Option Nat) (x1 : Option Nat) (x2 : Option Nat) (x3 : Option Nat) (x4 : Int) (x5 : Option Nat) (x6 : Int) (x7 : Option Nat) (y0 : Int) (y1 : Option Nat) (h : YS) : ZR YS :=
  ygR 7204 x0 h fun v1 =>
  zQ (ycv R d [(5, 528)] v1 [.inl x6] h) fun v3 h2 =>
  ycc 39 68 v3 h2 <|
  ygI 7500 v3 h2 fun v4 =>
  zV (ycv R d [(9, 190)] y1 [.inl y0, .inl 7, .inl v4] h2) fun h5 =>
  ygR 7204 x0 h5 fun v6 =>
  zQ (ycv R d [(5, 528)] v6 [.inl x6] h5) fun v8 h7 =>
  ycc 39 68 v8 h7 <|
  zI (ycv R d [(36, 369), (32, 349), (38, 379), (37, 374), (35, 364), (33, 354), (25, 334), (34, 359)] v8 [.inr (.inr x1)] h7) fun v10 h9 =>
  yst 0 x5 x6 v10 h9 fun h11 =>
  ygR 9905 x7 h11 fun v12 =>
  ynull v12 (
    R d 939 [.inr (.inr x0), .inr (.inr x1), .inr (.inr x2), .inr (.inr x3), .inl x4, .inr (.inr x5), .inl x6, .inl 0, .inr (.inr x1)] h11
  ) <|
  R d 939 [.inr (.inr x0), .inr (.inr x1), .inr (.inr x2), .inr (.inr x3), .inl x4, .inr (.inr x5), .inl x6, .inl 1, .inr (.inr x1)] h11
def yb_ValDec_recursive_p142 (C : YC) (R : ZC YS) (d : Nat) (x0 : Option Nat) (x1 : Option Nat) (x2 : Option Nat) (x3 : Option Nat) (x4 : Int) (x5 : Option Nat) (x6 : Int) (h : YS) : ZR YS :=
  if x6 < x4 then
    ygR 2702 x1 h fun v1 =>
    zQ (ycv R d [(5, 528)] x2 [.inl x6] h) fun v3 h2 =>
    ycc 39 55 v3 h2 <|
    zI (ycv R d [(5, 505)] v1 [.inr (.inr v3)] h2) fun v5 h4 =>
    zQ (ycv R d [(5, 528)] x2 [.inl x6] h4) fun v7 h6 =>
    ycc 39 55 v7 h6 <|
    zI (ycv R d [(5, 505)] x3 [.inr (.inr v7)] h6) fun v9 h8 =>
    zG (inI (x6 + 1)) <|
    zlet (x6 + 1) fun x6_10 =>
    R d 848 [.inr (.inr x0), .inr (.inr x1), .inr (.inr x2), .inr (.inr x3), .inl x4, .inr (.inr x5), .inl x6_10] h8
  else
  zlet (0 : Int) fun x6_11 =>
  R d 940 [.inr (.inr x0), .inr (.inr x1), .inl x4, .inr (.inr x5), .inl x6_11] h
def yb_ValDec_plain_p123 (C : YC) (R : ZC YS) (d : Nat) (x0 : Option Nat) (x1 : Option Nat) (x2 : Option Nat) (x3 : Option Nat) (x4 : Option Nat) (x5 : Int) (x9 : Int) (h : YS) : ZR YS :=
  zI (ycv R d [(5, 506)] x2 [] h) fun v2 h1 =>
  if x9 < v2 then
    ygR 7205 x0 h1 fun v3 =>
    zQ (ycv R d [(5, 528)] v3 [.inl x5] h1) fun v5 h4 =>
    ycc 39 74 v5 h4 <|
    zI (ycv R d [(53, 436), (56, 384), (42, 384), (52, 432), (45, 404), (57, 384), (40, 384), (54, 441), (49, 384), (48, 416), (39, 384), (47, 412), (50, 423), (46, 384), (55, 445), (51, 428), (41, 384)] v5 [] h4) fun v7 h6 =>
    if v7 = 0 then
      R d 941 [.inr (.inr x0), .inr (.inr x1), .inr (.inr x2), .inr (.inr x3), .inr (.inr x4), .inl x5, .inl x9, .inr (.inr x4)] h6
    else
    R d 941 [.inr (.inr x0), .inr (.inr x1), .inr (.inr x2), .inr (.inr x3), .inr (.inr x4), .inl x5, .inl x9, .inr (.inr x3)] h6
  else
  zG (inI (x5 + 1)) <|
  zlet (x5 + 1) fun x5_8 =>
  R d 690 [.inr (.inr x0), .inr (.inr x1), .inr (.inr x2), .inr (.inr x3), .inr (.inr x4), .inl x5_8] h1
def yb_ValDec_make_p73 (C : YC) (R : ZC YS) (d : Nat) (x0 : Option Nat) (x1 : Option Nat) (x2 : Int) (x3 : Option Nat) (x4 : Option Nat) (x5 : Int) (h : YS) : ZR YS :=
  if x5 < x2 then
    ygR 7205 x0 h fun v1 =>
    zQ (ycv R d [(5, 528)] v1 [.inl x5] h) fun v3 h2 =>
    ycc 39 131 v3 h2 <|
    zQ (ycv R d [(45, 406)] v3 [.inr (.inr x1)] h2) fun v5 h4 =>
    ysR x3 x5 v5 h4 fun h6 =>
    zG (inI (x5 + 1)) <|
    zlet (x5 + 1) fun x5_7 =>
    R d 850 [.inr (.inr x0), .inr (.inr x1), .inl x2, .inr (.inr x3), .inr (.inr x4), .inl x5_7] h6
  else
  zV (ycv R d [(70, 494)] x1 [.inr (.inr x4), .inr (.inr x3)] h) fun h8 =>
  zrV h8
def yb_RowPat_judge_p66 (C : YC) (R : ZC YS) (d : Nat) (x0 : Option Nat) (x1 : Option Nat) (x2 : Int) (x3 : Option Nat) (x4 : Int) (h : YS) : ZR YS :=
  ygR 7503 x0 h fun v1 =>
  zQ (ycv R d [(5, 528)] v1 [.inl x4] h) fun v3 h2 =>
  ycc 41 4 v3 h2 <|
  zI (ycv R d [(36, 369), (32, 349), (38, 379), (37, 374), (35, 364), (33, 354), (25, 334), (34, 359)] v3 [.inr (.inr x1)] h2) fun v5 h4 =>
  yst 0 x3 x4 v5 h4 fun h6 =>
  zG (inI (x4 + 1)) <|
  zlet (x4 + 1) fun x4_7 =>
  R d 693 [.inr (.inr x0), .inr (.inr x1), .inl x2, .inr (.inr x3), .inl x4_7] h6
def yb_RowPat_judge_p46 (C : YC) (R : ZC YS) (d : Nat) (x0 : Option Nat) (x1 : Option Nat) (x2 : Int) (x3 : Option Nat) (x4 : Int) (y0 : Int) (y1 : Option Nat) (h : YS) : ZR YS :=
  ygR 7502 x0 h fun v1 =>
  zQ (ycv R d [(5, 528)] v1 [.inl x4] h) fun v3 h2 =>
  ycc 41 43 v3 h2 <|
  zI (ycv R d [(26, 885)] v3 [] h2) fun v5 h4 =>
  zV (ycv R d [(9, 190)] y1 [.inl y0, .inl 6, .inl v5] h4) fun h6 =>
  R d 851 [.inr (.inr x0), .inr (.inr x1), .inl x2, .inr (.inr x3), .inl x4] h6
def yb_RowPat_judge_p109 (C : YC) (R : ZC YS) (d : Nat) (x0 : Option Nat) (x3 : Option Nat) (y0 : Int) (y1 : Option Nat) (y2 : Option Nat) (h : YS) : ZR YS :=
  ygR 7501 x0 h fun v1 =>
  ygI 7505 x0 h fun v2 =>
  zI (zc R d 21 [.inr (.inr y1), .inl y0, .inr (.inr v1), .inr (.inr x3), .inl v2] h) fun v4 h3 =>
  ypI 7506 0 y2 v4 h3 fun h5 =>
  ygI 7506 x0 h5 fun v6 =>
  zrI v6 h5
def yb_RowTy_make_p66 (C : YC) (R : ZC YS) (d : Nat) (x0 : Option Nat) (x1 : Option Nat) (x2 : Int) (x3 : Option Nat) (x4 : Int) (h : YS) : ZR YS :=
  ygR 8703 x0 h fun v1 =>
  zQ (ycv R d [(5, 528)] v1 [.inl x4] h) fun v3 h2 =>
  ycc 47 4 v3 h2 <|
  zI (ycv R d [(31, 347), (30, 345), (29, 343), (28, 341)] v3 [.inr (.inr x1)] h2) fun v5 h4 =>
  yst 0 x3 x4 v5 h4 fun h6 =>
  zG (inI (x4 + 1)) <|
  zlet (x4 + 1) fun x4_7 =>
  R d 698 [.inr (.inr x0), .inr (.inr x1), .inl x2, .inr (.inr x3), .inl x4_7] h6
def yb_RowTy_make_p46 (C : YC) (R : ZC YS) (d : Nat) (x0 : Option Nat) (x1 : Option Nat) (x2 : Int) (x3 : Option Nat) (x4 : Int) (y0 : Int) (y1 : Option Nat) (h : YS) : ZR YS :=
  ygR 8702 x0 h fun v1 =>
  zQ (ycv R d [(5, 528)] v1 [.inl x4] h) fun v3 h2 =>
  ycc 47 35 v3 h2 <|
  zI (ycv R d [(26, 885)] v3 [] h2) fun v5 h4 =>
  zV (ycv R d [(9, 190)] y1 [.inl y0, .inl 6, .inl v5] h4) fun h6 =>
  R d 854 [.inr (.inr x0), .inr (.inr x1), .inl x2, .inr (.inr x3), .inl x4] h6
def yb_NamedTy_make_p76 (C : YC) (R : ZC YS) (d : Nat) (x0 : Option Nat) (x1 : Option Nat) (x2 : Int) (x3 : Option Nat) (x4 : Option Nat) (y0 : Int) (y1 : Option Nat) (h : YS) : ZR YS :=
  ygIk 30 8400 x0 h fun v1 =>
  zV (ycv R d [(9, 190)] y1 [.inl y0, .inl 15, .inl v1] h) fun h2 =>
  ygR 4802 x4 h2 fun v3 =>
  ynull v3 (
    ygR 2700 x1 h2 fun v4 =>
    ygR 4803 x4 h2 fun v5 =>
    zI (ycv R d [(4, 73)] v4 [.inr (.inr v5), .inr (.inr x3)] h2) fun v7 h6 =>
    zrI v7 h6
  ) <|
  ygR 2700 x1 h2 fun v8 =>
  ygR 4802 x4 h2 fun v9 =>
  ygI 4501 v9 h2 fun v10 =>
  zI (ycv R d [(4, 52)] v8 [.inl 3, .inl v10, .inl x2] h2) fun v12 h11 =>
  zlet v12 fun x5_13 =>
  zlet (0 : Int) fun x6_14 =>
  R d 942 [.inr (.inr x1), .inl x2, .inr (.inr x3), .inl x5_13, .inl x6_14] h11
def yb_ArrowTy_make_p59 (C : YC) (R : ZC YS) (d : Nat) (x1 : Option Nat) (x3 : Option Nat) (x4 : Int) (x5 : Int) (h : YS) : ZR YS :=
  if x5 < 0 then
    zrI x4 h
  else
  ygR 2700 x1 h fun v1 =>
  yaI 0 x3 x5 h fun v2 =>
  zI (ycv R d [(4, 70)] v1 [.inl v2, .inl x4] h) fun v4 h3 =>
  zlet v4 fun x4_5 =>
  zG (inI (x5 + (-1))) <|
  zlet (x5 + (-1)) fun x5_6 =>
  R d 857 [.inr (.inr x1), .inr (.inr x3), .inl x4_5, .inl x5_6] h3
def yb_AsPat_judge_p81 (C : YC) (R : ZC YS) (d : Nat) (x0 : Option Nat) (x1 : Option Nat) (h : YS) : ZR YS :=
  ygR 9604 x0 h fun v1 =>
  zI (ycv R d [(36, 369), (32, 349), (38, 379), (37, 374), (35, 364), (33, 354), (25, 334), (34, 359)] v1 [.inr (.inr x1)] h) fun v3 h2 =>
  zlet v3 fun x3_4 =>
  ygR 9605 x0 h2 fun v5 =>
  ygI 5403 v5 h2 fun v6 =>
  ygR 9604 x0 h2 fun v7 =>
  ygI 7500 v7 h2 fun v8 =>
  zV (ycv R d [(9, 199)] x1 [.inl v6, .inl x3_4, .inl v8] h2) fun h9 =>
  ygR 9605 x0 h9 fun v10 =>
  ygI 5403 v10 h9 fun v11 =>
  zrI v11 h9
def yb_ListPat_meets_p39 (C : YC) (R : ZC YS) (d : Nat) (x0 : Option Nat) (x1 : Option Nat) (x3 : Int) (x4 : Int) (x5 : Int) (y0 : Int) (y1 : Int) (y2 : Option Nat) (h : YS) : ZR YS :=
  zI (ycv R d [(10, 216)] y2 [.inl y1, .inl y0, .inl 2] h) fun v2 h1 =>
  zlet v2 fun x6_3 =>
  if x6_3 = 0 then
    zrI x6_3 h1
  else
  if x6_3 = 2 then
    if x4 = 2 then
      zV (ycv R d [(10, 217)] x1 [] h1) fun h4 =>
      zrI 2 h4
    else
    zrI 2 h1
  else
  ygR 10501 x0 h1 fun v5 =>
  zI (ycv R d [(5, 506)] v5 [] h1) fun v7 h6 =>
  if x5 = v7 then
    R d 860 [.inr (.inr x1), .inl x4] h6
  else
  zI (ycv R d [(10, 213)] x1 [.inl x3, .inl 0, .inl 1] h6) fun v9 h8 =>
  zlet v9 fun x7_10 =>
  ygR 10501 x0 h8 fun v11 =>
  zQ (ycv R d [(5, 528)] v11 [.inl x5] h8) fun v13 h12 =>
  ycc 53 4 v13 h12 <|
  zI (ycv R d [(10, 213)] x1 [.inl x7_10, .inl 0, .inl 2] h12) fun v15 h14 =>
  zI (ycv R d [(36, 371), (32, 351), (38, 381), (37, 376), (35, 366), (33, 356), (25, 336), (34, 361)] v13 [.inr (.inr x1), .inl v15] h14) fun v17 h16 =>
  zlet v17 fun x6_18 =>
  if x6_18 = 0 then
    zrI x6_18 h16
  else
  if x6_18 = 2 then
    if x4 = 1 then
      zlet x6_18 fun x4_19 =>
      zV (ycv R d [(10, 218)] x1 [] h16) fun h20 =>
      R d 943 [.inr (.inr x0), .inr (.inr x1), .inl x4_19, .inl x5, .inl x7_10] h20
    else
    R d 943 [.inr (.inr x0), .inr (.inr x1), .inl x4, .inl x5, .inl x7_10] h16
  else
  R d 943 [.inr (.inr x0), .inr (.inr x1), .inl x4, .inl x5, .inl x7_10] h16
def yb_ListPat_meets_p164 (C : YC) (R : ZC YS) (d : Nat) (x1 : Option Nat) (x4 : Int) (h : YS) : ZR YS :=
  if x4 = 2 then
    zV (ycv R d [(10, 217)] x1 [] h) fun h1 =>
    zrI x4 h1
  else
  zrI x4 h
def yb_ListPat_make_p50 (C : YC) (R : ZC YS) (d : Nat) (x0 : Option Nat) (x1 : Option Nat) (x3 : Option Nat) (x4 : Int) (x5 : Int) (x6 : Int) (h : YS) : ZR YS :=
  zI (ycv R d [(70, 484)] x1 [.inl 17, .inl x4, .inl 0] h) fun v2 h1 =>
  zI (ycv R d [(70, 484)] x1 [.inl 12, .inl x5, .inl 0] h1) fun v4 h3 =>
  ygR 10501 x0 h3 fun v5 =>
  zQ (ycv R d [(5, 528)] v5 [.inl x6] h3) fun v7 h6 =>
  yio 53 77 v7 h6 fun v8 =>
  if v8 = 0 then
    ygR 10501 x0 h6 fun v9 =>
    zQ (ycv R d [(5, 528)] v9 [.inl x6] h6) fun v11 h10 =>
    ycc 53 4 v11 h10 <|
    zI (ycv R d [(70, 491)] x1 [.inl x5, .inl 0] h10) fun v13 h12 =>
    zV (ycv R d [(36, 372), (32, 352), (38, 382), (37, 377), (35, 367), (33, 357), (25, 337), (34, 362)] v11 [.inr (.inr x1), .inl v13, .inr (.inr x3)] h12) fun h14 =>
    R d 944 [.inr (.inr x0), .inr (.inr x1), .inr (.inr x3), .inl x5, .inl x6] h14
  else
  R d 944 [.inr (.inr x0), .inr (.inr x1), .inr (.inr x3), .inl x5, .inl x6] h6
def yb_Rules_judge_p140 (C : YC) (R : ZC YS) (d : Nat) (x0 : Option Nat) (x1 : Option Nat) (x4 : Int) (x6 : Option Nat) (x7 : Int) (x8 : Int) (x9 : Int) (x10 : Option Nat) (x12 : Int) (x13 : Int) (h : YS) : ZR YS :=
  ygR 2706 x1 h fun v1 =>
  zI (ycv R d [(5, 506)] v1 [] h) fun v3 h2 =>
  if x13 < v3 then
    ygR 2702 x1 h2 fun v4 =>
    ygR 2706 x1 h2 fun v5 =>
    zQ (ycv R d [(5, 528)] v5 [.inl x13] h2) fun v7 h6 =>
    ycc 62 73 v7 h6 <|
    zI (ycv R d [(5, 505)] v4 [.inr (.inr v7)] h6) fun v9 h8 =>
    zG (inI (x13 + 1)) <|
    zlet (x13 + 1) fun x13_10 =>
    R d 862 [.inr (.inr x0), .inr (.inr x1), .inl x4, .inr (.inr x6), .inl x7, .inl x8, .inl x9, .inr (.inr x10), .inl x12, .inl x13_10] h8
  else
  ygR 13201 x10 h2 fun v11 =>
  zI (ycv R d [(53, 435), (56, 448), (42, 396), (52, 431), (45, 403), (57, 451), (40, 390), (54, 440), (49, 419), (48, 415), (39, 386), (47, 411), (50, 422), (46, 408), (55, 444), (51, 426), (41, 393)] v11 [.inr (.inr x1)] h2) fun v13 h12 =>
  zlet v13 fun x13_14 =>
  if x8 = (-1) then
    zlet x13_14 fun x8_15 =>
    R d 945 [.inr (.inr x0), .inr (.inr x1), .inl x4, .inr (.inr x6), .inl x7, .inl x8_15, .inl x9, .inr (.inr x10), .inl x12] h12
  else
  ygR 13201 x10 h12 fun v16 =>
  ygI 11700 v16 h12 fun v17 =>
  zV (ycv R d [(9, 199)] x1 [.inl x8, .inl x13_14, .inl v17] h12) fun h18 =>
  R d 945 [.inr (.inr x0), .inr (.inr x1), .inl x4, .inr (.inr x6), .inl x7, .inl x8, .inl x9, .inr (.inr x10), .inl x12] h18
def yb_Sequence_make_p47 (C : YC) (R : ZC YS) (d : Nat) (x0 : Option Nat) (x1 : Option Nat) (x2 : Int) (x3 : Int) (x4 : Int) (y0 : Int) (y1 : Option Nat) (y2 : Option Nat) (h : YS) : ZR YS :=
  zV (ycv R d [(53, 438), (56, 449), (42, 397), (52, 433), (45, 405), (57, 452), (40, 391), (54, 442), (49, 420), (48, 417), (39, 387), (47, 413), (50, 424), (46, 409), (55, 446), (51, 429), (41, 394)] y2 [.inr (.inr y1), .inl y0] h) fun h1 =>
  zG (inI (x3 - 1)) <|
  if x4 < (x3 - 1) then
    zI (ycv R d [(70, 484)] x1 [.inl 14, .inl 0, .inl 0] h1) fun v3 h2 =>
    zG (inI (x4 + 1)) <|
    zlet (x4 + 1) fun x4_4 =>
    R d 713 [.inr (.inr x0), .inr (.inr x1), .inl x2, .inl x3, .inl x4_4] h2
  else
  zG (inI (x4 + 1)) <|
  zlet (x4 + 1) fun x4_5 =>
  R d 713 [.inr (.inr x0), .inr (.inr x1), .inl x2, .inl x3, .inl x4_5] h1
def yb_RowExp_judge_p66 (C : YC) (R : ZC YS) (d : Nat) (x0 : Option Nat) (x1 : Option Nat) (x2 : Int) (x3 : Option Nat) (x4 : Int) (h : YS) : ZR YS :=
  ygR 14103 x0 h fun v1 =>
  zQ (ycv R d [(5, 528)] v1 [.inl x4] h) fun v3 h2 =>
  ycc 66 4 v3 h2 <|
  zI (ycv R d [(53, 435), (56, 448), (42, 396), (52, 431), (45, 403), (57, 451), (40, 390), (54, 440), (49, 419), (48, 415), (39, 386), (47, 411), (50, 422), (46, 408), (55, 444), (51, 426), (41, 393)] v3 [.inr (.inr x1)] h2) fun v5 h4 =>
  yst 0 x3 x4 v5 h4 fun h6 =>
  zG (inI (x4 + 1)) <|
  zlet (x4 + 1) fun x4_7 =>
  R d 714 [.inr (.inr x0), .inr (.inr x1), .inl x2, .inr (.inr x3), .inl x4_7] h6
def yb_RowExp_judge_p46 (C : YC) (R : ZC YS) (d : Nat) (x0 : Option Nat) (x1 : Option Nat) (x2 : Int) (x3 : Option Nat) (x4 : Int) (y0 : Int) (y1 : Option Nat) (h : YS) : ZR YS :=
  ygR 14102 x0 h fun v1 =>
  zQ (ycv R d [(5, 528)] v1 [.inl x4] h) fun v3 h2 =>
  ycc 66 35 v3 h2 <|
  zI (ycv R d [(26, 885)] v3 [] h2) fun v5 h4 =>
  zV (ycv R d [(9, 190)] y1 [.inl y0, .inl 6, .inl v5] h4) fun h6 =>
  R d 864 [.inr (.inr x0), .inr (.inr x1), .inl x2, .inr (.inr x3), .inl x4] h6
def yb_ListExp_make_p45 (C : YC) (R : ZC YS) (d : Nat) (x0 : Option Nat) (x1 : Option Nat) (x3 : Int) (h : YS) : ZR YS :=
  ygR 14401 x0 h fun v1 =>
  zI (ycv R d [(5, 506)] v1 [] h) fun v3 h2 =>
  if x3 < v3 then
    zI (ycv R d [(70, 484)] x1 [.inl 16, .inl 0, .inl 0] h2) fun v5 h4 =>
    zG (inI (x3 + 1)) <|
    zlet (x3 + 1) fun x3_6 =>
    R d 866 [.inr (.inr x0), .inr (.inr x1), .inl x3_6] h4
  else
  zrV h2
def yb_Apply_make_p61 (C : YC) (R : ZC YS) (d : Nat) (x0 : Option Nat) (x1 : Option Nat) (x2 : Int) (x3 : Int) (x4 : Int) (y0 : Option Nat) (h : YS) : ZR YS :=
  zI (ycv R d [(70, 484)] y0 [.inl 20, .inl 0, .inl 0] h) fun v2 h1 =>
  zG (inI (x4 + 1)) <|
  zlet (x4 + 1) fun x4_3 =>
  R d 724 [.inr (.inr x0), .inr (.inr x1), .inl x2, .inl x3, .inl x4_3] h1
def yb_FunDec_judge_p77 (C : YC) (R : ZC YS) (d : Nat) (x0 : Option Nat) (x1 : Option Nat) (x2 : Option Nat) (x3 : Int) (h : YS) : ZR YS :=
  zI (ycv R d [(5, 506)] x2 [] h) fun v2 h1 =>
  if x3 < v2 then
    ygR 2702 x1 h1 fun v3 =>
    zQ (ycv R d [(5, 528)] x2 [.inl x3] h1) fun v5 h4 =>
    ycc 77 60 v5 h4 <|
    zI (ycv R d [(5, 505)] v3 [.inr (.inr v5)] h4) fun v7 h6 =>
    zG (inI (x3 + 1)) <|
    zlet (x3 + 1) fun x3_8 =>
    R d 868 [.inr (.inr x0), .inr (.inr x1), .inr (.inr x2), .inl x3_8] h6
  else
  zlet (0 : Int) fun x3_9 =>
  R d 946 [.inr (.inr x0), .inr (.inr x1), .inr (.inr x2), .inl x3_9] h1
def yb_FunDec_make_p61 (C : YC) (R : ZC YS) (d : Nat) (x0 : Option Nat) (x1 : Option Nat) (x2 : Int) (x3 : Option Nat) (x4 : Option Nat) (x5 : Int) (h : YS) : ZR YS :=
  if x5 < x2 then
    ygR 17404 x0 h fun v1 =>
    zQ (ycv R d [(5, 528)] v1 [.inl x5] h) fun v3 h2 =>
    ycc 77 28 v3 h2 <|
    zQ (ycv R d [(59, 459)] v3 [.inr (.inr x1)] h2) fun v5 h4 =>
    ysR x4 x5 v5 h4 fun h6 =>
    zG (inI (x5 + 1)) <|
    zlet (x5 + 1) fun x5_7 =>
    R d 869 [.inr (.inr x0), .inr (.inr x1), .inl x2, .inr (.inr x3), .inr (.inr x4), .inl x5_7] h6
  else
  zV (ycv R d [(70, 494)] x1 [.inr (.inr x3), .inr (.inr x4)] h) fun h8 =>
  zrV h8
def yb_Fun_judge_p126 (C : YC) (R : ZC YS) (d : Nat) (x0 : Option Nat) (x1 : Option Nat) (x2 : Int) (x3 : Option Nat) (x4 : Int) (x5 : Option Nat) (x6 : Int) (x7 : Int) (x8 : Option Nat) (y0 : Int) (y1 : Option Nat) (h : YS) : ZR YS :=
  ygI 18001 x8 h fun v1 =>
  zV (ycv R d [(9, 190)] y1 [.inl y0, .inl 7, .inl v1] h) fun h2 =>
  ynew 5 3 h2 fun r3 h4 =>
  zV (ycs R d 503 r3 [] h4) fun h5 =>
  zlet r3 fun x9_6 =>
  zlet (0 : Int) fun x10_7 =>
  R d 947 [.inr (.inr x0), .inr (.inr x1), .inl x2, .inr (.inr x3), .inl x4, .inr (.inr x5), .inl x6, .inl x7, .inr (.inr x8), .inr (.inr x9_6), .inl x10_7] h5
def yb_Fun_judge_p402 (C : YC) (R : ZC YS) (d : Nat) (x0 : Option Nat) (x1 : Option Nat) (x3 : Option Nat) (x7 : Int) (x8 : Int) (h : YS) : ZR YS :=
  if x8 < 0 then
    ygR 17702 x0 h fun v1 =>
    ygI 5403 v1 h fun v2 =>
    ygR 17702 x0 h fun v3 =>
    ygI 5402 v3 h fun v4 =>
    zV (ycv R d [(9, 199)] x1 [.inl v2, .inl x7, .inl v4] h) fun h5 =>
    zrV h5
  else
  ygR 2700 x1 h fun v6 =>
  yaI 0 x3 x8 h fun v7 =>
  zI (ycv R d [(4, 70)] v6 [.inl v7, .inl x7] h) fun v9 h8 =>
  zlet v9 fun x7_10 =>
  zG (inI (x8 + (-1))) <|
  zlet (x8 + (-1)) fun x8_11 =>
  R d 871 [.inr (.inr x0), .inr (.inr x1), .inr (.inr x3), .inl x7_10, .inl x8_11] h8
def yb_Fun_routine_p61 (C : YC) (R : ZC YS) (d : Nat) (x0 : Option Nat) (x2 : Int) (x3 : Option Nat) (x4 : Option Nat) (x5 : Int) (x6 : Option Nat) (x7 : Int) (h : YS) : ZR YS :=
  if x7 < x2 then
    ygR 17701 x0 h fun v1 =>
    zQ (ycv R d [(5, 528)] v1 [.inl x5] h) fun v3 h2 =>
    ycc 78 26 v3 h2 <|
    ygR 18002 v3 h2 fun v4 =>
    zQ (ycv R d [(5, 528)] v4 [.inl x7] h2) fun v6 h5 =>
    ycc 78 76 v6 h5 <|
    zV (ycv R d [(36, 372), (32, 352), (38, 382), (37, 377), (35, 367), (33, 357), (25, 337), (34, 362)] v6 [.inr (.inr x3), .inl x7, .inr (.inr x6)] h5) fun h7 =>
    zG (inI (x7 + 1)) <|
    zlet (x7 + 1) fun x7_8 =>
    R d 872 [.inr (.inr x0), .inl x2, .inr (.inr x3), .inr (.inr x4), .inl x5, .inr (.inr x6), .inl x7_8] h7
  else
  ygR 17701 x0 h fun v9 =>
  zQ (ycv R d [(5, 528)] v9 [.inl x5] h) fun v11 h10 =>
  ycc 78 26 v11 h10 <|
  ygR 18004 v11 h10 fun v12 =>
  zV (ycv R d [(53, 438), (56, 449), (42, 397), (52, 433), (45, 405), (57, 452), (40, 391), (54, 442), (49, 420), (48, 417), (39, 387), (47, 413), (50, 424), (46, 409), (55, 446), (51, 429), (41, 394)] v12 [.inr (.inr x3), .inl 1] h10) fun h13 =>
  zI (ycv R d [(70, 484)] x3 [.inl 24, .inl 0, .inl 0] h13) fun v15 h14 =>
  zQ (zc R d 747 [.inl v15] h14) fun v17 h16 =>
  zI (ycv R d [(5, 505)] x4 [.inr (.inr v17)] h16) fun v19 h18 =>
  zV (ycv R d [(70, 500)] x3 [.inr (.inr x6)] h18) fun h20 =>
  zG (inI (x5 + 1)) <|
  zlet (x5 + 1) fun x5_21 =>
  R d 729 [.inr (.inr x0), .inl x2, .inr (.inr x3), .inr (.inr x4), .inl x5_21] h20
def yb_DataDec_judge_p28 (C : YC) (R : ZC YS) (d : Nat) (x0 : Option Nat) (x1 : Option Nat) (x2 : Int) (x3 : Option Nat) (x4 : Int) (h : YS) : ZR YS :=
  if x4 < x2 then
    ygR 18600 x0 h fun v1 =>
    zQ (ycv R d [(5, 528)] v1 [.inl x4] h) fun v3 h2 =>
    ycc 81 26 v3 h2 <|
    ygR 18901 v3 h2 fun v4 =>
    ygR 18901 x3 h2 fun v5 =>
    zI (ycv R d [(21, 576)] v4 [.inr (.inr v5)] h2) fun v7 h6 =>
    if v7 = 0 then
      ygI 18902 x3 h6 fun v8 =>
      zV (ycv R d [(9, 190)] x1 [.inl 1, .inl 6, .inl v8] h6) fun h9 =>
      zG (inI (x4 + 1)) <|
      zlet (x4 + 1) fun x4_10 =>
      R d 873 [.inr (.inr x0), .inr (.inr x1), .inl x2, .inr (.inr x3), .inl x4_10] h9
    else
    ygI 18902 x3 h6 fun v11 =>
    zV (ycv R d [(9, 190)] x1 [.inl 0, .inl 6, .inl v11] h6) fun h12 =>
    zG (inI (x4 + 1)) <|
    zlet (x4 + 1) fun x4_13 =>
    R d 873 [.inr (.inr x0), .inr (.inr x1), .inl x2, .inr (.inr x3), .inl x4_13] h12
  else
  ygI 18902 x3 h fun v14 =>
  zV (ycv R d [(9, 191)] x1 [.inl v14] h) fun h15 =>
  ynew 15 6 h15 fun r16 h17 =>
  ygR 18901 x3 h17 fun v18 =>
  ygR 2700 x1 h17 fun v19 =>
  ygR 1200 v19 h17 fun v20 =>
  zI (ycv R d [(5, 506)] v20 [] h17) fun v22 h21 =>
  ygR 18900 x3 h21 fun v23 =>
  zI (ycv R d [(5, 506)] v23 [] h21) fun v25 h24 =>
  zV (ycs R d 307 r16 [.inr (.inr v18), .inl v22, .inl v25] h24) fun h26 =>
  ypR 18904 x3 r16 h26 fun h27 =>
  ygR 2700 x1 h27 fun v28 =>
  ygR 1200 v28 h27 fun v29 =>
  ygR 18904 x3 h27 fun v30 =>
  zI (ycv R d [(5, 505)] v29 [.inr (.inr v30)] h27) fun v32 h31 =>
  ygR 2703 x1 h31 fun v33 =>
  ynew 16 4 h31 fun r34 h35 =>
  ygR 18901 x3 h35 fun v36 =>
  ygR 18900 x3 h35 fun v37 =>
  zI (ycv R d [(5, 506)] v37 [] h35) fun v39 h38 =>
  ygR 18904 x3 h38 fun v40 =>
  zV (ycs R d 308 r34 [.inr (.inr v36), .inl v39, .inr (.inr v40), .inr (.inr none)] h38) fun h41 =>
  zI (ycv R d [(5, 505)] v33 [.inr (.inr r34)] h41) fun v43 h42 =>
  zG (inI (x2 + 1)) <|
  zlet (x2 + 1) fun x2_44 =>
  R d 731 [.inr (.inr x0), .inr (.inr x1), .inl x2_44] h42
def yb_DataDec_judge_p182 (C : YC) (R : ZC YS) (d : Nat) (x0 : Option Nat) (x1 : Option Nat) (x2 : Option Nat) (x3 : Int) (h : YS) : ZR YS :=
  ygR 18600 x0 h fun v1 =>
  zI (ycv R d [(5, 506)] v1 [] h) fun v3 h2 =>
  if x3 < v3 then
    ygR 18600 x0 h2 fun v4 =>
    zQ (ycv R d [(5, 528)] v4 [.inl x3] h2) fun v6 h5 =>
    ycc 81 26 v6 h5 <|
    zV (ycv R d [(62, 466)] x0 [.inr (.inr x1), .inr (.inr v6), .inr (.inr x2)] h5) fun h7 =>
    zG (inI (x3 + 1)) <|
    zlet (x3 + 1) fun x3_8 =>
    R d 874 [.inr (.inr x0), .inr (.inr x1), .inr (.inr x2), .inl x3_8] h7
  else
  ygR 2700 x1 h2 fun v9 =>
  zV (ycv R d [(62, 467)] x0 [.inr (.inr v9)] h2) fun h10 =>
  zlet (0 : Int) fun x3_11 =>
  R d 948 [.inr (.inr x0), .inr (.inr x1), .inr (.inr x2), .inl x3_11] h10
def yb_DataDec_judge_2_p81 (C : YC) (R : ZC YS) (d : Nat) (x1 : Option Nat) (x2 : Option Nat) (x3 : Option Nat) (x4 : Option Nat) (x5 : Int) (x6 : Int) (h : YS) : ZR YS :=
  ygR 18903 x2 h fun v1 =>
  zI (ycv R d [(5, 506)] v1 [] h) fun v3 h2 =>
  if x6 < v3 then
    ygR 18903 x2 h2 fun v4 =>
    zQ (ycv R d [(5, 528)] v4 [.inl x6] h2) fun v6 h5 =>
    ycc 81 134 v6 h5 <|
    zlet v6 fun x7_7 =>
    ygR 19200 x7_7 h5 fun v8 =>
    ygI 19201 x7_7 h5 fun v9 =>
    zV (ycv R d [(9, 192)] x1 [.inr (.inr v8), .inl v9] h5) fun h10 =>
    zlet (0 : Int) fun x8_11 =>
    R d 949 [.inr (.inr x1), .inr (.inr x2), .inr (.inr x3), .inr (.inr x4), .inl x5, .inl x6, .inr (.inr x7_7), .inl x8_11] h10
  else
  zrV h2
def yb_DataDec_admit_p10 (C : YC) (R : ZC YS) (d : Nat) (x0 : Option Nat) (x1 : Option Nat) (x2 : Int) (x3 : Int) (h : YS) : ZR YS :=
  ygR 18600 x0 h fun v1 =>
  zI (ycv R d [(5, 506)] v1 [] h) fun v3 h2 =>
  if x3 < v3 then
    ygR 18600 x0 h2 fun v4 =>
    zQ (ycv R d [(5, 528)] v4 [.inl x3] h2) fun v6 h5 =>
    ycc 81 26 v6 h5 <|
    zlet v6 fun x4_7 =>
    zlet (0 : Int) fun x5_8 =>
    R d 950 [.inr (.inr x0), .inr (.inr x1), .inl x2, .inl x3, .inr (.inr x4_7), .inl x5_8] h5
  else
  R d 733 [.inr (.inr x0), .inr (.inr x1), .inl x2] h2
def yb_DataDec_admits_p100 (C : YC) (R : ZC YS) (d : Nat) (x0 : Option Nat) (x1 : Option Nat) (x2 : Int) (x3 : Int) (x4 : Int) (x5 : Int) (x6 : Int) (h : YS) : ZR YS :=
  if x4 = 3 then
    if x6 = 6 then
      zlet x5 fun x3_1 =>
      R d 734 [.inr (.inr x0), .inr (.inr x1), .inl x2, .inl x3_1] h
    else
    R d 734 [.inr (.inr x0), .inr (.inr x1), .inl x2, .inl x3] h
  else
  R d 734 [.inr (.inr x0), .inr (.inr x1), .inl x2, .inl x3] h
def yb_ExceptionDec_judge_p157 (C : YC) (R : ZC YS) (d : Nat) (x0 : Option Nat) (x1 : Option Nat) (y0 : Int) (y1 : Option Nat) (h : YS) : ZR YS :=
  ypI 5407 1 y1 y0 h fun h1 =>
  ygR 2700 x1 h1 fun v2 =>
  zI (ycv R d [(4, 68)] v2 [.inl 4] h1) fun v4 h3 =>
  zlet v4 fun x3_5 =>
  ygR 19502 x0 h3 fun v6 =>
  ynull v6 (
    R d 951 [.inr (.inr x0), .inr (.inr x1), .inl x3_5] h3
  ) <|
  ynew 5 3 h3 fun r7 h8 =>
  zV (ycs R d 503 r7 [] h8) fun h9 =>
  ypR 2705 x1 r7 h9 fun h10 =>
  ygR 19502 x0 h10 fun v11 =>
  zI (ycv R d [(31, 347), (30, 345), (29, 343), (28, 341)] v11 [.inr (.inr x1)] h10) fun v13 h12 =>
  zlet v13 fun x4_14 =>
  ypR 2705 x1 none h12 fun h15 =>
  ygR 2700 x1 h15 fun v16 =>
  zI (ycv R d [(4, 75)] v16 [.inl x4_14, .inl 40] h15) fun v18 h17 =>
  if v18 ≤ 40 then
    R d 952 [.inr (.inr x0), .inr (.inr x1), .inl x3_5, .inl x4_14, .inl 1, .inr (.inr x1)] h17
  else
  R d 952 [.inr (.inr x0), .inr (.inr x1), .inl x3_5, .inl x4_14, .inl 0, .inr (.inr x1)] h17
def yb_ExceptionDec_judge_p280 (C : YC) (R : ZC YS) (d : Nat) (x0 : Option Nat) (x1 : Option Nat) (h : YS) : ZR YS :=
  ygR 2702 x1 h fun v1 =>
  ygR 19505 x0 h fun v2 =>
  zI (ycv R d [(5, 505)] v1 [.inr (.inr v2)] h) fun v4 h3 =>
  ygI 2707 x1 h3 fun v5 =>
  if v5 = 0 then
    zrV h3
  else
  ygI 2708 x1 h3 fun v6 =>
  if v6 = 0 then
    ygR 2710 x1 h3 fun v7 =>
    ynew 68 5 h3 fun r8 h9 =>
    ygR 19505 x0 h9 fun v10 =>
    ygR 19500 x0 h9 fun v11 =>
    ygR 19505 x0 h9 fun v12 =>
    ygR 5405 v12 h9 fun v13 =>
    zV (ycs R d 479 r8 [.inr (.inr v10), .inr (.inr none), .inr (.inr v11), .inr (.inr none), .inr (.inr v13)] h9) fun h14 =>
    zI (ycv R d [(5, 505)] v7 [.inr (.inr r8)] h14) fun v16 h15 =>
    zrV h15
  else
  zrV h3
def yb_LocalDec_judge_p90 (C : YC) (R : ZC YS) (d : Nat) (x0 : Option Nat) (x1 : Option Nat) (x3 : Int) (x4 : Int) (x5 : Int) (x6 : Int) (x7 : Int) (h : YS) : ZR YS :=
  ygR 19801 x0 h fun v1 =>
  zI (ycv R d [(5, 506)] v1 [] h) fun v3 h2 =>
  if x7 < v3 then
    ygR 19801 x0 h2 fun v4 =>
    zQ (ycv R d [(5, 528)] v4 [.inl x7] h2) fun v6 h5 =>
    ycc 85 2 v6 h5 <|
    zV (ycv R d [(62, 465), (65, 473), (58, 454), (66, 476), (61, 462), (24, 325)] v6 [.inr (.inr x1)] h5) fun h7 =>
    zG (inI (x7 + 1)) <|
    zlet (x7 + 1) fun x7_8 =>
    R d 880 [.inr (.inr x0), .inr (.inr x1), .inl x3, .inl x4, .inl x5, .inl x6, .inl x7_8] h7
  else
  zV (ycv R d [(9, 201)] x1 [.inl x3, .inl x5, .inl x4, .inl x6] h2) fun h9 =>
  zrV h9
def yb_LocalDec_make_p36 (C : YC) (R : ZC YS) (d : Nat) (x0 : Option Nat) (x1 : Option Nat) (x2 : Int) (h : YS) : ZR YS :=
  ygR 19801 x0 h fun v1 =>
  zI (ycv R d [(5, 506)] v1 [] h) fun v3 h2 =>
  if x2 < v3 then
    ygR 19801 x0 h2 fun v4 =>
    zQ (ycv R d [(5, 528)] v4 [.inl x2] h2) fun v6 h5 =>
    ycc 85 2 v6 h5 <|
    zV (ycv R d [(62, 469), (65, 474), (58, 455), (66, 477), (61, 463), (24, 331)] v6 [.inr (.inr x1)] h5) fun h7 =>
    zG (inI (x2 + 1)) <|
    zlet (x2 + 1) fun x2_8 =>
    R d 881 [.inr (.inr x0), .inr (.inr x1), .inl x2_8] h7
  else
  zrV h2
def yb_Match_add_p57 (C : YC) (R : ZC YS) (d : Nat) (x0 : Option Nat) (h : YS) : ZR YS :=
  ygI 20703 x0 h fun v1 =>
  if v1 ≤ 10000 then
    yrN 1 1 h
  else
  yrN 1 0 h
def yb_Integer_init (C : YC) (R : ZC YS) (d : Nat) (x0 : Option Nat) (x1 : Int) (h : YS) : ZR YS :=
  zV (ycs R d 953 x0 [] h) fun h1 =>
  ypI 7800 0 x0 x1 h1 fun h2 =>
  zrV h2
def yb_Maker_functions_p39 (C : YC) (R : ZC YS) (d : Nat) (x0 : Option Nat) (x1 : Option Nat) (x2 : Option Nat) (x3 : Option Nat) (x4 : Int) (h : YS) : ZR YS :=
  ylen x1 h fun v1 =>
  if x4 < v1 then
    yaI 0 x3 x4 h fun v2 =>
    zI (ycv R d [(70, 484)] x0 [.inl 18, .inl v2, .inl 0] h) fun v4 h3 =>
    yaR x1 x4 h3 fun v5 =>
    ygI 5410 v5 h3 fun v6 =>
    if v6 = 0 then
      R d 954 [.inr (.inr x0), .inr (.inr x1), .inr (.inr x2), .inr (.inr x3), .inl x4, .inl 12, .inr (.inr x0)] h3
    else
    R d 954 [.inr (.inr x0), .inr (.inr x1), .inr (.inr x2), .inr (.inr x3), .inl x4, .inl 13, .inr (.inr x0)] h3
  else
  zlet (0 : Int) fun x4_7 =>
  R d 955 [.inr (.inr x0), .inr (.inr x1), .inr (.inr x2), .inl x4_7] h
def yb_Integer_intValue (C : YC) (R : ZC YS) (d : Nat) (x0 : Option Nat) (h : YS) : ZR YS :=
  ygI 7800 x0 h fun v1 =>
  zrI v1 h
def yb_Routine_init_p55 (C : YC) (R : ZC YS) (d : Nat) (x0 : Option Nat) (x1 : Option Nat) (h : YS) : ZR YS :=
  ygI 21003 x1 h fun v1 =>
  ypI 21301 0 x0 v1 h fun h2 =>
  ygI 21007 x1 h2 fun v3 =>
  ypI 21302 0 x0 v3 h2 fun h4 =>
  ygR 21004 x1 h4 fun v5 =>
  zI (ycv R d [(5, 506)] v5 [] h4) fun v7 h6 =>
  ypI 21303 0 x0 v7 h6 fun h8 =>
  zrV h8
def yb_AbstractCollection_init (C : YC) (R : ZC YS) (d : Nat) (x0 : Option Nat) (h : YS) : ZR YS :=
  ynull x0 none <|
  zrV h
def yb_ArrayList_grow (C : YC) (R : ZC YS) (d : Nat) (x0 : Option Nat) (h : YS) : ZR YS :=
  ygI 1502 x0 h fun v1 =>
  zG (inI (v1 + 1)) <|
  zQ (ycv R d [(5, 956)] x0 [.inl (v1 + 1)] h) fun v3 h2 =>
  zrQ v3 h2
def yb_ArrayList_add_2_p11 (C : YC) (R : ZC YS) (d : Nat) (x0 : Option Nat) (x1 : Option Nat) (x2 : Option Nat) (x3 : Int) (h : YS) : ZR YS :=
  ysR x2 x3 x1 h fun h1 =>
  zG (inI (x3 + 1)) <|
  ypI 1502 0 x0 (x3 + 1) h1 fun h2 =>
  zrV h2
def yb_StringUTF16_indexOf (C : YC) (R : ZC YS) (d : Nat) (x0 : Option Nat) (x1 : Int) (x2 : Int) (x3 : Int) (h : YS) : ZR YS :=
  zI (zc R d 660 [.inl x2, .inl 0] h) fun v2 h1 =>
  zlet v2 fun x2_3 =>
  ylen x0 h1 fun v4 =>
  zI (zc R d 547 [.inl x3, .inl (zshrI v4 1)] h1) fun v6 h5 =>
  zlet v6 fun x3_7 =>
  if x2_3 < x3_7 then
    if x1 < 65536 then
      zI (zc R d 957 [.inr (.inr x0), .inl x1, .inl x2_3, .inl x3_7] h5) fun v9 h8 =>
      zrI v9 h8
    else
    zI (zc R d 958 [.inr (.inr x0), .inl x1, .inl x2_3, .inl x3_7] h5) fun v11 h10 =>
    zrI v11 h10
  else
  zrI (-1) h5
def yb_StringLatin1_indexOf (C : YC) (R : ZC YS) (d : Nat) (x0 : Option Nat) (x1 : Int) (x2 : Int) (x3 : Int) (h : YS) : ZR YS :=
  zI (zc R d 959 [.inl x1] h) fun v2 h1 =>
  if v2 = 0 then
    zrI (-1) h1
  else
  zI (zc R d 660 [.inl x2, .inl 0] h1) fun v4 h3 =>
  zlet v4 fun x2_5 =>
  ylen x0 h3 fun v6 =>
  zI (zc R d 547 [.inl x3, .inl v6] h3) fun v8 h7 =>
  zlet v8 fun x3_9 =>
  if x2_5 < x3_9 then
    zI (zc R d 960 [.inr (.inr x0), .inl x1, .inl x2_5, .inl x3_9] h7) fun v11 h10 =>
    zrI v11 h10
  else
  zrI (-1) h7
def yb_AbstractStringBuilder_ensureCapacityInternal (C : YC) (R : ZC YS) (d : Nat) (x0 : Option Nat) (x1 : Int) (h : YS) : ZR YS :=
  ygR 6900 x0 h fun v1 =>
  ylen v1 h fun v2 =>
  ygI 6901 x0 h fun v3 =>
  zlet (zshrI v2 v3) fun x2_4 =>
  zG (inI (x1 - x2_4)) <|
  if (x1 - x2_4) ≤ 0 then
    zrV h
  else
  ygR 6900 x0 h fun v5 =>
  zI (ycv R d [(23, 961)] x0 [.inl x1] h) fun v7 h6 =>
  ygI 6901 x0 h6 fun v8 =>
  zQ (zc R d 962 [.inr (.inr v5), .inl (zshlI v7 v8)] h6) fun v10 h9 =>
  ypR 6900 x0 v10 h9 fun h11 =>
  zrV h11
def yb_AbstractStringBuilder_isLatin1 (C : YC) (R : ZC YS) (d : Nat) (x0 : Option Nat) (h : YS) : ZR YS :=
  ysvI C 4 fun v1 =>
  if v1 = 0 then
    yrN 1 0 h
  else
  ygI 6901 x0 h fun v2 =>
  if v2 = 0 then
    yrN 1 1 h
  else
  yrN 1 0 h
def yb_AbstractStringBuilder_append_p56 (C : YC) (R : ZC YS) (d : Nat) (x0 : Option Nat) (x1 : Int) (h : YS) : ZR YS :=
  ygR 6900 x0 h fun v1 =>
  ygI 6903 x0 h fun v2 =>
  zG (inI (v2 + 1)) <|
  ypI 6903 0 x0 (v2 + 1) h fun h3 =>
  zV (zc R d 963 [.inr (.inr v1), .inl v2, .inl x1] h3) fun h4 =>
  zrQ x0 h4
def yb_AbstractStringBuilder_inflate (C : YC) (R : ZC YS) (d : Nat) (x0 : Option Nat) (h : YS) : ZR YS :=
  zI (ycv R d [(23, 893)] x0 [] h) fun v2 h1 =>
  if v2 = 0 then
    zrV h1
  else
  ygR 6900 x0 h1 fun v3 =>
  ylen v3 h1 fun v4 =>
  zQ (zc R d 927 [.inl v4] h1) fun v6 h5 =>
  zlet v6 fun x1_7 =>
  ygR 6900 x0 h5 fun v8 =>
  ygI 6903 x0 h5 fun v9 =>
  zV (zc R d 964 [.inr (.inr v8), .inl 0, .inr (.inr x1_7), .inl 0, .inl v9] h5) fun h10 =>
  ypR 6900 x0 x1_7 h10 fun h11 =>
  ypI 6901 2 x0 1 h11 fun h12 =>
  zrV h12
def yb_StringLatin1_canEncode (C : YC) (R : ZC YS) (d : Nat) (x0 : Int) (h : YS) : ZR YS :=
  if x0 ≤ 255 then
    yrN 1 1 h
  else
  yrN 1 0 h
def yb_MlHouse_judge_p71 (C : YC) (R : ZC YS) (d : Nat) (x0 : Option Nat) (x1 : Option Nat) (x4 : Int) (x5 : Int) (h : YS) : ZR YS :=
  ygR 2710 x1 h fun v1 =>
  zI (ycv R d [(5, 506)] v1 [] h) fun v3 h2 =>
  if x5 < v3 then
    ygR 2710 x1 h2 fun v4 =>
    zQ (ycv R d [(5, 528)] v4 [.inl x5] h2) fun v6 h5 =>
    ycc 0 533 v6 h5 <|
    ygR 20400 v6 h5 fun v7 =>
    zlet v7 fun x6_8 =>
    ynull x6_8 (
      zG (inI (x5 + 1)) <|
      zlet (x5 + 1) fun x5_9 =>
      R d 897 [.inr (.inr x0), .inr (.inr x1), .inl x4, .inl x5_9] h5
    ) <|
    ygI 5401 x6_8 h5 fun v10 =>
    if v10 = 0 then
      if x4 = 1 then
        ygR 1 x0 h5 fun v11 =>
        ygI 5403 x6_8 h5 fun v12 =>
        zI (ycv R d [(4, 75)] v11 [.inl v12, .inl 40] h5) fun v14 h13 =>
        if v14 ≤ 40 then
          R d 965 [.inr (.inr x0), .inr (.inr x1), .inl x4, .inl x5, .inr (.inr x6_8), .inl 1, .inr (.inr x1)] h13
        else
        R d 965 [.inr (.inr x0), .inr (.inr x1), .inl x4, .inl x5, .inr (.inr x6_8), .inl 0, .inr (.inr x1)] h13
      else
      ygR 1 x0 h5 fun v15 =>
      ygI 5403 x6_8 h5 fun v16 =>
      zI (ycv R d [(4, 99)] v15 [.inl v16] h5) fun v18 h17 =>
      if v18 = 0 then
        ygI 5402 x6_8 h17 fun v19 =>
        zV (ycv R d [(9, 190)] x1 [.inl 1, .inl 13, .inl v19] h17) fun h20 =>
        zG (inI (x5 + 1)) <|
        zlet (x5 + 1) fun x5_21 =>
        R d 897 [.inr (.inr x0), .inr (.inr x1), .inl x4, .inl x5_21] h20
      else
      ygI 5402 x6_8 h17 fun v22 =>
      zV (ycv R d [(9, 190)] x1 [.inl 0, .inl 13, .inl v22] h17) fun h23 =>
      zG (inI (x5 + 1)) <|
      zlet (x5 + 1) fun x5_24 =>
      R d 897 [.inr (.inr x0), .inr (.inr x1), .inl x4, .inl x5_24] h23
    else
    zG (inI (x5 + 1)) <|
    zlet (x5 + 1) fun x5_25 =>
    R d 897 [.inr (.inr x0), .inr (.inr x1), .inl x4, .inl x5_25] h5
  else
  zG (inI (x4 + (-1))) <|
  zlet (x4 + (-1)) fun x4_26 =>
  R d 760 [.inr (.inr x0), .inr (.inr x1), .inl x4_26] h2
def yb_MlHouse_declared_p62 (C : YC) (R : ZC YS) (d : Nat) (x0 : Option Nat) (x1 : Option Nat) (x2 : Option Nat) (x3 : Int) (x4 : Int) (y0 : Int) (y1 : Option Nat) (h : YS) : ZR YS :=
  zQ (ycv R d [(5, 528)] x1 [.inl x3] h) fun v2 h1 =>
  ycc 0 65 v2 h1 <|
  ygI 8101 v2 h1 fun v3 =>
  zV (ycv R d [(9, 190)] y1 [.inl y0, .inl 6, .inl v3] h1) fun h4 =>
  zG (inI (x4 + 1)) <|
  zlet (x4 + 1) fun x4_5 =>
  R d 761 [.inr (.inr x0), .inr (.inr x1), .inr (.inr x2), .inl x3, .inl x4_5] h4
def yb_MlHouse_declared_p124 (C : YC) (R : ZC YS) (d : Nat) (x0 : Option Nat) (x1 : Option Nat) (x2 : Option Nat) (x3 : Int) (x4 : Int) (h : YS) : ZR YS :=
  ynew 67 3 h fun r1 h2 =>
  zQ (ycv R d [(5, 528)] x1 [.inl x3] h2) fun v4 h3 =>
  ycc 0 65 v4 h3 <|
  ygR 8100 v4 h3 fun v5 =>
  zQ (ycv R d [(5, 528)] x1 [.inl x3] h3) fun v7 h6 =>
  ycc 0 65 v7 h6 <|
  ygI 8101 v7 h6 fun v8 =>
  zV (ycs R d 478 r1 [.inr (.inr v5), .inl x4, .inl v8] h6) fun h9 =>
  zI (ycv R d [(5, 505)] x2 [.inr (.inr r1)] h9) fun v11 h10 =>
  zG (inI (x3 + 1)) <|
  zlet (x3 + 1) fun x3_12 =>
  R d 515 [.inr (.inr x0), .inr (.inr x1), .inr (.inr x2), .inl x3_12] h10
def yb_MlHouse_keepAll_p156 (C : YC) (R : ZC YS) (d : Nat) (x0 : Option Nat) (x2 : Int) (h : YS) : ZR YS :=
  ygR 2 x0 h fun v1 =>
  ygR 1802 v1 h fun v2 =>
  zI (ycv R d [(5, 506)] v2 [] h) fun v4 h3 =>
  if x2 < v4 then
    ygR 7 x0 h3 fun v5 =>
    ygR 2 x0 h3 fun v6 =>
    ygR 1802 v6 h3 fun v7 =>
    zQ (ycv R d [(5, 528)] v7 [.inl x2] h3) fun v9 h8 =>
    ycc 0 320 v9 h8 <|
    zV (ycv R d [(14, 305)] v5 [.inr (.inr v9)] h8) fun h10 =>
    zG (inI (x2 + 1)) <|
    zlet (x2 + 1) fun x2_11 =>
    R d 900 [.inr (.inr x0), .inl x2_11] h10
  else
  zrV h3
def yb_Preconditions_checkIndex (C : YC) (R : ZC YS) (d : Nat) (x0 : Int) (x1 : Int) (x2 : Option Nat) (h : YS) : ZR YS :=
  if x0 < 0 then
    none
  else
  if x0 < x1 then
    zrI x0 h
  else
  none
def yb_MlHouse_phrase_p203 (C : YC) (R : ZC YS) (d : Nat) (x0 : Option Nat) (h : YS) : ZR YS :=
  ygR 2 x0 h fun v1 =>
  ygR 1801 v1 h fun v2 =>
  ypI 2403 0 v2 0 h fun h3 =>
  ygI 25 x0 h3 fun v4 =>
  zrI v4 h3
def yb_Types_encode_p138 (C : YC) (R : ZC YS) (d : Nat) (x0 : Option Nat) (x2 : Int) (x4 : Int) (h : YS) : ZR YS :=
  zI (ycv R d [(4, 62)] x0 [.inl x2, .inl x4] h) fun v2 h1 =>
  zV (ycv R d [(4, 55)] x0 [.inl v2] h1) fun h3 =>
  zG (inI (x4 + 1)) <|
  zlet (x4 + 1) fun x4_4 =>
  R d 773 [.inr (.inr x0), .inl x2, .inl x4_4] h3
def yb_StringUTF16_checkIndex (C : YC) (R : ZC YS) (d : Nat) (x0 : Int) (x1 : Option Nat) (h : YS) : ZR YS :=
  zI (zc R d 966 [.inr (.inr x1)] h) fun v2 h1 =>
  zV (zc R d 906 [.inl x0, .inl v2] h1) fun h3 =>
  zrV h3
def yb_StringUTF16_getChar (C : YC) (R : ZC YS) (d : Nat) (x0 : Option Nat) (x1 : Int) (h : YS) : ZR YS :=
  ysvI C 6 fun v1 =>
  if v1 = 0 then
    if x1 < 0 then
      none
    else
    zI (zc R d 966 [.inr (.inr x0)] h) fun v3 h2 =>
    if x1 < v3 then
      R d 967 [.inr (.inr x0), .inl x1] h2
    else
    none
  else
  R d 967 [.inr (.inr x0), .inl x1] h
def yb_String_checkIndex (C : YC) (R : ZC YS) (d : Nat) (x0 : Int) (x1 : Int) (h : YS) : ZR YS :=
  ysvR C 5 fun v1 =>
  zI (zc R d 901 [.inl x0, .inl x1, .inr (.inr v1)] h) fun v3 h2 =>
  zrV h2
def yb_Types_build_2_p179 (C : YC) (R : ZC YS) (d : Nat) (x0 : Option Nat) (x1 : Option Nat) (x3 : Int) (x4 : Int) (x6 : Int) (x7 : Int) (x8 : Option Nat) (y0 : Int) (y1 : Int) (y2 : Option Nat) (h : YS) : ZR YS :=
  zG (inI (y1 + y0)) <|
  ypI 1227 0 y2 (y1 + y0) h fun h1 =>
  zI (ycv R d [(4, 74)] x0 [.inr (.inr x1)] h1) fun v3 h2 =>
  zV (ycv R d [(4, 66)] x0 [.inl x6, .inl x7, .inr (.inr x8), .inl v3] h2) fun h4 =>
  zG (inI (x7 + 1)) <|
  zlet (x7 + 1) fun x7_5 =>
  R d 542 [.inr (.inr x0), .inr (.inr x1), .inl x3, .inl x4, .inl x6, .inl x7_5] h4
def yb_Types_opens_p220 (C : YC) (R : ZC YS) (d : Nat) (x0 : Option Nat) (x1 : Int) (x2 : Int) (x3 : Int) (x4 : Int) (x5 : Int) (x6 : Int) (x7 : Int) (y0 : Int) (h : YS) : ZR YS :=
  zlet y0 fun x8_1 =>
  if x8_1 ≤ 0 then
    zQ (ycv R d [(4, 61)] x0 [.inl x1, .inl x5] h) fun v3 h2 =>
    R d 968 [.inr (.inr x0), .inl x1, .inl x2, .inl x3, .inl x4, .inl x5, .inl x6, .inl x7, .inl x8_1, .inr (.inr v3), .inl x7, .inl x4, .inr (.inr x0)] h2
  else
  zQ (ycv R d [(4, 61)] x0 [.inl x2, .inl x6] h) fun v5 h4 =>
  R d 968 [.inr (.inr x0), .inl x1, .inl x2, .inl x3, .inl x4, .inl x5, .inl x6, .inl x7, .inl x8_1, .inr (.inr v5), .inl x7, .inl x4, .inr (.inr x0)] h4
def yb_Types_lower_p47 (C : YC) (R : ZC YS) (d : Nat) (x0 : Option Nat) (x1 : Int) (x2 : Int) (x3 : Int) (x4 : Int) (h : YS) : ZR YS :=
  zI (ycv R d [(4, 60)] x0 [.inl x3] h) fun v2 h1 =>
  if x4 < v2 then
    zI (ycv R d [(4, 62)] x0 [.inl x3, .inl x4] h1) fun v4 h3 =>
    zlet v4 fun x5_5 =>
    zI (ycv R d [(4, 82)] x0 [.inl x5_5] h3) fun v7 h6 =>
    zI (ycv R d [(4, 82)] x0 [.inl x3] h6) fun v9 h8 =>
    if v7 ≤ v9 then
      zG (inI (x4 + 1)) <|
      zlet (x4 + 1) fun x4_10 =>
      R d 909 [.inr (.inr x0), .inl x1, .inl x2, .inl x3, .inl x4_10] h8
    else
    zI (ycv R d [(4, 82)] x0 [.inl x3] h8) fun v12 h11 =>
    zV (ycv R d [(4, 83)] x0 [.inl x5_5, .inl v12] h11) fun h13 =>
    ygR 1208 x0 h13 fun v14 =>
    yst 1 v14 x2 x5_5 h13 fun h15 =>
    zG (inI (x2 + 1)) <|
    zlet (x2 + 1) fun x2_16 =>
    zG (inI (x4 + 1)) <|
    zlet (x4 + 1) fun x4_17 =>
    R d 909 [.inr (.inr x0), .inl x1, .inl x2_16, .inl x3, .inl x4_17] h15
  else
  R d 783 [.inr (.inr x0), .inl x1, .inl x2] h1
def yb_Types_admits_p137 (C : YC) (R : ZC YS) (d : Nat) (x0 : Option Nat) (x1 : Int) (x2 : Int) (x4 : Int) (y0 : Int) (h : YS) : ZR YS :=
  zlet y0 fun x5_1 =>
  if x5_1 = 0 then
    zlet (0 : Int) fun x6_2 =>
    R d 969 [.inr (.inr x0), .inl x1, .inl x2, .inl x4, .inl x6_2] h
  else
  yrN 1 0 h
def yb_Types_admits_p108 (C : YC) (R : ZC YS) (d : Nat) (x0 : Option Nat) (x1 : Int) (x2 : Int) (x4 : Int) (h : YS) : ZR YS :=
  zI (ycv R d [(4, 57)] x0 [.inl x4] h) fun v2 h1 =>
  if v2 = 5 then
    ygR 1218 x0 h1 fun v3 =>
    zI (ycv R d [(4, 59)] x0 [.inl x4] h1) fun v5 h4 =>
    yaI 2 v3 v5 h4 fun v6 =>
    if v6 = 0 then
      R d 910 [.inr (.inr x0), .inl x1, .inl x2, .inl x4, .inl 1] h4
    else
    R d 910 [.inr (.inr x0), .inl x1, .inl x2, .inl x4, .inl 0] h4
  else
  R d 910 [.inr (.inr x0), .inl x1, .inl x2, .inl x4, .inl 0] h1
def yb_Parser_decs_p67 (C : YC) (R : ZC YS) (d : Nat) (x0 : Option Nat) (x1 : Int) (x2 : Option Nat) (x4 : Int) (h : YS) : ZR YS :=
  ygR 1804 x0 h fun v1 =>
  zI (zc R d 102 [.inr (.inr v1)] h) fun v3 h2 =>
  zlet v3 fun x3_4 =>
  if x4 = 0 then
    R d 563 [.inr (.inr x0), .inl x1, .inr (.inr x2), .inl x3_4] h2
  else
  if x3_4 = 0 then
    zQ (ycv R d [(6, 115)] x0 [] h2) fun v6 h5 =>
    ythrow v6 h5
  else
  R d 563 [.inr (.inr x0), .inl x1, .inr (.inr x2), .inl x3_4] h2
def yb_Parser_pat_p104 (C : YC) (R : ZC YS) (d : Nat) (x0 : Option Nat) (x1 : Int) (x3 : Option Nat) (y0 : Option Nat) (h : YS) : ZR YS :=
  zlet y0 fun x4_1 =>
  ynull x4_1 (
    ygR 1804 x0 h fun v2 =>
    zI (ycv R d [(22, 316)] v2 [.inr (.inr (some (C.1 125)))] h) fun v4 h3 =>
    if v4 = 0 then
      R d 970 [.inr (.inr x0), .inl x1, .inr (.inr x3), .inr (.inr x4_1)] h3
    else
    zrQ x3 h3
  ) <|
  R d 970 [.inr (.inr x0), .inl x1, .inr (.inr x3), .inr (.inr x4_1)] h
def yb_Parser_consPat_p91 (C : YC) (R : ZC YS) (d : Nat) (x0 : Option Nat) (x2 : Option Nat) (x3 : Option Nat) (h : YS) : ZR YS :=
  ygR 1804 x0 h fun v1 =>
  zI (ycv R d [(5, 505)] x3 [.inr (.inr v1)] h) fun v3 h2 =>
  zV (ycv R d [(6, 106)] x0 [] h2) fun h4 =>
  zQ (ycv R d [(6, 112)] x0 [] h4) fun v6 h5 =>
  zI (ycv R d [(5, 505)] x2 [.inr (.inr v6)] h5) fun v8 h7 =>
  R d 567 [.inr (.inr x0), .inr (.inr x2), .inr (.inr x3)] h7
def yb_StringLatin1_equals (C : YC) (R : ZC YS) (d : Nat) (x0 : Option Nat) (x1 : Option Nat) (h : YS) : ZR YS :=
  ylen x0 h fun v1 =>
  ylen x1 h fun v2 =>
  if v1 = v2 then
    zlet (0 : Int) fun x2_3 =>
    R d 971 [.inr (.inr x0), .inr (.inr x1), .inl x2_3] h
  else
  yrN 1 0 h
def yb_ArrayList_fastRemove_p34 (C : YC) (R : ZC YS) (d : Nat) (x0 : Option Nat) (x1 : Option Nat) (x3 : Int) (h : YS) : ZR YS :=
  ypI 1502 0 x0 x3 h fun h1 =>
  ysR x1 x3 none h1 fun h2 =>
  zrV h2
def yb_Parser_infixed_p91 (C : YC) (R : ZC YS) (d : Nat) (x0 : Option Nat) (x2 : Option Nat) (x3 : Option Nat) (h : YS) : ZR YS :=
  ygR 1804 x0 h fun v1 =>
  zI (ycv R d [(5, 505)] x3 [.inr (.inr v1)] h) fun v3 h2 =>
  zV (ycv R d [(6, 106)] x0 [] h2) fun h4 =>
  zQ (ycv R d [(6, 148)] x0 [] h4) fun v6 h5 =>
  zI (ycv R d [(5, 505)] x2 [.inr (.inr v6)] h5) fun v8 h7 =>
  R d 597 [.inr (.inr x0), .inr (.inr x2), .inr (.inr x3)] h7
def yb_Parser_clause_p180 (C : YC) (R : ZC YS) (d : Nat) (x0 : Option Nat) (x1 : Option Nat) (x2 : Option Nat) (x3 : Int) (y0 : Option Nat) (h : YS) : ZR YS :=
  zlet y0 fun x5_1 =>
  zV (ycv R d [(6, 119)] x0 [.inr (.inr (some (C.1 1)))] h) fun h2 =>
  ynew 60 5 h2 fun r3 h4 =>
  zQ (ycv R d [(6, 140)] x0 [] h4) fun v6 h5 =>
  zV (ycs R d 460 r3 [.inr (.inr x2), .inl x3, .inr (.inr x1), .inr (.inr x5_1), .inr (.inr v6)] h5) fun h7 =>
  zrQ r3 h7
def yb_Parser_datatype_p80 (C : YC) (R : ZC YS) (d : Nat) (x0 : Option Nat) (x1 : Option Nat) (x4 : Option Nat) (x6 : Int) (y0 : Option Nat) (h : YS) : ZR YS :=
  zlet y0 fun x7_1 =>
  ygR 18903 x4 h fun v2 =>
  ynew 64 3 h fun r3 h4 =>
  zI (ycv R d [(6, 108)] x0 [.inr (.inr (some (C.1 135)))] h4) fun v6 h5 =>
  if v6 = 0 then
    R d 972 [.inr (.inr x0), .inr (.inr x1), .inr (.inr x4), .inr (.inr none), .inl x6, .inr (.inr x7_1), .inr (.inr r3), .inr (.inr r3), .inr (.inr v2)] h5
  else
  zQ (ycv R d [(6, 162)] x0 [] h5) fun v8 h7 =>
  R d 972 [.inr (.inr x0), .inr (.inr x1), .inr (.inr x4), .inr (.inr v8), .inl x6, .inr (.inr x7_1), .inr (.inr r3), .inr (.inr r3), .inr (.inr v2)] h7
def yb_Lexer_next_p242 (C : YC) (R : ZC YS) (d : Nat) (x0 : Option Nat) (x1 : Int) (h : YS) : ZR YS :=
  if x1 = 46 then
    zQ (ycv R d [(8, 186)] x0 [] h) fun v2 h1 =>
    zrQ v2 h1
  else
  zI (ycv R d [(21, 510)] (some (C.1 100)) [.inl (zchar x1)] h) fun v4 h3 =>
  if v4 < 0 then
    zI (zc R d 16 [.inl x1] h3) fun v6 h5 =>
    if v6 = 0 then
      zQ (ycv R d [(8, 175)] x0 [] h5) fun v8 h7 =>
      ythrow v8 h7
    else
    zQ (ycv R d [(8, 187)] x0 [] h5) fun v10 h9 =>
    zrQ v10 h9
  else
  ygI 2404 x0 h3 fun v11 =>
  zG (inI (v11 + 1)) <|
  ypI 2404 0 x0 (v11 + 1) h3 fun h12 =>
  ynew 22 4 h12 fun r13 h14 =>
  ysvR C 10 fun v15 =>
  ygI 2404 x0 h14 fun v16 =>
  ygR 2400 x0 h14 fun v17 =>
  ygI 2404 x0 h14 fun v18 =>
  zG (inI (v18 - 1)) <|
  zI (ycv R d [(8, 179)] x0 [.inl (v18 - 1)] h14) fun v20 h19 =>
  yaR v17 v20 h19 fun v21 =>
  zG (inI (v16 - 1)) <|
  zV (ycs R d 315 r13 [.inr (.inr v15), .inl (v16 - 1), .inr (.inr v21), .inl 0] h19) fun h22 =>
  zrQ r13 h22
def yb_Lexer_note_p104 (C : YC) (R : ZC YS) (d : Nat) (x0 : Option Nat) (x1 : Int) (x2 : Int) (h : YS) : ZR YS :=
  ygI 2404 x0 h fun v1 =>
  zG (inI (v1 + 1)) <|
  ypI 2404 0 x0 (v1 + 1) h fun h2 =>
  if x2 ≤ 0 then
    zrV h2
  else
  R d 618 [.inr (.inr x0), .inl x1, .inl x2] h2
def yb_Lexer_number_p98 (C : YC) (R : ZC YS) (d : Nat) (x0 : Option Nat) (x1 : Int) (x2 : Int) (x3 : Int) (y0 : Int) (y1 : Int) (h : YS) : ZR YS :=
  if y1 ≤ y0 then
    ynew 22 4 h fun r1 h2 =>
    ysvR C 12 fun v3 =>
    if x2 = 0 then
      R d 973 [.inl x2, .inr (.inl x3), .inr (.inr (some (C.1 97))), .inl x1, .inr (.inr v3), .inr (.inr r1), .inr (.inr r1)] h2
    else
    R d 973 [.inl x2, .inr (.inl x3), .inr (.inr (some (C.1 98))), .inl x1, .inr (.inr v3), .inr (.inr r1), .inr (.inr r1)] h2
  else
  ygR 2402 x0 h fun v4 =>
  zQ (ycv R d [(1, 48)] v4 [.inl 1, .inl x1] h) fun v6 h5 =>
  ythrow v6 h5
def yb_Math_min_2 (C : YC) (R : ZC YS) (d : Nat) (x0 : Int) (x2 : Int) (h : YS) : ZR YS :=
  if x0 ≤ x2 then
    zrL x0 h
  else
  zrL x2 h
def yb_StringBuilder_length (C : YC) (R : ZC YS) (d : Nat) (x0 : Option Nat) (h : YS) : ZR YS :=
  zI (ycu R d 974 x0 [] h) fun v2 h1 =>
  zrI v2 h1
def yb_Lexer_quoted_p167 (C : YC) (R : ZC YS) (d : Nat) (x1 : Int) (x2 : Option Nat) (x3 : Option Nat) (h : YS) : ZR YS :=
  ynew 22 4 h fun r1 h2 =>
  zQ (ycv R d [(23, 642)] x3 [] h2) fun v4 h3 =>
  ysvR C 14 fun v5 =>
  if x2 = v5 then
    zI (ycv R d [(23, 975)] x3 [.inl 0] h3) fun v7 h6 =>
    zV (ycs R d 315 r1 [.inr (.inr x2), .inl x1, .inr (.inr v4), .inl v7] h6) fun h8 =>
    zrQ r1 h8
  else
  zV (ycs R d 315 r1 [.inr (.inr x2), .inl x1, .inr (.inr v4), .inl 0] h3) fun h9 =>
  zrQ r1 h9
def yb_Cover_look_2_p58 (C : YC) (R : ZC YS) (d : Nat) (x0 : Option Nat) (x1 : Int) (x2 : Int) (h : YS) : ZR YS :=
  ygR 3029 x0 h fun v1 =>
  ygR 20702 v1 h fun v2 =>
  zI (ycv R d [(5, 506)] v2 [] h) fun v4 h3 =>
  if x2 < v4 then
    ygR 3030 x0 h3 fun v5 =>
    yst 2 v5 x2 1 h3 fun h6 =>
    zlet (0 : Int) fun x3_7 =>
    R d 636 [.inr (.inr x0), .inl x1, .inl x2, .inl x3_7] h6
  else
  ypI 3031 1 x0 1 h3 fun h8 =>
  zlet (0 : Int) fun x3_9 =>
  R d 636 [.inr (.inr x0), .inl x1, .inl x2, .inl x3_9] h8
def yb_StringUTF16_newBytesFor (C : YC) (R : ZC YS) (d : Nat) (x0 : Int) (h : YS) : ZR YS :=
  zI (zc R d 976 [.inl x0] h) fun v2 h1 =>
  yna 2 v2 h1 fun r3 h4 =>
  zrQ r3 h4
def yb_String_init_2 (C : YC) (R : ZC YS) (d : Nat) (x0 : Option Nat) (x1 : Option Nat) (x2 : Option Nat) (h : YS) : ZR YS :=
  ynull x0 none <|
  zQ (ycv R d [(23, 977)] x1 [] h) fun v3 h2 =>
  zlet v3 fun x3_4 =>
  zI (ycv R d [(23, 924)] x1 [] h2) fun v6 h5 =>
  zlet v6 fun x4_7 =>
  zI (ycv R d [(23, 893)] x1 [] h5) fun v9 h8 =>
  if v9 = 0 then
    ysvI C 4 fun v10 =>
    if v10 = 0 then
      R d 978 [.inr (.inr x0), .inr (.inr x3_4), .inl x4_7] h8
    else
    ygI 6902 x1 h8 fun v11 =>
    if v11 = 0 then
      R d 978 [.inr (.inr x0), .inr (.inr x3_4), .inl x4_7] h8
    else
    zQ (zc R d 979 [.inr (.inr x3_4), .inl 0, .inl x4_7] h8) fun v13 h12 =>
    ypR 6300 x0 v13 h12 fun h14 =>
    ygR 6300 x0 h14 fun v15 =>
    zI (zc R d 980 [.inr (.inr v15), .inl x4_7] h14) fun v17 h16 =>
    ypI 6301 2 x0 v17 h16 fun h18 =>
    zrV h18
  else
  ypI 6301 2 x0 0 h8 fun h19 =>
  zQ (zc R d 981 [.inr (.inr x3_4), .inl 0, .inl x4_7] h19) fun v21 h20 =>
  ypR 6300 x0 v21 h20 fun h22 =>
  zrV h22
def yb_Machine_isEqual_p127 (C : YC) (R : ZC YS) (d : Nat) (x0 : Option Nat) (x5 : Int) (x7 : Int) (x9 : Int) (x10 : Int) (h : YS) : ZR YS :=
  ygR 3323 x0 h fun v1 =>
  ylen v1 h fun v2 =>
  if x9 = v2 then
    zV (ycv R d [(11, 252)] x0 [] h) fun h3 =>
    R d 982 [.inr (.inr x0), .inr (.inl x5), .inr (.inl x7), .inl x9, .inl x10] h3
  else
  R d 982 [.inr (.inr x0), .inr (.inl x5), .inr (.inl x7), .inl x9, .inl x10] h
def yb_Machine_digitsOf_p75 (C : YC) (R : ZC YS) (d : Nat) (x0 : Option Nat) (x1 : Int) (x2 : Int) (x4 : Int) (x5 : Int) (x6 : Int) (x7 : Int) (h : YS) : ZR YS :=
  if x7 < x4 then
    ygR 3302 x0 h fun v1 =>
    zG (inL (48 + (x2 - ((zdivL x2 10) * 10)))) <|
    yst 1 v1 (x6 - x7) (48 + (x2 - ((zdivL x2 10) * 10))) h fun h2 =>
    zlet (zdivL x2 10) fun x2_3 =>
    zG (inI (x7 + 1)) <|
    zlet (x7 + 1) fun x7_4 =>
    R d 930 [.inr (.inr x0), .inl x1, .inr (.inl x2_3), .inl x4, .inl x5, .inl x6, .inl x7_4] h2
  else
  if x1 < 0 then
    ygR 3302 x0 h fun v5 =>
    yst 1 v5 (x5 + 1) 126 h fun h6 =>
    zJ (zc R d 261 [.inl x5] h6) fun v8 h7 =>
    zrL v8 h7
  else
  zJ (zc R d 261 [.inl x5] h) fun v10 h9 =>
  zrL v10 h9
def yb_Machine_apply_p67 (C : YC) (R : ZC YS) (d : Nat) (x0 : Option Nat) (x1 : Int) (x2 : Int) (x4 : Int) (x6 : Int) (y0 : Int) (h : YS) : ZR YS :=
  zlet y0 fun x7_1 =>
  ygR 3302 x0 h fun v2 =>
  yaI 1 v2 x6 h fun v3 =>
  zlet (zl2i (zushrL v3 8)) fun x8_4 =>
  ygR 3300 x0 h fun v5 =>
  ygR 10 v5 h fun v6 =>
  zQ (ycv R d [(5, 528)] v6 [.inl x8_4] h) fun v8 h7 =>
  ycc 15 26 v8 h7 <|
  ygI 21301 v8 h7 fun v9 =>
  zG (inI (x7_1 + 1)) <|
  if (x7_1 + 1) < v9 then
    zG (inI (3 + x7_1)) <|
    zV (ycv R d [(11, 236)] x0 [.inl (3 + x7_1)] h7) fun h10 =>
    zG (inI (2 + x7_1)) <|
    zI (ycv R d [(11, 237)] x0 [.inl 4, .inl (x7_1 + 1), .inl (2 + x7_1)] h10) fun v12 h11 =>
    zlet v12 fun x9_13 =>
    ygR 3302 x0 h11 fun v14 =>
    yst 1 v14 (x9_13 + 1) x6 h11 fun h15 =>
    zlet (0 : Int) fun x10_16 =>
    R d 983 [.inr (.inr x0), .inl x1, .inr (.inl x2), .inl x7_1, .inl x9_13, .inl x10_16] h15
  else
  zlet (0 : Int) fun x9_17 =>
  R d 984 [.inr (.inr x0), .inl x1, .inr (.inl x2), .inl x4, .inl x6, .inl x7_1, .inl x8_4, .inl x9_17] h7
def yb_Teller_row_p74 (C : YC) (R : ZC YS) (d : Nat) (x0 : Option Nat) (x1 : Int) (x3 : Int) (x4 : Int) (x5 : Int) (x6 : Int) (x7 : Int) (h : YS) : ZR YS :=
  if x6 = 0 then
    ygR 3900 x0 h fun v1 =>
    zQ (ycv R d [(4, 61)] v1 [.inl x3, .inl x7] h) fun v3 h2 =>
    zV (ycv R d [(13, 283)] x0 [.inr (.inr v3)] h2) fun h4 =>
    zV (ycv R d [(13, 283)] x0 [.inr (.inr (some (C.1 161)))] h4) fun h5 =>
    R d 985 [.inr (.inr x0), .inr (.inl x1), .inl x3, .inl x4, .inl x5, .inl x6, .inl x7] h5
  else
  R d 985 [.inr (.inr x0), .inr (.inl x1), .inl x3, .inl x4, .inl x5, .inl x6, .inl x7] h
def yb_Teller_row_p142 (C : YC) (R : ZC YS) (d : Nat) (x0 : Option Nat) (x6 : Int) (h : YS) : ZR YS :=
  if x6 = 0 then
    zV (ycv R d [(13, 283)] x0 [.inr (.inr (some (C.1 163)))] h) fun h1 =>
    zrV h1
  else
  zV (ycv R d [(13, 283)] x0 [.inr (.inr (some (C.1 162)))] h) fun h2 =>
  zrV h2
def yb_Teller_variable_p51 (C : YC) (R : ZC YS) (d : Nat) (x0 : Option Nat) (x1 : Int) (x2 : Int) (h : YS) : ZR YS :=
  ygR 3905 x0 h fun v1 =>
  ynull v1 (
    ygR 3900 x0 h fun v2 =>
    zI (ycv R d [(4, 58)] v2 [.inl x1, .inl 8] h) fun v4 h3 =>
    if v4 = 0 then
      R d 986 [.inr (.inr x0), .inl x2, .inr (.inr (some (C.1 179))), .inr (.inr x0)] h3
    else
    R d 986 [.inr (.inr x0), .inl x2, .inr (.inr (some (C.1 178))), .inr (.inr x0)] h3
  ) <|
  ygR 3905 x0 h fun v5 =>
  zQ (ycv R d [(5, 528)] v5 [.inl x2] h) fun v7 h6 =>
  ycc 17 36 v7 h6 <|
  zV (ycv R d [(13, 283)] x0 [.inr (.inr v7)] h6) fun h8 =>
  zrV h8
def yb_Base_like_p99 (C : YC) (R : ZC YS) (d : Nat) (x0 : Option Nat) (x1 : Option Nat) (x2 : Int) (h : YS) : ZR YS :=
  ygR 4202 x1 h fun v1 =>
  zI (ycv R d [(5, 506)] v1 [] h) fun v3 h2 =>
  if x2 < v3 then
    ygR 4202 x0 h2 fun v4 =>
    ygR 4202 x1 h2 fun v5 =>
    zQ (ycv R d [(5, 528)] v5 [.inl x2] h2) fun v7 h6 =>
    ycc 18 30 v7 h6 <|
    zI (ycv R d [(5, 505)] v4 [.inr (.inr v7)] h6) fun v9 h8 =>
    zG (inI (x2 + 1)) <|
    zlet (x2 + 1) fun x2_10 =>
    R d 935 [.inr (.inr x0), .inr (.inr x1), .inl x2_10] h8
  else
  zrV h2
def yb_Values_enter_p182 (C : YC) (R : ZC YS) (d : Nat) (x0 : Option Nat) (x1 : Option Nat) (x2 : Int) (x4 : Int) (y0 : Int) (y1 : Option Nat) (y2 : Option Nat) (y3 : Option Nat) (y4 : Option Nat) (y5 : Option Nat) (h : YS) : ZR YS :=
  zI (ycv R d [(4, 76)] y1 [.inl y0] h) fun v2 h1 =>
  zV (ycs R d 478 y3 [.inr (.inr y2), .inl v2, .inl x4] h1) fun h3 =>
  zI (ycv R d [(5, 505)] y5 [.inr (.inr y4)] h3) fun v5 h4 =>
  zG (inI (x2 + 1)) <|
  zlet (x2 + 1) fun x2_6 =>
  R d 685 [.inr (.inr x0), .inr (.inr x1), .inl x2_6] h4
def yb_Values_leave_p152 (C : YC) (R : ZC YS) (d : Nat) (x0 : Option Nat) (x1 : Option Nat) (x2 : Option Nat) (x3 : Option Nat) (x5 : Int) (x6 : Int) (x7 : Option Nat) (x8 : Int) (x9 : Int) (h : YS) : ZR YS :=
  zI (ycv R d [(5, 506)] x3 [] h) fun v2 h1 =>
  if x9 < v2 then
    if x8 = 0 then
      ygR 2700 x1 h1 fun v3 =>
      zQ (ycv R d [(5, 528)] x3 [.inl x9] h1) fun v5 h4 =>
      ycc 38 90 v5 h4 <|
      ygI 5403 v5 h4 fun v6 =>
      ygI 20101 x7 h4 fun v7 =>
      zI (ycv R d [(4, 95)] v3 [.inl v6, .inl v7] h4) fun v9 h8 =>
      if v9 = 0 then
        zlet (0 : Int) fun x8_10 =>
        zG (inI (x9 + 1)) <|
        zlet (x9 + 1) fun x9_11 =>
        R d 937 [.inr (.inr x0), .inr (.inr x1), .inr (.inr x2), .inr (.inr x3), .inl x5, .inl x6, .inr (.inr x7), .inl x8_10, .inl x9_11] h8
      else
      zlet (1 : Int) fun x8_12 =>
      zG (inI (x9 + 1)) <|
      zlet (x9 + 1) fun x9_13 =>
      R d 937 [.inr (.inr x0), .inr (.inr x1), .inr (.inr x2), .inr (.inr x3), .inl x5, .inl x6, .inr (.inr x7), .inl x8_12, .inl x9_13] h8
    else
    zlet (1 : Int) fun x8_14 =>
    zG (inI (x9 + 1)) <|
    zlet (x9 + 1) fun x9_15 =>
    R d 937 [.inr (.inr x0), .inr (.inr x1), .inr (.inr x2), .inr (.inr x3), .inl x5, .inl x6, .inr (.inr x7), .inl x8_14, .inl x9_15] h1
  else
  if x8 = 0 then
    zG (inI (x6 + 1)) <|
    zlet (x6 + 1) fun x6_16 =>
    R d 845 [.inr (.inr x0), .inr (.inr x1), .inr (.inr x2), .inr (.inr x3), .inl x5, .inl x6_16] h1
  else
  if x5 = (-1) then
    ygI 20102 x7 h1 fun v17 =>
    zlet v17 fun x5_18 =>
    zG (inI (x6 + 1)) <|
    zlet (x6 + 1) fun x6_19 =>
    R d 845 [.inr (.inr x0), .inr (.inr x1), .inr (.inr x2), .inr (.inr x3), .inl x5_18, .inl x6_19] h1
  else
  ygI 20102 x7 h1 fun v20 =>
  if v20 < x5 then
    ygI 20102 x7 h1 fun v21 =>
    zlet v21 fun x5_22 =>
    zG (inI (x6 + 1)) <|
    zlet (x6 + 1) fun x6_23 =>
    R d 845 [.inr (.inr x0), .inr (.inr x1), .inr (.inr x2), .inr (.inr x3), .inl x5_22, .inl x6_23] h1
  else
  zG (inI (x6 + 1)) <|
  zlet (x6 + 1) fun x6_24 =>
  R d 845 [.inr (.inr x0), .inr (.inr x1), .inr (.inr x2), .inr (.inr x3), .inl x5, .inl x6_24] h1
def yb_Values_leave_p262 (C : YC) (R : ZC YS) (d : Nat) (x0 : Option Nat) (x1 : Option Nat) (x2 : Option Nat) (x3 : Option Nat) (x6 : Int) (h : YS) : ZR YS :=
  zI (ycv R d [(5, 506)] x3 [] h) fun v2 h1 =>
  if x6 < v2 then
    ygR 2700 x1 h1 fun v3 =>
    zQ (ycv R d [(5, 528)] x3 [.inl x6] h1) fun v5 h4 =>
    ycc 38 90 v5 h4 <|
    ygI 5403 v5 h4 fun v6 =>
    ygI 7203 x0 h4 fun v7 =>
    zV (ycv R d [(4, 94)] v3 [.inl v6, .inl v7] h4) fun h8 =>
    zG (inI (x6 + 1)) <|
    zlet (x6 + 1) fun x6_9 =>
    R d 938 [.inr (.inr x0), .inr (.inr x1), .inr (.inr x2), .inr (.inr x3), .inl x6_9] h8
  else
  zlet (0 : Int) fun x6_10 =>
  R d 987 [.inr (.inr x0), .inr (.inr x1), .inr (.inr x2), .inl x6_10] h1
def yb_ValDec_recursive_p113 (C : YC) (R : ZC YS) (d : Nat) (x0 : Option Nat) (x1 : Option Nat) (x2 : Option Nat) (x3 : Option Nat) (x4 : Int) (x5 : Option Nat) (x6 : Int) (y0 : Int) (y1 : Option Nat) (h : YS) : ZR YS :=
  ygR 7204 x0 h fun v1 =>
  zQ (ycv R d [(5, 528)] v1 [.inl x6] h) fun v3 h2 =>
  ycc 39 68 v3 h2 <|
  ygI 7500 v3 h2 fun v4 =>
  zV (ycv R d [(9, 190)] y1 [.inl y0, .inl 7, .inl v4] h2) fun h5 =>
  zG (inI (x6 + 1)) <|
  zlet (x6 + 1) fun x6_6 =>
  R d 689 [.inr (.inr x0), .inr (.inr x1), .inr (.inr x2), .inr (.inr x3), .inl x4, .inr (.inr x5), .inl x6_6] h5
def yb_ValDec_recursive_p189 (C : YC) (R : ZC YS) (d : Nat) (x0 : Option Nat) (x1 : Option Nat) (x4 : Int) (x5 : Option Nat) (x6 : Int) (h : YS) : ZR YS :=
  if x6 < x4 then
    ygR 7205 x0 h fun v1 =>
    zQ (ycv R d [(5, 528)] v1 [.inl x6] h) fun v3 h2 =>
    yio 39 131 v3 h2 fun v4 =>
    ygR 7205 x0 h2 fun v5 =>
    zQ (ycv R d [(5, 528)] v5 [.inl x6] h2) fun v7 h6 =>
    ycc 39 74 v7 h6 <|
    ygI 11700 v7 h6 fun v8 =>
    zV (ycv R d [(9, 190)] x1 [.inl v4, .inl 7, .inl v8] h6) fun h9 =>
    ygR 7205 x0 h9 fun v10 =>
    zQ (ycv R d [(5, 528)] v10 [.inl x6] h9) fun v12 h11 =>
    ycc 39 74 v12 h11 <|
    zI (ycv R d [(53, 435), (56, 448), (42, 396), (52, 431), (45, 403), (57, 451), (40, 390), (54, 440), (49, 419), (48, 415), (39, 386), (47, 411), (50, 422), (46, 408), (55, 444), (51, 426), (41, 393)] v12 [.inr (.inr x1)] h11) fun v14 h13 =>
    zlet v14 fun x7_15 =>
    yaI 0 x5 x6 h13 fun v16 =>
    ygR 7205 x0 h13 fun v17 =>
    zQ (ycv R d [(5, 528)] v17 [.inl x6] h13) fun v19 h18 =>
    ycc 39 74 v19 h18 <|
    ygI 11700 v19 h18 fun v20 =>
    zV (ycv R d [(9, 199)] x1 [.inl v16, .inl x7_15, .inl v20] h18) fun h21 =>
    zG (inI (x6 + 1)) <|
    zlet (x6 + 1) fun x6_22 =>
    R d 940 [.inr (.inr x0), .inr (.inr x1), .inl x4, .inr (.inr x5), .inl x6_22] h21
  else
  zrV h
def yb_ValDec_plain_p156 (C : YC) (R : ZC YS) (d : Nat) (x0 : Option Nat) (x1 : Option Nat) (x2 : Option Nat) (x3 : Option Nat) (x4 : Option Nat) (x5 : Int) (x9 : Int) (y0 : Option Nat) (h : YS) : ZR YS :=
  zQ (ycv R d [(5, 528)] x2 [.inl x9] h) fun v2 h1 =>
  ycc 39 55 v2 h1 <|
  zI (ycv R d [(5, 505)] y0 [.inr (.inr v2)] h1) fun v4 h3 =>
  zG (inI (x9 + 1)) <|
  zlet (x9 + 1) fun x9_5 =>
  R d 849 [.inr (.inr x0), .inr (.inr x1), .inr (.inr x2), .inr (.inr x3), .inr (.inr x4), .inl x5, .inl x9_5] h3
def yb_NamedTy_make_p129 (C : YC) (R : ZC YS) (d : Nat) (x1 : Option Nat) (x2 : Int) (x3 : Option Nat) (x5 : Int) (x6 : Int) (h : YS) : ZR YS :=
  if x6 < x2 then
    ygR 2700 x1 h fun v1 =>
    yaI 0 x3 x6 h fun v2 =>
    zV (ycv R d [(4, 66)] v1 [.inl x5, .inl x6, .inr (.inr (some (C.1 153))), .inl v2] h) fun h3 =>
    zG (inI (x6 + 1)) <|
    zlet (x6 + 1) fun x6_4 =>
    R d 942 [.inr (.inr x1), .inl x2, .inr (.inr x3), .inl x5, .inl x6_4] h3
  else
  zrI x5 h
def yb_ListPat_meets_p149 (C : YC) (R : ZC YS) (d : Nat) (x0 : Option Nat) (x1 : Option Nat) (x4 : Int) (x5 : Int) (x7 : Int) (h : YS) : ZR YS :=
  zI (ycv R d [(10, 213)] x1 [.inl x7, .inl 1, .inl 2] h) fun v2 h1 =>
  zlet v2 fun x3_3 =>
  zG (inI (x5 + 1)) <|
  zlet (x5 + 1) fun x5_4 =>
  R d 706 [.inr (.inr x0), .inr (.inr x1), .inl x3_3, .inl x4, .inl x5_4] h1
def yb_ListPat_make_p109 (C : YC) (R : ZC YS) (d : Nat) (x0 : Option Nat) (x1 : Option Nat) (x3 : Option Nat) (x5 : Int) (x6 : Int) (h : YS) : ZR YS :=
  zI (ycv R d [(70, 484)] x1 [.inl 17, .inl x5, .inl 1] h) fun v2 h1 =>
  zI (ycv R d [(70, 484)] x1 [.inl 12, .inl x5, .inl 0] h1) fun v4 h3 =>
  zlet x5 fun x4_5 =>
  zG (inI (x6 + 1)) <|
  zlet (x6 + 1) fun x6_6 =>
  R d 707 [.inr (.inr x0), .inr (.inr x1), .inr (.inr x3), .inl x4_5, .inl x5, .inl x6_6] h3
def yb_Rules_judge_p218 (C : YC) (R : ZC YS) (d : Nat) (x0 : Option Nat) (x1 : Option Nat) (x4 : Int) (x6 : Option Nat) (x7 : Int) (x8 : Int) (x9 : Int) (x10 : Option Nat) (x12 : Int) (h : YS) : ZR YS :=
  zV (ycv R d [(9, 202)] x1 [.inl x12] h) fun h1 =>
  ynew 5 3 h1 fun r2 h3 =>
  zV (ycs R d 503 r2 [] h3) fun h4 =>
  zlet r2 fun x14_5 =>
  ygR 13200 x10 h4 fun v6 =>
  zI (ycv R d [(5, 505)] x14_5 [.inr (.inr v6)] h4) fun v8 h7 =>
  zI (ycv R d [(69, 481)] x6 [.inr (.inr x14_5)] h7) fun v10 h9 =>
  zV (ycv R d [(9, 190)] x1 [.inl v10, .inl 4, .inl x4] h9) fun h11 =>
  zG (inI (x9 + 1)) <|
  zlet (x9 + 1) fun x9_12 =>
  R d 710 [.inr (.inr x0), .inr (.inr x1), .inl x4, .inr (.inr x6), .inl x7, .inl x8, .inl x9_12] h11
def yb_FunDec_judge_p109 (C : YC) (R : ZC YS) (d : Nat) (x0 : Option Nat) (x1 : Option Nat) (x2 : Option Nat) (x3 : Int) (h : YS) : ZR YS :=
  ygR 17404 x0 h fun v1 =>
  zI (ycv R d [(5, 506)] v1 [] h) fun v3 h2 =>
  if x3 < v3 then
    ygR 17404 x0 h2 fun v4 =>
    zQ (ycv R d [(5, 528)] v4 [.inl x3] h2) fun v6 h5 =>
    ycc 77 28 v6 h5 <|
    zV (ycv R d [(59, 458)] v6 [.inr (.inr x1)] h5) fun h7 =>
    zG (inI (x3 + 1)) <|
    zlet (x3 + 1) fun x3_8 =>
    R d 946 [.inr (.inr x0), .inr (.inr x1), .inr (.inr x2), .inl x3_8] h7
  else
  ynew 5 3 h2 fun r9 h10 =>
  zV (ycs R d 503 r9 [] h10) fun h11 =>
  zV (ycv R d [(58, 322)] x0 [.inr (.inr x1), .inr (.inr x2), .inr (.inr r9), .inr (.inr x2)] h11) fun h12 =>
  zV (zc R d 323 [.inr (.inr x1), .inr (.inr x2)] h12) fun h13 =>
  zrV h13
def yb_Fun_judge_p148 (C : YC) (R : ZC YS) (d : Nat) (x0 : Option Nat) (x1 : Option Nat) (x2 : Int) (x3 : Option Nat) (x4 : Int) (x5 : Option Nat) (x6 : Int) (x7 : Int) (x8 : Option Nat) (x9 : Option Nat) (x10 : Int) (h : YS) : ZR YS :=
  if x10 < x2 then
    ypR 2706 x1 x9 h fun h1 =>
    ygR 18002 x8 h1 fun v2 =>
    zQ (ycv R d [(5, 528)] v2 [.inl x10] h1) fun v4 h3 =>
    ycc 78 76 v4 h3 <|
    zI (ycv R d [(36, 369), (32, 349), (38, 379), (37, 374), (35, 364), (33, 354), (25, 334), (34, 359)] v4 [.inr (.inr x1)] h3) fun v6 h5 =>
    zlet v6 fun x11_7 =>
    if x7 = 0 then
      yst 0 x3 x10 x11_7 h5 fun h8 =>
      zG (inI (x10 + 1)) <|
      zlet (x10 + 1) fun x10_9 =>
      R d 947 [.inr (.inr x0), .inr (.inr x1), .inl x2, .inr (.inr x3), .inl x4, .inr (.inr x5), .inl x6, .inl x7, .inr (.inr x8), .inr (.inr x9), .inl x10_9] h8
    else
    yaI 0 x3 x10 h5 fun v10 =>
    ygR 18002 x8 h5 fun v11 =>
    zQ (ycv R d [(5, 528)] v11 [.inl x10] h5) fun v13 h12 =>
    ycc 78 76 v13 h12 <|
    ygI 7500 v13 h12 fun v14 =>
    zV (ycv R d [(9, 199)] x1 [.inl v10, .inl x11_7, .inl v14] h12) fun h15 =>
    zG (inI (x10 + 1)) <|
    zlet (x10 + 1) fun x10_16 =>
    R d 947 [.inr (.inr x0), .inr (.inr x1), .inl x2, .inr (.inr x3), .inl x4, .inr (.inr x5), .inl x6, .inl x7, .inr (.inr x8), .inr (.inr x9), .inl x10_16] h15
  else
  ygR 18003 x8 h fun v17 =>
  ynull v17 (
    R d 988 [.inr (.inr x0), .inr (.inr x1), .inl x2, .inr (.inr x3), .inl x4, .inr (.inr x5), .inl x6, .inl x7, .inr (.inr x8), .inr (.inr x9), .inl (-1)] h
  ) <|
  ygR 18003 x8 h fun v18 =>
  zI (ycv R d [(31, 347), (30, 345), (29, 343), (28, 341)] v18 [.inr (.inr x1)] h) fun v20 h19 =>
  R d 988 [.inr (.inr x0), .inr (.inr x1), .inl x2, .inr (.inr x3), .inl x4, .inr (.inr x5), .inl x6, .inl x7, .inr (.inr x8), .inr (.inr x9), .inl v20] h19
def yb_DataDec_judge_p226 (C : YC) (R : ZC YS) (d : Nat) (x0 : Option Nat) (x1 : Option Nat) (x2 : Option Nat) (x3 : Int) (h : YS) : ZR YS :=
  zI (ycv R d [(5, 506)] x2 [] h) fun v2 h1 =>
  if x3 < v2 then
    ygR 2702 x1 h1 fun v3 =>
    zQ (ycv R d [(5, 528)] x2 [.inl x3] h1) fun v5 h4 =>
    ycc 81 95 v5 h4 <|
    zI (ycv R d [(5, 505)] v3 [.inr (.inr v5)] h4) fun v7 h6 =>
    zG (inI (x3 + 1)) <|
    zlet (x3 + 1) fun x3_8 =>
    R d 948 [.inr (.inr x0), .inr (.inr x1), .inr (.inr x2), .inl x3_8] h6
  else
  zlet (0 : Int) fun x3_9 =>
  R d 989 [.inr (.inr x0), .inr (.inr x1), .inl x3_9] h1
def yb_DataDec_judge_2_p124 (C : YC) (R : ZC YS) (d : Nat) (x1 : Option Nat) (x2 : Option Nat) (x3 : Option Nat) (x4 : Option Nat) (x5 : Int) (x6 : Int) (x7 : Option Nat) (x8 : Int) (h : YS) : ZR YS :=
  zI (ycv R d [(5, 506)] x3 [] h) fun v2 h1 =>
  if x8 < v2 then
    zQ (ycv R d [(5, 528)] x3 [.inl x8] h1) fun v4 h3 =>
    ycc 81 95 v4 h3 <|
    ygR 5400 v4 h3 fun v5 =>
    ygR 19200 x7 h3 fun v6 =>
    zI (ycv R d [(21, 576)] v5 [.inr (.inr v6)] h3) fun v8 h7 =>
    if v8 = 0 then
      ygI 19201 x7 h7 fun v9 =>
      zV (ycv R d [(9, 190)] x1 [.inl 1, .inl 6, .inl v9] h7) fun h10 =>
      zG (inI (x8 + 1)) <|
      zlet (x8 + 1) fun x8_11 =>
      R d 949 [.inr (.inr x1), .inr (.inr x2), .inr (.inr x3), .inr (.inr x4), .inl x5, .inl x6, .inr (.inr x7), .inl x8_11] h10
    else
    ygI 19201 x7 h7 fun v12 =>
    zV (ycv R d [(9, 190)] x1 [.inl 0, .inl 6, .inl v12] h7) fun h13 =>
    zG (inI (x8 + 1)) <|
    zlet (x8 + 1) fun x8_14 =>
    R d 949 [.inr (.inr x1), .inr (.inr x2), .inr (.inr x3), .inr (.inr x4), .inl x5, .inl x6, .inr (.inr x7), .inl x8_14] h13
  else
  ygI 19201 x7 h1 fun v15 =>
  zV (ycv R d [(9, 191)] x1 [.inl v15] h1) fun h16 =>
  ynew 18 13 h16 fun r17 h18 =>
  ygR 19200 x7 h18 fun v19 =>
  ygI 19201 x7 h18 fun v20 =>
  zV (ycs R d 310 r17 [.inr (.inr v19), .inl 1, .inl v20] h18) fun h21 =>
  zlet r17 fun x8_22 =>
  ynew 19 4 h21 fun r23 h24 =>
  ygR 19200 x7 h24 fun v25 =>
  ygR 18904 x2 h24 fun v26 =>
  zV (ycs R d 313 r23 [.inr (.inr v25), .inr (.inr v26)] h24) fun h27 =>
  ypR 5406 x8_22 r23 h27 fun h28 =>
  ygR 19202 x7 h28 fun v29 =>
  ynull v29 (
    zI (ycv R d [(5, 505)] x3 [.inr (.inr x8_22)] h28) fun v31 h30 =>
    zG (inI (x6 + 1)) <|
    zlet (x6 + 1) fun x6_32 =>
    R d 875 [.inr (.inr x1), .inr (.inr x2), .inr (.inr x3), .inr (.inr x4), .inl x5, .inl x6_32] h30
  ) <|
  ypR 2705 x1 x4 h28 fun h33 =>
  ygR 19202 x7 h33 fun v34 =>
  zI (ycv R d [(31, 347), (30, 345), (29, 343), (28, 341)] v34 [.inr (.inr x1)] h33) fun v36 h35 =>
  zlet v36 fun x9_37 =>
  ypR 2705 x1 none h35 fun h38 =>
  ygR 2700 x1 h38 fun v39 =>
  zI (ycv R d [(4, 75)] v39 [.inl x9_37, .inl 40] h38) fun v41 h40 =>
  if v41 ≤ 40 then
    R d 990 [.inr (.inr x1), .inr (.inr x2), .inr (.inr x3), .inr (.inr x4), .inl x5, .inl x6, .inr (.inr x7), .inr (.inr x8_22), .inl x9_37, .inl 1, .inr (.inr x1)] h40
  else
  R d 990 [.inr (.inr x1), .inr (.inr x2), .inr (.inr x3), .inr (.inr x4), .inl x5, .inl x6, .inr (.inr x7), .inr (.inr x8_22), .inl x9_37, .inl 0, .inr (.inr x1)] h40
def yb_DataDec_admit_p37 (C : YC) (R : ZC YS) (d : Nat) (x0 : Option Nat) (x1 : Option Nat) (x2 : Int) (x3 : Int) (x4 : Option Nat) (x5 : Int) (h : YS) : ZR YS :=
  ygR 18904 x4 h fun v1 =>
  ygR 4503 v1 h fun v2 =>
  zI (ycv R d [(5, 506)] v2 [] h) fun v4 h3 =>
  if x5 < v4 then
    ygR 18904 x4 h3 fun v5 =>
    ygI 4504 v5 h3 fun v6 =>
    if v6 = 0 then
      zG (inI (x3 + 1)) <|
      zlet (x3 + 1) fun x3_7 =>
      R d 876 [.inr (.inr x0), .inr (.inr x1), .inl x2, .inl x3_7] h3
    else
    ygR 18904 x4 h3 fun v8 =>
    ygR 4503 v8 h3 fun v9 =>
    zQ (ycv R d [(5, 528)] v9 [.inl x5] h3) fun v11 h10 =>
    ycc 81 144 v11 h10 <|
    ygR 5703 v11 h10 fun v12 =>
    zlet v12 fun x6_13 =>
    ynull x6_13 (
      zG (inI (x5 + 1)) <|
      zlet (x5 + 1) fun x5_14 =>
      R d 950 [.inr (.inr x0), .inr (.inr x1), .inl x2, .inl x3, .inr (.inr x4), .inl x5_14] h10
    ) <|
    zI (zc R d 468 [.inr (.inr x1), .inr (.inr x6_13)] h10) fun v16 h15 =>
    if v16 = 0 then
      ygR 18904 x4 h15 fun v17 =>
      ypI 4504 1 v17 0 h15 fun h18 =>
      zlet (1 : Int) fun x2_19 =>
      zG (inI (x5 + 1)) <|
      zlet (x5 + 1) fun x5_20 =>
      R d 950 [.inr (.inr x0), .inr (.inr x1), .inl x2_19, .inl x3, .inr (.inr x4), .inl x5_20] h18
    else
    zG (inI (x5 + 1)) <|
    zlet (x5 + 1) fun x5_21 =>
    R d 950 [.inr (.inr x0), .inr (.inr x1), .inl x2, .inl x3, .inr (.inr x4), .inl x5_21] h15
  else
  zG (inI (x3 + 1)) <|
  zlet (x3 + 1) fun x3_22 =>
  R d 876 [.inr (.inr x0), .inr (.inr x1), .inl x2, .inl x3_22] h3
def yb_ExceptionDec_judge_p261 (C : YC) (R : ZC YS) (d : Nat) (x0 : Option Nat) (x1 : Option Nat) (x3 : Int) (h : YS) : ZR YS :=
  ygR 19505 x0 h fun v1 =>
  ygR 2700 x1 h fun v2 =>
  yna 0 0 h fun r3 h4 =>
  zQ (ycv R d [(4, 53)] v2 [.inl x3, .inr (.inr r3), .inl 0] h4) fun v6 h5 =>
  ypR 5405 v1 v6 h5 fun h7 =>
  R d 879 [.inr (.inr x0), .inr (.inr x1)] h7
def yb_ExceptionDec_judge_p224 (C : YC) (R : ZC YS) (d : Nat) (x0 : Option Nat) (x1 : Option Nat) (x3 : Int) (x4 : Int) (y0 : Int) (y1 : Option Nat) (h : YS) : ZR YS :=
  ygI 19501 x0 h fun v1 =>
  zV (ycv R d [(9, 190)] y1 [.inl y0, .inl 14, .inl v1] h) fun h2 =>
  ygR 2700 x1 h2 fun v3 =>
  yna 0 0 h2 fun r4 h5 =>
  zQ (ycv R d [(4, 53)] v3 [.inl x4, .inr (.inr r4), .inl 0] h5) fun v7 h6 =>
  ypR 19507 x0 v7 h6 fun h8 =>
  ygR 2700 x1 h8 fun v9 =>
  zI (ycv R d [(4, 70)] v9 [.inl x4, .inl x3] h8) fun v11 h10 =>
  zlet v11 fun x3_12 =>
  R d 951 [.inr (.inr x0), .inr (.inr x1), .inl x3_12] h10
def yb_Number_init (C : YC) (R : ZC YS) (d : Nat) (x0 : Option Nat) (h : YS) : ZR YS :=
  ynull x0 none <|
  zrV h
def yb_Maker_functions_p76 (C : YC) (R : ZC YS) (d : Nat) (x0 : Option Nat) (x1 : Option Nat) (x2 : Option Nat) (x3 : Option Nat) (x4 : Int) (y0 : Int) (y1 : Option Nat) (h : YS) : ZR YS :=
  yaR x1 x4 h fun v1 =>
  ygI 5411 v1 h fun v2 =>
  zI (ycv R d [(70, 484)] y1 [.inl y0, .inl v2, .inl 0] h) fun v4 h3 =>
  zG (inI (x4 + 1)) <|
  zlet (x4 + 1) fun x4_5 =>
  R d 884 [.inr (.inr x0), .inr (.inr x1), .inr (.inr x2), .inr (.inr x3), .inl x4_5] h3
def yb_Maker_functions_p97 (C : YC) (R : ZC YS) (d : Nat) (x0 : Option Nat) (x1 : Option Nat) (x2 : Option Nat) (x4 : Int) (h : YS) : ZR YS :=
  ylen x1 h fun v1 =>
  if x4 < v1 then
    yaR x2 x4 h fun v2 =>
    ygR 21004 v2 h fun v3 =>
    zI (ycv R d [(5, 582)] v3 [] h) fun v5 h4 =>
    if v5 = 0 then
      yaR x1 x4 h4 fun v6 =>
      zV (ycv R d [(70, 483)] x0 [.inr (.inr v6)] h4) fun h7 =>
      yaR x2 x4 h7 fun v8 =>
      zV (ycv R d [(70, 495)] x0 [.inr (.inr v8)] h7) fun h9 =>
      zI (ycv R d [(70, 484)] x0 [.inl 14, .inl 0, .inl 0] h9) fun v11 h10 =>
      zG (inI (x4 + 1)) <|
      zlet (x4 + 1) fun x4_12 =>
      R d 955 [.inr (.inr x0), .inr (.inr x1), .inr (.inr x2), .inl x4_12] h10
    else
    zG (inI (x4 + 1)) <|
    zlet (x4 + 1) fun x4_13 =>
    R d 955 [.inr (.inr x0), .inr (.inr x1), .inr (.inr x2), .inl x4_13] h4
  else
  zrV h
def yb_ArrayList_grow_2 (C : YC) (R : ZC YS) (d : Nat) (x0 : Option Nat) (x1 : Int) (h : YS) : ZR YS :=
  ygR 1501 x0 h fun v1 =>
  ylen v1 h fun v2 =>
  zlet v2 fun x2_3 =>
  if x2_3 ≤ 0 then
    ygR 1501 x0 h fun v4 =>
    ysvR C 2 fun v5 =>
    if v4 = v5 then
      zI (zc R d 660 [.inl 10, .inl x1] h) fun v7 h6 =>
      yna 5 v7 h6 fun r8 h9 =>
      ypR 1501 x0 r8 h9 fun h10 =>
      zrQ r8 h10
    else
    R d 991 [.inr (.inr x0), .inl x1, .inl x2_3] h
  else
  R d 991 [.inr (.inr x0), .inl x1, .inl x2_3] h
def yb_StringUTF16_indexOfChar (C : YC) (R : ZC YS) (d : Nat) (x0 : Option Nat) (x1 : Int) (x2 : Int) (x3 : Int) (h : YS) : ZR YS :=
  zV (zc R d 992 [.inl x2, .inl x3, .inr (.inr x0)] h) fun h1 =>
  zI (zc R d 993 [.inr (.inr x0), .inl x1, .inl x2, .inl x3] h1) fun v3 h2 =>
  zrI v3 h2
def yb_StringUTF16_indexOfSupplementary (C : YC) (R : ZC YS) (d : Nat) (x0 : Option Nat) (x1 : Int) (x2 : Int) (x3 : Int) (h : YS) : ZR YS :=
  zI (zc R d 994 [.inl x1] h) fun v2 h1 =>
  if v2 = 0 then
    zrI (-1) h1
  else
  zI (zc R d 995 [.inl x1] h1) fun v4 h3 =>
  zlet v4 fun x4_5 =>
  zI (zc R d 996 [.inl x1] h3) fun v7 h6 =>
  zlet v7 fun x5_8 =>
  zV (zc R d 992 [.inl x2, .inl x3, .inr (.inr x0)] h6) fun h9 =>
  zlet x2 fun x6_10 =>
  R d 997 [.inr (.inr x0), .inl x3, .inl x4_5, .inl x5_8, .inl x6_10] h9
def yb_StringLatin1_canEncode_2 (C : YC) (R : ZC YS) (d : Nat) (x0 : Int) (h : YS) : ZR YS :=
  if x0 < 0 then
    yrN 1 0 h
  else
  if x0 ≤ 255 then
    yrN 1 1 h
  else
  yrN 1 0 h
def yb_StringLatin1_indexOfChar (C : YC) (R : ZC YS) (d : Nat) (x0 : Option Nat) (x1 : Int) (x2 : Int) (x3 : Int) (h : YS) : ZR YS :=
  zlet (zbyte x1) fun x4_1 =>
  zlet x2 fun x5_2 =>
  R d 998 [.inr (.inr x0), .inl x3, .inl x4_1, .inl x5_2] h
def yb_AbstractStringBuilder_newCapacity (C : YC) (R : ZC YS) (d : Nat) (x0 : Option Nat) (x1 : Int) (h : YS) : ZR YS :=
  ygR 6900 x0 h fun v1 =>
  ylen v1 h fun v2 =>
  zlet v2 fun x2_3 =>
  ygI 6901 x0 h fun v4 =>
  zlet (zshlI x1 v4) fun x3_5 =>
  zG (inI (x3_5 - x2_3)) <|
  zlet (x3_5 - x2_3) fun x4_6 =>
  ygI 6901 x0 h fun v7 =>
  zG (inI (x2_3 + (zshlI 2 v7))) <|
  zI (zc R d 999 [.inl x2_3, .inl x4_6, .inl (x2_3 + (zshlI 2 v7))] h) fun v9 h8 =>
  zlet v9 fun x5_10 =>
  if x5_10 = 2147483647 then
    none
  else
  ygI 6901 x0 h8 fun v11 =>
  zrI (zshrI x5_10 v11) h8
def yb_Arrays_copyOf_3 (C : YC) (R : ZC YS) (d : Nat) (x0 : Option Nat) (x1 : Int) (h : YS) : ZR YS :=
  ylen x0 h fun v1 =>
  if x1 = v1 then
    ycln x0 h fun r2 h3 =>
    ycc 22 311 r2 h3 <|
    zrQ r2 h3
  else
  yna 2 x1 h fun r4 h5 =>
  zlet r4 fun x2_6 =>
  ylen x0 h5 fun v7 =>
  zI (zc R d 547 [.inl v7, .inl x1] h5) fun v9 h8 =>
  yac x0 0 x2_6 0 v9 h8 fun h10 =>
  zrQ x2_6 h10
def yb_StringUTF16_putCharSB (C : YC) (R : ZC YS) (d : Nat) (x0 : Option Nat) (x1 : Int) (x2 : Int) (h : YS) : ZR YS :=
  zV (zc R d 904 [.inl x1, .inr (.inr x0)] h) fun h1 =>
  zV (zc R d 1000 [.inr (.inr x0), .inl x1, .inl x2] h1) fun h2 =>
  zrV h2
def yb_StringLatin1_inflate (C : YC) (R : ZC YS) (d : Nat) (x0 : Option Nat) (x1 : Int) (x2 : Option Nat) (x3 : Int) (x4 : Int) (h : YS) : ZR YS :=
  zV (zc R d 1001 [.inr (.inr x0), .inl x1, .inr (.inr x2), .inl x3, .inl x4] h) fun h1 =>
  zrV h1
def yb_MlHouse_judge_p147 (C : YC) (R : ZC YS) (d : Nat) (x0 : Option Nat) (x1 : Option Nat) (x4 : Int) (x5 : Int) (x6 : Option Nat) (y0 : Int) (y1 : Option Nat) (h : YS) : ZR YS :=
  ygI 5402 x6 h fun v1 =>
  zV (ycv R d [(9, 190)] y1 [.inl y0, .inl 14, .inl v1] h) fun h2 =>
  zG (inI (x5 + 1)) <|
  zlet (x5 + 1) fun x5_3 =>
  R d 897 [.inr (.inr x0), .inr (.inr x1), .inl x4, .inl x5_3] h2
def yb_StringUTF16_length (C : YC) (R : ZC YS) (d : Nat) (x0 : Option Nat) (h : YS) : ZR YS :=
  ylen x0 h fun v1 =>
  zrI (zshrI v1 1) h
def yb_StringUTF16_getChar_p28 (C : YC) (R : ZC YS) (d : Nat) (x0 : Option Nat) (x1 : Int) (h : YS) : ZR YS :=
  zlet (zshlI x1 1) fun x1_1 =>
  zG (inI (x1_1 + 1)) <|
  zlet (x1_1 + 1) fun x1_2 =>
  yaI 2 x0 x1_1 h fun v3 =>
  ysvI C 7 fun v4 =>
  yaI 2 x0 x1_2 h fun v5 =>
  ysvI C 8 fun v6 =>
  yrN 3 (zchar (zorI (zshlI (zandI v3 255) v4) (zshlI (zandI v5 255) v6))) h
def yb_Types_opens_p249 (C : YC) (R : ZC YS) (d : Nat) (x0 : Option Nat) (x1 : Int) (x2 : Int) (x3 : Int) (x4 : Int) (x5 : Int) (x6 : Int) (x7 : Int) (x8 : Int) (y0 : Option Nat) (y1 : Int) (y2 : Int) (y3 : Option Nat) (h : YS) : ZR YS :=
  if x8 ≤ 0 then
    zI (ycv R d [(4, 63)] x0 [.inl x1, .inl x5] h) fun v2 h1 =>
    R d 1002 [.inr (.inr x0), .inl x1, .inl x2, .inl x3, .inl x4, .inl x5, .inl x6, .inl x7, .inl x8, .inl v2, .inr (.inr y0), .inl y1, .inl y2, .inr (.inr y3)] h1
  else
  zI (ycv R d [(4, 63)] x0 [.inl x2, .inl x6] h) fun v4 h3 =>
  R d 1002 [.inr (.inr x0), .inl x1, .inl x2, .inl x3, .inl x4, .inl x5, .inl x6, .inl x7, .inl x8, .inl v4, .inr (.inr y0), .inl y1, .inl y2, .inr (.inr y3)] h3
def yb_Types_admits_p149 (C : YC) (R : ZC YS) (d : Nat) (x0 : Option Nat) (x1 : Int) (x2 : Int) (x4 : Int) (x6 : Int) (h : YS) : ZR YS :=
  zI (ycv R d [(4, 60)] x0 [.inl x4] h) fun v2 h1 =>
  if x6 < v2 then
    zI (ycv R d [(4, 57)] x0 [.inl x4] h1) fun v4 h3 =>
    if v4 = 3 then
      zI (ycv R d [(4, 59)] x0 [.inl x4] h3) fun v6 h5 =>
      if v6 = 6 then
        R d 784 [.inr (.inr x0), .inl x1, .inl x2] h5
      else
      R d 1003 [.inr (.inr x0), .inl x1, .inl x2, .inl x4, .inl x6] h5
    else
    R d 1003 [.inr (.inr x0), .inl x1, .inl x2, .inl x4, .inl x6] h3
  else
  R d 784 [.inr (.inr x0), .inl x1, .inl x2] h1
def yb_Parser_pat_p126 (C : YC) (R : ZC YS) (d : Nat) (x0 : Option Nat) (x1 : Int) (x3 : Option Nat) (x4 : Option Nat) (h : YS) : ZR YS :=
  zlet (none : Option Nat) fun x5_1 =>
  zI (ycv R d [(6, 108)] x0 [.inr (.inr (some (C.1 122)))] h) fun v3 h2 =>
  if v3 = 0 then
    R d 1004 [.inr (.inr x0), .inl x1, .inr (.inr x3), .inr (.inr x4), .inr (.inr x5_1)] h2
  else
  zQ (ycv R d [(6, 126)] x0 [] h2) fun v5 h4 =>
  zlet v5 fun x5_6 =>
  R d 1004 [.inr (.inr x0), .inl x1, .inr (.inr x3), .inr (.inr x4), .inr (.inr x5_6)] h4
def yb_StringLatin1_equals_p9 (C : YC) (R : ZC YS) (d : Nat) (x0 : Option Nat) (x1 : Option Nat) (x2 : Int) (h : YS) : ZR YS :=
  ylen x0 h fun v1 =>
  if x2 < v1 then
    yaI 2 x0 x2 h fun v2 =>
    yaI 2 x1 x2 h fun v3 =>
    if v2 = v3 then
      zG (inI (x2 + 1)) <|
      zlet (x2 + 1) fun x2_4 =>
      R d 971 [.inr (.inr x0), .inr (.inr x1), .inl x2_4] h
    else
    yrN 1 0 h
  else
  yrN 1 1 h
def yb_Parser_datatype_p113 (C : YC) (R : ZC YS) (d : Nat) (x0 : Option Nat) (x1 : Option Nat) (x4 : Option Nat) (y0 : Option Nat) (y1 : Int) (y2 : Option Nat) (y3 : Option Nat) (y4 : Option Nat) (y5 : Option Nat) (h : YS) : ZR YS :=
  zV (ycs R d 471 y3 [.inr (.inr y2), .inl y1, .inr (.inr y0)] h) fun h1 =>
  zI (ycv R d [(5, 505)] y5 [.inr (.inr y4)] h1) fun v3 h2 =>
  zI (ycv R d [(6, 108)] x0 [.inr (.inr (some (C.1 137)))] h2) fun v5 h4 =>
  if v5 = 0 then
    ygR 18600 x1 h4 fun v6 =>
    zI (ycv R d [(5, 505)] v6 [.inr (.inr x4)] h4) fun v8 h7 =>
    zI (ycv R d [(6, 108)] x0 [.inr (.inr (some (C.1 146)))] h7) fun v10 h9 =>
    if v10 = 0 then
      zrQ x1 h9
    else
    R d 612 [.inr (.inr x0), .inr (.inr x1)] h9
  else
  R d 808 [.inr (.inr x0), .inr (.inr x1), .inr (.inr x4)] h4
def yb_Lexer_number_p132 (C : YC) (R : ZC YS) (d : Nat) (x2 : Int) (x3 : Int) (y0 : Option Nat) (y1 : Int) (y2 : Option Nat) (y3 : Option Nat) (y4 : Option Nat) (h : YS) : ZR YS :=
  if x2 = 0 then
    zV (ycs R d 315 y3 [.inr (.inr y2), .inl y1, .inr (.inr y0), .inl (zl2i x3)] h) fun h1 =>
    zrQ y4 h1
  else
  zV (ycs R d 315 y3 [.inr (.inr y2), .inl y1, .inr (.inr y0), .inl (zl2i (-x3))] h) fun h2 =>
  zrQ y4 h2
def yb_AbstractStringBuilder_length (C : YC) (R : ZC YS) (d : Nat) (x0 : Option Nat) (h : YS) : ZR YS :=
  ygI 6903 x0 h fun v1 =>
  zrI v1 h
def yb_StringBuilder_charAt (C : YC) (R : ZC YS) (d : Nat) (x0 : Option Nat) (x1 : Int) (h : YS) : ZR YS :=
  zI (ycu R d 1005 x0 [.inl x1] h) fun v2 h1 =>
  yrN 3 v2 h1
def yb_StringUTF16_newBytesLength (C : YC) (R : ZC YS) (d : Nat) (x0 : Int) (h : YS) : ZR YS :=
  if x0 < 0 then
    none
  else
  if x0 < 1073741823 then
    zrI (zshlI x0 1) h
  else
  none
def yb_AbstractStringBuilder_getValue (C : YC) (R : ZC YS) (d : Nat) (x0 : Option Nat) (h : YS) : ZR YS :=
  ygR 6900 x0 h fun v1 =>
  zrQ v1 h
def yb_String_init_2_p79 (C : YC) (R : ZC YS) (d : Nat) (x0 : Option Nat) (x3 : Option Nat) (x4 : Int) (h : YS) : ZR YS :=
  ypI 6301 2 x0 1 h fun h1 =>
  zQ (zc R d 981 [.inr (.inr x3), .inl 0, .inl (zshlI x4 1)] h1) fun v3 h2 =>
  ypR 6300 x0 v3 h2 fun h4 =>
  zrV h4
def yb_StringUTF16_compress (C : YC) (R : ZC YS) (d : Nat) (x0 : Option Nat) (x1 : Int) (x2 : Int) (h : YS) : ZR YS :=
  yna 2 x2 h fun r1 h2 =>
  zlet r1 fun x3_3 =>
  zI (zc R d 1006 [.inr (.inr x0), .inl x1, .inr (.inr x3_3), .inl 0, .inl x2] h2) fun v5 h4 =>
  zlet v5 fun x4_6 =>
  if x4_6 = x2 then
    zrQ x3_3 h4
  else
  zG (inI (x1 + x2)) <|
  zI (zc R d 976 [.inl (x1 + x2)] h4) fun v8 h7 =>
  zQ (zc R d 981 [.inr (.inr x0), .inl (zshlI x1 1), .inl v8] h7) fun v10 h9 =>
  zlet v10 fun x5_11 =>
  zI (zc R d 905 [.inr (.inr x5_11), .inl x4_6] h9) fun v13 h12 =>
  if v13 ≤ 255 then
    zI (zc R d 1006 [.inr (.inr x5_11), .inl 0, .inr (.inr x3_3), .inl 0, .inl x2] h12) fun v15 h14 =>
    if v15 = x2 then
      zrQ x3_3 h14
    else
    zrQ x5_11 h14
  else
  zrQ x5_11 h12
def yb_StringUTF16_coderFromArrayLen (C : YC) (R : ZC YS) (d : Nat) (x0 : Option Nat) (x1 : Int) (h : YS) : ZR YS :=
  ylen x0 h fun v1 =>
  yrN 2 (zbyte (zushrI (x1 - v1) 31)) h
def yb_Arrays_copyOfRange (C : YC) (R : ZC YS) (d : Nat) (x0 : Option Nat) (x1 : Int) (x2 : Int) (h : YS) : ZR YS :=
  if x1 = 0 then
    ylen x0 h fun v1 =>
    if x2 = v1 then
      ycln x0 h fun r2 h3 =>
      ycc 22 311 r2 h3 <|
      zrQ r2 h3
    else
    zQ (zc R d 1007 [.inr (.inr x0), .inl x1, .inl x2] h) fun v5 h4 =>
    zrQ v5 h4
  else
  zQ (zc R d 1007 [.inr (.inr x0), .inl x1, .inl x2] h) fun v7 h6 =>
  zrQ v7 h6
def yb_Machine_isEqual_p141 (C : YC) (R : ZC YS) (d : Nat) (x0 : Option Nat) (x5 : Int) (x7 : Int) (x9 : Int) (x10 : Int) (h : YS) : ZR YS :=
  ygR 3323 x0 h fun v1 =>
  zI (ycv R d [(11, 240)] x0 [.inr (.inl x5)] h) fun v3 h2 =>
  zI (ycv R d [(11, 240)] x0 [.inr (.inl x7)] h2) fun v5 h4 =>
  yst 1 v1 x9 (zorL (zshlL v3 32) v5) h4 fun h6 =>
  ygR 3324 x0 h6 fun v7 =>
  yst 0 v7 x9 x10 h6 fun h8 =>
  zG (inI (x9 + 1)) <|
  zlet (x9 + 1) fun x9_9 =>
  R d 823 [.inr (.inr x0), .inl x9_9] h8
def yb_Machine_apply_p145 (C : YC) (R : ZC YS) (d : Nat) (x0 : Option Nat) (x1 : Int) (x2 : Int) (x7 : Int) (x9 : Int) (x10 : Int) (h : YS) : ZR YS :=
  if x10 < x7 then
    ygR 3302 x0 h fun v1 =>
    ygR 3302 x0 h fun v2 =>
    yaI 1 v2 ((x1 + 2) + x10) h fun v3 =>
    yst 1 v1 ((x9 + 2) + x10) v3 h fun h4 =>
    zG (inI (x10 + 1)) <|
    zlet (x10 + 1) fun x10_5 =>
    R d 983 [.inr (.inr x0), .inl x1, .inr (.inl x2), .inl x7, .inl x9, .inl x10_5] h4
  else
  ygR 3302 x0 h fun v6 =>
  yst 1 v6 ((x9 + 2) + x7) x2 h fun h7 =>
  zJ (zc R d 232 [.inl 2, .inr (.inl x9)] h7) fun v9 h8 =>
  zV (ycv R d [(11, 226)] x0 [.inr (.inl v9)] h8) fun h10 =>
  zrV h10
def yb_Machine_apply_p209 (C : YC) (R : ZC YS) (d : Nat) (x0 : Option Nat) (x1 : Int) (x2 : Int) (x4 : Int) (x6 : Int) (x7 : Int) (x8 : Int) (x9 : Int) (h : YS) : ZR YS :=
  if x9 < x7 then
    ygR 3302 x0 h fun v1 =>
    yaI 1 v1 ((x1 + 2) + x9) h fun v2 =>
    zV (ycv R d [(11, 226)] x0 [.inr (.inl v2)] h) fun h3 =>
    zG (inI (x9 + 1)) <|
    zlet (x9 + 1) fun x9_4 =>
    R d 984 [.inr (.inr x0), .inl x1, .inr (.inl x2), .inl x4, .inl x6, .inl x7, .inl x8, .inl x9_4] h3
  else
  zV (ycv R d [(11, 226)] x0 [.inr (.inl x2)] h) fun h5 =>
  zV (ycv R d [(11, 268)] x0 [.inl x8, .inl x6, .inl x4] h5) fun h6 =>
  zrV h6
def yb_Teller_row_p99 (C : YC) (R : ZC YS) (d : Nat) (x0 : Option Nat) (x1 : Int) (x3 : Int) (x4 : Int) (x5 : Int) (x6 : Int) (x7 : Int) (h : YS) : ZR YS :=
  ygR 3901 x0 h fun v1 =>
  ygR 3901 x0 h fun v2 =>
  zI (ycv R d [(11, 240)] v2 [.inr (.inl x1)] h) fun v4 h3 =>
  zG (inI (v4 + x7)) <|
  zJ (ycv R d [(11, 274)] v1 [.inl (v4 + x7)] h3) fun v6 h5 =>
  ygR 3900 x0 h5 fun v7 =>
  zI (ycv R d [(4, 62)] v7 [.inl x3, .inl x7] h5) fun v9 h8 =>
  zG (inI (x4 + 1)) <|
  zV (ycv R d [(13, 287)] x0 [.inr (.inl v6), .inl v9, .inl 0, .inl (x4 + 1)] h8) fun h10 =>
  zG (inI (x7 + 1)) <|
  zlet (x7 + 1) fun x7_11 =>
  R d 831 [.inr (.inr x0), .inr (.inl x1), .inl x3, .inl x4, .inl x5, .inl x6, .inl x7_11] h10
def yb_Teller_variable_p95 (C : YC) (R : ZC YS) (d : Nat) (x0 : Option Nat) (x2 : Int) (y0 : Option Nat) (y1 : Option Nat) (h : YS) : ZR YS :=
  zV (ycv R d [(13, 283)] y1 [.inr (.inr y0)] h) fun h1 =>
  if x2 ≤ 25 then
    R d 1008 [.inr (.inr x0), .inl x2] h1
  else
  zV (ycv R d [(13, 284)] x0 [.inl (zchar ((97 + (zdivI x2 26)) - 1))] h1) fun h2 =>
  R d 1008 [.inr (.inr x0), .inl x2] h2
def yb_Values_leave_p303 (C : YC) (R : ZC YS) (d : Nat) (x0 : Option Nat) (x1 : Option Nat) (x2 : Option Nat) (x6 : Int) (h : YS) : ZR YS :=
  zI (ycv R d [(5, 506)] x2 [] h) fun v2 h1 =>
  if x6 < v2 then
    zQ (ycv R d [(5, 528)] x2 [.inl x6] h1) fun v4 h3 =>
    ycc 38 90 v4 h3 <|
    ygR 2700 x1 h3 fun v5 =>
    zQ (ycv R d [(5, 528)] x2 [.inl x6] h3) fun v7 h6 =>
    ycc 38 90 v7 h6 <|
    ygI 5403 v7 h6 fun v8 =>
    ygI 7203 x0 h6 fun v9 =>
    zI (ycv R d [(4, 96)] v5 [.inl v8, .inl v9] h6) fun v11 h10 =>
    ypI 5404 1 v4 v11 h10 fun h12 =>
    zG (inI (x6 + 1)) <|
    zlet (x6 + 1) fun x6_13 =>
    R d 987 [.inr (.inr x0), .inr (.inr x1), .inr (.inr x2), .inl x6_13] h12
  else
  R d 1009 [.inr (.inr x0), .inr (.inr x1)] h1
def yb_Fun_judge_p246 (C : YC) (R : ZC YS) (d : Nat) (x0 : Option Nat) (x1 : Option Nat) (x2 : Int) (x3 : Option Nat) (x4 : Int) (x5 : Option Nat) (x6 : Int) (x7 : Int) (x8 : Option Nat) (x9 : Option Nat) (y0 : Int) (h : YS) : ZR YS :=
  zlet y0 fun x10_1 =>
  ygR 2702 x1 h fun v2 =>
  zI (ycv R d [(5, 506)] v2 [] h) fun v4 h3 =>
  zlet v4 fun x11_5 =>
  zlet (0 : Int) fun x12_6 =>
  R d 1010 [.inr (.inr x0), .inr (.inr x1), .inl x2, .inr (.inr x3), .inl x4, .inr (.inr x5), .inl x6, .inl x7, .inr (.inr x8), .inr (.inr x9), .inl x10_1, .inl x11_5, .inl x12_6] h3
def yb_DataDec_judge_p258 (C : YC) (R : ZC YS) (d : Nat) (x0 : Option Nat) (x1 : Option Nat) (x3 : Int) (h : YS) : ZR YS :=
  ygR 18600 x0 h fun v1 =>
  zI (ycv R d [(5, 506)] v1 [] h) fun v3 h2 =>
  if x3 < v3 then
    ygI 2707 x1 h2 fun v4 =>
    if v4 = 0 then
      zrV h2
    else
    ygI 2708 x1 h2 fun v5 =>
    if v5 = 0 then
      ygR 2710 x1 h2 fun v6 =>
      ynew 68 5 h2 fun r7 h8 =>
      ygR 18600 x0 h8 fun v9 =>
      zQ (ycv R d [(5, 528)] v9 [.inl x3] h8) fun v11 h10 =>
      ycc 81 26 v11 h10 <|
      ygR 18904 v11 h10 fun v12 =>
      ygR 18600 x0 h10 fun v13 =>
      zQ (ycv R d [(5, 528)] v13 [.inl x3] h10) fun v15 h14 =>
      ycc 81 26 v15 h14 <|
      ygR 18901 v15 h14 fun v16 =>
      ygR 18600 x0 h14 fun v17 =>
      zQ (ycv R d [(5, 528)] v17 [.inl x3] h14) fun v19 h18 =>
      ycc 81 26 v19 h18 <|
      ygR 18900 v19 h18 fun v20 =>
      zQ (zc R d 24 [.inr (.inr v20)] h18) fun v22 h21 =>
      zV (ycs R d 479 r7 [.inr (.inr none), .inr (.inr v12), .inr (.inr v16), .inr (.inr v22), .inr (.inr none)] h21) fun h23 =>
      zI (ycv R d [(5, 505)] v6 [.inr (.inr r7)] h23) fun v25 h24 =>
      zG (inI (x3 + 1)) <|
      zlet (x3 + 1) fun x3_26 =>
      R d 989 [.inr (.inr x0), .inr (.inr x1), .inl x3_26] h24
    else
    zrV h2
  else
  zrV h2
def yb_DataDec_judge_2_p280 (C : YC) (R : ZC YS) (d : Nat) (x1 : Option Nat) (x2 : Option Nat) (x3 : Option Nat) (x4 : Option Nat) (x5 : Int) (x6 : Int) (x7 : Option Nat) (x8 : Option Nat) (x9 : Int) (y0 : Int) (y1 : Option Nat) (h : YS) : ZR YS :=
  ygI 19201 x7 h fun v1 =>
  zV (ycv R d [(9, 190)] y1 [.inl y0, .inl 14, .inl v1] h) fun h2 =>
  ygR 5406 x8 h2 fun v3 =>
  ygR 2700 x1 h2 fun v4 =>
  zQ (zc R d 23 [.inr (.inr x4)] h2) fun v6 h5 =>
  zQ (ycv R d [(4, 53)] v4 [.inl x9, .inr (.inr v6), .inl x5] h5) fun v8 h7 =>
  ypR 5703 v3 v8 h7 fun h9 =>
  zI (ycv R d [(5, 505)] x3 [.inr (.inr x8)] h9) fun v11 h10 =>
  zG (inI (x6 + 1)) <|
  zlet (x6 + 1) fun x6_12 =>
  R d 875 [.inr (.inr x1), .inr (.inr x2), .inr (.inr x3), .inr (.inr x4), .inl x5, .inl x6_12] h10
def yb_ArrayList_grow_2_p20 (C : YC) (R : ZC YS) (d : Nat) (x0 : Option Nat) (x1 : Int) (x2 : Int) (h : YS) : ZR YS :=
  zG (inI (x1 - x2)) <|
  zI (zc R d 999 [.inl x2, .inl (x1 - x2), .inl (zshrI x2 1)] h) fun v2 h1 =>
  zlet v2 fun x3_3 =>
  ygR 1501 x0 h1 fun v4 =>
  zQ (zc R d 1011 [.inr (.inr v4), .inl x3_3] h1) fun v6 h5 =>
  ypR 1501 x0 v6 h5 fun h7 =>
  zrQ v6 h7
def yb_StringUTF16_checkBoundsBeginEnd (C : YC) (R : ZC YS) (d : Nat) (x0 : Int) (x1 : Int) (x2 : Option Nat) (h : YS) : ZR YS :=
  zI (zc R d 966 [.inr (.inr x2)] h) fun v2 h1 =>
  zV (zc R d 1012 [.inl x0, .inl x1, .inl v2] h1) fun h3 =>
  zrV h3
def yb_StringUTF16_indexOfCharUnsafe (C : YC) (R : ZC YS) (d : Nat) (x0 : Option Nat) (x1 : Int) (x2 : Int) (x3 : Int) (h : YS) : ZR YS :=
  zlet x2 fun x4_1 =>
  R d 1013 [.inr (.inr x0), .inl x1, .inl x3, .inl x4_1] h
def yb_Character_isValidCodePoint (C : YC) (R : ZC YS) (d : Nat) (x0 : Int) (h : YS) : ZR YS :=
  zlet (zushrI x0 16) fun x1_1 =>
  if x1_1 < 17 then
    yrN 1 1 h
  else
  yrN 1 0 h
def yb_Character_highSurrogate (C : YC) (R : ZC YS) (d : Nat) (x0 : Int) (h : YS) : ZR YS :=
  yrN 3 (zchar ((zushrI x0 10) + 55232)) h
def yb_Character_lowSurrogate (C : YC) (R : ZC YS) (d : Nat) (x0 : Int) (h : YS) : ZR YS :=
  yrN 3 (zchar ((zandI x0 1023) + 56320)) h
def yb_StringUTF16_indexOfSupplementary_p28 (C : YC) (R : ZC YS) (d : Nat) (x0 : Option Nat) (x3 : Int) (x4 : Int) (x5 : Int) (x6 : Int) (h : YS) : ZR YS :=
  zG (inI (x3 - 1)) <|
  if x6 < (x3 - 1) then
    zI (zc R d 905 [.inr (.inr x0), .inl x6] h) fun v2 h1 =>
    if v2 = x4 then
      zG (inI (x6 + 1)) <|
      zI (zc R d 905 [.inr (.inr x0), .inl (x6 + 1)] h1) fun v4 h3 =>
      if v4 = x5 then
        zrI x6 h3
      else
      zlet (x6 + 1) fun x6_5 =>
      R d 997 [.inr (.inr x0), .inl x3, .inl x4, .inl x5, .inl x6_5] h3
    else
    zG (inI (x6 + 1)) <|
    zlet (x6 + 1) fun x6_6 =>
    R d 997 [.inr (.inr x0), .inl x3, .inl x4, .inl x5, .inl x6_6] h1
  else
  zrI (-1) h
def yb_StringLatin1_indexOfChar_p7 (C : YC) (R : ZC YS) (d : Nat) (x0 : Option Nat) (x3 : Int) (x4 : Int) (x5 : Int) (h : YS) : ZR YS :=
  if x5 < x3 then
    yaI 2 x0 x5 h fun v1 =>
    if v1 = x4 then
      zrI x5 h
    else
    zG (inI (x5 + 1)) <|
    zlet (x5 + 1) fun x5_2 =>
    R d 998 [.inr (.inr x0), .inl x3, .inl x4, .inl x5_2] h
  else
  zrI (-1) h
def yb_ArraysSupport_newLength (C : YC) (R : ZC YS) (d : Nat) (x0 : Int) (x1 : Int) (x2 : Int) (h : YS) : ZR YS :=
  zI (zc R d 660 [.inl x1, .inl x2] h) fun v2 h1 =>
  zG (inI (x0 + v2)) <|
  zlet (x0 + v2) fun x3_3 =>
  if 0 < x3_3 then
    if x3_3 ≤ 2147483639 then
      zrI x3_3 h1
    else
    zI (zc R d 1014 [.inl x0, .inl x1] h1) fun v5 h4 =>
    zrI v5 h4
  else
  zI (zc R d 1014 [.inl x0, .inl x1] h1) fun v7 h6 =>
  zrI v7 h6
def yb_StringUTF16_putChar (C : YC) (R : ZC YS) (d : Nat) (x0 : Option Nat) (x1 : Int) (x2 : Int) (h : YS) : ZR YS :=
  ysvI C 6 fun v1 =>
  if v1 = 0 then
    if x1 < 0 then
      none
    else
    zI (zc R d 966 [.inr (.inr x0)] h) fun v3 h2 =>
    if x1 < v3 then
      R d 1015 [.inr (.inr x0), .inl x1, .inl x2] h2
    else
    none
  else
  R d 1015 [.inr (.inr x0), .inl x1, .inl x2] h
def yb_StringUTF16_inflate (C : YC) (R : ZC YS) (d : Nat) (x0 : Option Nat) (x1 : Int) (x2 : Option Nat) (x3 : Int) (x4 : Int) (h : YS) : ZR YS :=
  zV (zc R d 1016 [.inl x3, .inl x4, .inr (.inr x2)] h) fun h1 =>
  zlet (0 : Int) fun x5_2 =>
  R d 1017 [.inr (.inr x0), .inl x1, .inr (.inr x2), .inl x3, .inl x4, .inl x5_2] h1
def yb_Types_opens_p271 (C : YC) (R : ZC YS) (d : Nat) (x0 : Option Nat) (x1 : Int) (x2 : Int) (x3 : Int) (x4 : Int) (x5 : Int) (x6 : Int) (x7 : Int) (x8 : Int) (y0 : Int) (y1 : Option Nat) (y2 : Int) (y3 : Int) (y4 : Option Nat) (h : YS) : ZR YS :=
  zV (ycv R d [(4, 66)] y4 [.inl y3, .inl y2, .inr (.inr y1), .inl y0] h) fun h1 =>
  if x8 = 0 then
    zI (ycv R d [(4, 63)] x0 [.inl x1, .inl x5] h1) fun v3 h2 =>
    zI (ycv R d [(4, 63)] x0 [.inl x2, .inl x6] h2) fun v5 h4 =>
    zV (ycv R d [(4, 78)] x0 [.inl v3, .inl v5] h4) fun h6 =>
    R d 1018 [.inr (.inr x0), .inl x1, .inl x2, .inl x3, .inl x4, .inl x5, .inl x6, .inl x7, .inl x8] h6
  else
  R d 1018 [.inr (.inr x0), .inl x1, .inl x2, .inl x3, .inl x4, .inl x5, .inl x6, .inl x7, .inl x8] h1
def yb_Types_admits_p181 (C : YC) (R : ZC YS) (d : Nat) (x0 : Option Nat) (x1 : Int) (x2 : Int) (x4 : Int) (x6 : Int) (h : YS) : ZR YS :=
  zI (ycv R d [(4, 62)] x0 [.inl x4, .inl x6] h) fun v2 h1 =>
  zI (ycv R d [(4, 89)] x0 [.inl v2, .inl x1] h1) fun v4 h3 =>
  zlet v4 fun x1_5 =>
  zG (inI (x6 + 1)) <|
  zlet (x6 + 1) fun x6_6 =>
  R d 969 [.inr (.inr x0), .inl x1_5, .inl x2, .inl x4, .inl x6_6] h3
def yb_Parser_pat_p145 (C : YC) (R : ZC YS) (d : Nat) (x0 : Option Nat) (x1 : Int) (x3 : Option Nat) (x4 : Option Nat) (x5 : Option Nat) (h : YS) : ZR YS :=
  ynull x4 (
    ynew 34 3 h fun r1 h2 =>
    zV (ycs R d 358 r1 [.inr (.inr x3), .inr (.inr x5)] h2) fun h3 =>
    zlet r1 fun x3_4 =>
    R d 1019 [.inr (.inr x0), .inr (.inr x3_4)] h3
  ) <|
  zI (ycv R d [(6, 108)] x0 [.inr (.inr (some (C.1 125)))] h) fun v6 h5 =>
  if v6 = 0 then
    ynew 34 3 h5 fun r7 h8 =>
    zV (ycs R d 358 r7 [.inr (.inr x3), .inr (.inr x5)] h8) fun h9 =>
    zlet r7 fun x3_10 =>
    R d 1019 [.inr (.inr x0), .inr (.inr x3_10)] h9
  else
  ynew 32 6 h5 fun r11 h12 =>
  ygR 9901 x4 h12 fun v13 =>
  ygI 9902 x4 h12 fun v14 =>
  zQ (ycv R d [(6, 109)] x0 [] h12) fun v16 h15 =>
  zV (ycs R d 348 r11 [.inr (.inr v13), .inl v14, .inl x1, .inr (.inr x5), .inr (.inr v16)] h15) fun h17 =>
  zrQ r11 h17
def yb_AbstractStringBuilder_charAt (C : YC) (R : ZC YS) (d : Nat) (x0 : Option Nat) (x1 : Int) (h : YS) : ZR YS :=
  ygI 6901 x0 h fun v1 =>
  zlet v1 fun x2_2 =>
  ygR 6900 x0 h fun v3 =>
  zlet v3 fun x3_4 =>
  ygI 6903 x0 h fun v5 =>
  ylen x3_4 h fun v6 =>
  zI (zc R d 547 [.inl v5, .inl (zshrI v6 x2_2)] h) fun v8 h7 =>
  zlet v8 fun x4_9 =>
  zV (zc R d 906 [.inl x1, .inl x4_9] h7) fun h10 =>
  if x2_2 = 0 then
    yaI 2 x3_4 x1 h10 fun v11 =>
    yrN 3 (zchar (zandI v11 255)) h10
  else
  zI (zc R d 905 [.inr (.inr x3_4), .inl x1] h10) fun v13 h12 =>
  yrN 3 v13 h12
def yb_StringUTF16_compress_2 (C : YC) (R : ZC YS) (d : Nat) (x0 : Option Nat) (x1 : Int) (x2 : Option Nat) (x3 : Int) (x4 : Int) (h : YS) : ZR YS :=
  zV (zc R d 1016 [.inl x1, .inl x4, .inr (.inr x0)] h) fun h1 =>
  zlet (0 : Int) fun x5_2 =>
  R d 1020 [.inr (.inr x0), .inl x1, .inr (.inr x2), .inl x3, .inl x4, .inl x5_2] h1
def yb_Arrays_copyOfRangeByte (C : YC) (R : ZC YS) (d : Nat) (x0 : Option Nat) (x1 : Int) (x2 : Int) (h : YS) : ZR YS :=
  zV (zc R d 1021 [.inl x1, .inl x2] h) fun h1 =>
  zG (inI (x2 - x1)) <|
  zlet (x2 - x1) fun x3_2 =>
  yna 2 x3_2 h1 fun r3 h4 =>
  zlet r3 fun x4_5 =>
  ylen x0 h4 fun v6 =>
  zG (inI (v6 - x1)) <|
  zI (zc R d 547 [.inl (v6 - x1), .inl x3_2] h4) fun v8 h7 =>
  yac x0 x1 x4_5 0 v8 h7 fun h9 =>
  zrQ x4_5 h9
def yb_Teller_variable_p118 (C : YC) (R : ZC YS) (d : Nat) (x0 : Option Nat) (x2 : Int) (h : YS) : ZR YS :=
  zV (ycv R d [(13, 284)] x0 [.inl (zchar (97 + (x2 - ((zdivI x2 26) * 26))))] h) fun h1 =>
  zrV h1
def yb_Values_leave_p353 (C : YC) (R : ZC YS) (d : Nat) (x0 : Option Nat) (x1 : Option Nat) (h : YS) : ZR YS :=
  ygR 2704 x1 h fun v1 =>
  zI (ycv R d [(5, 506)] v1 [] h) fun v3 h2 =>
  ygI 7202 x0 h2 fun v4 =>
  if v3 ≤ v4 then
    ygR 2700 x1 h2 fun v5 =>
    ygI 7203 x0 h2 fun v6 =>
    ypI 1214 0 v5 v6 h2 fun h7 =>
    zrV h7
  else
  ygR 2704 x1 h2 fun v8 =>
  ygR 2704 x1 h2 fun v9 =>
  zI (ycv R d [(5, 506)] v9 [] h2) fun v11 h10 =>
  zG (inI (v11 - 1)) <|
  zQ (ycv R d [(5, 590)] v8 [.inl (v11 - 1)] h10) fun v13 h12 =>
  R d 1009 [.inr (.inr x0), .inr (.inr x1)] h12
def yb_Fun_judge_p260 (C : YC) (R : ZC YS) (d : Nat) (x0 : Option Nat) (x1 : Option Nat) (x2 : Int) (x3 : Option Nat) (x4 : Int) (x5 : Option Nat) (x6 : Int) (x7 : Int) (x8 : Option Nat) (x9 : Option Nat) (x10 : Int) (x11 : Int) (x12 : Int) (h : YS) : ZR YS :=
  zI (ycv R d [(5, 506)] x9 [] h) fun v2 h1 =>
  if x12 < v2 then
    ygR 2702 x1 h1 fun v3 =>
    zQ (ycv R d [(5, 528)] x9 [.inl x12] h1) fun v5 h4 =>
    ycc 78 99 v5 h4 <|
    zI (ycv R d [(5, 505)] v3 [.inr (.inr v5)] h4) fun v7 h6 =>
    zG (inI (x12 + 1)) <|
    zlet (x12 + 1) fun x12_8 =>
    R d 1010 [.inr (.inr x0), .inr (.inr x1), .inl x2, .inr (.inr x3), .inl x4, .inr (.inr x5), .inl x6, .inl x7, .inr (.inr x8), .inr (.inr x9), .inl x10, .inl x11, .inl x12_8] h6
  else
  ygR 18004 x8 h1 fun v9 =>
  zI (ycv R d [(53, 435), (56, 448), (42, 396), (52, 431), (45, 403), (57, 451), (40, 390), (54, 440), (49, 419), (48, 415), (39, 386), (47, 411), (50, 422), (46, 408), (55, 444), (51, 426), (41, 393)] v9 [.inr (.inr x1)] h1) fun v11 h10 =>
  zlet v11 fun x12_12 =>
  if x10 = (-1) then
    R d 1022 [.inr (.inr x0), .inr (.inr x1), .inl x2, .inr (.inr x3), .inl x4, .inr (.inr x5), .inl x6, .inl x7, .inr (.inr x8), .inl x11, .inl x12_12] h10
  else
  ygR 18004 x8 h10 fun v13 =>
  ygI 11700 v13 h10 fun v14 =>
  zV (ycv R d [(9, 199)] x1 [.inl x10, .inl x12_12, .inl v14] h10) fun h15 =>
  R d 1022 [.inr (.inr x0), .inr (.inr x1), .inl x2, .inr (.inr x3), .inl x4, .inr (.inr x5), .inl x6, .inl x7, .inr (.inr x8), .inl x11, .inl x12_12] h15
def yb_Arrays_copyOf (C : YC) (R : ZC YS) (d : Nat) (x0 : Option Nat) (x1 : Int) (h : YS) : ZR YS :=
  ygc C x0 h fun v1 =>
  zQ (zc R d 1023 [.inr (.inr x0), .inl x1, .inr (.inr v1)] h) fun v3 h2 =>
  zrQ v3 h2
def yb_String_checkBoundsBeginEnd (C : YC) (R : ZC YS) (d : Nat) (x0 : Int) (x1 : Int) (x2 : Int) (h : YS) : ZR YS :=
  ysvR C 5 fun v1 =>
  zI (zc R d 1024 [.inl x0, .inl x1, .inl x2, .inr (.inr v1)] h) fun v3 h2 =>
  zrV h2
def yb_StringUTF16_indexOfCharUnsafe_p3 (C : YC) (R : ZC YS) (d : Nat) (x0 : Option Nat) (x1 : Int) (x3 : Int) (x4 : Int) (h : YS) : ZR YS :=
  if x4 < x3 then
    zI (zc R d 905 [.inr (.inr x0), .inl x4] h) fun v2 h1 =>
    if v2 = x1 then
      zrI x4 h1
    else
    zG (inI (x4 + 1)) <|
    zlet (x4 + 1) fun x4_3 =>
    R d 1013 [.inr (.inr x0), .inl x1, .inl x3, .inl x4_3] h1
  else
  zrI (-1) h
def yb_ArraysSupport_hugeLength (C : YC) (R : ZC YS) (d : Nat) (x0 : Int) (x1 : Int) (h : YS) : ZR YS :=
  zG (inI (x0 + x1)) <|
  zlet (x0 + x1) fun x2_1 =>
  if x2_1 < 0 then
    none
  else
  if x2_1 ≤ 2147483639 then
    zrI 2147483639 h
  else
  zrI x2_1 h
def yb_StringUTF16_putChar_p28 (C : YC) (R : ZC YS) (d : Nat) (x0 : Option Nat) (x1 : Int) (x2 : Int) (h : YS) : ZR YS :=
  zlet (zshlI x1 1) fun x1_1 =>
  zG (inI (x1_1 + 1)) <|
  zlet (x1_1 + 1) fun x1_2 =>
  ysvI C 7 fun v3 =>
  yst 2 x0 x1_1 (zbyte (zshrI x2 v3)) h fun h4 =>
  ysvI C 8 fun v5 =>
  yst 2 x0 x1_2 (zbyte (zshrI x2 v5)) h4 fun h6 =>
  zrV h6
def yb_StringUTF16_checkBoundsOffCount (C : YC) (R : ZC YS) (d : Nat) (x0 : Int) (x1 : Int) (x2 : Option Nat) (h : YS) : ZR YS :=
  zI (zc R d 966 [.inr (.inr x2)] h) fun v2 h1 =>
  zI (zc R d 1025 [.inl x0, .inl x1, .inl v2] h1) fun v4 h3 =>
  zrV h3
def yb_StringUTF16_inflate_p10 (C : YC) (R : ZC YS) (d : Nat) (x0 : Option Nat) (x1 : Int) (x2 : Option Nat) (x3 : Int) (x4 : Int) (x5 : Int) (h : YS) : ZR YS :=
  if x5 < x4 then
    zG (inI (x3 + 1)) <|
    zlet (x3 + 1) fun x3_1 =>
    zG (inI (x1 + 1)) <|
    zlet (x1 + 1) fun x1_2 =>
    yaI 2 x0 x1 h fun v3 =>
    zV (zc R d 1000 [.inr (.inr x2), .inl x3, .inl (zandI v3 255)] h) fun h4 =>
    zG (inI (x5 + 1)) <|
    zlet (x5 + 1) fun x5_5 =>
    R d 1017 [.inr (.inr x0), .inl x1_2, .inr (.inr x2), .inl x3_1, .inl x4, .inl x5_5] h4
  else
  zrV h
def yb_Types_opens_p297 (C : YC) (R : ZC YS) (d : Nat) (x0 : Option Nat) (x1 : Int) (x2 : Int) (x3 : Int) (x4 : Int) (x5 : Int) (x6 : Int) (x7 : Int) (x8 : Int) (h : YS) : ZR YS :=
  if x8 ≤ 0 then
    R d 1026 [.inr (.inr x0), .inl x1, .inl x2, .inl x3, .inl x4, .inl x6, .inl x7, .inl x8, .inl 1, .inl x5] h
  else
  R d 1026 [.inr (.inr x0), .inl x1, .inl x2, .inl x3, .inl x4, .inl x6, .inl x7, .inl x8, .inl 0, .inl x5] h
def yb_Parser_pat_p196 (C : YC) (R : ZC YS) (d : Nat) (x0 : Option Nat) (x3 : Option Nat) (h : YS) : ZR YS :=
  zI (ycv R d [(6, 108)] x0 [.inr (.inr (some (C.1 122)))] h) fun v2 h1 =>
  if v2 = 0 then
    zrQ x3 h1
  else
  ynew 34 3 h1 fun r3 h4 =>
  zQ (ycv R d [(6, 126)] x0 [] h4) fun v6 h5 =>
  zV (ycs R d 358 r3 [.inr (.inr x3), .inr (.inr v6)] h5) fun h7 =>
  zlet r3 fun x3_8 =>
  R d 1019 [.inr (.inr x0), .inr (.inr x3_8)] h7
def yb_StringUTF16_compress_2_p10 (C : YC) (R : ZC YS) (d : Nat) (x0 : Option Nat) (x1 : Int) (x2 : Option Nat) (x3 : Int) (x4 : Int) (x5 : Int) (h : YS) : ZR YS :=
  if x5 < x4 then
    zI (zc R d 905 [.inr (.inr x0), .inl x1] h) fun v2 h1 =>
    zlet v2 fun x6_3 =>
    if x6_3 ≤ 255 then
      yst 2 x2 x3 (zbyte x6_3) h1 fun h4 =>
      zG (inI (x1 + 1)) <|
      zlet (x1 + 1) fun x1_5 =>
      zG (inI (x3 + 1)) <|
      zlet (x3 + 1) fun x3_6 =>
      zG (inI (x5 + 1)) <|
      zlet (x5 + 1) fun x5_7 =>
      R d 1020 [.inr (.inr x0), .inl x1_5, .inr (.inr x2), .inl x3_6, .inl x4, .inl x5_7] h4
    else
    zrI x5 h1
  else
  zrI x4 h
def yb_Arrays_checkLength (C : YC) (R : ZC YS) (d : Nat) (x0 : Int) (x1 : Int) (h : YS) : ZR YS :=
  if x1 < x0 then
    none
  else
  zrV h
def yb_Fun_judge_p327 (C : YC) (R : ZC YS) (d : Nat) (x0 : Option Nat) (x1 : Option Nat) (x2 : Int) (x3 : Option Nat) (x4 : Int) (x5 : Option Nat) (x6 : Int) (x7 : Int) (x8 : Option Nat) (x11 : Int) (x12 : Int) (h : YS) : ZR YS :=
  if x4 = (-1) then
    zlet x12 fun x4_1 =>
    R d 1027 [.inr (.inr x0), .inr (.inr x1), .inl x2, .inr (.inr x3), .inl x4_1, .inr (.inr x5), .inl x6, .inl x7, .inr (.inr x8), .inl x11] h
  else
  ygR 18004 x8 h fun v2 =>
  ygI 11700 v2 h fun v3 =>
  zV (ycv R d [(9, 199)] x1 [.inl x4, .inl x12, .inl v3] h) fun h4 =>
  R d 1027 [.inr (.inr x0), .inr (.inr x1), .inl x2, .inr (.inr x3), .inl x4, .inr (.inr x5), .inl x6, .inl x7, .inr (.inr x8), .inl x11] h4
def yb_Arrays_copyOf_2 (C : YC) (R : ZC YS) (d : Nat) (x0 : Option Nat) (x1 : Int) (x2 : Option Nat) (h : YS) : ZR YS :=
  if x2 = (some C.2.2.2) then
    yna 5 x1 h fun r1 h2 =>
    R d 1028 [.inr (.inr x0), .inl x1, .inr (.inr r1)] h2
  else
  none
def yb_Preconditions_checkFromToIndex (C : YC) (R : ZC YS) (d : Nat) (x0 : Int) (x1 : Int) (x2 : Int) (x3 : Option Nat) (h : YS) : ZR YS :=
  if x0 < 0 then
    none
  else
  if x0 ≤ x1 then
    if x1 ≤ x2 then
      zrI x0 h
    else
    none
  else
  none
def yb_String_checkBoundsOffCount (C : YC) (R : ZC YS) (d : Nat) (x0 : Int) (x1 : Int) (x2 : Int) (h : YS) : ZR YS :=
  ysvR C 5 fun v1 =>
  zI (zc R d 1029 [.inl x0, .inl x1, .inl x2, .inr (.inr v1)] h) fun v3 h2 =>
  zrI v3 h2
def yb_Types_opens_p309 (C : YC) (R : ZC YS) (d : Nat) (x0 : Option Nat) (x1 : Int) (x2 : Int) (x3 : Int) (x4 : Int) (x6 : Int) (x7 : Int) (x8 : Int) (y0 : Int) (y1 : Int) (h : YS) : ZR YS :=
  zG (inI (y1 + y0)) <|
  zlet (y1 + y0) fun x5_1 =>
  if x8 < 0 then
    zG (inI (x6 + 0)) <|
    zlet (x6 + 0) fun x6_2 =>
    zG (inI (x7 + 1)) <|
    zlet (x7 + 1) fun x7_3 =>
    R d 782 [.inr (.inr x0), .inl x1, .inl x2, .inl x3, .inl x4, .inl x5_1, .inl x6_2, .inl x7_3] h
  else
  zG (inI (x6 + 1)) <|
  zlet (x6 + 1) fun x6_4 =>
  zG (inI (x7 + 1)) <|
  zlet (x7 + 1) fun x7_5 =>
  R d 782 [.inr (.inr x0), .inl x1, .inl x2, .inl x3, .inl x4, .inl x5_1, .inl x6_4, .inl x7_5] h
def yb_Fun_judge_p356 (C : YC) (R : ZC YS) (d : Nat) (x0 : Option Nat) (x1 : Option Nat) (x2 : Int) (x3 : Option Nat) (x4 : Int) (x5 : Option Nat) (x6 : Int) (x7 : Int) (x8 : Option Nat) (x11 : Int) (h : YS) : ZR YS :=
  zV (ycv R d [(9, 202)] x1 [.inl x11] h) fun h1 =>
  ygR 18002 x8 h1 fun v2 =>
  zI (ycv R d [(69, 481)] x5 [.inr (.inr v2)] h1) fun v4 h3 =>
  ygI 17700 x0 h3 fun v5 =>
  zV (ycv R d [(9, 190)] x1 [.inl v4, .inl 4, .inl v5] h3) fun h6 =>
  zG (inI (x7 + 1)) <|
  zlet (x7 + 1) fun x7_7 =>
  R d 728 [.inr (.inr x0), .inr (.inr x1), .inl x2, .inr (.inr x3), .inl x4, .inr (.inr x5), .inl x6, .inl x7_7] h6
def yb_Arrays_copyOf_2_p24 (C : YC) (R : ZC YS) (d : Nat) (x0 : Option Nat) (x1 : Int) (y0 : Option Nat) (h : YS) : ZR YS :=
  zlet y0 fun x3_1 =>
  ylen x0 h fun v2 =>
  zI (zc R d 547 [.inl v2, .inl x1] h) fun v4 h3 =>
  yac x0 0 x3_1 0 v4 h3 fun h5 =>
  zrQ x3_1 h5
def yb_Preconditions_checkFromIndexSize (C : YC) (R : ZC YS) (d : Nat) (x0 : Int) (x1 : Int) (x2 : Int) (x3 : Option Nat) (h : YS) : ZR YS :=
  if (zorI (zorI x2 x0) x1) < 0 then
    none
  else
  zG (inI (x2 - x0)) <|
  if x1 ≤ (x2 - x0) then
    zrI x0 h
  else
  none
