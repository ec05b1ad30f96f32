set_option maxRecDepth 100000
/-! THE HOUSE over whole numbers (printed by ygen.py) -/
def yb_MlHouse_init (C : YC) (R : ZC YS) (d : Nat) (x0 : Option Nat) (h : YS) : ZR YS :=
  ynull x0 none <|
  ynew 1 3 h fun r2 h3 =>
  ygiv 300 r2 h3 fun h4 =>
  ypR 0 x0 r2 h4 fun h5 =>
  ynew 4 29 h5 fun r6 h7 =>
  zV (ycs R d 49 r6 [] h7) fun h8 =>
  ypR 1 x0 r6 h8 fun h9 =>
  ynew 6 10 h9 fun r10 h11 =>
  ygR 0 x0 h11 fun v12 =>
  zV (ycs R d 100 r10 [.inr (.inr v12)] h11) fun h13 =>
  ypR 2 x0 r10 h13 fun h14 =>
  ynew 9 12 h14 fun r15 h16 =>
  ygR 1 x0 h16 fun v17 =>
  ygR 0 x0 h16 fun v18 =>
  zV (ycs R d 188 r15 [.inr (.inr v17), .inr (.inr v18)] h16) fun h19 =>
  ypR 3 x0 r15 h19 fun h20 =>
  ynew 10 32 h20 fun r21 h22 =>
  ygR 1 x0 h22 fun v23 =>
  zV (ycs R d 204 r21 [.inr (.inr v23)] h22) fun h24 =>
  ypR 4 x0 r21 h24 fun h25 =>
  ynew 11 25 h25 fun r26 h27 =>
  zV (ycs R d 222 r26 [.inr (.inr x0)] h27) fun h28 =>
  ypR 5 x0 r26 h28 fun h29 =>
  ynew 13 7 h29 fun r30 h31 =>
  ygR 1 x0 h31 fun v32 =>
  ygR 5 x0 h31 fun v33 =>
  zV (ycs R d 280 r30 [.inr (.inr v32), .inr (.inr v33)] h31) fun h34 =>
  ypR 6 x0 r30 h34 fun h35 =>
  ynew 14 3 h35 fun r36 h37 =>
  zV (ycs R d 304 r36 [] h37) fun h38 =>
  ypR 7 x0 r36 h38 fun h39 =>
  yna 9 8 h39 fun r40 h41 =>
  ypR 8 x0 r40 h41 fun h42 =>
  ynew 5 3 h42 fun r43 h44 =>
  zV (ycs R d 503 r43 [] h44) fun h45 =>
  ypR 9 x0 r43 h45 fun h46 =>
  ynew 5 3 h46 fun r47 h48 =>
  zV (ycs R d 503 r47 [] h48) fun h49 =>
  ypR 10 x0 r47 h49 fun h50 =>
  ynew 5 3 h50 fun r51 h52 =>
  zV (ycs R d 503 r51 [] h52) fun h53 =>
  ypR 11 x0 r51 h53 fun h54 =>
  ynew 5 3 h54 fun r55 h56 =>
  zV (ycs R d 503 r55 [] h56) fun h57 =>
  ypR 12 x0 r55 h57 fun h58 =>
  ynew 5 3 h58 fun r59 h60 =>
  zV (ycs R d 503 r59 [] h60) fun h61 =>
  ypR 13 x0 r59 h61 fun h62 =>
  yna 1 256 h62 fun r63 h64 =>
  ypR 14 x0 r63 h64 fun h65 =>
  yna 0 4096 h65 fun r66 h67 =>
  ypR 18 x0 r66 h67 fun h68 =>
  yna 2 8000 h68 fun r69 h70 =>
  ypR 20 x0 r69 h70 fun h71 =>
  yna 2 4000 h71 fun r72 h73 =>
  ypR 21 x0 r72 h73 fun h74 =>
  ypI 22 0 x0 (-2) h74 fun h75 =>
  ypI 25 0 x0 (-1) h75 fun h76 =>
  ypI 27 0 x0 (-1) h76 fun h77 =>
  yna 0 2000 h77 fun r78 h79 =>
  ypR 28 x0 r78 h79 fun h80 =>
  yna 0 2000 h80 fun r81 h82 =>
  ypR 29 x0 r81 h82 fun h83 =>
  zV (ycv R d [(0, 1)] x0 [] h83) fun h84 =>
  zrV h84
def yb_MlHouse_clear (C : YC) (R : ZC YS) (d : Nat) (x0 : Option Nat) (h : YS) : ZR YS :=
  ygR 7 x0 h fun v1 =>
  ygR 4200 v1 h fun v2 =>
  zV (ycv R d [(5, 504)] v2 [] h) fun h3 =>
  ygR 7 x0 h3 fun v4 =>
  ygR 4201 v4 h3 fun v5 =>
  zV (ycv R d [(5, 504)] v5 [] h3) fun h6 =>
  ygR 7 x0 h6 fun v7 =>
  ygR 4202 v7 h6 fun v8 =>
  zV (ycv R d [(5, 504)] v8 [] h6) fun h9 =>
  ygR 1 x0 h9 fun v10 =>
  ygR 1200 v10 h9 fun v11 =>
  zV (ycv R d [(5, 504)] v11 [] h9) fun h12 =>
  ygR 9 x0 h12 fun v13 =>
  zV (ycv R d [(5, 504)] v13 [] h12) fun h14 =>
  ygR 10 x0 h14 fun v15 =>
  zV (ycv R d [(5, 504)] v15 [] h14) fun h16 =>
  ygR 11 x0 h16 fun v17 =>
  zV (ycv R d [(5, 504)] v17 [] h16) fun h18 =>
  ygR 12 x0 h18 fun v19 =>
  zV (ycv R d [(5, 504)] v19 [] h18) fun h20 =>
  ygR 13 x0 h20 fun v21 =>
  zV (ycv R d [(5, 504)] v21 [] h20) fun h22 =>
  ypI 22 0 x0 (-2) h22 fun h23 =>
  ygR 5 x0 h23 fun v24 =>
  zV (ycv R d [(11, 223)] v24 [] h23) fun h25 =>
  ypI 15 0 x0 0 h25 fun h26 =>
  ypI 16 0 x0 0 h26 fun h27 =>
  ypI 17 0 x0 0 h27 fun h28 =>
  ypI 24 0 x0 0 h28 fun h29 =>
  ypI 25 0 x0 (-1) h29 fun h30 =>
  ypI 26 0 x0 0 h30 fun h31 =>
  ypI 27 0 x0 (-1) h31 fun h32 =>
  ypI 30 0 x0 0 h32 fun h33 =>
  ygR 1 x0 h33 fun v34 =>
  zV (ycv R d [(4, 50)] v34 [] h33) fun h35 =>
  zV (ycv R d [(0, 2)] x0 [] h35) fun h36 =>
  zrV h36
def yb_MlHouse_begin (C : YC) (R : ZC YS) (d : Nat) (x0 : Option Nat) (h : YS) : ZR YS :=
  zQ (ycv R d [(0, 3)] x0 [.inr (.inr (some (C.1 46))), .inl 0] h) fun v2 h1 =>
  zQ (ycv R d [(0, 3)] x0 [.inr (.inr (some (C.1 47))), .inl 0] h1) fun v4 h3 =>
  zQ (ycv R d [(0, 3)] x0 [.inr (.inr (some (C.1 48))), .inl 0] h3) fun v6 h5 =>
  zQ (ycv R d [(0, 3)] x0 [.inr (.inr (some (C.1 49))), .inl 0] h5) fun v8 h7 =>
  zlet v8 fun x1_9 =>
  zQ (ycv R d [(0, 3)] x0 [.inr (.inr (some (C.1 50))), .inl 0] h7) fun v11 h10 =>
  ypI 4504 1 v11 0 h10 fun h12 =>
  zQ (ycv R d [(0, 3)] x0 [.inr (.inr (some (C.1 51))), .inl 1] h12) fun v14 h13 =>
  zlet v14 fun x2_15 =>
  zQ (ycv R d [(0, 3)] x0 [.inr (.inr (some (C.1 52))), .inl 1] h13) fun v17 h16 =>
  zlet v17 fun x3_18 =>
  ygR 7 x0 h16 fun v19 =>
  ygR 4201 v19 h16 fun v20 =>
  ynew 16 4 h16 fun r21 h22 =>
  ygR 1 x0 h22 fun v23 =>
  ygR 1 x0 h22 fun v24 =>
  zI (ycv R d [(4, 51)] v24 [] h22) fun v26 h25 =>
  yna 0 0 h25 fun r27 h28 =>
  zQ (ycv R d [(4, 53)] v23 [.inl v26, .inr (.inr r27), .inl 0] h28) fun v30 h29 =>
  zV (ycs R d 308 r21 [.inr (.inr (some (C.1 53))), .inl 0, .inr (.inr none), .inr (.inr v30)] h29) fun h31 =>
  zI (ycv R d [(5, 505)] v20 [.inr (.inr r21)] h31) fun v33 h32 =>
  zV (ycv R d [(0, 4)] x0 [.inr (.inr (some (C.1 54))), .inr (.inr x1_9), .inl (-1), .inl (-1)] h32) fun h34 =>
  zV (ycv R d [(0, 4)] x0 [.inr (.inr (some (C.1 55))), .inr (.inr x1_9), .inl (-1), .inl (-1)] h34) fun h35 =>
  ygR 1 x0 h35 fun v36 =>
  zI (ycv R d [(4, 64)] v36 [] h35) fun v38 h37 =>
  zlet v38 fun x4_39 =>
  ygR 1 x0 h37 fun v40 =>
  zI (ycv R d [(4, 65)] v40 [.inl 5, .inl x4_39] h37) fun v42 h41 =>
  zlet v42 fun x5_43 =>
  zV (ycv R d [(0, 4)] x0 [.inr (.inr (some (C.1 57))), .inr (.inr x2_15), .inl (-1), .inl x4_39] h41) fun h44 =>
  ygR 1 x0 h44 fun v45 =>
  zI (ycv R d [(4, 67)] v45 [.inl x4_39, .inl x5_43] h44) fun v47 h46 =>
  zV (ycv R d [(0, 4)] x0 [.inr (.inr (some (C.1 58))), .inr (.inr x2_15), .inl v47, .inl x4_39] h46) fun h48 =>
  zV (ycv R d [(0, 4)] x0 [.inr (.inr (some (C.1 52))), .inr (.inr x3_18), .inl x4_39, .inl x4_39] h48) fun h49 =>
  zV (ycv R d [(0, 5)] x0 [] h49) fun h50 =>
  zV (ycv R d [(0, 7)] x0 [.inl x4_39] h50) fun h51 =>
  zV (ycv R d [(0, 11)] x0 [.inr (.inr (some (C.1 77))), .inl 7, .inl 0] h51) fun h52 =>
  zV (ycv R d [(0, 11)] x0 [.inr (.inr (some (C.1 78))), .inl 7, .inl 0] h52) fun h53 =>
  zV (ycv R d [(0, 11)] x0 [.inr (.inr (some (C.1 76))), .inl 7, .inl 0] h53) fun h54 =>
  zV (ycv R d [(0, 11)] x0 [.inr (.inr (some (C.1 74))), .inl 6, .inl 0] h54) fun h55 =>
  zV (ycv R d [(0, 11)] x0 [.inr (.inr (some (C.1 75))), .inl 6, .inl 0] h55) fun h56 =>
  zV (ycv R d [(0, 11)] x0 [.inr (.inr (some (C.1 79))), .inl 6, .inl 0] h56) fun h57 =>
  zV (ycv R d [(0, 11)] x0 [.inr (.inr (some (C.1 58))), .inl 5, .inl 1] h57) fun h58 =>
  zV (ycv R d [(0, 11)] x0 [.inr (.inr (some (C.1 69))), .inl 4, .inl 0] h58) fun h59 =>
  zV (ycv R d [(0, 11)] x0 [.inr (.inr (some (C.1 70))), .inl 4, .inl 0] h59) fun h60 =>
  zV (ycv R d [(0, 11)] x0 [.inr (.inr (some (C.1 71))), .inl 4, .inl 0] h60) fun h61 =>
  zV (ycv R d [(0, 11)] x0 [.inr (.inr (some (C.1 72))), .inl 4, .inl 0] h61) fun h62 =>
  zV (ycv R d [(0, 11)] x0 [.inr (.inr (some (C.1 73))), .inl 4, .inl 0] h62) fun h63 =>
  zV (ycv R d [(0, 11)] x0 [.inr (.inr (some (C.1 80))), .inl 3, .inl 0] h63) fun h64 =>
  zrV h64
def yb_MlHouse_data (C : YC) (R : ZC YS) (d : Nat) (x0 : Option Nat) (x1 : Option Nat) (x2 : Int) (h : YS) : ZR YS :=
  ynew 15 6 h fun r1 h2 =>
  ygR 1 x0 h2 fun v3 =>
  ygR 1200 v3 h2 fun v4 =>
  zI (ycv R d [(5, 506)] v4 [] h2) fun v6 h5 =>
  zV (ycs R d 307 r1 [.inr (.inr x1), .inl v6, .inl x2] h5) fun h7 =>
  zlet r1 fun x3_8 =>
  ygR 1 x0 h7 fun v9 =>
  ygR 1200 v9 h7 fun v10 =>
  zI (ycv R d [(5, 505)] v10 [.inr (.inr x3_8)] h7) fun v12 h11 =>
  ygR 7 x0 h11 fun v13 =>
  ygR 4201 v13 h11 fun v14 =>
  ynew 16 4 h11 fun r15 h16 =>
  zV (ycs R d 308 r15 [.inr (.inr x1), .inl x2, .inr (.inr x3_8), .inr (.inr none)] h16) fun h17 =>
  zI (ycv R d [(5, 505)] v14 [.inr (.inr r15)] h17) fun v19 h18 =>
  zrQ x3_8 h18
def yb_MlHouse_con (C : YC) (R : ZC YS) (d : Nat) (x0 : Option Nat) (x1 : Option Nat) (x2 : Option Nat) (x3 : Int) (x4 : Int) (h : YS) : ZR YS :=
  ynew 18 13 h fun r1 h2 =>
  zV (ycs R d 310 r1 [.inr (.inr x1), .inl 1, .inl 0] h2) fun h3 =>
  zlet r1 fun x5_4 =>
  ynew 19 4 h3 fun r5 h6 =>
  zV (ycs R d 313 r5 [.inr (.inr x1), .inr (.inr x2)] h6) fun h7 =>
  ypR 5406 x5_4 r5 h7 fun h8 =>
  yna 0 1 h8 fun r9 h10 =>
  zlet r9 fun x6_11 =>
  yst 0 x6_11 0 x4 h10 fun h12 =>
  if x3 = (-1) then
    ygR 7 x0 h12 fun v13 =>
    ygR 4200 v13 h12 fun v14 =>
    zI (ycv R d [(5, 505)] v14 [.inr (.inr x5_4)] h12) fun v16 h15 =>
    zrV h15
  else
  ygR 5406 x5_4 h12 fun v17 =>
  ygR 1 x0 h12 fun v18 =>
  ygI 4502 x2 h12 fun v19 =>
  zQ (ycv R d [(4, 53)] v18 [.inl x3, .inr (.inr x6_11), .inl v19] h12) fun v21 h20 =>
  ypR 5703 v17 v21 h20 fun h22 =>
  ygR 7 x0 h22 fun v23 =>
  ygR 4200 v23 h22 fun v24 =>
  zI (ycv R d [(5, 505)] v24 [.inr (.inr x5_4)] h22) fun v26 h25 =>
  zrV h25
def yb_MlHouse_packets (C : YC) (R : ZC YS) (d : Nat) (x0 : Option Nat) (h : YS) : ZR YS :=
  yna 6 7 h fun r1 h2 =>
  ysR r1 0 (some (C.1 61)) h2 fun h3 =>
  ysR r1 1 (some (C.1 62)) h3 fun h4 =>
  ysR r1 2 (some (C.1 63)) h4 fun h5 =>
  ysR r1 3 (some (C.1 64)) h5 fun h6 =>
  ysR r1 4 (some (C.1 65)) h6 fun h7 =>
  ysR r1 5 (some (C.1 66)) h7 fun h8 =>
  ysR r1 6 (some (C.1 67)) h8 fun h9 =>
  zlet r1 fun x1_10 =>
  zlet (0 : Int) fun x2_11 =>
  R d 507 [.inr (.inr x0), .inr (.inr x1_10), .inl x2_11] h9
def yb_MlHouse_exceptionName (C : YC) (R : ZC YS) (d : Nat) (x0 : Option Nat) (x1 : Option Nat) (x2 : Option Nat) (h : YS) : ZR YS :=
  ygR 12 x0 h fun v1 =>
  zI (ycv R d [(5, 505)] v1 [.inr (.inr x1)] h) fun v3 h2 =>
  ygR 13 x0 h2 fun v4 =>
  zI (ycv R d [(5, 505)] v4 [.inr (.inr x2)] h2) fun v6 h5 =>
  ygR 12 x0 h5 fun v7 =>
  zI (ycv R d [(5, 506)] v7 [] h5) fun v9 h8 =>
  zG (inI (v9 - 1)) <|
  zrI (v9 - 1) h8
def yb_MlHouse_functions (C : YC) (R : ZC YS) (d : Nat) (x0 : Option Nat) (x1 : Int) (h : YS) : ZR YS :=
  ygR 1 x0 h fun v1 =>
  zI (ycv R d [(4, 64)] v1 [] h) fun v3 h2 =>
  zlet v3 fun x2_4 =>
  ygR 1 x0 h2 fun v5 =>
  zV (ycv R d [(4, 69)] v5 [.inl x2_4, .inl 8] h2) fun h6 =>
  ygR 1 x0 h6 fun v7 =>
  ygR 1 x0 h6 fun v8 =>
  zI (ycv R d [(4, 67)] v8 [.inl x2_4, .inl x2_4] h6) fun v10 h9 =>
  ygR 1 x0 h9 fun v11 =>
  zI (ycv R d [(4, 68)] v11 [.inl 3] h9) fun v13 h12 =>
  zI (ycv R d [(4, 70)] v7 [.inl v10, .inl v13] h12) fun v15 h14 =>
  zlet v15 fun x3_16 =>
  zV (ycv R d [(0, 8)] x0 [.inr (.inr (some (C.1 68))), .inl 0, .inl x3_16] h14) fun h17 =>
  zV (ycv R d [(0, 8)] x0 [.inr (.inr (some (C.1 69))), .inl 1, .inl x3_16] h17) fun h18 =>
  ygR 1 x0 h18 fun v19 =>
  zI (ycv R d [(4, 64)] v19 [] h18) fun v21 h20 =>
  zlet v21 fun x4_22 =>
  ygR 1 x0 h20 fun v23 =>
  zV (ycv R d [(4, 69)] v23 [.inl x4_22, .inl 16] h20) fun h24 =>
  ygR 1 x0 h24 fun v25 =>
  ygR 1 x0 h24 fun v26 =>
  zI (ycv R d [(4, 67)] v26 [.inl x4_22, .inl x4_22] h24) fun v28 h27 =>
  ygR 1 x0 h27 fun v29 =>
  zI (ycv R d [(4, 68)] v29 [.inl 3] h27) fun v31 h30 =>
  zI (ycv R d [(4, 70)] v25 [.inl v28, .inl v31] h30) fun v33 h32 =>
  zlet v33 fun x5_34 =>
  zV (ycv R d [(0, 8)] x0 [.inr (.inr (some (C.1 70))), .inl 2, .inl x5_34] h32) fun h35 =>
  zV (ycv R d [(0, 8)] x0 [.inr (.inr (some (C.1 71))), .inl 3, .inl x5_34] h35) fun h36 =>
  zV (ycv R d [(0, 8)] x0 [.inr (.inr (some (C.1 72))), .inl 4, .inl x5_34] h36) fun h37 =>
  zV (ycv R d [(0, 8)] x0 [.inr (.inr (some (C.1 73))), .inl 5, .inl x5_34] h37) fun h38 =>
  zI (ycv R d [(0, 9)] x0 [.inl 0, .inl 0, .inl 0] h38) fun v40 h39 =>
  zV (ycv R d [(0, 8)] x0 [.inr (.inr (some (C.1 74))), .inl 6, .inl v40] h39) fun h41 =>
  zI (ycv R d [(0, 9)] x0 [.inl 0, .inl 0, .inl 0] h41) fun v43 h42 =>
  zV (ycv R d [(0, 8)] x0 [.inr (.inr (some (C.1 75))), .inl 7, .inl v43] h42) fun h44 =>
  zI (ycv R d [(0, 9)] x0 [.inl 0, .inl 0, .inl 0] h44) fun v46 h45 =>
  zV (ycv R d [(0, 8)] x0 [.inr (.inr (some (C.1 76))), .inl 8, .inl v46] h45) fun h47 =>
  zI (ycv R d [(0, 9)] x0 [.inl 0, .inl 0, .inl 0] h47) fun v49 h48 =>
  zV (ycv R d [(0, 8)] x0 [.inr (.inr (some (C.1 77))), .inl 9, .inl v49] h48) fun h50 =>
  zI (ycv R d [(0, 9)] x0 [.inl 0, .inl 0, .inl 0] h50) fun v52 h51 =>
  zV (ycv R d [(0, 8)] x0 [.inr (.inr (some (C.1 78))), .inl 10, .inl v52] h51) fun h53 =>
  zI (ycv R d [(0, 9)] x0 [.inl 2, .inl 2, .inl 2] h53) fun v55 h54 =>
  zV (ycv R d [(0, 8)] x0 [.inr (.inr (some (C.1 79))), .inl 11, .inl v55] h54) fun h56 =>
  ygR 1 x0 h56 fun v57 =>
  ygR 1 x0 h56 fun v58 =>
  ygR 1 x0 h56 fun v59 =>
  zI (ycv R d [(4, 65)] v59 [.inl 6, .inl x1] h56) fun v61 h60 =>
  zI (ycv R d [(4, 67)] v58 [.inl v61, .inl x1] h60) fun v63 h62 =>
  ygR 1 x0 h62 fun v64 =>
  zI (ycv R d [(4, 51)] v64 [] h62) fun v66 h65 =>
  zI (ycv R d [(4, 70)] v57 [.inl v63, .inl v66] h65) fun v68 h67 =>
  zV (ycv R d [(0, 8)] x0 [.inr (.inr (some (C.1 80))), .inl 12, .inl v68] h67) fun h69 =>
  zI (ycv R d [(0, 10)] x0 [.inl 0, .inl 0] h69) fun v71 h70 =>
  zV (ycv R d [(0, 8)] x0 [.inr (.inr (some (C.1 81))), .inl 13, .inl v71] h70) fun h72 =>
  zI (ycv R d [(0, 10)] x0 [.inl 0, .inl 0] h72) fun v74 h73 =>
  zV (ycv R d [(0, 8)] x0 [.inr (.inr (some (C.1 82))), .inl 14, .inl v74] h73) fun h75 =>
  zI (ycv R d [(0, 10)] x0 [.inl 3, .inl 3] h75) fun v77 h76 =>
  zV (ycv R d [(0, 8)] x0 [.inr (.inr (some (C.1 83))), .inl 15, .inl v77] h76) fun h78 =>
  zI (ycv R d [(0, 10)] x0 [.inl 2, .inl 0] h78) fun v80 h79 =>
  zV (ycv R d [(0, 8)] x0 [.inr (.inr (some (C.1 84))), .inl 16, .inl v80] h79) fun h81 =>
  zI (ycv R d [(0, 10)] x0 [.inl 1, .inl 0] h81) fun v83 h82 =>
  zV (ycv R d [(0, 8)] x0 [.inr (.inr (some (C.1 85))), .inl 17, .inl v83] h82) fun h84 =>
  zI (ycv R d [(0, 10)] x0 [.inl 0, .inl 1] h84) fun v86 h85 =>
  zV (ycv R d [(0, 8)] x0 [.inr (.inr (some (C.1 86))), .inl 18, .inl v86] h85) fun h87 =>
  zI (ycv R d [(0, 10)] x0 [.inl 1, .inl 2] h87) fun v89 h88 =>
  zV (ycv R d [(0, 8)] x0 [.inr (.inr (some (C.1 87))), .inl 19, .inl v89] h88) fun h90 =>
  ygR 1 x0 h90 fun v91 =>
  zI (ycv R d [(4, 52)] v91 [.inl 2, .inl (-1), .inl 3] h90) fun v93 h92 =>
  zlet v93 fun x6_94 =>
  ygR 1 x0 h92 fun v95 =>
  ygR 1 x0 h92 fun v96 =>
  zI (ycv R d [(4, 68)] v96 [.inl 2] h92) fun v98 h97 =>
  zV (ycv R d [(4, 66)] v95 [.inl x6_94, .inl 0, .inr (.inr (some (C.1 88))), .inl v98] h97) fun h99 =>
  ygR 1 x0 h99 fun v100 =>
  ygR 1 x0 h99 fun v101 =>
  zI (ycv R d [(4, 68)] v101 [.inl 0] h99) fun v103 h102 =>
  zV (ycv R d [(4, 66)] v100 [.inl x6_94, .inl 1, .inr (.inr (some (C.1 89))), .inl v103] h102) fun h104 =>
  ygR 1 x0 h104 fun v105 =>
  ygR 1 x0 h104 fun v106 =>
  zI (ycv R d [(4, 68)] v106 [.inl 0] h104) fun v108 h107 =>
  zV (ycv R d [(4, 66)] v105 [.inl x6_94, .inl 2, .inr (.inr (some (C.1 90))), .inl v108] h107) fun h109 =>
  ygR 1 x0 h109 fun v110 =>
  ygR 1 x0 h109 fun v111 =>
  zI (ycv R d [(4, 68)] v111 [.inl 2] h109) fun v113 h112 =>
  zI (ycv R d [(4, 70)] v110 [.inl x6_94, .inl v113] h112) fun v115 h114 =>
  zV (ycv R d [(0, 8)] x0 [.inr (.inr (some (C.1 91))), .inl 20, .inl v115] h114) fun h116 =>
  ygR 1 x0 h116 fun v117 =>
  ygR 1 x0 h116 fun v118 =>
  zI (ycv R d [(4, 68)] v118 [.inl 2] h116) fun v120 h119 =>
  ygR 1 x0 h119 fun v121 =>
  ygR 1 x0 h119 fun v122 =>
  zI (ycv R d [(4, 68)] v122 [.inl 1] h119) fun v124 h123 =>
  zI (ycv R d [(4, 65)] v121 [.inl 5, .inl v124] h123) fun v126 h125 =>
  zI (ycv R d [(4, 70)] v117 [.inl v120, .inl v126] h125) fun v128 h127 =>
  zV (ycv R d [(0, 8)] x0 [.inr (.inr (some (C.1 92))), .inl 21, .inl v128] h127) fun h129 =>
  ygR 1 x0 h129 fun v130 =>
  ygR 1 x0 h129 fun v131 =>
  ygR 1 x0 h129 fun v132 =>
  zI (ycv R d [(4, 68)] v132 [.inl 1] h129) fun v134 h133 =>
  zI (ycv R d [(4, 65)] v131 [.inl 5, .inl v134] h133) fun v136 h135 =>
  ygR 1 x0 h135 fun v137 =>
  zI (ycv R d [(4, 68)] v137 [.inl 2] h135) fun v139 h138 =>
  zI (ycv R d [(4, 70)] v130 [.inl v136, .inl v139] h138) fun v141 h140 =>
  zV (ycv R d [(0, 8)] x0 [.inr (.inr (some (C.1 93))), .inl 22, .inl v141] h140) fun h142 =>
  zI (ycv R d [(0, 10)] x0 [.inl 0, .inl 2] h142) fun v144 h143 =>
  zV (ycv R d [(0, 8)] x0 [.inr (.inr (some (C.1 94))), .inl 23, .inl v144] h143) fun h145 =>
  ygR 1 x0 h145 fun v146 =>
  ygR 1 x0 h145 fun v147 =>
  zI (ycv R d [(4, 65)] v147 [.inl 6, .inl x1] h145) fun v149 h148 =>
  zI (ycv R d [(4, 70)] v146 [.inl v149, .inl x1] h148) fun v151 h150 =>
  zV (ycv R d [(0, 8)] x0 [.inr (.inr (some (C.1 95))), .inl 24, .inl v151] h150) fun h152 =>
  ygR 1 x0 h152 fun v153 =>
  ygR 1 x0 h152 fun v154 =>
  zI (ycv R d [(4, 68)] v154 [.inl 2] h152) fun v156 h155 =>
  ygR 1 x0 h155 fun v157 =>
  zI (ycv R d [(4, 51)] v157 [] h155) fun v159 h158 =>
  zI (ycv R d [(4, 70)] v153 [.inl v156, .inl v159] h158) fun v161 h160 =>
  zV (ycv R d [(0, 8)] x0 [.inr (.inr (some (C.1 96))), .inl 25, .inl v161] h160) fun h162 =>
  zrV h162
def yb_MlHouse_first (C : YC) (R : ZC YS) (d : Nat) (x0 : Option Nat) (x1 : Option Nat) (x2 : Int) (x3 : Int) (h : YS) : ZR YS :=
  ynew 18 13 h fun r1 h2 =>
  zV (ycs R d 310 r1 [.inr (.inr x1), .inl 3, .inl 0] h2) fun h3 =>
  zlet r1 fun x4_4 =>
  ypI 5409 0 x4_4 x2 h3 fun h5 =>
  ygR 1 x0 h5 fun v6 =>
  yna 0 0 h5 fun r7 h8 =>
  zQ (ycv R d [(4, 53)] v6 [.inl x3, .inr (.inr r7), .inl 0] h8) fun v10 h9 =>
  ypR 5405 x4_4 v10 h9 fun h11 =>
  ygR 7 x0 h11 fun v12 =>
  ygR 4200 v12 h11 fun v13 =>
  zI (ycv R d [(5, 505)] v13 [.inr (.inr x4_4)] h11) fun v15 h14 =>
  zrV h14
def yb_MlHouse_of (C : YC) (R : ZC YS) (d : Nat) (x0 : Option Nat) (x1 : Int) (x2 : Int) (x3 : Int) (h : YS) : ZR YS :=
  ygR 1 x0 h fun v1 =>
  ygR 1 x0 h fun v2 =>
  ygR 1 x0 h fun v3 =>
  zI (ycv R d [(4, 68)] v3 [.inl x1] h) fun v5 h4 =>
  ygR 1 x0 h4 fun v6 =>
  zI (ycv R d [(4, 68)] v6 [.inl x2] h4) fun v8 h7 =>
  zI (ycv R d [(4, 67)] v2 [.inl v5, .inl v8] h7) fun v10 h9 =>
  ygR 1 x0 h9 fun v11 =>
  zI (ycv R d [(4, 68)] v11 [.inl x3] h9) fun v13 h12 =>
  zI (ycv R d [(4, 70)] v1 [.inl v10, .inl v13] h12) fun v15 h14 =>
  zrI v15 h14
def yb_MlHouse_of_2 (C : YC) (R : ZC YS) (d : Nat) (x0 : Option Nat) (x1 : Int) (x2 : Int) (h : YS) : ZR YS :=
  ygR 1 x0 h fun v1 =>
  ygR 1 x0 h fun v2 =>
  zI (ycv R d [(4, 68)] v2 [.inl x1] h) fun v4 h3 =>
  ygR 1 x0 h3 fun v5 =>
  zI (ycv R d [(4, 68)] v5 [.inl x2] h3) fun v7 h6 =>
  zI (ycv R d [(4, 70)] v1 [.inl v4, .inl v7] h6) fun v9 h8 =>
  zrI v9 h8
def yb_MlHouse_infix (C : YC) (R : ZC YS) (d : Nat) (x0 : Option Nat) (x1 : Option Nat) (x2 : Int) (x3 : Int) (h : YS) : ZR YS :=
  ygR 7 x0 h fun v1 =>
  ygR 4202 v1 h fun v2 =>
  ynew 7 3 h fun r3 h4 =>
  zV (ycs R d 167 r3 [.inr (.inr x1), .inl x2, .inl x3] h4) fun h5 =>
  zI (ycv R d [(5, 505)] v2 [.inr (.inr r3)] h5) fun v7 h6 =>
  zrV h6
def yb_MlHouse_feed (C : YC) (R : ZC YS) (d : Nat) (x0 : Option Nat) (x1 : Int) (x2 : Int) (x3 : Int) (x4 : Int) (x5 : Int) (h : YS) : ZR YS :=
  ygI 23 x0 h fun v1 =>
  zG (inI (v1 + 20)) <|
  if (v1 + 20) ≤ 8000 then
    zlet (0 : Int) fun x6_2 =>
    R d 508 [.inr (.inr x0), .inl x1, .inl x2, .inl x3, .inl x4, .inl x5, .inl x6_2] h
  else
  yrN 1 0 h
def yb_MlHouse_end (C : YC) (R : ZC YS) (d : Nat) (x0 : Option Nat) (x1 : Int) (h : YS) : ZR YS :=
  if x1 < 0 then
    yrN 1 0 h
  else
  ygI 23 x0 h fun v1 =>
  if x1 ≤ v1 then
    ygR 20 x0 h fun v2 =>
    ygR 2 x0 h fun v3 =>
    ygR 1801 v3 h fun v4 =>
    ygR 2401 v4 h fun v5 =>
    yac v2 0 v5 0 x1 h fun h6 =>
    ygR 2 x0 h6 fun v7 =>
    ygR 1801 v7 h6 fun v8 =>
    ypI 2403 0 v8 x1 h6 fun h9 =>
    ypI 23 0 x0 0 h9 fun h10 =>
    yrN 1 1 h10
  else
  yrN 1 0 h
def yb_MlHouse_isLetter (C : YC) (R : ZC YS) (d : Nat) (x0 : Int) (h : YS) : ZR YS :=
  if x0 < 97 then
    R d 509 [.inl x0] h
  else
  if x0 ≤ 122 then
    yrN 1 1 h
  else
  R d 509 [.inl x0] h
def yb_MlHouse_isDigit (C : YC) (R : ZC YS) (d : Nat) (x0 : Int) (h : YS) : ZR YS :=
  if x0 < 48 then
    yrN 1 0 h
  else
  if x0 ≤ 57 then
    yrN 1 1 h
  else
  yrN 1 0 h
def yb_MlHouse_isSign (C : YC) (R : ZC YS) (d : Nat) (x0 : Int) (h : YS) : ZR YS :=
  if x0 ≤ 32 then
    yrN 1 0 h
  else
  zI (ycv R d [(21, 510)] (some (C.1 101)) [.inl (zchar x0)] h) fun v2 h1 =>
  if v2 < 0 then
    yrN 1 0 h1
  else
  yrN 1 1 h1
def yb_MlHouse_sayNumber (C : YC) (R : ZC YS) (d : Nat) (x0 : Option Nat) (x1 : Int) (h : YS) : ZR YS :=
  zJ (zc R d 511 [.inr (.inl x1)] h) fun v2 h1 =>
  zlet v2 fun x2_3 =>
  if x1 < 0 then
    zQ (ycv R d [(23, 512)] x0 [.inl 126] h1) fun v5 h4 =>
    zlet (1 : Int) fun x4_6 =>
    R d 513 [.inr (.inr x0), .inr (.inl x2_3), .inr (.inl x4_6)] h4
  else
  zlet (1 : Int) fun x4_7 =>
  R d 513 [.inr (.inr x0), .inr (.inl x2_3), .inr (.inl x4_7)] h1
def yb_MlHouse_judge (C : YC) (R : ZC YS) (d : Nat) (x0 : Option Nat) (x1 : Option Nat) (x2 : Option Nat) (h : YS) : ZR YS :=
  zlet (0 : Int) fun x3_1 =>
  R d 514 [.inr (.inr x0), .inr (.inr x1), .inr (.inr x2), .inl x3_1] h
def yb_MlHouse_declared (C : YC) (R : ZC YS) (d : Nat) (x0 : Option Nat) (x1 : Option Nat) (h : YS) : ZR YS :=
  ynew 5 3 h fun r1 h2 =>
  zV (ycs R d 503 r1 [] h2) fun h3 =>
  zlet r1 fun x2_4 =>
  zlet (0 : Int) fun x3_5 =>
  R d 515 [.inr (.inr x0), .inr (.inr x1), .inr (.inr x2_4), .inl x3_5] h3
def yb_MlHouse_isAhead (C : YC) (R : ZC YS) (d : Nat) (x0 : Option Nat) (x1 : Int) (h : YS) : ZR YS :=
  zlet (0 : Int) fun x2_1 =>
  zlet (0 : Int) fun x3_2 =>
  R d 516 [.inr (.inr x0), .inl x1, .inl x2_1, .inl x3_2] h
def yb_MlHouse_rowOf (C : YC) (R : ZC YS) (d : Nat) (x0 : Option Nat) (x1 : Int) (x2 : Option Nat) (x3 : Option Nat) (x4 : Int) (h : YS) : ZR YS :=
  ylen x3 h fun v1 =>
  zlet v1 fun x5_2 =>
  zQ (zc R d 22 [.inr (.inr x2)] h) fun v4 h3 =>
  zlet v4 fun x6_5 =>
  if x1 = 1 then
    zI (ycv R d [(4, 72)] x0 [.inl x5_2, .inl x4] h3) fun v7 h6 =>
    zlet v7 fun x7_8 =>
    zlet (0 : Int) fun x8_9 =>
    R d 517 [.inr (.inr x0), .inr (.inr x2), .inr (.inr x3), .inl x5_2, .inr (.inr x6_5), .inl x7_8, .inl x8_9] h6
  else
  zI (ycv R d [(4, 52)] x0 [.inl x1, .inl (-1), .inl x5_2] h3) fun v11 h10 =>
  zlet v11 fun x7_12 =>
  zlet (0 : Int) fun x8_13 =>
  R d 517 [.inr (.inr x0), .inr (.inr x2), .inr (.inr x3), .inl x5_2, .inr (.inr x6_5), .inl x7_12, .inl x8_13] h10
def yb_MlHouse_inOrder (C : YC) (R : ZC YS) (d : Nat) (x0 : Option Nat) (h : YS) : ZR YS :=
  zI (ycv R d [(5, 506)] x0 [] h) fun v2 h1 =>
  zlet v2 fun x1_3 =>
  yna 0 x1_3 h1 fun r4 h5 =>
  zlet r4 fun x2_6 =>
  zlet (0 : Int) fun x3_7 =>
  R d 518 [.inr (.inr x0), .inl x1_3, .inr (.inr x2_6), .inl x3_7] h5
def yb_MlHouse_typesOf (C : YC) (R : ZC YS) (d : Nat) (x0 : Option Nat) (h : YS) : ZR YS :=
  zI (ycv R d [(5, 506)] x0 [] h) fun v2 h1 =>
  yna 0 v2 h1 fun r3 h4 =>
  zlet r3 fun x1_5 =>
  zlet (0 : Int) fun x2_6 =>
  R d 519 [.inr (.inr x0), .inr (.inr x1_5), .inl x2_6] h4
def yb_MlHouse_namesOf (C : YC) (R : ZC YS) (d : Nat) (x0 : Option Nat) (h : YS) : ZR YS :=
  ynew 5 3 h fun r1 h2 =>
  zV (ycs R d 503 r1 [] h2) fun h3 =>
  zlet r1 fun x1_4 =>
  zlet (0 : Int) fun x2_5 =>
  R d 520 [.inr (.inr x0), .inr (.inr x1_4), .inl x2_5] h3
def yb_MlHouse_dataOf (C : YC) (R : ZC YS) (d : Nat) (x0 : Option Nat) (h : YS) : ZR YS :=
  ygR 6600 x0 h fun v1 =>
  ysvR C 12 fun v2 =>
  if v1 = v2 then
    zrI 0 h
  else
  ygR 6600 x0 h fun v3 =>
  ysvR C 14 fun v4 =>
  if v3 = v4 then
    zrI 1 h
  else
  zrI 2 h
def yb_MlHouse_look (C : YC) (R : ZC YS) (d : Nat) (x0 : Option Nat) (x1 : Option Nat) (h : YS) : ZR YS :=
  zlet (0 : Int) fun x2_1 =>
  R d 521 [.inr (.inr x0), .inr (.inr x1), .inl x2_1] h
def yb_MlHouse_noted (C : YC) (R : ZC YS) (d : Nat) (x0 : Option Nat) (x1 : Int) (x2 : Int) (h : YS) : ZR YS :=
  ygI 30 x0 h fun v1 =>
  zlet v1 fun x3_2 =>
  R d 522 [.inr (.inr x0), .inl x1, .inl x2, .inl x3_2] h
def yb_MlHouse_run (C : YC) (R : ZC YS) (d : Nat) (x0 : Option Nat) (x1 : Option Nat) (x2 : Int) (h : YS) : ZR YS :=
  ypI 19 0 x0 0 h fun h1 =>
  ynew 70 8 h1 fun r2 h3 =>
  zV (ycs R d 482 r2 [.inr (.inr x0), .inr (.inr none), .inl 0] h3) fun h4 =>
  zlet r2 fun x3_5 =>
  zlet (0 : Int) fun x4_6 =>
  R d 523 [.inr (.inr x0), .inr (.inr x1), .inl x2, .inr (.inr x3_5), .inl x4_6] h4
def yb_MlHouse_moreWords (C : YC) (R : ZC YS) (d : Nat) (x0 : Option Nat) (h : YS) : ZR YS :=
  ygR 18 x0 h fun v1 =>
  ylen v1 h fun v2 =>
  zG (inI (2 * v2)) <|
  yna 0 (2 * v2) h fun r3 h4 =>
  zlet r3 fun x1_5 =>
  ygR 18 x0 h4 fun v6 =>
  ygR 18 x0 h4 fun v7 =>
  ylen v7 h4 fun v8 =>
  yac v6 0 x1_5 0 v8 h4 fun h9 =>
  ypR 18 x0 x1_5 h9 fun h10 =>
  zrV h10
def yb_MlHouse_top (C : YC) (R : ZC YS) (d : Nat) (x0 : Option Nat) (h : YS) : ZR YS :=
  ygI 15 x0 h fun v1 =>
  ygR 14 x0 h fun v2 =>
  ylen v2 h fun v3 =>
  if v1 = v3 then
    ygI 15 x0 h fun v4 =>
    zG (inI (2 * v4)) <|
    yna 1 (2 * v4) h fun r5 h6 =>
    zlet r5 fun x1_7 =>
    ygR 14 x0 h6 fun v8 =>
    ygI 15 x0 h6 fun v9 =>
    yac v8 0 x1_7 0 v9 h6 fun h10 =>
    ypR 14 x0 x1_7 h10 fun h11 =>
    R d 524 [.inr (.inr x0)] h11
  else
  R d 524 [.inr (.inr x0)] h
def yb_MlHouse_string (C : YC) (R : ZC YS) (d : Nat) (x0 : Option Nat) (x1 : Option Nat) (h : YS) : ZR YS :=
  ygR 9 x0 h fun v1 =>
  zI (ycv R d [(5, 505)] v1 [.inr (.inr x1)] h) fun v3 h2 =>
  ygR 9 x0 h2 fun v4 =>
  zI (ycv R d [(5, 506)] v4 [] h2) fun v6 h5 =>
  zG (inI (v6 - 1)) <|
  zrI (v6 - 1) h5
def yb_MlHouse_add (C : YC) (R : ZC YS) (d : Nat) (x0 : Option Nat) (x1 : Option Nat) (h : YS) : ZR YS :=
  ygR 10 x0 h fun v1 =>
  ynew 71 4 h fun r2 h3 =>
  zV (ycs R d 502 r2 [.inr (.inr x1), .inl 0] h3) fun h4 =>
  zI (ycv R d [(5, 505)] v1 [.inr (.inr r2)] h4) fun v6 h5 =>
  ygR 10 x0 h5 fun v7 =>
  zI (ycv R d [(5, 506)] v7 [] h5) fun v9 h8 =>
  zG (inI (v9 - 1)) <|
  zrI (v9 - 1) h8
def yb_MlHouse_order (C : YC) (R : ZC YS) (d : Nat) (x0 : Option Nat) (x1 : Option Nat) (h : YS) : ZR YS :=
  ygR 11 x0 h fun v1 =>
  zI (ycv R d [(5, 505)] v1 [.inr (.inr x1)] h) fun v3 h2 =>
  ygR 11 x0 h2 fun v4 =>
  zI (ycv R d [(5, 506)] v4 [] h2) fun v6 h5 =>
  zG (inI (v6 - 1)) <|
  zrI (v6 - 1) h5
def yb_MlHouse_print (C : YC) (R : ZC YS) (d : Nat) (x0 : Option Nat) (x1 : Int) (h : YS) : ZR YS :=
  ygI 24 x0 h fun v1 =>
  if v1 < 4000 then
    ygR 21 x0 h fun v2 =>
    ygI 24 x0 h fun v3 =>
    yst 2 v2 v3 (zbyte x1) h fun h4 =>
    R d 525 [.inr (.inr x0)] h4
  else
  R d 525 [.inr (.inr x0)] h
def yb_MlHouse_keepAll (C : YC) (R : ZC YS) (d : Nat) (x0 : Option Nat) (x1 : Option Nat) (h : YS) : ZR YS :=
  ygI 2709 x1 h fun v1 =>
  ypI 17 0 x0 v1 h fun h2 =>
  ygR 7 x0 h2 fun v3 =>
  ygR 4200 v3 h2 fun v4 =>
  zV (ycv R d [(5, 504)] v4 [] h2) fun h5 =>
  zlet (0 : Int) fun x2_6 =>
  R d 526 [.inr (.inr x0), .inr (.inr x1), .inl x2_6] h5
def yb_MlHouse_told (C : YC) (R : ZC YS) (d : Nat) (x0 : Option Nat) (x1 : Int) (h : YS) : ZR YS :=
  if x1 = 5 then
    ygR 5 x0 h fun v1 =>
    ygI 3309 v1 h fun v2 =>
    zrI v2 h
  else
  ygI 25 x0 h fun v3 =>
  if v3 = (-1) then
    zrI (-1) h
  else
  if x1 = 0 then
    ygI 26 x0 h fun v4 =>
    zrI v4 h
  else
  if x1 = 1 then
    ygI 27 x0 h fun v6 =>
    zrI v6 h
  else
  if x1 = 2 then
    ygR 5 x0 h fun v8 =>
    ygI 3316 v8 h fun v9 =>
    zrI v9 h
  else
  if x1 = 3 then
    zI (ycv R d [(0, 37)] x0 [] h) fun v12 h11 =>
    zrI v12 h11
  else
  if x1 = 4 then
    ygI 30 x0 h fun v14 =>
    zrI v14 h
  else
  if x1 = 5 then
    zrI (-1) h
  else
  if x1 = 6 then
    ygR 5 x0 h fun v17 =>
    ygI 3318 v17 h fun v18 =>
    zrI v18 h
  else
  if x1 = 7 then
    ygI 25 x0 h fun v20 =>
    if v20 = 2 then
      zV (ycv R d [(0, 38)] x0 [.inl (-1)] h) fun h21 =>
      ygR 6 x0 h21 fun v22 =>
      ygI 3903 v22 h21 fun v23 =>
      zrI v23 h21
    else
    zrI 0 h
  else
  zrI (-1) h
def yb_MlHouse_lineMany (C : YC) (R : ZC YS) (d : Nat) (x0 : Option Nat) (h : YS) : ZR YS :=
  ygI 25 x0 h fun v1 =>
  if v1 = 0 then
    ygR 3 x0 h fun v2 =>
    ygR 2710 v2 h fun v3 =>
    zI (ycv R d [(5, 506)] v3 [] h) fun v5 h4 =>
    zrI v5 h4
  else
  zrI 0 h
def yb_MlHouse_tell (C : YC) (R : ZC YS) (d : Nat) (x0 : Option Nat) (x1 : Int) (h : YS) : ZR YS :=
  ygI 22 x0 h fun v1 =>
  if v1 = x1 then
    zrV h
  else
  ygR 1 x0 h fun v2 =>
  ygI 1211 v2 h fun v3 =>
  zlet v3 fun x2_4 =>
  ygR 1 x0 h fun v5 =>
  ygI 1212 v5 h fun v6 =>
  zlet v6 fun x3_7 =>
  if x1 = (-1) then
    ygR 6 x0 h fun v8 =>
    zV (ycv R d [(13, 281)] v8 [] h) fun h9 =>
    ygR 6 x0 h9 fun v10 =>
    ygR 5 x0 h9 fun v11 =>
    ygI 3322 v11 h9 fun v12 =>
    zV (ycv R d [(13, 282)] v10 [.inr (.inl v12), .inl 0, .inl 0] h9) fun h13 =>
    R d 527 [.inr (.inr x0), .inl x1, .inl x2_4, .inl x3_7] h13
  else
  ygR 6 x0 h fun v14 =>
  ygR 3 x0 h fun v15 =>
  ygR 2710 v15 h fun v16 =>
  zQ (ycv R d [(5, 528)] v16 [.inl x1] h) fun v18 h17 =>
  ycc 0 533 v18 h17 <|
  zV (ycv R d [(13, 297)] v14 [.inr (.inr v18)] h17) fun h19 =>
  R d 527 [.inr (.inr x0), .inl x1, .inl x2_4, .inl x3_7] h19
def yb_MlHouse_valueOf (C : YC) (R : ZC YS) (d : Nat) (x0 : Option Nat) (x1 : Option Nat) (h : YS) : ZR YS :=
  ygR 14 x0 h fun v1 =>
  ygI 5411 x1 h fun v2 =>
  yaI 1 v1 v2 h fun v3 =>
  zrL v3 h
def yb_MlHouse_letter (C : YC) (R : ZC YS) (d : Nat) (x0 : Option Nat) (x1 : Int) (x2 : Int) (h : YS) : ZR YS :=
  if x1 = (-1) then
    ygI 25 x0 h fun v1 =>
    if v1 = 2 then
      R d 529 [.inr (.inr x0), .inl x1, .inl x2] h
    else
    zrI (-1) h
  else
  if x1 < 0 then
    zrI (-1) h
  else
  zI (ycv R d [(0, 37)] x0 [] h) fun v3 h2 =>
  if x1 < v3 then
    R d 529 [.inr (.inr x0), .inl x1, .inl x2] h2
  else
  zrI (-1) h2
def yb_MlHouse_note (C : YC) (R : ZC YS) (d : Nat) (x0 : Option Nat) (x1 : Int) (x2 : Int) (h : YS) : ZR YS :=
  if x1 < 0 then
    zrI (-1) h
  else
  ygI 30 x0 h fun v1 =>
  if x1 < v1 then
    if x2 = 0 then
      ygR 28 x0 h fun v2 =>
      yaI 0 v2 x1 h fun v3 =>
      zrI v3 h
    else
    if x2 = 1 then
      ygR 29 x0 h fun v4 =>
      yaI 0 v4 x1 h fun v5 =>
      zrI v5 h
    else
    zrI (-1) h
  else
  zrI (-1) h
def yb_MlHouse_out (C : YC) (R : ZC YS) (d : Nat) (x0 : Option Nat) (x1 : Int) (h : YS) : ZR YS :=
  if x1 < 0 then
    zrI (-1) h
  else
  ygI 24 x0 h fun v1 =>
  if x1 < v1 then
    if x1 < 4000 then
      ygR 21 x0 h fun v2 =>
      yaI 2 v2 x1 h fun v3 =>
      zrI (zandI v3 255) h
    else
    zrI (-1) h
  else
  zrI (-1) h
def yb_MlHouse_outs (C : YC) (R : ZC YS) (d : Nat) (x0 : Option Nat) (h : YS) : ZR YS :=
  ygI 24 x0 h fun v1 =>
  zrI v1 h
def yb_MlHouse_keep (C : YC) (R : ZC YS) (d : Nat) (x0 : Option Nat) (h : YS) : ZR YS :=
  ygI 16 x0 h fun v1 =>
  if v1 = 8 then
    zrI (-1) h
  else
  ygR 8 x0 h fun v2 =>
  ygI 16 x0 h fun v3 =>
  yaR v2 v3 h fun v4 =>
  ynull v4 (
    ygR 8 x0 h fun v5 =>
    ygI 16 x0 h fun v6 =>
    ynew 14 3 h fun r7 h8 =>
    zV (ycs R d 304 r7 [] h8) fun h9 =>
    ysR v5 v6 r7 h9 fun h10 =>
    R d 530 [.inr (.inr x0)] h10
  ) <|
  R d 530 [.inr (.inr x0)] h
def yb_MlHouse_back (C : YC) (R : ZC YS) (d : Nat) (x0 : Option Nat) (x1 : Int) (h : YS) : ZR YS :=
  if x1 < 0 then
    yrN 1 0 h
  else
  ygI 16 x0 h fun v1 =>
  if x1 < v1 then
    ygR 7 x0 h fun v2 =>
    ygR 8 x0 h fun v3 =>
    yaR v3 x1 h fun v4 =>
    zV (ycv R d [(14, 306)] v2 [.inr (.inr v4)] h) fun h5 =>
    yrN 1 1 h5
  else
  yrN 1 0 h
def yb_MlHouse_phrase (C : YC) (R : ZC YS) (d : Nat) (x0 : Option Nat) (x1 : Int) (h : YS) : ZR YS :=
  if x1 < 0 then
    zrI (-1) h
  else
  if x1 ≤ 20000 then
    ypI 22 0 x0 (-2) h fun h1 =>
    ypI 30 0 x0 0 h1 fun h2 =>
    ypI 26 0 x0 0 h2 fun h3 =>
    ypI 27 0 x0 (-1) h3 fun h4 =>
    ygR 1 x0 h4 fun v5 =>
    zV (ycv R d [(4, 50)] v5 [] h4) fun h6 =>
    ygR 5 x0 h6 fun v7 =>
    ypI 3316 0 v7 0 h6 fun h8 =>
    ygR 5 x0 h8 fun v9 =>
    ypI 3318 0 v9 0 h8 fun h10 =>
    ygR 3 x0 h10 fun v11 =>
    zlet v11 fun x2_12 =>
    ygR 7 x0 h10 fun v13 =>
    ygI 17 x0 h10 fun v14 =>
    zV (ycv R d [(9, 189)] x2_12 [.inr (.inr v13), .inl v14] h10) fun h15 =>
    ygR 2 x0 h15 fun v16 =>
    ygR 1802 v16 h15 fun v17 =>
    zV (ycv R d [(5, 504)] v17 [] h15) fun h18 =>
    zlet (0 : Int) fun x3_19 =>
    R d 531 [.inr (.inr x0), .inl x1, .inr (.inr x2_12), .inl x3_19] h18
  else
  zrI (-1) h
def yb_Faults_at (C : YC) (R : ZC YS) (d : Nat) (x0 : Option Nat) (x1 : Int) (x2 : Int) (h : YS) : ZR YS :=
  ypI 301 0 x0 x1 h fun h1 =>
  ypI 302 0 x0 x2 h1 fun h2 =>
  ygR 300 x0 h2 fun v3 =>
  zrQ v3 h2
def yb_Types_init (C : YC) (R : ZC YS) (d : Nat) (x0 : Option Nat) (h : YS) : ZR YS :=
  ynull x0 none <|
  ynew 5 3 h fun r2 h3 =>
  zV (ycs R d 503 r2 [] h3) fun h4 =>
  ypR 1200 x0 r2 h4 fun h5 =>
  yna 0 60000 h5 fun r6 h7 =>
  ypR 1201 x0 r6 h7 fun h8 =>
  yna 0 60000 h8 fun r9 h10 =>
  ypR 1202 x0 r9 h10 fun h11 =>
  yna 0 60000 h11 fun r12 h13 =>
  ypR 1203 x0 r12 h13 fun h14 =>
  yna 0 60000 h14 fun r15 h16 =>
  ypR 1204 x0 r15 h16 fun h17 =>
  yna 0 60000 h17 fun r18 h19 =>
  ypR 1205 x0 r18 h19 fun h20 =>
  yna 0 150000 h20 fun r21 h22 =>
  ypR 1206 x0 r21 h22 fun h23 =>
  yna 6 150000 h23 fun r24 h25 =>
  ypR 1207 x0 r24 h25 fun h26 =>
  yna 1 150000 h26 fun r27 h28 =>
  ypR 1208 x0 r27 h28 fun h29 =>
  yna 0 1000 h29 fun r30 h31 =>
  ypR 1209 x0 r30 h31 fun h32 =>
  yna 0 1000 h32 fun r33 h34 =>
  ypR 1210 x0 r33 h34 fun h35 =>
  yna 3 1000 h35 fun r36 h37 =>
  ypR 1218 x0 r36 h37 fun h38 =>
  ynew 5 3 h38 fun r39 h40 =>
  zV (ycs R d 503 r39 [] h40) fun h41 =>
  ypR 1220 x0 r39 h41 fun h42 =>
  yna 0 1000 h42 fun r43 h44 =>
  ypR 1221 x0 r43 h44 fun h45 =>
  yna 0 1000 h45 fun r46 h47 =>
  ypR 1222 x0 r46 h47 fun h48 =>
  yna 6 0 h48 fun r49 h50 =>
  ypR 1225 x0 r49 h50 fun h51 =>
  yna 0 1000 h51 fun r52 h53 =>
  ypR 1228 x0 r52 h53 fun h54 =>
  zrV h54
def yb_Types_begin (C : YC) (R : ZC YS) (d : Nat) (x0 : Option Nat) (h : YS) : ZR YS :=
  ypI 1211 0 x0 0 h fun h1 =>
  ypI 1212 0 x0 0 h1 fun h2 =>
  ypI 1214 0 x0 0 h2 fun h3 =>
  ypI 1215 0 x0 0 h3 fun h4 =>
  ypI 1213 0 x0 0 h4 fun h5 =>
  ypI 1219 0 x0 0 h5 fun h6 =>
  zrV h6
def yb_Types_unit (C : YC) (R : ZC YS) (d : Nat) (x0 : Option Nat) (h : YS) : ZR YS :=
  zI (ycv R d [(4, 52)] x0 [.inl 2, .inl (-1), .inl 0] h) fun v2 h1 =>
  zrI v2 h1
def yb_Types_node (C : YC) (R : ZC YS) (d : Nat) (x0 : Option Nat) (x1 : Int) (x2 : Int) (x3 : Int) (h : YS) : ZR YS :=
  ygI 1211 x0 h fun v1 =>
  zlet v1 fun x4_2 =>
  ygI 1211 x0 h fun v3 =>
  zG (inI (v3 + 1)) <|
  ypI 1211 0 x0 (v3 + 1) h fun h4 =>
  ygR 1201 x0 h4 fun v5 =>
  ygI 1214 x0 h4 fun v6 =>
  yst 0 v5 x4_2 (zorI (zshlI v6 5) x1) h4 fun h7 =>
  ygR 1202 x0 h7 fun v8 =>
  ygI 1212 x0 h7 fun v9 =>
  yst 0 v8 x4_2 (zorI (zshlI v9 9) x3) h7 fun h10 =>
  ygR 1203 x0 h10 fun v11 =>
  zG (inI ((-2) - x2)) <|
  yst 0 v11 x4_2 ((-2) - x2) h10 fun h12 =>
  ygR 1204 x0 h12 fun v13 =>
  yst 0 v13 x4_2 0 h12 fun h14 =>
  ygI 1212 x0 h14 fun v15 =>
  zG (inI (v15 + x3)) <|
  ypI 1212 0 x0 (v15 + x3) h14 fun h16 =>
  zrI x4_2 h16
def yb_Types_scheme (C : YC) (R : ZC YS) (d : Nat) (x0 : Option Nat) (x1 : Int) (x2 : Option Nat) (x3 : Int) (h : YS) : ZR YS :=
  ygR 1220 x0 h fun v1 =>
  zV (ycv R d [(5, 504)] v1 [] h) fun h2 =>
  ypI 1223 0 x0 0 h2 fun h3 =>
  ypI 1224 0 x0 0 h3 fun h4 =>
  zlet (0 : Int) fun x4_5 =>
  R d 532 [.inr (.inr x0), .inl x1, .inr (.inr x2), .inl x3, .inl x4_5] h4
def yb_Types_general (C : YC) (R : ZC YS) (d : Nat) (x0 : Option Nat) (x1 : Int) (h : YS) : ZR YS :=
  zlet (0 : Int) fun x2_1 =>
  R d 533 [.inr (.inr x0), .inl x1, .inl x2_1] h
def yb_Types_encode (C : YC) (R : ZC YS) (d : Nat) (x0 : Option Nat) (x1 : Int) (h : YS) : ZR YS :=
  zI (ycv R d [(4, 56)] x0 [.inl x1] h) fun v2 h1 =>
  zlet v2 fun x2_3 =>
  zI (ycv R d [(4, 57)] x0 [.inl x2_3] h1) fun v5 h4 =>
  if v5 = 0 then
    zI (ycv R d [(4, 54)] x0 [.inl x2_3] h4) fun v7 h6 =>
    zI (ycv R d [(4, 58)] x0 [.inl x2_3, .inl 16] h6) fun v9 h8 =>
    if v9 = 0 then
      R d 534 [.inr (.inr x0), .inl x2_3, .inl 0, .inl (zshlI v7 2)] h8
    else
    R d 534 [.inr (.inr x0), .inl x2_3, .inl 2, .inl (zshlI v7 2)] h8
  else
  zI (ycv R d [(4, 59)] x0 [.inl x2_3] h4) fun v11 h10 =>
  zG (inI (v11 + 1)) <|
  R d 535 [.inr (.inr x0), .inl x2_3, .inl (v11 + 1)] h10
def yb_Types_root (C : YC) (R : ZC YS) (d : Nat) (x0 : Option Nat) (x1 : Int) (h : YS) : ZR YS :=
  zlet x1 fun x2_1 =>
  R d 536 [.inr (.inr x0), .inl x1, .inl x2_1] h
def yb_Types_kind (C : YC) (R : ZC YS) (d : Nat) (x0 : Option Nat) (x1 : Int) (h : YS) : ZR YS :=
  ygR 1201 x0 h fun v1 =>
  yaI 0 v1 x1 h fun v2 =>
  zrI (zandI v2 7) h
def yb_Types_is (C : YC) (R : ZC YS) (d : Nat) (x0 : Option Nat) (x1 : Int) (x2 : Int) (h : YS) : ZR YS :=
  ygR 1201 x0 h fun v1 =>
  yaI 0 v1 x1 h fun v2 =>
  if (zandI v2 x2) = 0 then
    yrN 1 0 h
  else
  yrN 1 1 h
def yb_Types_of (C : YC) (R : ZC YS) (d : Nat) (x0 : Option Nat) (x1 : Int) (h : YS) : ZR YS :=
  ygR 1203 x0 h fun v1 =>
  yaI 0 v1 x1 h fun v2 =>
  zG (inI ((-2) - v2)) <|
  zrI ((-2) - v2) h
def yb_Types_many (C : YC) (R : ZC YS) (d : Nat) (x0 : Option Nat) (x1 : Int) (h : YS) : ZR YS :=
  ygR 1202 x0 h fun v1 =>
  yaI 0 v1 x1 h fun v2 =>
  zrI (zandI v2 511) h
def yb_Types_label (C : YC) (R : ZC YS) (d : Nat) (x0 : Option Nat) (x1 : Int) (x2 : Int) (h : YS) : ZR YS :=
  ygR 1207 x0 h fun v1 =>
  ygR 1202 x0 h fun v2 =>
  yaI 0 v2 x1 h fun v3 =>
  yaR v1 ((zshrI v3 9) + x2) h fun v4 =>
  zrQ v4 h
def yb_Types_part (C : YC) (R : ZC YS) (d : Nat) (x0 : Option Nat) (x1 : Int) (x2 : Int) (h : YS) : ZR YS :=
  zI (ycv R d [(4, 63)] x0 [.inl x1, .inl x2] h) fun v2 h1 =>
  zI (ycv R d [(4, 56)] x0 [.inl v2] h1) fun v4 h3 =>
  zrI v4 h3
def yb_Types_raw (C : YC) (R : ZC YS) (d : Nat) (x0 : Option Nat) (x1 : Int) (x2 : Int) (h : YS) : ZR YS :=
  ygR 1206 x0 h fun v1 =>
  ygR 1202 x0 h fun v2 =>
  yaI 0 v2 x1 h fun v3 =>
  yaI 0 v1 ((zshrI v3 9) + x2) h fun v4 =>
  zrI v4 h
def yb_Types_unknown (C : YC) (R : ZC YS) (d : Nat) (x0 : Option Nat) (h : YS) : ZR YS :=
  zI (ycv R d [(4, 52)] x0 [.inl 0, .inl (-1), .inl 0] h) fun v2 h1 =>
  zrI v2 h1
def yb_Types_named (C : YC) (R : ZC YS) (d : Nat) (x0 : Option Nat) (x1 : Int) (x2 : Int) (h : YS) : ZR YS :=
  zI (ycv R d [(4, 52)] x0 [.inl 3, .inl x1, .inl 1] h) fun v2 h1 =>
  zlet v2 fun x3_3 =>
  zV (ycv R d [(4, 66)] x0 [.inl x3_3, .inl 0, .inr (.inr (some (C.1 56))), .inl x2] h1) fun h4 =>
  zrI x3_3 h4
def yb_Types_part_2 (C : YC) (R : ZC YS) (d : Nat) (x0 : Option Nat) (x1 : Int) (x2 : Int) (x3 : Option Nat) (x4 : Int) (h : YS) : ZR YS :=
  ygR 1202 x0 h fun v1 =>
  yaI 0 v1 x1 h fun v2 =>
  zG (inI ((zshrI v2 9) + x2)) <|
  zlet ((zshrI v2 9) + x2) fun x5_3 =>
  ygR 1206 x0 h fun v4 =>
  yst 0 v4 x5_3 x4 h fun h5 =>
  ygR 1207 x0 h5 fun v6 =>
  ysR v6 x5_3 x3 h5 fun h7 =>
  zrV h7
def yb_Types_pair (C : YC) (R : ZC YS) (d : Nat) (x0 : Option Nat) (x1 : Int) (x2 : Int) (h : YS) : ZR YS :=
  zI (ycv R d [(4, 52)] x0 [.inl 2, .inl (-1), .inl 2] h) fun v2 h1 =>
  zlet v2 fun x3_3 =>
  zV (ycv R d [(4, 66)] x0 [.inl x3_3, .inl 0, .inr (.inr (some (C.1 59))), .inl x1] h1) fun h4 =>
  zV (ycv R d [(4, 66)] x0 [.inl x3_3, .inl 1, .inr (.inr (some (C.1 60))), .inl x2] h4) fun h5 =>
  zrI x3_3 h5
def yb_Types_named_2 (C : YC) (R : ZC YS) (d : Nat) (x0 : Option Nat) (x1 : Int) (h : YS) : ZR YS :=
  zI (ycv R d [(4, 52)] x0 [.inl 3, .inl x1, .inl 0] h) fun v2 h1 =>
  zrI v2 h1
def yb_Types_make (C : YC) (R : ZC YS) (d : Nat) (x0 : Option Nat) (x1 : Int) (x2 : Int) (h : YS) : ZR YS :=
  ygR 1201 x0 h fun v1 =>
  yaI 0 v1 x1 h fun v2 =>
  yst 0 v1 x1 (zorI v2 x2) h fun h3 =>
  zrV h3
def yb_Types_arrow (C : YC) (R : ZC YS) (d : Nat) (x0 : Option Nat) (x1 : Int) (x2 : Int) (h : YS) : ZR YS :=
  zI (ycv R d [(4, 52)] x0 [.inl 4, .inl (-1), .inl 2] h) fun v2 h1 =>
  zlet v2 fun x3_3 =>
  zV (ycv R d [(4, 66)] x0 [.inl x3_3, .inl 0, .inr (.inr (some (C.1 56))), .inl x1] h1) fun h4 =>
  zV (ycv R d [(4, 66)] x0 [.inl x3_3, .inl 1, .inr (.inr (some (C.1 56))), .inl x2] h4) fun h5 =>
  zrI x3_3 h5
def yb_Types_compare (C : YC) (R : ZC YS) (d : Nat) (x0 : Option Nat) (x1 : Option Nat) (h : YS) : ZR YS :=
  zI (ycv R d [(21, 537)] x0 [.inl 0] h) fun v2 h1 =>
  zI (zc R d 15 [.inl v2] h1) fun v4 h3 =>
  zI (ycv R d [(21, 537)] x1 [.inl 0] h3) fun v6 h5 =>
  zI (zc R d 15 [.inl v6] h5) fun v8 h7 =>
  if v4 = v8 then
    zI (ycv R d [(21, 537)] x0 [.inl 0] h7) fun v10 h9 =>
    zI (zc R d 15 [.inl v10] h9) fun v12 h11 =>
    if v12 = 0 then
      zlet (0 : Int) fun x2_13 =>
      R d 538 [.inr (.inr x0), .inr (.inr x1), .inl x2_13] h11
    else
    zI (ycv R d [(21, 539)] x0 [] h11) fun v15 h14 =>
    zI (ycv R d [(21, 539)] x1 [] h14) fun v17 h16 =>
    if v15 = v17 then
      zlet (0 : Int) fun x2_18 =>
      R d 538 [.inr (.inr x0), .inr (.inr x1), .inl x2_18] h16
    else
    zI (ycv R d [(21, 539)] x0 [] h16) fun v20 h19 =>
    zI (ycv R d [(21, 539)] x1 [] h19) fun v22 h21 =>
    zG (inI (v20 - v22)) <|
    zrI (v20 - v22) h21
  else
  zI (ycv R d [(21, 537)] x0 [.inl 0] h7) fun v24 h23 =>
  zI (zc R d 15 [.inl v24] h23) fun v26 h25 =>
  if v26 = 0 then
    zrI 1 h25
  else
  zrI (-1) h25
def yb_Types_open (C : YC) (R : ZC YS) (d : Nat) (x0 : Option Nat) (x1 : Int) (x2 : Int) (h : YS) : ZR YS :=
  zI (ycv R d [(4, 52)] x0 [.inl 1, .inl (-1), .inl x1] h) fun v2 h1 =>
  zlet v2 fun x3_3 =>
  ygR 1209 x0 h1 fun v4 =>
  ygI 1215 x0 h1 fun v5 =>
  yst 0 v4 v5 x3_3 h1 fun h6 =>
  ygR 1210 x0 h6 fun v7 =>
  ygI 1215 x0 h6 fun v8 =>
  yst 0 v7 v8 x2 h6 fun h9 =>
  ygI 1215 x0 h9 fun v10 =>
  zG (inI (v10 + 1)) <|
  ypI 1215 0 x0 (v10 + 1) h9 fun h11 =>
  zrI x3_3 h11
def yb_Types_build (C : YC) (R : ZC YS) (d : Nat) (x0 : Option Nat) (x1 : Option Nat) (x2 : Option Nat) (h : YS) : ZR YS :=
  ypI 1226 0 x0 0 h fun h1 =>
  ypI 1227 0 x0 0 h1 fun h2 =>
  zlet (0 : Int) fun x3_3 =>
  R d 540 [.inr (.inr x0), .inr (.inr x1), .inr (.inr x2), .inl x3_3] h2
def yb_Types_build_2 (C : YC) (R : ZC YS) (d : Nat) (x0 : Option Nat) (x1 : Option Nat) (h : YS) : ZR YS :=
  ygR 5100 x1 h fun v1 =>
  ygI 1226 x0 h fun v2 =>
  yaI 0 v1 v2 h fun v3 =>
  zlet v3 fun x2_4 =>
  zlet (zandI x2_4 7) fun x3_5 =>
  zlet (zandI (zshrI x2_4 3) 511) fun x4_6 =>
  zlet (zshrI x2_4 12) fun x5_7 =>
  ygI 1226 x0 h fun v8 =>
  zG (inI (v8 + 1)) <|
  ypI 1226 0 x0 (v8 + 1) h fun h9 =>
  if x3_5 = 0 then
    zlet (zshrI x5_7 2) fun x6_10 =>
    ygR 1228 x0 h9 fun v11 =>
    yaI 0 v11 x6_10 h9 fun v12 =>
    if v12 = (-1) then
      ygR 1228 x0 h9 fun v13 =>
      zI (ycv R d [(4, 64)] x0 [] h9) fun v15 h14 =>
      yst 0 v13 x6_10 v15 h14 fun h16 =>
      if (zandI x5_7 2) = 0 then
        R d 541 [.inr (.inr x0), .inl x5_7, .inl x6_10] h16
      else
      ygR 1228 x0 h16 fun v17 =>
      yaI 0 v17 x6_10 h16 fun v18 =>
      zV (ycv R d [(4, 69)] x0 [.inl v18, .inl 16] h16) fun h19 =>
      R d 541 [.inr (.inr x0), .inl x5_7, .inl x6_10] h19
    else
    ygR 1228 x0 h9 fun v20 =>
    yaI 0 v20 x6_10 h9 fun v21 =>
    zrI v21 h9
  else
  zG (inI (x5_7 - 1)) <|
  zI (ycv R d [(4, 52)] x0 [.inl x3_5, .inl (x5_7 - 1), .inl x4_6] h9) fun v23 h22 =>
  zlet v23 fun x6_24 =>
  zlet (0 : Int) fun x7_25 =>
  R d 542 [.inr (.inr x0), .inr (.inr x1), .inl x3_5, .inl x4_6, .inl x6_24, .inl x7_25] h22
def yb_Types_count (C : YC) (R : ZC YS) (d : Nat) (x0 : Option Nat) (x1 : Int) (x2 : Int) (h : YS) : ZR YS :=
  zI (ycv R d [(4, 56)] x0 [.inl x1] h) fun v2 h1 =>
  zlet v2 fun x3_3 =>
  zlet (1 : Int) fun x4_4 =>
  zlet (0 : Int) fun x5_5 =>
  R d 543 [.inr (.inr x0), .inl x2, .inl x3_3, .inl x4_4, .inl x5_5] h1
def yb_Types_variable (C : YC) (R : ZC YS) (d : Nat) (x0 : Option Nat) (x1 : Int) (h : YS) : ZR YS :=
  ygR 1218 x0 h fun v1 =>
  ygI 1219 x0 h fun v2 =>
  yst 2 v1 v2 x1 h fun h3 =>
  ygI 1219 x0 h3 fun v4 =>
  zG (inI (v4 + 1)) <|
  ypI 1219 0 x0 (v4 + 1) h3 fun h5 =>
  ygI 1219 x0 h5 fun v6 =>
  zG (inI (v6 - 1)) <|
  zI (ycv R d [(4, 52)] x0 [.inl 5, .inl (v6 - 1), .inl 0] h5) fun v8 h7 =>
  zrI v8 h7
def yb_Types_join (C : YC) (R : ZC YS) (d : Nat) (x0 : Option Nat) (x1 : Int) (x2 : Int) (h : YS) : ZR YS :=
  ypI 1217 0 x0 0 h fun h1 =>
  ypI 1216 0 x0 0 h1 fun h2 =>
  zV (ycv R d [(4, 78)] x0 [.inl x1, .inl x2] h2) fun h3 =>
  R d 544 [.inr (.inr x0), .inl x1] h3
def yb_Types_push (C : YC) (R : ZC YS) (d : Nat) (x0 : Option Nat) (x1 : Int) (x2 : Int) (h : YS) : ZR YS :=
  ygR 1208 x0 h fun v1 =>
  ygI 1217 x0 h fun v2 =>
  yst 1 v1 v2 (zorL (zshlL x1 32) x2) h fun h3 =>
  ygI 1217 x0 h3 fun v4 =>
  zG (inI (v4 + 1)) <|
  ypI 1217 0 x0 (v4 + 1) h3 fun h5 =>
  zrV h5
def yb_Types_joins (C : YC) (R : ZC YS) (d : Nat) (x0 : Option Nat) (x1 : Int) (x2 : Int) (h : YS) : ZR YS :=
  if x1 = x2 then
    yrN 1 1 h
  else
  zI (ycv R d [(4, 57)] x0 [.inl x1] h) fun v2 h1 =>
  if v2 = 0 then
    zI (ycv R d [(4, 80)] x0 [.inl x1, .inl x2] h1) fun v4 h3 =>
    yrN 1 v4 h3
  else
  zI (ycv R d [(4, 57)] x0 [.inl x2] h1) fun v6 h5 =>
  if v6 = 0 then
    zI (ycv R d [(4, 80)] x0 [.inl x2, .inl x1] h5) fun v8 h7 =>
    yrN 1 v8 h7
  else
  zI (ycv R d [(4, 57)] x0 [.inl x1] h5) fun v10 h9 =>
  if v10 = 1 then
    zI (ycv R d [(4, 84)] x0 [.inl x1, .inl x2] h9) fun v12 h11 =>
    yrN 1 v12 h11
  else
  zI (ycv R d [(4, 57)] x0 [.inl x2] h9) fun v14 h13 =>
  if v14 = 1 then
    zI (ycv R d [(4, 84)] x0 [.inl x2, .inl x1] h13) fun v16 h15 =>
    yrN 1 v16 h15
  else
  zI (ycv R d [(4, 57)] x0 [.inl x1] h13) fun v18 h17 =>
  zI (ycv R d [(4, 57)] x0 [.inl x2] h17) fun v20 h19 =>
  if v18 = v20 then
    zI (ycv R d [(4, 59)] x0 [.inl x1] h19) fun v22 h21 =>
    zI (ycv R d [(4, 59)] x0 [.inl x2] h21) fun v24 h23 =>
    if v22 = v24 then
      zI (ycv R d [(4, 60)] x0 [.inl x1] h23) fun v26 h25 =>
      zI (ycv R d [(4, 60)] x0 [.inl x2] h25) fun v28 h27 =>
      if v26 = v28 then
        zI (ycv R d [(4, 60)] x0 [.inl x1] h27) fun v30 h29 =>
        zlet v30 fun x3_31 =>
        zlet (0 : Int) fun x4_32 =>
        R d 545 [.inr (.inr x0), .inl x1, .inl x2, .inl x3_31, .inl x4_32] h29
      else
      yrN 1 0 h27
    else
    yrN 1 0 h23
  else
  yrN 1 0 h19
def yb_Types_tells (C : YC) (R : ZC YS) (d : Nat) (x0 : Option Nat) (x1 : Int) (x2 : Int) (h : YS) : ZR YS :=
  zI (ycv R d [(4, 58)] x0 [.inl x1, .inl 16] h) fun v2 h1 =>
  if v2 = 0 then
    R d 546 [.inr (.inr x0), .inl x1, .inl x2, .inl 1] h1
  else
  zI (ycv R d [(4, 57)] x0 [.inl x2] h1) fun v4 h3 =>
  if v4 = 0 then
    R d 546 [.inr (.inr x0), .inl x1, .inl x2, .inl 1] h3
  else
  zI (ycv R d [(4, 57)] x0 [.inl x2] h3) fun v6 h5 =>
  if v6 = 3 then
    zI (ycv R d [(4, 59)] x0 [.inl x2] h5) fun v8 h7 =>
    if v8 ≤ 2 then
      R d 546 [.inr (.inr x0), .inl x1, .inl x2, .inl 1] h7
    else
    R d 546 [.inr (.inr x0), .inl x1, .inl x2, .inl 0] h7
  else
  R d 546 [.inr (.inr x0), .inl x1, .inl x2, .inl 0] h5
def yb_Types_link (C : YC) (R : ZC YS) (d : Nat) (x0 : Option Nat) (x1 : Int) (x2 : Int) (h : YS) : ZR YS :=
  ygR 1203 x0 h fun v1 =>
  yst 0 v1 x1 x2 h fun h2 =>
  zI (ycv R d [(4, 82)] x0 [.inl x1] h2) fun v4 h3 =>
  zI (ycv R d [(4, 82)] x0 [.inl x2] h3) fun v6 h5 =>
  zI (zc R d 547 [.inl v4, .inl v6] h5) fun v8 h7 =>
  zV (ycv R d [(4, 83)] x0 [.inl x2, .inl v8] h7) fun h9 =>
  ygR 1201 x0 h9 fun v10 =>
  yaI 0 v10 x2 h9 fun v11 =>
  ygR 1201 x0 h9 fun v12 =>
  yaI 0 v12 x1 h9 fun v13 =>
  yst 0 v10 x2 (zorI v11 (zandI v13 8)) h9 fun h14 =>
  ygR 1205 x0 h14 fun v15 =>
  ygI 1216 x0 h14 fun v16 =>
  yst 0 v15 v16 x2 h14 fun h17 =>
  ygI 1216 x0 h17 fun v18 =>
  zG (inI (v18 + 1)) <|
  ypI 1216 0 x0 (v18 + 1) h17 fun h19 =>
  zrV h19
def yb_Types_level (C : YC) (R : ZC YS) (d : Nat) (x0 : Option Nat) (x1 : Int) (h : YS) : ZR YS :=
  ygR 1201 x0 h fun v1 =>
  yaI 0 v1 x1 h fun v2 =>
  zrI (zshrI v2 5) h
def yb_Types_levelTo (C : YC) (R : ZC YS) (d : Nat) (x0 : Option Nat) (x1 : Int) (x2 : Int) (h : YS) : ZR YS :=
  ygR 1201 x0 h fun v1 =>
  ygR 1201 x0 h fun v2 =>
  yaI 0 v2 x1 h fun v3 =>
  yst 0 v1 x1 (zorI (zandI v3 31) (zshlI x2 5)) h fun h4 =>
  zrV h4
def yb_Types_opens (C : YC) (R : ZC YS) (d : Nat) (x0 : Option Nat) (x1 : Int) (x2 : Int) (h : YS) : ZR YS :=
  zI (ycv R d [(4, 57)] x0 [.inl x2] h) fun v2 h1 =>
  if v2 = 2 then
    zlet (0 : Int) fun x3_3 =>
    R d 548 [.inr (.inr x0), .inl x1, .inl x2, .inl x3_3] h1
  else
  zI (ycv R d [(4, 57)] x0 [.inl x2] h1) fun v5 h4 =>
  if v5 = 1 then
    zI (ycv R d [(4, 60)] x0 [.inl x1] h4) fun v7 h6 =>
    zlet v7 fun x3_8 =>
    zlet (0 : Int) fun x4_9 =>
    R d 549 [.inr (.inr x0), .inl x1, .inl x2, .inl x3_8, .inl x4_9] h6
  else
  yrN 1 0 h4
def yb_Types_find (C : YC) (R : ZC YS) (d : Nat) (x0 : Option Nat) (x1 : Int) (x2 : Option Nat) (h : YS) : ZR YS :=
  zlet (0 : Int) fun x3_1 =>
  R d 550 [.inr (.inr x0), .inl x1, .inr (.inr x2), .inl x3_1] h
def yb_Types_isRing (C : YC) (R : ZC YS) (d : Nat) (x0 : Option Nat) (x1 : Int) (h : YS) : ZR YS :=
  ygI 1213 x0 h fun v1 =>
  zG (inI (v1 + 1)) <|
  zlet (v1 + 1) fun x2_2 =>
  ygI 1213 x0 h fun v3 =>
  zG (inI (v3 + 2)) <|
  zlet (v3 + 2) fun x3_4 =>
  ygI 1213 x0 h fun v5 =>
  zG (inI (v5 + 2)) <|
  ypI 1213 0 x0 (v5 + 2) h fun h6 =>
  zlet (0 : Int) fun x4_7 =>
  ygR 1208 x0 h6 fun v8 =>
  yst 1 v8 0 (zshlL x1 32) h6 fun h9 =>
  ygR 1204 x0 h9 fun v10 =>
  yst 0 v10 x1 x2_2 h9 fun h11 =>
  R d 551 [.inr (.inr x0), .inl x2_2, .inl x3_4, .inl x4_7] h11
def yb_Types_lower (C : YC) (R : ZC YS) (d : Nat) (x0 : Option Nat) (h : YS) : ZR YS :=
  zlet (0 : Int) fun x1_1 =>
  R d 552 [.inr (.inr x0), .inl x1_1] h
def yb_Types_admits (C : YC) (R : ZC YS) (d : Nat) (x0 : Option Nat) (h : YS) : ZR YS :=
  ygI 1213 x0 h fun v1 =>
  zG (inI (v1 + 1)) <|
  ypI 1213 0 x0 (v1 + 1) h fun h2 =>
  zlet (0 : Int) fun x1_3 =>
  zlet (0 : Int) fun x2_4 =>
  R d 553 [.inr (.inr x0), .inl x1_3, .inl x2_4] h2
def yb_Types_must (C : YC) (R : ZC YS) (d : Nat) (x0 : Option Nat) (x1 : Int) (x2 : Int) (h : YS) : ZR YS :=
  zV (ycv R d [(4, 69)] x0 [.inl x1, .inl 8] h) fun h1 =>
  ygR 1204 x0 h1 fun v2 =>
  yaI 0 v2 x1 h1 fun v3 =>
  ygI 1213 x0 h1 fun v4 =>
  if v3 = v4 then
    zrI x2 h1
  else
  ygR 1204 x0 h1 fun v5 =>
  ygI 1213 x0 h1 fun v6 =>
  yst 0 v5 x1 v6 h1 fun h7 =>
  ygR 1208 x0 h7 fun v8 =>
  yst 1 v8 x2 x1 h7 fun h9 =>
  zG (inI (x2 + 1)) <|
  zrI (x2 + 1) h9
def yb_Types_constructor (C : YC) (R : ZC YS) (d : Nat) (x0 : Option Nat) (x1 : Option Nat) (h : YS) : ZR YS :=
  ygR 5701 x1 h fun v1 =>
  ygI 4502 v1 h fun v2 =>
  zlet v2 fun x2_3 =>
  ygR 5701 x1 h fun v4 =>
  ygI 4501 v4 h fun v5 =>
  zI (ycv R d [(4, 52)] x0 [.inl 3, .inl v5, .inl x2_3] h) fun v7 h6 =>
  zlet v7 fun x3_8 =>
  yna 0 x2_3 h6 fun r9 h10 =>
  zlet r9 fun x4_11 =>
  zlet (0 : Int) fun x5_12 =>
  R d 554 [.inr (.inr x0), .inr (.inr x1), .inl x2_3, .inl x3_8, .inr (.inr x4_11), .inl x5_12] h10
def yb_Types_beginCopy (C : YC) (R : ZC YS) (d : Nat) (x0 : Option Nat) (h : YS) : ZR YS :=
  ygI 1213 x0 h fun v1 =>
  zG (inI (v1 + 1)) <|
  ypI 1213 0 x0 (v1 + 1) h fun h2 =>
  zrV h2
def yb_Types_copy (C : YC) (R : ZC YS) (d : Nat) (x0 : Option Nat) (x1 : Int) (h : YS) : ZR YS :=
  zI (ycv R d [(4, 56)] x0 [.inl x1] h) fun v2 h1 =>
  zlet v2 fun x2_3 =>
  zI (ycv R d [(4, 82)] x0 [.inl x2_3] h1) fun v5 h4 =>
  if v5 = 1048576 then
    ygR 1204 x0 h4 fun v6 =>
    yaI 0 v6 x2_3 h4 fun v7 =>
    ygI 1213 x0 h4 fun v8 =>
    if v7 = v8 then
      ygR 1205 x0 h4 fun v9 =>
      yaI 0 v9 x2_3 h4 fun v10 =>
      zrI v10 h4
    else
    zI (ycv R d [(4, 60)] x0 [.inl x2_3] h4) fun v12 h11 =>
    zlet v12 fun x3_13 =>
    zI (ycv R d [(4, 57)] x0 [.inl x2_3] h11) fun v15 h14 =>
    zI (ycv R d [(4, 59)] x0 [.inl x2_3] h14) fun v17 h16 =>
    zI (ycv R d [(4, 52)] x0 [.inl v15, .inl v17, .inl x3_13] h16) fun v19 h18 =>
    zlet v19 fun x4_20 =>
    ygR 1201 x0 h18 fun v21 =>
    yaI 0 v21 x4_20 h18 fun v22 =>
    zI (ycv R d [(4, 57)] x0 [.inl x2_3] h18) fun v24 h23 =>
    if v24 = 0 then
      ygR 1201 x0 h23 fun v25 =>
      yaI 0 v25 x2_3 h23 fun v26 =>
      R d 555 [.inr (.inr x0), .inl x2_3, .inl x3_13, .inl x4_20, .inl (zandI v26 8), .inl v22, .inl x4_20, .inr (.inr v21)] h23
    else
    R d 555 [.inr (.inr x0), .inl x2_3, .inl x3_13, .inl x4_20, .inl 0, .inl v22, .inl x4_20, .inr (.inr v21)] h23
  else
  zrI x2_3 h4
def yb_Types_keepOpen (C : YC) (R : ZC YS) (d : Nat) (x0 : Option Nat) (x1 : Int) (h : YS) : ZR YS :=
  zlet (0 : Int) fun x2_1 =>
  R d 556 [.inr (.inr x0), .inl x1, .inl x2_1] h
def yb_Types_keep (C : YC) (R : ZC YS) (d : Nat) (x0 : Option Nat) (x1 : Int) (x2 : Int) (h : YS) : ZR YS :=
  zI (ycv R d [(4, 56)] x0 [.inl x1] h) fun v2 h1 =>
  zlet v2 fun x3_3 =>
  zI (ycv R d [(4, 82)] x0 [.inl x3_3] h1) fun v5 h4 =>
  if v5 ≤ x2 then
    zrV h4
  else
  zV (ycv R d [(4, 83)] x0 [.inl x3_3, .inl x2] h4) fun h6 =>
  ypI 1216 0 x0 1 h6 fun h7 =>
  ygR 1205 x0 h7 fun v8 =>
  yst 0 v8 0 x3_3 h7 fun h9 =>
  zV (ycv R d [(4, 87)] x0 [] h9) fun h10 =>
  zrV h10
def yb_Types_has (C : YC) (R : ZC YS) (d : Nat) (x0 : Option Nat) (x1 : Int) (x2 : Int) (h : YS) : ZR YS :=
  zI (ycv R d [(4, 56)] x0 [.inl x1] h) fun v2 h1 =>
  zlet v2 fun x3_3 =>
  if x3_3 = x2 then
    zlet (1 : Int) fun x4_4 =>
    zlet (0 : Int) fun x5_5 =>
    R d 557 [.inr (.inr x0), .inl x2, .inl x3_3, .inl x4_4, .inl x5_5] h1
  else
  zlet (0 : Int) fun x4_6 =>
  zlet (0 : Int) fun x5_7 =>
  R d 557 [.inr (.inr x0), .inl x2, .inl x3_3, .inl x4_6, .inl x5_7] h1
def yb_Types_generalize (C : YC) (R : ZC YS) (d : Nat) (x0 : Option Nat) (x1 : Int) (x2 : Int) (h : YS) : ZR YS :=
  zI (ycv R d [(4, 56)] x0 [.inl x1] h) fun v2 h1 =>
  zlet v2 fun x3_3 =>
  zI (ycv R d [(4, 82)] x0 [.inl x3_3] h1) fun v5 h4 =>
  if v5 = 1048576 then
    yrN 1 1 h4
  else
  zI (ycv R d [(4, 82)] x0 [.inl x3_3] h4) fun v7 h6 =>
  if v7 ≤ x2 then
    yrN 1 0 h6
  else
  zI (ycv R d [(4, 57)] x0 [.inl x3_3] h6) fun v9 h8 =>
  if v9 = 5 then
    ygR 1201 x0 h8 fun v10 =>
    ygR 1201 x0 h8 fun v11 =>
    yaI 0 v11 x3_3 h8 fun v12 =>
    ygR 1218 x0 h8 fun v13 =>
    zI (ycv R d [(4, 59)] x0 [.inl x3_3] h8) fun v15 h14 =>
    yaI 2 v13 v15 h14 fun v16 =>
    if v16 = 0 then
      yst 0 v10 x3_3 (zorI (zorI (zandI v12 (-16)) 0) 0) h14 fun h17 =>
      R d 558 [.inr (.inr x0), .inl x2, .inl x3_3] h17
    else
    yst 0 v10 x3_3 (zorI (zorI (zandI v12 (-16)) 0) 8) h14 fun h18 =>
    R d 558 [.inr (.inr x0), .inl x2, .inl x3_3] h18
  else
  R d 558 [.inr (.inr x0), .inl x2, .inl x3_3] h8
def yb_Types_settle (C : YC) (R : ZC YS) (d : Nat) (x0 : Option Nat) (h : YS) : ZR YS :=
  zlet (0 : Int) fun x1_1 =>
  R d 559 [.inr (.inr x0), .inl x1_1] h
def yb_Types_openPlace (C : YC) (R : ZC YS) (d : Nat) (x0 : Option Nat) (h : YS) : ZR YS :=
  zlet ((-1) : Int) fun x1_1 =>
  zlet (0 : Int) fun x2_2 =>
  R d 560 [.inr (.inr x0), .inl x1_1, .inl x2_2] h
def yb_Types_hasUnknown (C : YC) (R : ZC YS) (d : Nat) (x0 : Option Nat) (x1 : Int) (h : YS) : ZR YS :=
  zI (ycv R d [(4, 56)] x0 [.inl x1] h) fun v2 h1 =>
  zlet v2 fun x2_3 =>
  zI (ycv R d [(4, 57)] x0 [.inl x2_3] h1) fun v5 h4 =>
  if v5 = 0 then
    zI (ycv R d [(4, 82)] x0 [.inl x2_3] h4) fun v7 h6 =>
    if v7 = 1048576 then
      zlet (0 : Int) fun x3_8 =>
      zlet (0 : Int) fun x4_9 =>
      R d 561 [.inr (.inr x0), .inl x2_3, .inl x3_8, .inl x4_9] h6
    else
    zlet (1 : Int) fun x3_10 =>
    zlet (0 : Int) fun x4_11 =>
    R d 561 [.inr (.inr x0), .inl x2_3, .inl x3_10, .inl x4_11] h6
  else
  zlet (0 : Int) fun x3_12 =>
  zlet (0 : Int) fun x4_13 =>
  R d 561 [.inr (.inr x0), .inl x2_3, .inl x3_12, .inl x4_13] h4
def yb_Parser_init (C : YC) (R : ZC YS) (d : Nat) (x0 : Option Nat) (x1 : Option Nat) (h : YS) : ZR YS :=
  ynull x0 none <|
  ynew 5 3 h fun r2 h3 =>
  zV (ycs R d 503 r2 [] h3) fun h4 =>
  ypR 1802 x0 r2 h4 fun h5 =>
  ynew 5 3 h5 fun r6 h7 =>
  zV (ycs R d 503 r6 [] h7) fun h8 =>
  ypR 1803 x0 r6 h8 fun h9 =>
  ynew 7 3 h9 fun r10 h11 =>
  zV (ycs R d 167 r10 [.inr (.inr (some (C.1 1))), .inl 4, .inl 0] h11) fun h12 =>
  ypR 1808 x0 r10 h12 fun h13 =>
  yna 6 1001 h13 fun r14 h15 =>
  ypR 1809 x0 r14 h15 fun h16 =>
  ypR 1800 x0 x1 h16 fun h17 =>
  ynew 8 9 h17 fun r18 h19 =>
  zV (ycs R d 168 r18 [.inr (.inr x1)] h19) fun h20 =>
  ypR 1801 x0 r18 h20 fun h21 =>
  zrV h21
def yb_Parser_input (C : YC) (R : ZC YS) (d : Nat) (x0 : Option Nat) (h : YS) : ZR YS :=
  ygR 1801 x0 h fun v1 =>
  zV (ycv R d [(8, 169)] v1 [] h) fun h2 =>
  ypI 1806 0 x0 0 h2 fun h3 =>
  ypI 1807 1 x0 0 h3 fun h4 =>
  ygR 1803 x0 h4 fun v5 =>
  zV (ycv R d [(5, 504)] v5 [] h4) fun h6 =>
  ygR 1801 x0 h6 fun v7 =>
  zQ (ycv R d [(8, 170)] v7 [] h6) fun v9 h8 =>
  ypR 1804 x0 v9 h8 fun h10 =>
  ygR 1804 x0 h10 fun v11 =>
  ygR 6600 v11 h10 fun v12 =>
  ysvR C 3 fun v13 =>
  if v12 = v13 then
    ygR 1804 x0 h10 fun v14 =>
    R d 562 [.inr (.inr x0), .inr (.inr v14), .inr (.inr x0)] h10
  else
  ygR 1801 x0 h10 fun v15 =>
  zQ (ycv R d [(8, 170)] v15 [] h10) fun v17 h16 =>
  R d 562 [.inr (.inr x0), .inr (.inr v17), .inr (.inr x0)] h16
def yb_Parser_isDec (C : YC) (R : ZC YS) (d : Nat) (x0 : Option Nat) (h : YS) : ZR YS :=
  ygR 6600 x0 h fun v1 =>
  ysvR C 10 fun v2 =>
  if v1 = v2 then
    zI (ycv R d [(22, 316)] x0 [.inr (.inr (some (C.1 102)))] h) fun v4 h3 =>
    if v4 = 0 then
      zI (ycv R d [(22, 316)] x0 [.inr (.inr (some (C.1 103)))] h3) fun v6 h5 =>
      if v6 = 0 then
        zI (ycv R d [(22, 316)] x0 [.inr (.inr (some (C.1 104)))] h5) fun v8 h7 =>
        if v8 = 0 then
          zI (ycv R d [(22, 316)] x0 [.inr (.inr (some (C.1 105)))] h7) fun v10 h9 =>
          if v10 = 0 then
            zI (ycv R d [(22, 316)] x0 [.inr (.inr (some (C.1 106)))] h9) fun v12 h11 =>
            if v12 = 0 then
              zI (ycv R d [(22, 316)] x0 [.inr (.inr (some (C.1 107)))] h11) fun v14 h13 =>
              if v14 = 0 then
                zI (ycv R d [(22, 316)] x0 [.inr (.inr (some (C.1 108)))] h13) fun v16 h15 =>
                if v16 = 0 then
                  zI (ycv R d [(22, 316)] x0 [.inr (.inr (some (C.1 109)))] h15) fun v18 h17 =>
                  if v18 = 0 then
                    zI (ycv R d [(22, 316)] x0 [.inr (.inr (some (C.1 110)))] h17) fun v20 h19 =>
                    if v20 = 0 then
                      yrN 1 0 h19
                    else
                    yrN 1 1 h19
                  else
                  yrN 1 1 h17
                else
                yrN 1 1 h15
              else
              yrN 1 1 h13
            else
            yrN 1 1 h11
          else
          yrN 1 1 h9
        else
        yrN 1 1 h7
      else
      yrN 1 1 h5
    else
    yrN 1 1 h3
  else
  yrN 1 0 h
def yb_Parser_decs (C : YC) (R : ZC YS) (d : Nat) (x0 : Option Nat) (x1 : Int) (h : YS) : ZR YS :=
  ynew 5 3 h fun r1 h2 =>
  zV (ycs R d 503 r1 [] h2) fun h3 =>
  zlet r1 fun x2_4 =>
  ygR 1804 x0 h3 fun v5 =>
  zI (zc R d 102 [.inr (.inr v5)] h3) fun v7 h6 =>
  zlet v7 fun x3_8 =>
  R d 563 [.inr (.inr x0), .inl x1, .inr (.inr x2_4), .inl x3_8] h6
def yb_Parser_dec (C : YC) (R : ZC YS) (d : Nat) (x0 : Option Nat) (x1 : Option Nat) (h : YS) : ZR YS :=
  ygR 1804 x0 h fun v1 =>
  zI (ycv R d [(22, 316)] v1 [.inr (.inr (some (C.1 102)))] h) fun v3 h2 =>
  if v3 = 0 then
    ygR 1804 x0 h2 fun v4 =>
    zI (ycv R d [(22, 316)] v4 [.inr (.inr (some (C.1 103)))] h2) fun v6 h5 =>
    if v6 = 0 then
      ygR 1804 x0 h5 fun v7 =>
      zI (ycv R d [(22, 316)] v7 [.inr (.inr (some (C.1 104)))] h5) fun v9 h8 =>
      if v9 = 0 then
        ygR 1804 x0 h8 fun v10 =>
        zI (ycv R d [(22, 316)] v10 [.inr (.inr (some (C.1 105)))] h8) fun v12 h11 =>
        if v12 = 0 then
          ygR 1804 x0 h11 fun v13 =>
          zI (ycv R d [(22, 316)] v13 [.inr (.inr (some (C.1 106)))] h11) fun v15 h14 =>
          if v15 = 0 then
            ygR 1804 x0 h14 fun v16 =>
            zI (ycv R d [(22, 316)] v16 [.inr (.inr (some (C.1 107)))] h14) fun v18 h17 =>
            if v18 = 0 then
              zV (ycv R d [(6, 166)] x0 [] h17) fun h19 =>
              zrV h19
            else
            zQ (ycv R d [(6, 165)] x0 [] h17) fun v21 h20 =>
            zI (ycv R d [(5, 505)] x1 [.inr (.inr v21)] h20) fun v23 h22 =>
            zrV h22
          else
          zQ (ycv R d [(6, 164)] x0 [] h14) fun v25 h24 =>
          zI (ycv R d [(5, 505)] x1 [.inr (.inr v25)] h24) fun v27 h26 =>
          zrV h26
        else
        zQ (ycv R d [(6, 163)] x0 [] h11) fun v29 h28 =>
        zI (ycv R d [(5, 505)] x1 [.inr (.inr v29)] h28) fun v31 h30 =>
        zrV h30
      else
      zQ (ycv R d [(6, 160)] x0 [] h8) fun v33 h32 =>
      zI (ycv R d [(5, 505)] x1 [.inr (.inr v33)] h32) fun v35 h34 =>
      zrV h34
    else
    zQ (ycv R d [(6, 158)] x0 [] h5) fun v37 h36 =>
    zI (ycv R d [(5, 505)] x1 [.inr (.inr v37)] h36) fun v39 h38 =>
    zrV h38
  else
  zQ (ycv R d [(6, 105)] x0 [] h2) fun v41 h40 =>
  zI (ycv R d [(5, 505)] x1 [.inr (.inr v41)] h40) fun v43 h42 =>
  zrV h42
def yb_Parser_value (C : YC) (R : ZC YS) (d : Nat) (x0 : Option Nat) (h : YS) : ZR YS :=
  zV (ycv R d [(6, 106)] x0 [] h) fun h1 =>
  ynew 24 7 h1 fun r2 h3 =>
  zV (ycs R d 324 r2 [] h3) fun h4 =>
  zlet r2 fun x1_5 =>
  zV (ycv R d [(6, 107)] x0 [.inr (.inr x1_5)] h4) fun h6 =>
  zI (ycv R d [(6, 108)] x0 [.inr (.inr (some (C.1 111)))] h6) fun v8 h7 =>
  ypI 7206 1 x1_5 v8 h7 fun h9 =>
  R d 564 [.inr (.inr x0), .inr (.inr x1_5)] h9
def yb_Parser_pass (C : YC) (R : ZC YS) (d : Nat) (x0 : Option Nat) (h : YS) : ZR YS :=
  ygR 1805 x0 h fun v1 =>
  ypR 1804 x0 v1 h fun h2 =>
  ygR 1804 x0 h2 fun v3 =>
  ygR 6600 v3 h2 fun v4 =>
  ysvR C 3 fun v5 =>
  if v4 = v5 then
    zrV h2
  else
  ygR 1801 x0 h2 fun v6 =>
  zQ (ycv R d [(8, 170)] v6 [] h2) fun v8 h7 =>
  ypR 1805 x0 v8 h7 fun h9 =>
  zrV h9
def yb_Parser_open (C : YC) (R : ZC YS) (d : Nat) (x0 : Option Nat) (x1 : Option Nat) (h : YS) : ZR YS :=
  ygR 1803 x0 h fun v1 =>
  zI (ycv R d [(5, 505)] v1 [.inr (.inr x1)] h) fun v3 h2 =>
  zrV h2
def yb_Parser_takes (C : YC) (R : ZC YS) (d : Nat) (x0 : Option Nat) (x1 : Option Nat) (h : YS) : ZR YS :=
  ygR 1804 x0 h fun v1 =>
  zI (ycv R d [(22, 316)] v1 [.inr (.inr x1)] h) fun v3 h2 =>
  if v3 = 0 then
    yrN 1 0 h2
  else
  zV (ycv R d [(6, 106)] x0 [] h2) fun h4 =>
  yrN 1 1 h4
def yb_Parser_pat (C : YC) (R : ZC YS) (d : Nat) (x0 : Option Nat) (h : YS) : ZR YS :=
  ygR 1804 x0 h fun v1 =>
  ygI 6601 v1 h fun v2 =>
  zlet v2 fun x1_3 =>
  ygR 1804 x0 h fun v4 =>
  zI (ycv R d [(22, 316)] v4 [.inr (.inr (some (C.1 112)))] h) fun v6 h5 =>
  if v6 = 0 then
    ygR 1804 x0 h5 fun v7 =>
    zI (ycv R d [(22, 317)] v7 [] h5) fun v9 h8 =>
    if v9 = 0 then
      R d 565 [.inr (.inr x0), .inl x1_3, .inl 0] h8
    else
    ygR 1804 x0 h8 fun v10 =>
    zQ (ycv R d [(6, 110)] x0 [.inr (.inr v10)] h8) fun v12 h11 =>
    ynull v12 (
      R d 565 [.inr (.inr x0), .inl x1_3, .inl 1] h11
    ) <|
    R d 565 [.inr (.inr x0), .inl x1_3, .inl 0] h11
  else
  R d 565 [.inr (.inr x0), .inl x1_3, .inl 1] h5
def yb_Parser_strength (C : YC) (R : ZC YS) (d : Nat) (x0 : Option Nat) (x1 : Option Nat) (h : YS) : ZR YS :=
  ygR 6600 x1 h fun v1 =>
  ysvR C 9 fun v2 =>
  if v1 = v2 then
    ygR 1802 x0 h fun v3 =>
    zI (ycv R d [(5, 506)] v3 [] h) fun v5 h4 =>
    zG (inI (v5 - 1)) <|
    zlet (v5 - 1) fun x2_6 =>
    R d 566 [.inr (.inr x0), .inr (.inr x1), .inl x2_6] h4
  else
  zrQ none h
def yb_Parser_consPat (C : YC) (R : ZC YS) (d : Nat) (x0 : Option Nat) (h : YS) : ZR YS :=
  zQ (ycv R d [(6, 112)] x0 [] h) fun v2 h1 =>
  zlet v2 fun x1_3 =>
  ygR 1804 x0 h1 fun v4 =>
  zQ (ycv R d [(6, 110)] x0 [.inr (.inr v4)] h1) fun v6 h5 =>
  ynull v6 (
    zrQ x1_3 h5
  ) <|
  ynew 5 3 h5 fun r7 h8 =>
  zV (ycs R d 503 r7 [] h8) fun h9 =>
  zlet r7 fun x2_10 =>
  ynew 5 3 h9 fun r11 h12 =>
  zV (ycs R d 503 r11 [] h12) fun h13 =>
  zlet r11 fun x3_14 =>
  zI (ycv R d [(5, 505)] x2_10 [.inr (.inr x1_3)] h13) fun v16 h15 =>
  R d 567 [.inr (.inr x0), .inr (.inr x2_10), .inr (.inr x3_14)] h15
def yb_Parser_appPat (C : YC) (R : ZC YS) (d : Nat) (x0 : Option Nat) (h : YS) : ZR YS :=
  ygR 1804 x0 h fun v1 =>
  zI (ycv R d [(22, 316)] v1 [.inr (.inr (some (C.1 112)))] h) fun v3 h2 =>
  if v3 = 0 then
    ygR 1804 x0 h2 fun v4 =>
    zI (ycv R d [(22, 317)] v4 [] h2) fun v6 h5 =>
    if v6 = 0 then
      R d 568 [.inr (.inr x0), .inl 0] h5
    else
    ygR 1804 x0 h5 fun v7 =>
    zQ (ycv R d [(6, 110)] x0 [.inr (.inr v7)] h5) fun v9 h8 =>
    ynull v9 (
      R d 568 [.inr (.inr x0), .inl 1] h8
    ) <|
    R d 568 [.inr (.inr x0), .inl 0] h8
  else
  R d 568 [.inr (.inr x0), .inl 1] h2
def yb_Parser_atPat (C : YC) (R : ZC YS) (d : Nat) (x0 : Option Nat) (h : YS) : ZR YS :=
  zI (ycv R d [(6, 114)] x0 [] h) fun v2 h1 =>
  if v2 = 0 then
    zQ (ycv R d [(6, 115)] x0 [] h1) fun v4 h3 =>
    ythrow v4 h3
  else
  ygR 1804 x0 h1 fun v5 =>
  ygI 6601 v5 h1 fun v6 =>
  zlet v6 fun x1_7 =>
  ygR 1804 x0 h1 fun v8 =>
  zI (ycv R d [(22, 316)] v8 [.inr (.inr (some (C.1 115)))] h1) fun v10 h9 =>
  if v10 = 0 then
    ygR 1804 x0 h9 fun v11 =>
    zI (ycv R d [(22, 316)] v11 [.inr (.inr (some (C.1 114)))] h9) fun v13 h12 =>
    if v13 = 0 then
      ygR 1804 x0 h12 fun v14 =>
      zI (ycv R d [(22, 316)] v14 [.inr (.inr (some (C.1 116)))] h12) fun v16 h15 =>
      if v16 = 0 then
        zI (ycv R d [(6, 108)] x0 [.inr (.inr (some (C.1 113)))] h15) fun v18 h17 =>
        if v18 = 0 then
          ygR 1804 x0 h17 fun v19 =>
          ygR 6600 v19 h17 fun v20 =>
          ysvR C 9 fun v21 =>
          if v20 = v21 then
            R d 569 [.inr (.inr x0), .inl x1_7] h17
          else
          ygR 1804 x0 h17 fun v22 =>
          zI (ycv R d [(22, 316)] v22 [.inr (.inr (some (C.1 112)))] h17) fun v24 h23 =>
          if v24 = 0 then
            ynew 37 2 h23 fun r25 h26 =>
            ygR 1804 x0 h26 fun v27 =>
            zV (ycs R d 373 r25 [.inr (.inr v27)] h26) fun h28 =>
            zlet r25 fun x2_29 =>
            zV (ycv R d [(6, 106)] x0 [] h28) fun h30 =>
            zrQ x2_29 h30
          else
          R d 569 [.inr (.inr x0), .inl x1_7] h23
        else
        ynew 36 1 h17 fun r31 h32 =>
        zV (ycs R d 368 r31 [.inl x1_7] h32) fun h33 =>
        zrQ r31 h33
      else
      zQ (ycv R d [(6, 134)] x0 [] h15) fun v35 h34 =>
      zrQ v35 h34
    else
    zQ (ycv R d [(6, 122)] x0 [] h12) fun v37 h36 =>
    zrQ v37 h36
  else
  zQ (ycv R d [(6, 116)] x0 [] h9) fun v39 h38 =>
  zrQ v39 h38
def yb_Parser_isAtPat (C : YC) (R : ZC YS) (d : Nat) (x0 : Option Nat) (h : YS) : ZR YS :=
  ygR 1804 x0 h fun v1 =>
  zI (ycv R d [(22, 316)] v1 [.inr (.inr (some (C.1 113)))] h) fun v3 h2 =>
  if v3 = 0 then
    ygR 1804 x0 h2 fun v4 =>
    ygR 6600 v4 h2 fun v5 =>
    ysvR C 12 fun v6 =>
    if v5 = v6 then
      yrN 1 1 h2
    else
    ygR 1804 x0 h2 fun v7 =>
    ygR 6600 v7 h2 fun v8 =>
    ysvR C 13 fun v9 =>
    if v8 = v9 then
      yrN 1 1 h2
    else
    ygR 1804 x0 h2 fun v10 =>
    ygR 6600 v10 h2 fun v11 =>
    ysvR C 14 fun v12 =>
    if v11 = v12 then
      yrN 1 1 h2
    else
    ygR 1804 x0 h2 fun v13 =>
    zI (ycv R d [(22, 316)] v13 [.inr (.inr (some (C.1 112)))] h2) fun v15 h14 =>
    if v15 = 0 then
      ygR 1804 x0 h14 fun v16 =>
      zI (ycv R d [(22, 317)] v16 [] h14) fun v18 h17 =>
      if v18 = 0 then
        R d 570 [.inr (.inr x0)] h17
      else
      ygR 1804 x0 h17 fun v19 =>
      zQ (ycv R d [(6, 110)] x0 [.inr (.inr v19)] h17) fun v21 h20 =>
      ynull v21 (
        yrN 1 1 h20
      ) <|
      R d 570 [.inr (.inr x0)] h20
    else
    yrN 1 1 h14
  else
  yrN 1 1 h2
def yb_Parser_wrong (C : YC) (R : ZC YS) (d : Nat) (x0 : Option Nat) (h : YS) : ZR YS :=
  ygR 1800 x0 h fun v1 =>
  ygR 1804 x0 h fun v2 =>
  ygI 6601 v2 h fun v3 =>
  zQ (ycv R d [(1, 48)] v1 [.inl 2, .inl v3] h) fun v5 h4 =>
  zrQ v5 h4
def yb_Parser_bracketPat (C : YC) (R : ZC YS) (d : Nat) (x0 : Option Nat) (h : YS) : ZR YS :=
  zI (ycv R d [(6, 117)] x0 [] h) fun v2 h1 =>
  zlet v2 fun x1_3 =>
  ynew 5 3 h1 fun r4 h5 =>
  zV (ycs R d 571 r4 [.inl 2] h5) fun h6 =>
  zlet r4 fun x2_7 =>
  ygR 1804 x0 h6 fun v8 =>
  zI (ycv R d [(22, 316)] v8 [.inr (.inr (some (C.1 117)))] h6) fun v10 h9 =>
  if v10 = 0 then
    R d 572 [.inr (.inr x0), .inl x1_3, .inr (.inr x2_7)] h9
  else
  R d 573 [.inr (.inr x0), .inl x1_3, .inr (.inr x2_7)] h9
def yb_Parser_opens (C : YC) (R : ZC YS) (d : Nat) (x0 : Option Nat) (h : YS) : ZR YS :=
  ygI 1806 x0 h fun v1 =>
  if v1 = 40 then
    ygR 1800 x0 h fun v2 =>
    ygR 1804 x0 h fun v3 =>
    ygI 6601 v3 h fun v4 =>
    zQ (ycv R d [(1, 48)] v2 [.inl 3, .inl v4] h) fun v6 h5 =>
    ythrow v6 h5
  else
  ygI 1806 x0 h fun v7 =>
  zG (inI (v7 + 1)) <|
  ypI 1806 0 x0 (v7 + 1) h fun h8 =>
  ygR 1804 x0 h8 fun v9 =>
  ygI 6601 v9 h8 fun v10 =>
  zlet v10 fun x1_11 =>
  zV (ycv R d [(6, 106)] x0 [] h8) fun h12 =>
  zrI x1_11 h12
def yb_Parser_closes (C : YC) (R : ZC YS) (d : Nat) (x0 : Option Nat) (x1 : Option Nat) (h : YS) : ZR YS :=
  zV (ycv R d [(6, 119)] x0 [.inr (.inr x1)] h) fun h1 =>
  ygI 1806 x0 h1 fun v2 =>
  zG (inI (v2 - 1)) <|
  ypI 1806 0 x0 (v2 - 1) h1 fun h3 =>
  zrV h3
def yb_Parser_need (C : YC) (R : ZC YS) (d : Nat) (x0 : Option Nat) (x1 : Option Nat) (h : YS) : ZR YS :=
  zI (ycv R d [(6, 108)] x0 [.inr (.inr x1)] h) fun v2 h1 =>
  if v2 = 0 then
    zQ (ycv R d [(6, 115)] x0 [] h1) fun v4 h3 =>
    ythrow v4 h3
  else
  zrV h1
def yb_Parser_numbered (C : YC) (R : ZC YS) (d : Nat) (x0 : Option Nat) (x1 : Int) (h : YS) : ZR YS :=
  ynew 5 3 h fun r1 h2 =>
  zV (ycs R d 571 r1 [.inl x1] h2) fun h3 =>
  zlet r1 fun x2_4 =>
  zlet (1 : Int) fun x3_5 =>
  R d 574 [.inr (.inr x0), .inl x1, .inr (.inr x2_4), .inl x3_5] h3
def yb_Parser_number (C : YC) (R : ZC YS) (d : Nat) (x0 : Option Nat) (x1 : Int) (h : YS) : ZR YS :=
  ygR 1809 x0 h fun v1 =>
  yaR v1 x1 h fun v2 =>
  ynull v2 (
    ygR 1809 x0 h fun v3 =>
    zQ (zc R d 224 [.inl x1] h) fun v5 h4 =>
    ysR v3 x1 v5 h4 fun h6 =>
    ygR 1809 x0 h6 fun v7 =>
    yaR v7 x1 h6 fun v8 =>
    zrQ v8 h6
  ) <|
  ygR 1809 x0 h fun v9 =>
  yaR v9 x1 h fun v10 =>
  zrQ v10 h
def yb_Parser_rowPat (C : YC) (R : ZC YS) (d : Nat) (x0 : Option Nat) (h : YS) : ZR YS :=
  zI (ycv R d [(6, 117)] x0 [] h) fun v2 h1 =>
  zlet v2 fun x1_3 =>
  ynew 5 3 h1 fun r4 h5 =>
  zV (ycs R d 503 r4 [] h5) fun h6 =>
  zlet r4 fun x2_7 =>
  ynew 5 3 h6 fun r8 h9 =>
  zV (ycs R d 503 r8 [] h9) fun h10 =>
  zlet r8 fun x3_11 =>
  ynew 5 3 h10 fun r12 h13 =>
  zV (ycs R d 503 r12 [] h13) fun h14 =>
  zlet r12 fun x4_15 =>
  zlet (0 : Int) fun x5_16 =>
  ygR 1804 x0 h14 fun v17 =>
  zI (ycv R d [(22, 316)] v17 [.inr (.inr (some (C.1 119)))] h14) fun v19 h18 =>
  if v19 = 0 then
    zlet (1 : Int) fun x6_20 =>
    R d 575 [.inr (.inr x0), .inl x1_3, .inr (.inr x2_7), .inr (.inr x3_11), .inr (.inr x4_15), .inl x5_16, .inl x6_20] h18
  else
  zlet (0 : Int) fun x6_21 =>
  R d 575 [.inr (.inr x0), .inl x1_3, .inr (.inr x2_7), .inr (.inr x3_11), .inr (.inr x4_15), .inl x5_16, .inl x6_21] h18
def yb_Parser_label (C : YC) (R : ZC YS) (d : Nat) (x0 : Option Nat) (h : YS) : ZR YS :=
  ygR 1804 x0 h fun v1 =>
  ygR 6600 v1 h fun v2 =>
  ysvR C 12 fun v3 =>
  if v2 = v3 then
    ygR 1804 x0 h fun v4 =>
    ygR 6602 v4 h fun v5 =>
    zI (ycv R d [(21, 576)] v5 [.inr (.inr (some (C.1 121)))] h) fun v7 h6 =>
    if v7 = 0 then
      ygR 1804 x0 h6 fun v8 =>
      ygI 6603 v8 h6 fun v9 =>
      if v9 < 1 then
        zQ (ycv R d [(6, 115)] x0 [] h6) fun v11 h10 =>
        ythrow v11 h10
      else
      ygR 1804 x0 h6 fun v12 =>
      ygI 6603 v12 h6 fun v13 =>
      if v13 ≤ 9 then
        ygR 1804 x0 h6 fun v14 =>
        ygI 6603 v14 h6 fun v15 =>
        zQ (ycv R d [(6, 121)] x0 [.inl v15] h6) fun v17 h16 =>
        zlet v17 fun x1_18 =>
        zV (ycv R d [(6, 106)] x0 [] h16) fun h19 =>
        zrQ x1_18 h19
      else
      zQ (ycv R d [(6, 115)] x0 [] h6) fun v21 h20 =>
      ythrow v21 h20
    else
    zQ (ycv R d [(6, 115)] x0 [] h6) fun v23 h22 =>
    ythrow v23 h22
  else
  zQ (ycv R d [(6, 124)] x0 [] h) fun v25 h24 =>
  zrQ v25 h24
def yb_Parser_name (C : YC) (R : ZC YS) (d : Nat) (x0 : Option Nat) (h : YS) : ZR YS :=
  ygR 1804 x0 h fun v1 =>
  zI (ycv R d [(22, 317)] v1 [] h) fun v3 h2 =>
  if v3 = 0 then
    zQ (ycv R d [(6, 115)] x0 [] h2) fun v5 h4 =>
    ythrow v5 h4
  else
  ygR 1804 x0 h2 fun v6 =>
  ygR 6602 v6 h2 fun v7 =>
  zlet v7 fun x1_8 =>
  zV (ycv R d [(6, 106)] x0 [] h2) fun h9 =>
  zrQ x1_8 h9
def yb_Parser_short0 (C : YC) (R : ZC YS) (d : Nat) (x0 : Option Nat) (x1 : Int) (x2 : Option Nat) (x3 : Int) (h : YS) : ZR YS :=
  if x1 = 0 then
    zQ (ycv R d [(6, 115)] x0 [] h) fun v2 h1 =>
    ythrow v2 h1
  else
  zI (ycv R d [(6, 108)] x0 [.inr (.inr (some (C.1 122)))] h) fun v4 h3 =>
  if v4 = 0 then
    R d 577 [.inr (.inr x0), .inr (.inr x2), .inl x3, .inr (.inr none)] h3
  else
  zQ (ycv R d [(6, 126)] x0 [] h3) fun v6 h5 =>
  R d 577 [.inr (.inr x0), .inr (.inr x2), .inl x3, .inr (.inr v6)] h5
def yb_Parser_ty (C : YC) (R : ZC YS) (d : Nat) (x0 : Option Nat) (h : YS) : ZR YS :=
  ygR 1804 x0 h fun v1 =>
  ygI 6601 v1 h fun v2 =>
  zlet v2 fun x1_3 =>
  zQ (ycv R d [(6, 127)] x0 [] h) fun v5 h4 =>
  zlet v5 fun x2_6 =>
  ygR 1804 x0 h4 fun v7 =>
  zI (ycv R d [(22, 316)] v7 [.inr (.inr (some (C.1 124)))] h4) fun v9 h8 =>
  if v9 = 0 then
    zrQ x2_6 h8
  else
  ynew 5 3 h8 fun r10 h11 =>
  zV (ycs R d 503 r10 [] h11) fun h12 =>
  zlet r10 fun x3_13 =>
  zI (ycv R d [(5, 505)] x3_13 [.inr (.inr x2_6)] h12) fun v15 h14 =>
  R d 578 [.inr (.inr x0), .inl x1_3, .inr (.inr x3_13)] h14
def yb_Parser_tuple (C : YC) (R : ZC YS) (d : Nat) (x0 : Option Nat) (h : YS) : ZR YS :=
  ygR 1804 x0 h fun v1 =>
  ygI 6601 v1 h fun v2 =>
  zlet v2 fun x1_3 =>
  zQ (ycv R d [(6, 128)] x0 [] h) fun v5 h4 =>
  zlet v5 fun x2_6 =>
  ygR 1804 x0 h4 fun v7 =>
  zI (ycv R d [(22, 318)] v7 [.inr (.inr (some (C.1 123)))] h4) fun v9 h8 =>
  if v9 = 0 then
    zrQ x2_6 h8
  else
  ynew 5 3 h8 fun r10 h11 =>
  zV (ycs R d 503 r10 [] h11) fun h12 =>
  zlet r10 fun x3_13 =>
  zI (ycv R d [(5, 505)] x3_13 [.inr (.inr x2_6)] h12) fun v15 h14 =>
  R d 579 [.inr (.inr x0), .inl x1_3, .inr (.inr x3_13)] h14
def yb_Parser_suffix (C : YC) (R : ZC YS) (d : Nat) (x0 : Option Nat) (h : YS) : ZR YS :=
  zQ (ycv R d [(6, 129)] x0 [] h) fun v2 h1 =>
  zlet v2 fun x1_3 =>
  R d 580 [.inr (.inr x0), .inr (.inr x1_3)] h1
def yb_Parser_atTy (C : YC) (R : ZC YS) (d : Nat) (x0 : Option Nat) (h : YS) : ZR YS :=
  ygR 1804 x0 h fun v1 =>
  ygR 6600 v1 h fun v2 =>
  ysvR C 11 fun v3 =>
  if v2 = v3 then
    zQ (ycv R d [(6, 130)] x0 [] h) fun v5 h4 =>
    zrQ v5 h4
  else
  ygR 1804 x0 h fun v6 =>
  zI (ycv R d [(22, 316)] v6 [.inr (.inr (some (C.1 114)))] h) fun v8 h7 =>
  if v8 = 0 then
    ygR 1804 x0 h7 fun v9 =>
    zI (ycv R d [(22, 316)] v9 [.inr (.inr (some (C.1 115)))] h7) fun v11 h10 =>
    if v11 = 0 then
      ynew 5 3 h10 fun r12 h13 =>
      zV (ycs R d 503 r12 [] h13) fun h14 =>
      zQ (ycv R d [(6, 132)] x0 [.inr (.inr r12)] h14) fun v16 h15 =>
      zrQ v16 h15
    else
    zI (ycv R d [(6, 117)] x0 [] h10) fun v18 h17 =>
    ynew 5 3 h17 fun r19 h20 =>
    zV (ycs R d 503 r19 [] h20) fun h21 =>
    zlet r19 fun x1_22 =>
    R d 581 [.inr (.inr x0), .inr (.inr x1_22)] h21
  else
  zQ (ycv R d [(6, 131)] x0 [] h7) fun v24 h23 =>
  zrQ v24 h23
def yb_Parser_variable (C : YC) (R : ZC YS) (d : Nat) (x0 : Option Nat) (h : YS) : ZR YS :=
  ynew 27 2 h fun r1 h2 =>
  ygR 1804 x0 h2 fun v3 =>
  ygR 6602 v3 h2 fun v4 =>
  ygR 1804 x0 h2 fun v5 =>
  ygI 6601 v5 h2 fun v6 =>
  zV (ycs R d 338 r1 [.inr (.inr v4), .inl v6] h2) fun h7 =>
  zlet r1 fun x1_8 =>
  ygR 1803 x0 h7 fun v9 =>
  zI (ycv R d [(5, 582)] v9 [] h7) fun v11 h10 =>
  if v11 = 0 then
    ygI 1807 x0 h10 fun v12 =>
    if v12 = 0 then
      ygR 1803 x0 h10 fun v13 =>
      ygR 1803 x0 h10 fun v14 =>
      zI (ycv R d [(5, 506)] v14 [] h10) fun v16 h15 =>
      zG (inI (v16 - 1)) <|
      zQ (ycv R d [(5, 528)] v13 [.inl (v16 - 1)] h15) fun v18 h17 =>
      ycc 10 220 v18 h17 <|
      zlet v18 fun x2_19 =>
      ygR 7200 x2_19 h17 fun v20 =>
      zI (ycv R d [(5, 505)] v20 [.inr (.inr x1_8)] h17) fun v22 h21 =>
      ygR 7201 x2_19 h21 fun v23 =>
      zI (ycv R d [(5, 505)] v23 [.inr (.inr x1_8)] h21) fun v25 h24 =>
      R d 583 [.inr (.inr x0), .inr (.inr x1_8)] h24
    else
    R d 583 [.inr (.inr x0), .inr (.inr x1_8)] h10
  else
  R d 583 [.inr (.inr x0), .inr (.inr x1_8)] h10
def yb_Parser_rowTy (C : YC) (R : ZC YS) (d : Nat) (x0 : Option Nat) (h : YS) : ZR YS :=
  zI (ycv R d [(6, 117)] x0 [] h) fun v2 h1 =>
  zlet v2 fun x1_3 =>
  ynew 5 3 h1 fun r4 h5 =>
  zV (ycs R d 503 r4 [] h5) fun h6 =>
  zlet r4 fun x2_7 =>
  ynew 5 3 h6 fun r8 h9 =>
  zV (ycs R d 503 r8 [] h9) fun h10 =>
  zlet r8 fun x3_11 =>
  ynew 5 3 h10 fun r12 h13 =>
  zV (ycs R d 503 r12 [] h13) fun h14 =>
  zlet r12 fun x4_15 =>
  ygR 1804 x0 h14 fun v16 =>
  zI (ycv R d [(22, 316)] v16 [.inr (.inr (some (C.1 119)))] h14) fun v18 h17 =>
  if v18 = 0 then
    R d 584 [.inr (.inr x0), .inl x1_3, .inr (.inr x2_7), .inr (.inr x3_11), .inr (.inr x4_15)] h17
  else
  R d 585 [.inr (.inr x0), .inl x1_3, .inr (.inr x2_7), .inr (.inr x3_11), .inr (.inr x4_15)] h17
def yb_Parser_named (C : YC) (R : ZC YS) (d : Nat) (x0 : Option Nat) (x1 : Option Nat) (h : YS) : ZR YS :=
  zI (ycv R d [(6, 133)] x0 [] h) fun v2 h1 =>
  if v2 = 0 then
    zQ (ycv R d [(6, 115)] x0 [] h1) fun v4 h3 =>
    ythrow v4 h3
  else
  ygR 1804 x0 h1 fun v5 =>
  ygI 6601 v5 h1 fun v6 =>
  zlet v6 fun x2_7 =>
  ynew 30 3 h1 fun r8 h9 =>
  zQ (ycv R d [(6, 124)] x0 [] h9) fun v11 h10 =>
  zV (ycs R d 344 r8 [.inr (.inr v11), .inl x2_7, .inr (.inr x1)] h10) fun h12 =>
  zrQ r8 h12
def yb_Parser_isTypeName (C : YC) (R : ZC YS) (d : Nat) (x0 : Option Nat) (h : YS) : ZR YS :=
  ygR 1804 x0 h fun v1 =>
  zI (ycv R d [(22, 317)] v1 [] h) fun v3 h2 =>
  if v3 = 0 then
    yrN 1 0 h2
  else
  ygR 1804 x0 h2 fun v4 =>
  zI (ycv R d [(22, 318)] v4 [.inr (.inr (some (C.1 123)))] h2) fun v6 h5 =>
  if v6 = 0 then
    yrN 1 1 h5
  else
  yrN 1 0 h5
def yb_Parser_listPat (C : YC) (R : ZC YS) (d : Nat) (x0 : Option Nat) (h : YS) : ZR YS :=
  zI (ycv R d [(6, 117)] x0 [] h) fun v2 h1 =>
  zlet v2 fun x1_3 =>
  ynew 5 3 h1 fun r4 h5 =>
  zV (ycs R d 503 r4 [] h5) fun h6 =>
  zlet r4 fun x2_7 =>
  ygR 1804 x0 h6 fun v8 =>
  zI (ycv R d [(22, 316)] v8 [.inr (.inr (some (C.1 126)))] h6) fun v10 h9 =>
  if v10 = 0 then
    R d 586 [.inr (.inr x0), .inl x1_3, .inr (.inr x2_7)] h9
  else
  R d 587 [.inr (.inr x0), .inl x1_3, .inr (.inr x2_7)] h9
def yb_Parser_opName (C : YC) (R : ZC YS) (d : Nat) (x0 : Option Nat) (h : YS) : ZR YS :=
  ygR 1804 x0 h fun v1 =>
  zI (ycv R d [(22, 317)] v1 [] h) fun v3 h2 =>
  if v3 = 0 then
    ygR 1804 x0 h2 fun v4 =>
    zI (ycv R d [(22, 316)] v4 [.inr (.inr (some (C.1 1)))] h2) fun v6 h5 =>
    if v6 = 0 then
      zQ (ycv R d [(6, 115)] x0 [] h5) fun v8 h7 =>
      ythrow v8 h7
    else
    R d 588 [.inr (.inr x0)] h5
  else
  R d 588 [.inr (.inr x0)] h2
def yb_Parser_isAhead (C : YC) (R : ZC YS) (d : Nat) (x0 : Option Nat) (x1 : Option Nat) (x2 : Option Nat) (h : YS) : ZR YS :=
  zQ (ycv R d [(6, 137)] x0 [.inr (.inr x1)] h) fun v2 h1 =>
  zlet v2 fun x3_3 =>
  zQ (ycv R d [(6, 137)] x0 [.inr (.inr x2)] h1) fun v5 h4 =>
  zlet v5 fun x4_6 =>
  ygI 2101 x3_3 h4 fun v7 =>
  ygI 2101 x4_6 h4 fun v8 =>
  if v7 = v8 then
    ygI 2102 x3_3 h4 fun v9 =>
    ygI 2102 x4_6 h4 fun v10 =>
    if v9 = v10 then
      R d 589 [.inr (.inr x3_3), .inr (.inr x4_6)] h4
    else
    ygR 1800 x0 h4 fun v11 =>
    ygI 6601 x2 h4 fun v12 =>
    zQ (ycv R d [(1, 48)] v11 [.inl 2, .inl v12] h4) fun v14 h13 =>
    ythrow v14 h13
  else
  R d 589 [.inr (.inr x3_3), .inr (.inr x4_6)] h4
def yb_Parser_infix (C : YC) (R : ZC YS) (d : Nat) (x0 : Option Nat) (x1 : Option Nat) (h : YS) : ZR YS :=
  zI (ycv R d [(22, 316)] x1 [.inr (.inr (some (C.1 1)))] h) fun v2 h1 =>
  if v2 = 0 then
    zQ (ycv R d [(6, 110)] x0 [.inr (.inr x1)] h1) fun v4 h3 =>
    zrQ v4 h3
  else
  ygR 1808 x0 h1 fun v5 =>
  zrQ v5 h1
def yb_Parser_consed (C : YC) (R : ZC YS) (d : Nat) (x0 : Option Nat) (x1 : Option Nat) (x2 : Option Nat) (h : YS) : ZR YS :=
  zI (ycv R d [(5, 506)] x2 [] h) fun v2 h1 =>
  zG (inI (v2 - 1)) <|
  zQ (ycv R d [(5, 590)] x2 [.inl (v2 - 1)] h1) fun v4 h3 =>
  ycc 10 56 v4 h3 <|
  zlet v4 fun x3_5 =>
  zI (ycv R d [(5, 506)] x1 [] h3) fun v7 h6 =>
  zG (inI (v7 - 1)) <|
  zQ (ycv R d [(5, 590)] x1 [.inl (v7 - 1)] h6) fun v9 h8 =>
  ycc 10 303 v9 h8 <|
  zlet v9 fun x4_10 =>
  zI (ycv R d [(5, 506)] x1 [] h8) fun v12 h11 =>
  zG (inI (v12 - 1)) <|
  zQ (ycv R d [(5, 590)] x1 [.inl (v12 - 1)] h11) fun v14 h13 =>
  ycc 10 303 v14 h13 <|
  zlet v14 fun x5_15 =>
  ynew 38 6 h13 fun r16 h17 =>
  ygR 6602 x3_5 h17 fun v18 =>
  ygI 6601 x3_5 h17 fun v19 =>
  ygI 7500 x5_15 h17 fun v20 =>
  zQ (ycv R d [(6, 139)] x0 [.inr (.inr x5_15), .inr (.inr x4_10)] h17) fun v22 h21 =>
  zV (ycs R d 378 r16 [.inr (.inr v18), .inl v19, .inl v20, .inl 1, .inr (.inr v22)] h21) fun h23 =>
  zI (ycv R d [(5, 505)] x1 [.inr (.inr r16)] h23) fun v25 h24 =>
  zrV h24
def yb_Parser_paired (C : YC) (R : ZC YS) (d : Nat) (x0 : Option Nat) (x1 : Option Nat) (x2 : Option Nat) (h : YS) : ZR YS :=
  ynew 5 3 h fun r1 h2 =>
  zV (ycs R d 571 r1 [.inl 2] h2) fun h3 =>
  zlet r1 fun x3_4 =>
  zI (ycv R d [(5, 505)] x3_4 [.inr (.inr x1)] h3) fun v6 h5 =>
  zI (ycv R d [(5, 505)] x3_4 [.inr (.inr x2)] h5) fun v8 h7 =>
  ynew 25 7 h7 fun r9 h10 =>
  ygI 7500 x1 h10 fun v11 =>
  zQ (ycv R d [(6, 120)] x0 [.inl 2] h10) fun v13 h12 =>
  zV (ycs R d 333 r9 [.inl v11, .inr (.inr v13), .inr (.inr none), .inr (.inr x3_4), .inl 0] h12) fun h14 =>
  zrQ r9 h14
def yb_Parser_exp (C : YC) (R : ZC YS) (d : Nat) (x0 : Option Nat) (h : YS) : ZR YS :=
  zI (ycv R d [(6, 141)] x0 [] h) fun v2 h1 =>
  if v2 = 0 then
    zQ (ycv R d [(6, 144)] x0 [] h1) fun v4 h3 =>
    zlet v4 fun x1_5 =>
    R d 591 [.inr (.inr x0), .inr (.inr x1_5)] h3
  else
  zQ (ycv R d [(6, 142)] x0 [] h1) fun v7 h6 =>
  zrQ v7 h6
def yb_Parser_isWide (C : YC) (R : ZC YS) (d : Nat) (x0 : Option Nat) (h : YS) : ZR YS :=
  ygR 1804 x0 h fun v1 =>
  zI (ycv R d [(22, 316)] v1 [.inr (.inr (some (C.1 127)))] h) fun v3 h2 =>
  if v3 = 0 then
    ygR 1804 x0 h2 fun v4 =>
    zI (ycv R d [(22, 316)] v4 [.inr (.inr (some (C.1 128)))] h2) fun v6 h5 =>
    if v6 = 0 then
      ygR 1804 x0 h5 fun v7 =>
      zI (ycv R d [(22, 316)] v7 [.inr (.inr (some (C.1 129)))] h5) fun v9 h8 =>
      if v9 = 0 then
        ygR 1804 x0 h8 fun v10 =>
        zI (ycv R d [(22, 316)] v10 [.inr (.inr (some (C.1 130)))] h8) fun v12 h11 =>
        if v12 = 0 then
          ygR 1804 x0 h11 fun v13 =>
          zI (ycv R d [(22, 316)] v13 [.inr (.inr (some (C.1 131)))] h11) fun v15 h14 =>
          if v15 = 0 then
            yrN 1 0 h14
          else
          yrN 1 1 h14
        else
        yrN 1 1 h11
      else
      yrN 1 1 h8
    else
    yrN 1 1 h5
  else
  yrN 1 1 h2
def yb_Parser_wide (C : YC) (R : ZC YS) (d : Nat) (x0 : Option Nat) (h : YS) : ZR YS :=
  ygR 1804 x0 h fun v1 =>
  zI (ycv R d [(22, 316)] v1 [.inr (.inr (some (C.1 127)))] h) fun v3 h2 =>
  zlet v3 fun x1_4 =>
  ygR 1804 x0 h2 fun v5 =>
  zI (ycv R d [(22, 316)] v5 [.inr (.inr (some (C.1 128)))] h2) fun v7 h6 =>
  zlet v7 fun x2_8 =>
  ygR 1804 x0 h6 fun v9 =>
  zI (ycv R d [(22, 316)] v9 [.inr (.inr (some (C.1 129)))] h6) fun v11 h10 =>
  zlet v11 fun x3_12 =>
  ygR 1804 x0 h10 fun v13 =>
  zI (ycv R d [(22, 316)] v13 [.inr (.inr (some (C.1 130)))] h10) fun v15 h14 =>
  zlet v15 fun x4_16 =>
  zI (ycv R d [(6, 117)] x0 [] h14) fun v18 h17 =>
  zlet v18 fun x5_19 =>
  if x1_4 = 0 then
    if x2_8 = 0 then
      if x3_12 = 0 then
        if x4_16 = 0 then
          ynew 45 3 h17 fun r20 h21 =>
          zQ (ycv R d [(6, 143)] x0 [] h21) fun v23 h22 =>
          zV (ycs R d 402 r20 [.inl x5_19, .inr (.inr v23)] h22) fun h24 =>
          zlet r20 fun x6_25 =>
          R d 592 [.inr (.inr x0), .inr (.inr x6_25)] h24
        else
        zQ (ycv R d [(6, 140)] x0 [] h17) fun v27 h26 =>
        zlet v27 fun x7_28 =>
        zV (ycv R d [(6, 119)] x0 [.inr (.inr (some (C.1 135)))] h26) fun h29 =>
        ynew 42 4 h29 fun r30 h31 =>
        zQ (ycv R d [(6, 143)] x0 [] h31) fun v33 h32 =>
        zV (ycs R d 395 r30 [.inl x5_19, .inr (.inr x7_28), .inr (.inr v33)] h32) fun h34 =>
        zlet r30 fun x6_35 =>
        R d 592 [.inr (.inr x0), .inr (.inr x6_35)] h34
      else
      zQ (ycv R d [(6, 140)] x0 [] h17) fun v37 h36 =>
      zlet v37 fun x7_38 =>
      zV (ycv R d [(6, 119)] x0 [.inr (.inr (some (C.1 134)))] h36) fun h39 =>
      ynew 41 3 h39 fun r40 h41 =>
      zQ (ycv R d [(6, 140)] x0 [] h41) fun v43 h42 =>
      zV (ycs R d 392 r40 [.inl x5_19, .inr (.inr x7_38), .inr (.inr v43)] h42) fun h44 =>
      zlet r40 fun x6_45 =>
      R d 592 [.inr (.inr x0), .inr (.inr x6_45)] h44
    else
    zQ (ycv R d [(6, 140)] x0 [] h17) fun v47 h46 =>
    zlet v47 fun x7_48 =>
    zV (ycv R d [(6, 119)] x0 [.inr (.inr (some (C.1 132)))] h46) fun h49 =>
    zQ (ycv R d [(6, 140)] x0 [] h49) fun v51 h50 =>
    zlet v51 fun x8_52 =>
    zV (ycv R d [(6, 119)] x0 [.inr (.inr (some (C.1 133)))] h50) fun h53 =>
    ynew 40 4 h53 fun r54 h55 =>
    zQ (ycv R d [(6, 140)] x0 [] h55) fun v57 h56 =>
    zV (ycs R d 388 r54 [.inl x5_19, .inr (.inr x7_48), .inr (.inr x8_52), .inr (.inr v57)] h56) fun h58 =>
    zlet r54 fun x6_59 =>
    R d 592 [.inr (.inr x0), .inr (.inr x6_59)] h58
  else
  ynew 39 2 h17 fun r60 h61 =>
  zQ (ycv R d [(6, 140)] x0 [] h61) fun v63 h62 =>
  zV (ycs R d 385 r60 [.inl x5_19, .inr (.inr v63)] h62) fun h64 =>
  zlet r60 fun x6_65 =>
  R d 592 [.inr (.inr x0), .inr (.inr x6_65)] h64
def yb_Parser_rules (C : YC) (R : ZC YS) (d : Nat) (x0 : Option Nat) (h : YS) : ZR YS :=
  ynew 43 2 h fun r1 h2 =>
  zV (ycs R d 398 r1 [] h2) fun h3 =>
  zlet r1 fun x1_4 =>
  R d 593 [.inr (.inr x0), .inr (.inr x1_4)] h3
def yb_Parser_either (C : YC) (R : ZC YS) (d : Nat) (x0 : Option Nat) (h : YS) : ZR YS :=
  zQ (ycv R d [(6, 145)] x0 [] h) fun v2 h1 =>
  zlet v2 fun x1_3 =>
  R d 594 [.inr (.inr x0), .inr (.inr x1_3)] h1
def yb_Parser_both (C : YC) (R : ZC YS) (d : Nat) (x0 : Option Nat) (h : YS) : ZR YS :=
  zQ (ycv R d [(6, 146)] x0 [] h) fun v2 h1 =>
  zlet v2 fun x1_3 =>
  R d 595 [.inr (.inr x0), .inr (.inr x1_3)] h1
def yb_Parser_typed (C : YC) (R : ZC YS) (d : Nat) (x0 : Option Nat) (h : YS) : ZR YS :=
  zQ (ycv R d [(6, 147)] x0 [] h) fun v2 h1 =>
  zlet v2 fun x1_3 =>
  R d 596 [.inr (.inr x0), .inr (.inr x1_3)] h1
def yb_Parser_infixed (C : YC) (R : ZC YS) (d : Nat) (x0 : Option Nat) (h : YS) : ZR YS :=
  zQ (ycv R d [(6, 148)] x0 [] h) fun v2 h1 =>
  zlet v2 fun x1_3 =>
  ygR 1804 x0 h1 fun v4 =>
  zQ (ycv R d [(6, 137)] x0 [.inr (.inr v4)] h1) fun v6 h5 =>
  ynull v6 (
    zrQ x1_3 h5
  ) <|
  ynew 5 3 h5 fun r7 h8 =>
  zV (ycs R d 503 r7 [] h8) fun h9 =>
  zlet r7 fun x2_10 =>
  ynew 5 3 h9 fun r11 h12 =>
  zV (ycs R d 503 r11 [] h12) fun h13 =>
  zlet r11 fun x3_14 =>
  zI (ycv R d [(5, 505)] x2_10 [.inr (.inr x1_3)] h13) fun v16 h15 =>
  R d 597 [.inr (.inr x0), .inr (.inr x2_10), .inr (.inr x3_14)] h15
def yb_Parser_app (C : YC) (R : ZC YS) (d : Nat) (x0 : Option Nat) (h : YS) : ZR YS :=
  zQ (ycv R d [(6, 149)] x0 [] h) fun v2 h1 =>
  zlet v2 fun x1_3 =>
  zI (ycv R d [(6, 150)] x0 [] h1) fun v5 h4 =>
  if v5 = 0 then
    zrQ x1_3 h4
  else
  ynew 5 3 h4 fun r6 h7 =>
  zV (ycs R d 503 r6 [] h7) fun h8 =>
  zlet r6 fun x2_9 =>
  R d 598 [.inr (.inr x0), .inr (.inr x1_3), .inr (.inr x2_9)] h8
def yb_Parser_at (C : YC) (R : ZC YS) (d : Nat) (x0 : Option Nat) (h : YS) : ZR YS :=
  zI (ycv R d [(6, 150)] x0 [] h) fun v2 h1 =>
  if v2 = 0 then
    zQ (ycv R d [(6, 115)] x0 [] h1) fun v4 h3 =>
    ythrow v4 h3
  else
  ygR 1804 x0 h1 fun v5 =>
  ygI 6601 v5 h1 fun v6 =>
  zlet v6 fun x1_7 =>
  ygR 1804 x0 h1 fun v8 =>
  zI (ycv R d [(22, 316)] v8 [.inr (.inr (some (C.1 115)))] h1) fun v10 h9 =>
  if v10 = 0 then
    ygR 1804 x0 h9 fun v11 =>
    zI (ycv R d [(22, 316)] v11 [.inr (.inr (some (C.1 114)))] h9) fun v13 h12 =>
    if v13 = 0 then
      ygR 1804 x0 h12 fun v14 =>
      zI (ycv R d [(22, 316)] v14 [.inr (.inr (some (C.1 116)))] h12) fun v16 h15 =>
      if v16 = 0 then
        ygR 1804 x0 h15 fun v17 =>
        zI (ycv R d [(22, 316)] v17 [.inr (.inr (some (C.1 139)))] h15) fun v19 h18 =>
        if v19 = 0 then
          zI (ycv R d [(6, 108)] x0 [.inr (.inr (some (C.1 138)))] h18) fun v21 h20 =>
          if v21 = 0 then
            ygR 1804 x0 h20 fun v22 =>
            zI (ycv R d [(22, 317)] v22 [] h20) fun v24 h23 =>
            if v24 = 0 then
              ygR 1804 x0 h23 fun v25 =>
              zI (ycv R d [(22, 316)] v25 [.inr (.inr (some (C.1 112)))] h23) fun v27 h26 =>
              if v27 = 0 then
                ynew 52 2 h26 fun r28 h29 =>
                ygR 1804 x0 h29 fun v30 =>
                zV (ycs R d 430 r28 [.inr (.inr v30)] h29) fun h31 =>
                zlet r28 fun x2_32 =>
                zV (ycv R d [(6, 106)] x0 [] h31) fun h33 =>
                zrQ x2_32 h33
              else
              R d 599 [.inr (.inr x0), .inl x1_7] h26
            else
            R d 599 [.inr (.inr x0), .inl x1_7] h23
          else
          ynew 50 4 h20 fun r34 h35 =>
          zQ (ycv R d [(6, 123)] x0 [] h35) fun v37 h36 =>
          zV (ycs R d 421 r34 [.inr (.inr v37), .inl x1_7] h36) fun h38 =>
          zrQ r34 h38
        else
        zQ (ycv R d [(6, 154)] x0 [] h18) fun v40 h39 =>
        zrQ v40 h39
      else
      zQ (ycv R d [(6, 153)] x0 [] h15) fun v42 h41 =>
      zrQ v42 h41
    else
    zQ (ycv R d [(6, 152)] x0 [] h12) fun v44 h43 =>
    zrQ v44 h43
  else
  zQ (ycv R d [(6, 151)] x0 [] h9) fun v46 h45 =>
  zrQ v46 h45
def yb_Parser_isAt (C : YC) (R : ZC YS) (d : Nat) (x0 : Option Nat) (h : YS) : ZR YS :=
  ygR 1804 x0 h fun v1 =>
  ygR 6600 v1 h fun v2 =>
  ysvR C 12 fun v3 =>
  if v2 = v3 then
    yrN 1 1 h
  else
  ygR 1804 x0 h fun v4 =>
  ygR 6600 v4 h fun v5 =>
  ysvR C 13 fun v6 =>
  if v5 = v6 then
    yrN 1 1 h
  else
  ygR 1804 x0 h fun v7 =>
  ygR 6600 v7 h fun v8 =>
  ysvR C 14 fun v9 =>
  if v8 = v9 then
    yrN 1 1 h
  else
  ygR 1804 x0 h fun v10 =>
  zI (ycv R d [(22, 317)] v10 [] h) fun v12 h11 =>
  if v12 = 0 then
    R d 600 [.inr (.inr x0)] h11
  else
  ygR 1804 x0 h11 fun v13 =>
  zQ (ycv R d [(6, 110)] x0 [.inr (.inr v13)] h11) fun v15 h14 =>
  ynull v15 (
    yrN 1 1 h14
  ) <|
  R d 600 [.inr (.inr x0)] h14
def yb_Parser_bracket (C : YC) (R : ZC YS) (d : Nat) (x0 : Option Nat) (h : YS) : ZR YS :=
  zI (ycv R d [(6, 117)] x0 [] h) fun v2 h1 =>
  zlet v2 fun x1_3 =>
  ynew 5 3 h1 fun r4 h5 =>
  zV (ycs R d 503 r4 [] h5) fun h6 =>
  zlet r4 fun x2_7 =>
  zlet (0 : Int) fun x3_8 =>
  ygR 1804 x0 h6 fun v9 =>
  zI (ycv R d [(22, 316)] v9 [.inr (.inr (some (C.1 117)))] h6) fun v11 h10 =>
  if v11 = 0 then
    zQ (ycv R d [(6, 140)] x0 [] h10) fun v13 h12 =>
    zI (ycv R d [(5, 505)] x2_7 [.inr (.inr v13)] h12) fun v15 h14 =>
    ygR 1804 x0 h14 fun v16 =>
    zI (ycv R d [(22, 316)] v16 [.inr (.inr (some (C.1 118)))] h14) fun v18 h17 =>
    zlet v18 fun x3_19 =>
    if x3_19 = 0 then
      zlet (some (C.1 140)) fun x4_20 =>
      R d 601 [.inr (.inr x0), .inl x1_3, .inr (.inr x2_7), .inl x3_19, .inr (.inr x4_20)] h17
    else
    zlet (some (C.1 118)) fun x4_21 =>
    R d 601 [.inr (.inr x0), .inl x1_3, .inr (.inr x2_7), .inl x3_19, .inr (.inr x4_21)] h17
  else
  R d 602 [.inr (.inr x0), .inl x1_3, .inr (.inr x2_7), .inl x3_8] h10
def yb_Parser_row (C : YC) (R : ZC YS) (d : Nat) (x0 : Option Nat) (h : YS) : ZR YS :=
  zI (ycv R d [(6, 117)] x0 [] h) fun v2 h1 =>
  zlet v2 fun x1_3 =>
  ynew 5 3 h1 fun r4 h5 =>
  zV (ycs R d 503 r4 [] h5) fun h6 =>
  zlet r4 fun x2_7 =>
  ynew 5 3 h6 fun r8 h9 =>
  zV (ycs R d 503 r8 [] h9) fun h10 =>
  zlet r8 fun x3_11 =>
  ynew 5 3 h10 fun r12 h13 =>
  zV (ycs R d 503 r12 [] h13) fun h14 =>
  zlet r12 fun x4_15 =>
  ygR 1804 x0 h14 fun v16 =>
  zI (ycv R d [(22, 316)] v16 [.inr (.inr (some (C.1 119)))] h14) fun v18 h17 =>
  if v18 = 0 then
    R d 603 [.inr (.inr x0), .inl x1_3, .inr (.inr x2_7), .inr (.inr x3_11), .inr (.inr x4_15)] h17
  else
  R d 604 [.inr (.inr x0), .inl x1_3, .inr (.inr x2_7), .inr (.inr x3_11), .inr (.inr x4_15)] h17
def yb_Parser_list (C : YC) (R : ZC YS) (d : Nat) (x0 : Option Nat) (h : YS) : ZR YS :=
  zI (ycv R d [(6, 117)] x0 [] h) fun v2 h1 =>
  zlet v2 fun x1_3 =>
  ynew 5 3 h1 fun r4 h5 =>
  zV (ycs R d 503 r4 [] h5) fun h6 =>
  zlet r4 fun x2_7 =>
  ygR 1804 x0 h6 fun v8 =>
  zI (ycv R d [(22, 316)] v8 [.inr (.inr (some (C.1 126)))] h6) fun v10 h9 =>
  if v10 = 0 then
    R d 605 [.inr (.inr x0), .inl x1_3, .inr (.inr x2_7)] h9
  else
  R d 606 [.inr (.inr x0), .inl x1_3, .inr (.inr x2_7)] h9
def yb_Parser_let (C : YC) (R : ZC YS) (d : Nat) (x0 : Option Nat) (h : YS) : ZR YS :=
  zI (ycv R d [(6, 117)] x0 [] h) fun v2 h1 =>
  zlet v2 fun x1_3 =>
  ygR 1802 x0 h1 fun v4 =>
  zI (ycv R d [(5, 506)] v4 [] h1) fun v6 h5 =>
  zlet v6 fun x2_7 =>
  zQ (ycv R d [(6, 103)] x0 [.inl 0] h5) fun v9 h8 =>
  zlet v9 fun x3_10 =>
  zV (ycv R d [(6, 119)] x0 [.inr (.inr (some (C.1 141)))] h8) fun h11 =>
  ynew 5 3 h11 fun r12 h13 =>
  zV (ycs R d 503 r12 [] h13) fun h14 =>
  zlet r12 fun x4_15 =>
  R d 607 [.inr (.inr x0), .inl x1_3, .inl x2_7, .inr (.inr x3_10), .inr (.inr x4_15)] h14
def yb_Parser_drop (C : YC) (R : ZC YS) (d : Nat) (x0 : Option Nat) (x1 : Int) (h : YS) : ZR YS :=
  ygR 1802 x0 h fun v1 =>
  zI (ycv R d [(5, 506)] v1 [] h) fun v3 h2 =>
  if v3 ≤ x1 then
    zrV h2
  else
  ygR 1802 x0 h2 fun v4 =>
  ygR 1802 x0 h2 fun v5 =>
  zI (ycv R d [(5, 506)] v5 [] h2) fun v7 h6 =>
  zG (inI (v7 - 1)) <|
  zQ (ycv R d [(5, 590)] v4 [.inl (v7 - 1)] h6) fun v9 h8 =>
  R d 155 [.inr (.inr x0), .inl x1] h8
def yb_Parser_joined (C : YC) (R : ZC YS) (d : Nat) (x0 : Option Nat) (x1 : Option Nat) (x2 : Option Nat) (h : YS) : ZR YS :=
  zI (ycv R d [(5, 506)] x2 [] h) fun v2 h1 =>
  zG (inI (v2 - 1)) <|
  zQ (ycv R d [(5, 590)] x2 [.inl (v2 - 1)] h1) fun v4 h3 =>
  ycc 10 56 v4 h3 <|
  zlet v4 fun x3_5 =>
  zI (ycv R d [(5, 506)] x1 [] h3) fun v7 h6 =>
  zG (inI (v7 - 1)) <|
  zQ (ycv R d [(5, 590)] x1 [.inl (v7 - 1)] h6) fun v9 h8 =>
  ycc 10 639 v9 h8 <|
  zlet v9 fun x4_10 =>
  zI (ycv R d [(5, 506)] x1 [] h8) fun v12 h11 =>
  zG (inI (v12 - 1)) <|
  zQ (ycv R d [(5, 590)] x1 [.inl (v12 - 1)] h11) fun v14 h13 =>
  ycc 10 639 v14 h13 <|
  zlet v14 fun x5_15 =>
  ynew 54 4 h13 fun r16 h17 =>
  ynew 51 4 h17 fun r18 h19 =>
  ygR 6602 x3_5 h19 fun v20 =>
  ygI 6601 x3_5 h19 fun v21 =>
  ygI 6601 x3_5 h19 fun v22 =>
  zV (ycs R d 425 r18 [.inr (.inr v20), .inl v21, .inl v22] h19) fun h23 =>
  zV (ycs R d 439 r16 [.inr (.inr r18), .inr (.inr x5_15), .inr (.inr x4_10)] h23) fun h24 =>
  zI (ycv R d [(5, 505)] x1 [.inr (.inr r16)] h24) fun v26 h25 =>
  zrV h25
def yb_Parser_close (C : YC) (R : ZC YS) (d : Nat) (x0 : Option Nat) (h : YS) : ZR YS :=
  ygR 1803 x0 h fun v1 =>
  ygR 1803 x0 h fun v2 =>
  zI (ycv R d [(5, 506)] v2 [] h) fun v4 h3 =>
  zG (inI (v4 - 1)) <|
  zQ (ycv R d [(5, 590)] v1 [.inl (v4 - 1)] h3) fun v6 h5 =>
  ycc 10 220 v6 h5 <|
  zlet v6 fun x1_7 =>
  ygR 1803 x0 h5 fun v8 =>
  zI (ycv R d [(5, 582)] v8 [] h5) fun v10 h9 =>
  if v10 = 0 then
    ygR 1803 x0 h9 fun v11 =>
    ygR 1803 x0 h9 fun v12 =>
    zI (ycv R d [(5, 506)] v12 [] h9) fun v14 h13 =>
    zG (inI (v14 - 1)) <|
    zQ (ycv R d [(5, 528)] v11 [.inl (v14 - 1)] h13) fun v16 h15 =>
    ycc 10 220 v16 h15 <|
    zlet v16 fun x2_17 =>
    zlet (0 : Int) fun x3_18 =>
    R d 608 [.inr (.inr x1_7), .inr (.inr x2_17), .inl x3_18] h15
  else
  zrV h9
def yb_Parser_functions (C : YC) (R : ZC YS) (d : Nat) (x0 : Option Nat) (h : YS) : ZR YS :=
  zV (ycv R d [(6, 106)] x0 [] h) fun h1 =>
  ynew 58 5 h1 fun r2 h3 =>
  zV (ycs R d 453 r2 [] h3) fun h4 =>
  zlet r2 fun x1_5 =>
  zV (ycv R d [(6, 107)] x0 [.inr (.inr x1_5)] h4) fun h6 =>
  R d 609 [.inr (.inr x0), .inr (.inr x1_5)] h6
def yb_Parser_clause (C : YC) (R : ZC YS) (d : Nat) (x0 : Option Nat) (h : YS) : ZR YS :=
  ynew 5 3 h fun r1 h2 =>
  zV (ycs R d 503 r1 [] h2) fun h3 =>
  zlet r1 fun x1_4 =>
  ygR 1804 x0 h3 fun v5 =>
  zI (ycv R d [(22, 316)] v5 [.inr (.inr (some (C.1 112)))] h3) fun v7 h6 =>
  if v7 = 0 then
    ygR 1804 x0 h6 fun v8 =>
    zI (ycv R d [(22, 317)] v8 [] h6) fun v10 h9 =>
    if v10 = 0 then
      R d 610 [.inr (.inr x0), .inr (.inr x1_4), .inl 0] h9
    else
    ygR 1804 x0 h9 fun v11 =>
    zQ (ycv R d [(6, 110)] x0 [.inr (.inr v11)] h9) fun v13 h12 =>
    ynull v13 (
      ygR 1805 x0 h12 fun v14 =>
      zQ (ycv R d [(6, 110)] x0 [.inr (.inr v14)] h12) fun v16 h15 =>
      ynull v16 (
        R d 610 [.inr (.inr x0), .inr (.inr x1_4), .inl 1] h15
      ) <|
      R d 610 [.inr (.inr x0), .inr (.inr x1_4), .inl 0] h15
    ) <|
    R d 610 [.inr (.inr x0), .inr (.inr x1_4), .inl 0] h12
  else
  R d 610 [.inr (.inr x0), .inr (.inr x1_4), .inl 1] h6
def yb_Parser_type (C : YC) (R : ZC YS) (d : Nat) (x0 : Option Nat) (h : YS) : ZR YS :=
  zV (ycv R d [(6, 106)] x0 [] h) fun h1 =>
  zQ (ycv R d [(6, 161)] x0 [] h1) fun v3 h2 =>
  zlet v3 fun x1_4 =>
  ygR 1804 x0 h2 fun v5 =>
  ygI 6601 v5 h2 fun v6 =>
  zlet v6 fun x2_7 =>
  zQ (ycv R d [(6, 124)] x0 [] h2) fun v9 h8 =>
  zlet v9 fun x3_10 =>
  zV (ycv R d [(6, 119)] x0 [.inr (.inr (some (C.1 1)))] h8) fun h11 =>
  ynew 61 4 h11 fun r12 h13 =>
  zQ (ycv R d [(6, 162)] x0 [] h13) fun v15 h14 =>
  zV (ycs R d 461 r12 [.inr (.inr x1_4), .inr (.inr x3_10), .inl x2_7, .inr (.inr v15)] h14) fun h16 =>
  zrQ r12 h16
def yb_Parser_vars (C : YC) (R : ZC YS) (d : Nat) (x0 : Option Nat) (h : YS) : ZR YS :=
  ynew 5 3 h fun r1 h2 =>
  zV (ycs R d 503 r1 [] h2) fun h3 =>
  zlet r1 fun x1_4 =>
  ygR 1804 x0 h3 fun v5 =>
  ygR 6600 v5 h3 fun v6 =>
  ysvR C 11 fun v7 =>
  if v6 = v7 then
    ynew 27 2 h3 fun r8 h9 =>
    ygR 1804 x0 h9 fun v10 =>
    ygR 6602 v10 h9 fun v11 =>
    ygR 1804 x0 h9 fun v12 =>
    ygI 6601 v12 h9 fun v13 =>
    zV (ycs R d 338 r8 [.inr (.inr v11), .inl v13] h9) fun h14 =>
    zI (ycv R d [(5, 505)] x1_4 [.inr (.inr r8)] h14) fun v16 h15 =>
    zV (ycv R d [(6, 106)] x0 [] h15) fun h17 =>
    zrQ x1_4 h17
  else
  ygR 1804 x0 h3 fun v18 =>
  zI (ycv R d [(22, 316)] v18 [.inr (.inr (some (C.1 115)))] h3) fun v20 h19 =>
  if v20 = 0 then
    zrQ x1_4 h19
  else
  zI (ycv R d [(6, 117)] x0 [] h19) fun v22 h21 =>
  R d 611 [.inr (.inr x0), .inr (.inr x1_4)] h21
def yb_Parser_toldTy (C : YC) (R : ZC YS) (d : Nat) (x0 : Option Nat) (h : YS) : ZR YS :=
  ypI 1807 1 x0 1 h fun h1 =>
  zQ (ycv R d [(6, 126)] x0 [] h1) fun v3 h2 =>
  zlet v3 fun x1_4 =>
  ypI 1807 1 x0 0 h2 fun h5 =>
  zrQ x1_4 h5
def yb_Parser_datatype (C : YC) (R : ZC YS) (d : Nat) (x0 : Option Nat) (h : YS) : ZR YS :=
  zV (ycv R d [(6, 106)] x0 [] h) fun h1 =>
  ynew 62 1 h1 fun r2 h3 =>
  zV (ycs R d 464 r2 [] h3) fun h4 =>
  zlet r2 fun x1_5 =>
  R d 612 [.inr (.inr x0), .inr (.inr x1_5)] h4
def yb_Parser_exception (C : YC) (R : ZC YS) (d : Nat) (x0 : Option Nat) (h : YS) : ZR YS :=
  zV (ycv R d [(6, 106)] x0 [] h) fun h1 =>
  zI (ycv R d [(6, 108)] x0 [.inr (.inr (some (C.1 112)))] h1) fun v3 h2 =>
  zlet v3 fun x1_4 =>
  ygR 1804 x0 h2 fun v5 =>
  ygI 6601 v5 h2 fun v6 =>
  zlet v6 fun x2_7 =>
  if x1_4 = 0 then
    zQ (ycv R d [(6, 124)] x0 [] h2) fun v9 h8 =>
    R d 613 [.inr (.inr x0), .inl x2_7, .inr (.inr v9)] h8
  else
  zQ (ycv R d [(6, 135)] x0 [] h2) fun v11 h10 =>
  R d 613 [.inr (.inr x0), .inl x2_7, .inr (.inr v11)] h10
def yb_Parser_local (C : YC) (R : ZC YS) (d : Nat) (x0 : Option Nat) (h : YS) : ZR YS :=
  zI (ycv R d [(6, 117)] x0 [] h) fun v2 h1 =>
  ygR 1802 x0 h1 fun v3 =>
  zI (ycv R d [(5, 506)] v3 [] h1) fun v5 h4 =>
  zlet v5 fun x1_6 =>
  zQ (ycv R d [(6, 103)] x0 [.inl 0] h4) fun v8 h7 =>
  zlet v8 fun x2_9 =>
  zV (ycv R d [(6, 119)] x0 [.inr (.inr (some (C.1 141)))] h7) fun h10 =>
  zQ (ycv R d [(6, 103)] x0 [.inl 0] h10) fun v12 h11 =>
  zlet v12 fun x3_13 =>
  zV (ycv R d [(6, 118)] x0 [.inr (.inr (some (C.1 142)))] h11) fun h14 =>
  zV (ycv R d [(6, 155)] x0 [.inl x1_6] h14) fun h15 =>
  ynew 66 2 h15 fun r16 h17 =>
  zV (ycs R d 475 r16 [.inr (.inr x2_9), .inr (.inr x3_13)] h17) fun h18 =>
  zrQ r16 h18
def yb_Parser_fixity (C : YC) (R : ZC YS) (d : Nat) (x0 : Option Nat) (h : YS) : ZR YS :=
  ygR 1804 x0 h fun v1 =>
  zI (ycv R d [(22, 316)] v1 [.inr (.inr (some (C.1 110)))] h) fun v3 h2 =>
  zlet v3 fun x1_4 =>
  ygR 1804 x0 h2 fun v5 =>
  zI (ycv R d [(22, 316)] v5 [.inr (.inr (some (C.1 109)))] h2) fun v7 h6 =>
  zlet v7 fun x2_8 =>
  zV (ycv R d [(6, 106)] x0 [] h6) fun h9 =>
  if x1_4 = 0 then
    R d 614 [.inr (.inr x0), .inl x1_4, .inl x2_8, .inl 0] h9
  else
  R d 614 [.inr (.inr x0), .inl x1_4, .inl x2_8, .inl (-1)] h9
def yb_Strength_init (C : YC) (R : ZC YS) (d : Nat) (x0 : Option Nat) (x1 : Option Nat) (x2 : Int) (x3 : Int) (h : YS) : ZR YS :=
  ynull x0 none <|
  ypR 2100 x0 x1 h fun h2 =>
  ypI 2101 0 x0 x2 h2 fun h3 =>
  ypI 2102 1 x0 x3 h3 fun h4 =>
  zrV h4
def yb_Lexer_init (C : YC) (R : ZC YS) (d : Nat) (x0 : Option Nat) (x1 : Option Nat) (h : YS) : ZR YS :=
  ynull x0 none <|
  yna 6 43 h fun r2 h3 =>
  ysR r2 0 (some (C.1 2)) h3 fun h4 =>
  ysR r2 1 (some (C.1 3)) h4 fun h5 =>
  ysR r2 2 (some (C.1 4)) h5 fun h6 =>
  ysR r2 3 (some (C.1 5)) h6 fun h7 =>
  ysR r2 4 (some (C.1 6)) h7 fun h8 =>
  ysR r2 5 (some (C.1 7)) h8 fun h9 =>
  ysR r2 6 (some (C.1 8)) h9 fun h10 =>
  ysR r2 7 (some (C.1 9)) h10 fun h11 =>
  ysR r2 8 (some (C.1 10)) h11 fun h12 =>
  ysR r2 9 (some (C.1 11)) h12 fun h13 =>
  ysR r2 10 (some (C.1 12)) h13 fun h14 =>
  ysR r2 11 (some (C.1 13)) h14 fun h15 =>
  ysR r2 12 (some (C.1 14)) h15 fun h16 =>
  ysR r2 13 (some (C.1 15)) h16 fun h17 =>
  ysR r2 14 (some (C.1 16)) h17 fun h18 =>
  ysR r2 15 (some (C.1 17)) h18 fun h19 =>
  ysR r2 16 (some (C.1 18)) h19 fun h20 =>
  ysR r2 17 (some (C.1 19)) h20 fun h21 =>
  ysR r2 18 (some (C.1 20)) h21 fun h22 =>
  ysR r2 19 (some (C.1 21)) h22 fun h23 =>
  ysR r2 20 (some (C.1 22)) h23 fun h24 =>
  ysR r2 21 (some (C.1 23)) h24 fun h25 =>
  ysR r2 22 (some (C.1 24)) h25 fun h26 =>
  ysR r2 23 (some (C.1 25)) h26 fun h27 =>
  ysR r2 24 (some (C.1 26)) h27 fun h28 =>
  ysR r2 25 (some (C.1 27)) h28 fun h29 =>
  ysR r2 26 (some (C.1 28)) h29 fun h30 =>
  ysR r2 27 (some (C.1 29)) h30 fun h31 =>
  ysR r2 28 (some (C.1 30)) h31 fun h32 =>
  ysR r2 29 (some (C.1 31)) h32 fun h33 =>
  ysR r2 30 (some (C.1 32)) h33 fun h34 =>
  ysR r2 31 (some (C.1 33)) h34 fun h35 =>
  ysR r2 32 (some (C.1 34)) h35 fun h36 =>
  ysR r2 33 (some (C.1 35)) h36 fun h37 =>
  ysR r2 34 (some (C.1 36)) h37 fun h38 =>
  ysR r2 35 (some (C.1 37)) h38 fun h39 =>
  ysR r2 36 (some (C.1 38)) h39 fun h40 =>
  ysR r2 37 (some (C.1 39)) h40 fun h41 =>
  ysR r2 38 (some (C.1 40)) h41 fun h42 =>
  ysR r2 39 (some (C.1 41)) h42 fun h43 =>
  ysR r2 40 (some (C.1 42)) h43 fun h44 =>
  ysR r2 41 (some (C.1 43)) h44 fun h45 =>
  ysR r2 42 (some (C.1 44)) h45 fun h46 =>
  ypR 2400 x0 r2 h46 fun h47 =>
  yna 2 8000 h47 fun r48 h49 =>
  ypR 2401 x0 r48 h49 fun h50 =>
  ynew 5 3 h50 fun r51 h52 =>
  zV (ycs R d 503 r51 [] h52) fun h53 =>
  ypR 2406 x0 r51 h53 fun h54 =>
  yna 0 256 h54 fun r55 h56 =>
  ypR 2407 x0 r55 h56 fun h57 =>
  yna 0 1001 h57 fun r58 h59 =>
  ypR 2408 x0 r58 h59 fun h60 =>
  ypR 2402 x0 x1 h60 fun h61 =>
  zrV h61
def yb_Lexer_begin (C : YC) (R : ZC YS) (d : Nat) (x0 : Option Nat) (h : YS) : ZR YS :=
  ypI 2404 0 x0 0 h fun h1 =>
  ypI 2405 0 x0 0 h1 fun h2 =>
  ygR 2406 x0 h2 fun v3 =>
  zV (ycv R d [(5, 504)] v3 [] h2) fun h4 =>
  zlet (0 : Int) fun x1_5 =>
  R d 615 [.inr (.inr x0), .inl x1_5] h4
def yb_Lexer_next (C : YC) (R : ZC YS) (d : Nat) (x0 : Option Nat) (h : YS) : ZR YS :=
  ygI 2404 x0 h fun v1 =>
  ygI 2403 x0 h fun v2 =>
  if v1 < v2 then
    zI (ycv R d [(8, 171)] x0 [.inl 0] h) fun v4 h3 =>
    zI (zc R d 172 [.inl v4] h3) fun v6 h5 =>
    if v6 = 0 then
      zI (ycv R d [(8, 171)] x0 [.inl 0] h5) fun v8 h7 =>
      if v8 = 40 then
        zI (ycv R d [(8, 171)] x0 [.inl 1] h7) fun v10 h9 =>
        if v10 = 42 then
          R d 616 [.inr (.inr x0)] h9
        else
        R d 617 [.inr (.inr x0)] h9
      else
      R d 617 [.inr (.inr x0)] h7
    else
    R d 616 [.inr (.inr x0)] h5
  else
  R d 617 [.inr (.inr x0)] h
def yb_Lexer_see (C : YC) (R : ZC YS) (d : Nat) (x0 : Option Nat) (x1 : Int) (h : YS) : ZR YS :=
  ygI 2404 x0 h fun v1 =>
  ygI 2403 x0 h fun v2 =>
  zG (inI (v1 + x1)) <|
  if (v1 + x1) < v2 then
    ygR 2401 x0 h fun v3 =>
    ygI 2404 x0 h fun v4 =>
    yaI 2 v3 (v4 + x1) h fun v5 =>
    zrI (zandI v5 255) h
  else
  zrI 0 h
def yb_Lexer_isBlank (C : YC) (R : ZC YS) (d : Nat) (x0 : Int) (h : YS) : ZR YS :=
  if x0 = 9 then
    yrN 1 1 h
  else
  if x0 = 10 then
    yrN 1 1 h
  else
  if x0 = 13 then
    yrN 1 1 h
  else
  if x0 = 32 then
    yrN 1 1 h
  else
  yrN 1 0 h
def yb_Lexer_note (C : YC) (R : ZC YS) (d : Nat) (x0 : Option Nat) (h : YS) : ZR YS :=
  ygI 2404 x0 h fun v1 =>
  zlet v1 fun x1_2 =>
  zlet (0 : Int) fun x2_3 =>
  R d 618 [.inr (.inr x0), .inl x1_2, .inl x2_3] h
def yb_Lexer_good (C : YC) (R : ZC YS) (d : Nat) (x0 : Option Nat) (h : YS) : ZR YS :=
  zI (ycv R d [(8, 171)] x0 [.inl 0] h) fun v2 h1 =>
  zlet v2 fun x1_3 =>
  ygI 2404 x0 h1 fun v4 =>
  ygI 2403 x0 h1 fun v5 =>
  if v4 < v5 then
    zI (zc R d 172 [.inl x1_3] h1) fun v7 h6 =>
    if v7 = 0 then
      if x1_3 < 33 then
        zQ (ycv R d [(8, 175)] x0 [] h6) fun v9 h8 =>
        ythrow v9 h8
      else
      if x1_3 ≤ 126 then
        zrV h6
      else
      zQ (ycv R d [(8, 175)] x0 [] h6) fun v11 h10 =>
      ythrow v11 h10
    else
    zrV h6
  else
  zQ (ycv R d [(8, 175)] x0 [] h1) fun v13 h12 =>
  ythrow v13 h12
def yb_Lexer_wrong (C : YC) (R : ZC YS) (d : Nat) (x0 : Option Nat) (h : YS) : ZR YS :=
  ygR 2402 x0 h fun v1 =>
  ygI 2404 x0 h fun v2 =>
  zQ (ycv R d [(1, 48)] v1 [.inl 1, .inl v2] h) fun v4 h3 =>
  zrQ v4 h3
def yb_Lexer_name (C : YC) (R : ZC YS) (d : Nat) (x0 : Option Nat) (x1 : Int) (h : YS) : ZR YS :=
  zV (ycv R d [(8, 177)] x0 [] h) fun h1 =>
  zQ (ycv R d [(8, 178)] x0 [.inl x1] h1) fun v3 h2 =>
  zrQ v3 h2
def yb_Lexer_letters (C : YC) (R : ZC YS) (d : Nat) (x0 : Option Nat) (h : YS) : ZR YS :=
  zI (ycv R d [(8, 171)] x0 [.inl 0] h) fun v2 h1 =>
  zI (zc R d 14 [.inl v2] h1) fun v4 h3 =>
  if v4 = 0 then
    zI (ycv R d [(8, 171)] x0 [.inl 0] h3) fun v6 h5 =>
    zI (zc R d 15 [.inl v6] h5) fun v8 h7 =>
    if v8 = 0 then
      zI (ycv R d [(8, 171)] x0 [.inl 0] h7) fun v10 h9 =>
      if v10 = 95 then
        R d 619 [.inr (.inr x0)] h9
      else
      zI (ycv R d [(8, 171)] x0 [.inl 0] h9) fun v12 h11 =>
      if v12 = 39 then
        R d 619 [.inr (.inr x0)] h11
      else
      zrV h11
    else
    R d 619 [.inr (.inr x0)] h7
  else
  R d 619 [.inr (.inr x0)] h3
def yb_Lexer_named (C : YC) (R : ZC YS) (d : Nat) (x0 : Option Nat) (x1 : Int) (h : YS) : ZR YS :=
  ygI 2404 x0 h fun v1 =>
  zG (inI (v1 - x1)) <|
  if (v1 - x1) ≤ 30 then
    zI (ycv R d [(8, 179)] x0 [.inl x1] h) fun v3 h2 =>
    zlet v3 fun x2_4 =>
    if x2_4 = (-1) then
      ynew 22 4 h2 fun r5 h6 =>
      ysvR C 9 fun v7 =>
      zQ (ycv R d [(8, 181)] x0 [.inl x1] h6) fun v9 h8 =>
      zV (ycs R d 315 r5 [.inr (.inr v7), .inl x1, .inr (.inr v9), .inl 0] h8) fun h10 =>
      zrQ r5 h10
    else
    ynew 22 4 h2 fun r11 h12 =>
    ysvR C 10 fun v13 =>
    ygR 2400 x0 h12 fun v14 =>
    yaR v14 x2_4 h12 fun v15 =>
    zV (ycs R d 315 r11 [.inr (.inr v13), .inl x1, .inr (.inr v15), .inl 0] h12) fun h16 =>
    zrQ r11 h16
  else
  ygR 2402 x0 h fun v17 =>
  zQ (ycv R d [(1, 48)] v17 [.inl 1, .inl x1] h) fun v19 h18 =>
  ythrow v19 h18
def yb_Lexer_kept (C : YC) (R : ZC YS) (d : Nat) (x0 : Option Nat) (x1 : Int) (h : YS) : ZR YS :=
  zlet (0 : Int) fun x2_1 =>
  R d 620 [.inr (.inr x0), .inl x1, .inl x2_1] h
def yb_Lexer_isHere (C : YC) (R : ZC YS) (d : Nat) (x0 : Option Nat) (x1 : Int) (x2 : Option Nat) (h : YS) : ZR YS :=
  zI (ycv R d [(21, 539)] x2 [] h) fun v2 h1 =>
  ygI 2404 x0 h1 fun v3 =>
  zG (inI (v3 - x1)) <|
  if v2 = (v3 - x1) then
    zlet (1 : Int) fun x3_4 =>
    zlet (0 : Int) fun x4_5 =>
    R d 621 [.inr (.inr x0), .inl x1, .inr (.inr x2), .inl x3_4, .inl x4_5] h1
  else
  zlet (0 : Int) fun x3_6 =>
  zlet (0 : Int) fun x4_7 =>
  R d 621 [.inr (.inr x0), .inl x1, .inr (.inr x2), .inl x3_6, .inl x4_7] h1
def yb_Lexer_piece (C : YC) (R : ZC YS) (d : Nat) (x0 : Option Nat) (x1 : Int) (h : YS) : ZR YS :=
  ygR 2401 x0 h fun v1 =>
  yaI 2 v1 x1 h fun v2 =>
  ygR 2401 x0 h fun v3 =>
  ygI 2404 x0 h fun v4 =>
  yaI 2 v3 (v4 - 1) h fun v5 =>
  ygI 2404 x0 h fun v6 =>
  zlet (zandI ((v2 + (7 * v5)) + (31 * (v6 - x1))) 255) fun x2_7 =>
  ygR 2407 x0 h fun v8 =>
  yaI 0 v8 x2_7 h fun v9 =>
  zlet v9 fun x3_10 =>
  R d 622 [.inr (.inr x0), .inl x1, .inl x2_7, .inl x3_10] h
def yb_Lexer_variable (C : YC) (R : ZC YS) (d : Nat) (x0 : Option Nat) (h : YS) : ZR YS :=
  ygI 2404 x0 h fun v1 =>
  zlet v1 fun x1_2 =>
  ygI 2404 x0 h fun v3 =>
  zI (ycv R d [(8, 171)] x0 [.inl 1] h) fun v5 h4 =>
  if v5 = 39 then
    R d 623 [.inr (.inr x0), .inl x1_2, .inl 2, .inl v3, .inr (.inr x0)] h4
  else
  R d 623 [.inr (.inr x0), .inl x1_2, .inl 1, .inl v3, .inr (.inr x0)] h4
def yb_Lexer_number (C : YC) (R : ZC YS) (d : Nat) (x0 : Option Nat) (h : YS) : ZR YS :=
  ygI 2404 x0 h fun v1 =>
  zlet v1 fun x1_2 =>
  zI (ycv R d [(8, 171)] x0 [.inl 0] h) fun v4 h3 =>
  if v4 = 126 then
    R d 624 [.inr (.inr x0), .inl x1_2, .inl 1] h3
  else
  R d 624 [.inr (.inr x0), .inl x1_2, .inl 0] h3
def yb_Lexer_quoted (C : YC) (R : ZC YS) (d : Nat) (x0 : Option Nat) (x1 : Int) (x2 : Option Nat) (h : YS) : ZR YS :=
  ygI 2404 x0 h fun v1 =>
  ysvR C 14 fun v2 =>
  if x2 = v2 then
    R d 625 [.inr (.inr x0), .inl x1, .inr (.inr x2), .inl 2, .inl v1, .inr (.inr x0)] h
  else
  R d 625 [.inr (.inr x0), .inl x1, .inr (.inr x2), .inl 1, .inl v1, .inr (.inr x0)] h
def yb_Lexer_escaped (C : YC) (R : ZC YS) (d : Nat) (x0 : Option Nat) (h : YS) : ZR YS :=
  zI (ycv R d [(8, 171)] x0 [.inl 0] h) fun v2 h1 =>
  zlet v2 fun x1_3 =>
  zI (zc R d 15 [.inl x1_3] h1) fun v5 h4 =>
  if v5 = 0 then
    if x1_3 = 110 then
      R d 626 [.inr (.inr x0), .inl x1_3] h4
    else
    if x1_3 = 116 then
      R d 626 [.inr (.inr x0), .inl x1_3] h4
    else
    if x1_3 = 92 then
      R d 626 [.inr (.inr x0), .inl x1_3] h4
    else
    if x1_3 = 34 then
      R d 626 [.inr (.inr x0), .inl x1_3] h4
    else
    zQ (ycv R d [(8, 175)] x0 [] h4) fun v7 h6 =>
    ythrow v7 h6
  else
  zlet (0 : Int) fun x2_8 =>
  zlet (100 : Int) fun x3_9 =>
  R d 627 [.inr (.inr x0), .inl x2_8, .inl x3_9] h4
def yb_Lexer_dots (C : YC) (R : ZC YS) (d : Nat) (x0 : Option Nat) (h : YS) : ZR YS :=
  ygI 2404 x0 h fun v1 =>
  zlet v1 fun x1_2 =>
  zlet (0 : Int) fun x2_3 =>
  R d 628 [.inr (.inr x0), .inl x1_2, .inl x2_3] h
def yb_Lexer_signs (C : YC) (R : ZC YS) (d : Nat) (x0 : Option Nat) (h : YS) : ZR YS :=
  ygI 2404 x0 h fun v1 =>
  zlet v1 fun x1_2 =>
  zlet (1 : Int) fun x2_3 =>
  R d 629 [.inr (.inr x0), .inl x1_2, .inl x2_3] h
def yb_Judge_init (C : YC) (R : ZC YS) (d : Nat) (x0 : Option Nat) (x1 : Option Nat) (x2 : Option Nat) (h : YS) : ZR YS :=
  ynull x0 none <|
  ynew 5 3 h fun r2 h3 =>
  zV (ycs R d 503 r2 [] h3) fun h4 =>
  ypR 2702 x0 r2 h4 fun h5 =>
  ynew 5 3 h5 fun r6 h7 =>
  zV (ycs R d 503 r6 [] h7) fun h8 =>
  ypR 2703 x0 r6 h8 fun h9 =>
  ynew 5 3 h9 fun r10 h11 =>
  zV (ycs R d 503 r10 [] h11) fun h12 =>
  ypR 2704 x0 r10 h12 fun h13 =>
  ynew 5 3 h13 fun r14 h15 =>
  zV (ycs R d 503 r14 [] h15) fun h16 =>
  ypR 2706 x0 r14 h16 fun h17 =>
  ynew 5 3 h17 fun r18 h19 =>
  zV (ycs R d 503 r18 [] h19) fun h20 =>
  ypR 2710 x0 r18 h20 fun h21 =>
  ynew 5 3 h21 fun r22 h23 =>
  zV (ycs R d 503 r22 [] h23) fun h24 =>
  ypR 2711 x0 r22 h24 fun h25 =>
  ypR 2700 x0 x1 h25 fun h26 =>
  ypR 2701 x0 x2 h26 fun h27 =>
  zrV h27
def yb_Judge_begin (C : YC) (R : ZC YS) (d : Nat) (x0 : Option Nat) (x1 : Option Nat) (x2 : Int) (h : YS) : ZR YS :=
  ygR 2702 x0 h fun v1 =>
  zV (ycv R d [(5, 504)] v1 [] h) fun h2 =>
  ygR 2703 x0 h2 fun v3 =>
  zV (ycv R d [(5, 504)] v3 [] h2) fun h4 =>
  ygR 2704 x0 h4 fun v5 =>
  zV (ycv R d [(5, 504)] v5 [] h4) fun h6 =>
  ygR 2710 x0 h6 fun v7 =>
  zV (ycv R d [(5, 504)] v7 [] h6) fun h8 =>
  ygR 2711 x0 h8 fun v9 =>
  zV (ycv R d [(5, 504)] v9 [] h8) fun h10 =>
  ypR 2705 x0 none h10 fun h11 =>
  ypI 2707 1 x0 1 h11 fun h12 =>
  ypI 2708 1 x0 0 h12 fun h13 =>
  ypI 2709 0 x0 x2 h13 fun h14 =>
  zlet (0 : Int) fun x3_15 =>
  R d 630 [.inr (.inr x0), .inr (.inr x1), .inl x3_15] h14
def yb_Judge_must (C : YC) (R : ZC YS) (d : Nat) (x0 : Option Nat) (x1 : Int) (x2 : Int) (x3 : Int) (h : YS) : ZR YS :=
  if x1 = 0 then
    ygR 2701 x0 h fun v1 =>
    zQ (ycv R d [(1, 48)] v1 [.inl x2, .inl x3] h) fun v3 h2 =>
    ythrow v3 h2
  else
  zrV h
def yb_Judge_counted (C : YC) (R : ZC YS) (d : Nat) (x0 : Option Nat) (x1 : Int) (h : YS) : ZR YS :=
  ygI 2707 x0 h fun v1 =>
  if v1 = 0 then
    zrV h
  else
  ygI 2708 x0 h fun v2 =>
  if v2 = 0 then
    ygI 2709 x0 h fun v3 =>
    zG (inI (v3 + 1)) <|
    ypI 2709 0 x0 (v3 + 1) h fun h4 =>
    ygI 2709 x0 h4 fun v5 =>
    if v5 ≤ 1500 then
      zV (ycv R d [(9, 190)] x0 [.inl 1, .inl 4, .inl x1] h4) fun h6 =>
      zrV h6
    else
    zV (ycv R d [(9, 190)] x0 [.inl 0, .inl 4, .inl x1] h4) fun h7 =>
    zrV h7
  else
  zrV h
def yb_Judge_mayBe (C : YC) (R : ZC YS) (d : Nat) (x0 : Option Nat) (x1 : Option Nat) (x2 : Int) (h : YS) : ZR YS :=
  zI (zc R d 193 [.inr (.inr x1)] h) fun v2 h1 =>
  if v2 = 0 then
    zV (ycv R d [(9, 190)] x0 [.inl 1, .inl 7, .inl x2] h1) fun h3 =>
    zrV h3
  else
  zV (ycv R d [(9, 190)] x0 [.inl 0, .inl 7, .inl x2] h1) fun h4 =>
  zrV h4
def yb_Judge_isBarred (C : YC) (R : ZC YS) (d : Nat) (x0 : Option Nat) (h : YS) : ZR YS :=
  zI (ycv R d [(21, 576)] x0 [.inr (.inr (some (C.1 148)))] h) fun v2 h1 =>
  if v2 = 0 then
    zI (ycv R d [(21, 576)] x0 [.inr (.inr (some (C.1 149)))] h1) fun v4 h3 =>
    if v4 = 0 then
      zI (ycv R d [(21, 576)] x0 [.inr (.inr (some (C.1 150)))] h3) fun v6 h5 =>
      if v6 = 0 then
        zI (ycv R d [(21, 576)] x0 [.inr (.inr (some (C.1 151)))] h5) fun v8 h7 =>
        if v8 = 0 then
          zI (ycv R d [(21, 576)] x0 [.inr (.inr (some (C.1 152)))] h7) fun v10 h9 =>
          if v10 = 0 then
            yrN 1 0 h9
          else
          yrN 1 1 h9
        else
        yrN 1 1 h7
      else
      yrN 1 1 h5
    else
    yrN 1 1 h3
  else
  yrN 1 1 h1
def yb_Judge_variable (C : YC) (R : ZC YS) (d : Nat) (x0 : Option Nat) (x1 : Option Nat) (h : YS) : ZR YS :=
  ygR 2704 x0 h fun v1 =>
  zI (ycv R d [(5, 506)] v1 [] h) fun v3 h2 =>
  zG (inI (v3 - 1)) <|
  zlet (v3 - 1) fun x2_4 =>
  R d 631 [.inr (.inr x0), .inr (.inr x1), .inl x2_4] h2
def yb_Judge_typeName (C : YC) (R : ZC YS) (d : Nat) (x0 : Option Nat) (x1 : Option Nat) (x2 : Int) (h : YS) : ZR YS :=
  ygR 2703 x0 h fun v1 =>
  zI (ycv R d [(5, 506)] v1 [] h) fun v3 h2 =>
  zG (inI (v3 - 1)) <|
  zlet (v3 - 1) fun x3_4 =>
  R d 632 [.inr (.inr x0), .inr (.inr x1), .inl x2, .inl x3_4] h2
def yb_Judge_value (C : YC) (R : ZC YS) (d : Nat) (x0 : Option Nat) (x1 : Option Nat) (x2 : Int) (h : YS) : ZR YS :=
  zQ (ycv R d [(9, 197)] x0 [.inr (.inr x1)] h) fun v2 h1 =>
  zlet v2 fun x3_3 =>
  ynull x3_3 (
    zV (ycv R d [(9, 190)] x0 [.inl 0, .inl 5, .inl x2] h1) fun h4 =>
    zrQ x3_3 h4
  ) <|
  zV (ycv R d [(9, 190)] x0 [.inl 1, .inl 5, .inl x2] h1) fun h5 =>
  zrQ x3_3 h5
def yb_Judge_value_2 (C : YC) (R : ZC YS) (d : Nat) (x0 : Option Nat) (x1 : Option Nat) (h : YS) : ZR YS :=
  ygR 2702 x0 h fun v1 =>
  zI (ycv R d [(5, 506)] v1 [] h) fun v3 h2 =>
  zG (inI (v3 - 1)) <|
  zlet (v3 - 1) fun x2_4 =>
  R d 633 [.inr (.inr x0), .inr (.inr x1), .inl x2_4] h2
def yb_Judge_bind (C : YC) (R : ZC YS) (d : Nat) (x0 : Option Nat) (x1 : Option Nat) (x2 : Int) (h : YS) : ZR YS :=
  zV (ycv R d [(9, 192)] x0 [.inr (.inr x1), .inl x2] h) fun h1 =>
  zlet (0 : Int) fun x3_2 =>
  R d 634 [.inr (.inr x0), .inr (.inr x1), .inl x2, .inl x3_2] h1
def yb_Judge_join (C : YC) (R : ZC YS) (d : Nat) (x0 : Option Nat) (x1 : Int) (x2 : Int) (x3 : Int) (h : YS) : ZR YS :=
  ygR 2700 x0 h fun v1 =>
  zI (ycv R d [(4, 77)] v1 [.inl x1, .inl x2] h) fun v3 h2 =>
  zlet v3 fun x4_4 =>
  if x4_4 = 0 then
    zrV h2
  else
  ygR 2701 x0 h2 fun v5 =>
  zQ (ycv R d [(1, 48)] v5 [.inl x4_4, .inl x3] h2) fun v7 h6 =>
  ythrow v7 h6
def yb_Judge_typeOf (C : YC) (R : ZC YS) (d : Nat) (x0 : Option Nat) (x1 : Option Nat) (h : YS) : ZR YS :=
  ygI 5401 x1 h fun v1 =>
  if v1 = 1 then
    ygR 2700 x0 h fun v2 =>
    ygR 5406 x1 h fun v3 =>
    zI (ycv R d [(4, 90)] v2 [.inr (.inr v3)] h) fun v5 h4 =>
    zrI v5 h4
  else
  ygR 5405 x1 h fun v6 =>
  ynull v6 (
    ygI 5404 x1 h fun v7 =>
    if v7 = 0 then
      ygR 2700 x0 h fun v8 =>
      ygI 5403 x1 h fun v9 =>
      zI (ycv R d [(4, 56)] v8 [.inl v9] h) fun v11 h10 =>
      zrI v11 h10
    else
    ygR 2700 x0 h fun v12 =>
    zV (ycv R d [(4, 91)] v12 [] h) fun h13 =>
    ygR 2700 x0 h13 fun v14 =>
    ygI 5403 x1 h13 fun v15 =>
    zI (ycv R d [(4, 92)] v14 [.inl v15] h13) fun v17 h16 =>
    zrI v17 h16
  ) <|
  ygR 2700 x0 h fun v18 =>
  ygR 5405 x1 h fun v19 =>
  zI (ycv R d [(4, 73)] v18 [.inr (.inr v19), .inr (.inr none)] h) fun v21 h20 =>
  zrI v21 h20
def yb_Judge_hide (C : YC) (R : ZC YS) (d : Nat) (x0 : Option Nat) (x1 : Int) (x2 : Int) (x3 : Int) (x4 : Int) (h : YS) : ZR YS :=
  zG (inI (x2 - 1)) <|
  zlet (x2 - 1) fun x5_1 =>
  R d 635 [.inr (.inr x0), .inl x1, .inl x3, .inl x4, .inl x5_1] h
def yb_Judge_drop (C : YC) (R : ZC YS) (d : Nat) (x0 : Option Nat) (x1 : Int) (h : YS) : ZR YS :=
  ygR 2702 x0 h fun v1 =>
  zI (ycv R d [(5, 506)] v1 [] h) fun v3 h2 =>
  if v3 ≤ x1 then
    zrV h2
  else
  ygR 2702 x0 h2 fun v4 =>
  ygR 2702 x0 h2 fun v5 =>
  zI (ycv R d [(5, 506)] v5 [] h2) fun v7 h6 =>
  zG (inI (v7 - 1)) <|
  zQ (ycv R d [(5, 590)] v4 [.inl (v7 - 1)] h6) fun v9 h8 =>
  R d 202 [.inr (.inr x0), .inl x1] h8
def yb_Judge_dropTypes (C : YC) (R : ZC YS) (d : Nat) (x0 : Option Nat) (x1 : Int) (h : YS) : ZR YS :=
  ygR 2703 x0 h fun v1 =>
  zI (ycv R d [(5, 506)] v1 [] h) fun v3 h2 =>
  if v3 ≤ x1 then
    zrV h2
  else
  ygR 2703 x0 h2 fun v4 =>
  ygR 2703 x0 h2 fun v5 =>
  zI (ycv R d [(5, 506)] v5 [] h2) fun v7 h6 =>
  zG (inI (v7 - 1)) <|
  zQ (ycv R d [(5, 590)] v4 [.inl (v7 - 1)] h6) fun v9 h8 =>
  R d 203 [.inr (.inr x0), .inl x1] h8
def yb_Cover_init (C : YC) (R : ZC YS) (d : Nat) (x0 : Option Nat) (x1 : Option Nat) (h : YS) : ZR YS :=
  ynull x0 none <|
  yna 0 24000 h fun r2 h3 =>
  ypR 3001 x0 r2 h3 fun h4 =>
  yna 0 24000 h4 fun r5 h6 =>
  ypR 3002 x0 r5 h6 fun h7 =>
  yna 0 24000 h7 fun r8 h9 =>
  ypR 3003 x0 r8 h9 fun h10 =>
  yna 0 4000 h10 fun r11 h12 =>
  ypR 3004 x0 r11 h12 fun h13 =>
  yna 0 4000 h13 fun r14 h15 =>
  ypR 3005 x0 r14 h15 fun h16 =>
  yna 6 4000 h16 fun r17 h18 =>
  ypR 3006 x0 r17 h18 fun h19 =>
  yna 7 4000 h19 fun r20 h21 =>
  ypR 3007 x0 r20 h21 fun h22 =>
  yna 0 24000 h22 fun r23 h24 =>
  ypR 3008 x0 r23 h24 fun h25 =>
  yna 0 4000 h25 fun r26 h27 =>
  ypR 3022 x0 r26 h27 fun h28 =>
  yna 0 4000 h28 fun r29 h30 =>
  ypR 3023 x0 r29 h30 fun h31 =>
  yna 0 4000 h31 fun r32 h33 =>
  ypR 3024 x0 r32 h33 fun h34 =>
  yna 0 4000 h34 fun r35 h36 =>
  ypR 3025 x0 r35 h36 fun h37 =>
  yna 0 4000 h37 fun r38 h39 =>
  ypR 3026 x0 r38 h39 fun h40 =>
  yna 3 4000 h40 fun r41 h42 =>
  ypR 3027 x0 r41 h42 fun h43 =>
  ypR 3000 x0 x1 h43 fun h44 =>
  zrV h44
def yb_Cover_look (C : YC) (R : ZC YS) (d : Nat) (x0 : Option Nat) (x1 : Option Nat) (h : YS) : ZR YS :=
  ypR 3029 x0 x1 h fun h1 =>
  ygR 20702 x1 h1 fun v2 =>
  zI (ycv R d [(5, 506)] v2 [] h1) fun v4 h3 =>
  yna 3 v4 h3 fun r5 h6 =>
  ypR 3030 x0 r5 h6 fun h7 =>
  ypI 3031 1 x0 0 h7 fun h8 =>
  ypI 3009 0 x0 0 h8 fun h9 =>
  ypI 3010 0 x0 0 h9 fun h10 =>
  ypI 3011 0 x0 0 h10 fun h11 =>
  zV (ycv R d [(10, 206)] x0 [] h11) fun h12 =>
  zV (ycv R d [(10, 207)] x0 [] h12) fun h13 =>
  zrV h13
def yb_Cover_place (C : YC) (R : ZC YS) (d : Nat) (x0 : Option Nat) (h : YS) : ZR YS :=
  ygR 3001 x0 h fun v1 =>
  ygI 3009 x0 h fun v2 =>
  yst 0 v1 v2 (-1) h fun h3 =>
  ygR 3002 x0 h3 fun v4 =>
  ygI 3009 x0 h3 fun v5 =>
  yst 0 v4 v5 (-1) h3 fun h6 =>
  ygR 3003 x0 h6 fun v7 =>
  ygI 3009 x0 h6 fun v8 =>
  yst 0 v7 v8 (-1) h6 fun h9 =>
  ygI 3009 x0 h9 fun v10 =>
  zG (inI (v10 + 1)) <|
  ypI 3009 0 x0 (v10 + 1) h9 fun h11 =>
  zrV h11
def yb_Cover_look_2 (C : YC) (R : ZC YS) (d : Nat) (x0 : Option Nat) (h : YS) : ZR YS :=
  zlet (0 : Int) fun x1_1 =>
  zlet (0 : Int) fun x2_2 =>
  zlet (1 : Int) fun x3_3 =>
  R d 636 [.inr (.inr x0), .inl x1_1, .inl x2_2, .inl x3_3] h
def yb_Cover_firstNot (C : YC) (R : ZC YS) (d : Nat) (x0 : Option Nat) (x1 : Int) (h : YS) : ZR YS :=
  zlet x1 fun x2_1 =>
  ypI 3028 0 x0 0 h fun h2 =>
  R d 637 [.inr (.inr x0), .inl x2_1] h2
def yb_Cover_meets (C : YC) (R : ZC YS) (d : Nat) (x0 : Option Nat) (x1 : Option Nat) (h : YS) : ZR YS :=
  zI (ycv R d [(5, 506)] x1 [] h) fun v2 h1 =>
  if v2 = 1 then
    zQ (ycv R d [(5, 528)] x1 [.inl 0] h1) fun v4 h3 =>
    ycc 14 176 v4 h3 <|
    zI (ycv R d [(36, 371), (32, 351), (38, 381), (37, 376), (35, 366), (33, 356), (25, 336), (34, 361)] v4 [.inr (.inr x0), .inl 0] h3) fun v6 h5 =>
    zrI v6 h5
  else
  zlet (1 : Int) fun x2_7 =>
  zlet (0 : Int) fun x3_8 =>
  zlet (0 : Int) fun x4_9 =>
  zlet (0 : Int) fun x5_10 =>
  zlet (none : Option Nat) fun x6_11 =>
  zlet (none : Option Nat) fun x7_12 =>
  zlet (0 : Int) fun x8_13 =>
  R d 638 [.inr (.inr x0), .inr (.inr x1), .inl x2_7, .inl x3_8, .inl x4_9, .inl x5_10, .inr (.inr x6_11), .inr (.inr x7_12), .inl x8_13] h1
def yb_Cover_isMade (C : YC) (R : ZC YS) (d : Nat) (x0 : Option Nat) (x1 : Int) (x2 : Option Nat) (h : YS) : ZR YS :=
  ygI 5401 x2 h fun v1 =>
  if v1 = 1 then
    ygR 5406 x2 h fun v2 =>
    ygI 5702 v2 h fun v3 =>
    ygR 5406 x2 h fun v4 =>
    ygR 5701 v4 h fun v5 =>
    ygR 4503 v5 h fun v6 =>
    zI (ycv R d [(5, 506)] v6 [] h) fun v8 h7 =>
    zI (ycv R d [(10, 211)] x0 [.inl x1, .inl v3, .inr (.inr none), .inr (.inr none), .inl v8] h7) fun v10 h9 =>
    zrI v10 h9
  else
  ygR 5408 x2 h fun v11 =>
  zI (ycv R d [(10, 211)] x0 [.inl x1, .inl 0, .inr (.inr none), .inr (.inr v11), .inl 0] h) fun v13 h12 =>
  zrI v13 h12
def yb_Cover_asks (C : YC) (R : ZC YS) (d : Nat) (x0 : Option Nat) (x1 : Int) (x2 : Int) (x3 : Option Nat) (x4 : Option Nat) (x5 : Int) (h : YS) : ZR YS :=
  ygR 3001 x0 h fun v1 =>
  yaI 0 v1 x1 h fun v2 =>
  if v2 = (-1) then
    zlet (0 : Int) fun x6_3 =>
    ygR 3003 x0 h fun v4 =>
    yaI 0 v4 x1 h fun v5 =>
    zlet v5 fun x7_6 =>
    R d 639 [.inr (.inr x0), .inl x1, .inl x2, .inr (.inr x3), .inr (.inr x4), .inl x5, .inl x6_3, .inl x7_6] h
  else
  ygR 3001 x0 h fun v7 =>
  yaI 0 v7 x1 h fun v8 =>
  zI (ycv R d [(10, 212)] x0 [.inl v8, .inl x2, .inr (.inr x3), .inr (.inr x4)] h) fun v10 h9 =>
  if v10 = 0 then
    zrI 0 h9
  else
  zrI 1 h9
def yb_Cover_isSame (C : YC) (R : ZC YS) (d : Nat) (x0 : Option Nat) (x1 : Int) (x2 : Int) (x3 : Option Nat) (x4 : Option Nat) (h : YS) : ZR YS :=
  ygR 3004 x0 h fun v1 =>
  yaI 0 v1 x1 h fun v2 =>
  if v2 = x2 then
    ynull x3 (
      ygR 3006 x0 h fun v3 =>
      yaR v3 x1 h fun v4 =>
      ynull v4 (
        ygR 3007 x0 h fun v5 =>
        yaR v5 x1 h fun v6 =>
        if x4 = v6 then
          yrN 1 1 h
        else
        yrN 1 0 h
      ) <|
      yrN 1 0 h
    ) <|
    ygR 3006 x0 h fun v7 =>
    yaR v7 x1 h fun v8 =>
    zI (ycv R d [(21, 576)] x3 [.inr (.inr v8)] h) fun v10 h9 =>
    if v10 = 0 then
      yrN 1 0 h9
    else
    yrN 1 1 h9
  else
  yrN 1 0 h
def yb_Cover_child (C : YC) (R : ZC YS) (d : Nat) (x0 : Option Nat) (x1 : Int) (x2 : Int) (x3 : Int) (h : YS) : ZR YS :=
  ygR 3002 x0 h fun v1 =>
  yaI 0 v1 x1 h fun v2 =>
  if v2 = (-1) then
    ygR 3002 x0 h fun v3 =>
    ygI 3009 x0 h fun v4 =>
    yst 0 v3 x1 v4 h fun h5 =>
    ygR 3008 x0 h5 fun v6 =>
    ygI 3011 x0 h5 fun v7 =>
    yst 0 v6 v7 x1 h5 fun h8 =>
    ygI 3011 x0 h8 fun v9 =>
    zG (inI (v9 + 1)) <|
    ypI 3011 0 x0 (v9 + 1) h8 fun h10 =>
    zlet (0 : Int) fun x4_11 =>
    R d 640 [.inr (.inr x0), .inl x1, .inl x2, .inl x3, .inl x4_11] h10
  else
  ygR 3002 x0 h fun v12 =>
  yaI 0 v12 x1 h fun v13 =>
  zG (inI (v13 + x2)) <|
  zrI (v13 + x2) h
def yb_Cover_isText (C : YC) (R : ZC YS) (d : Nat) (x0 : Option Nat) (x1 : Int) (x2 : Option Nat) (h : YS) : ZR YS :=
  zI (ycv R d [(10, 211)] x0 [.inl x1, .inl 0, .inr (.inr x2), .inr (.inr none), .inl 0] h) fun v2 h1 =>
  zrI v2 h1
def yb_Cover_isNumber (C : YC) (R : ZC YS) (d : Nat) (x0 : Option Nat) (x1 : Int) (x2 : Int) (h : YS) : ZR YS :=
  zI (ycv R d [(10, 211)] x0 [.inl x1, .inl x2, .inr (.inr none), .inr (.inr none), .inl 0] h) fun v2 h1 =>
  zrI v2 h1
def yb_Cover_isCon (C : YC) (R : ZC YS) (d : Nat) (x0 : Option Nat) (x1 : Int) (x2 : Int) (x3 : Int) (h : YS) : ZR YS :=
  zI (ycv R d [(10, 211)] x0 [.inl x1, .inl x2, .inr (.inr none), .inr (.inr none), .inl x3] h) fun v2 h1 =>
  zrI v2 h1
def yb_Cover_release (C : YC) (R : ZC YS) (d : Nat) (x0 : Option Nat) (h : YS) : ZR YS :=
  ygI 3015 x0 h fun v1 =>
  ypI 3012 0 x0 v1 h fun h2 =>
  ygI 3016 x0 h2 fun v3 =>
  ypI 3013 0 x0 v3 h2 fun h4 =>
  ygI 3017 x0 h4 fun v5 =>
  ypI 3014 0 x0 v5 h4 fun h6 =>
  ygR 3019 x0 h6 fun v7 =>
  ypR 3018 x0 v7 h6 fun h8 =>
  ygR 3021 x0 h8 fun v9 =>
  ypR 3020 x0 v9 h8 fun h10 =>
  zrV h10
def yb_Cover_hold (C : YC) (R : ZC YS) (d : Nat) (x0 : Option Nat) (h : YS) : ZR YS :=
  ygI 3012 x0 h fun v1 =>
  ypI 3015 0 x0 v1 h fun h2 =>
  ygI 3013 x0 h2 fun v3 =>
  ypI 3016 0 x0 v3 h2 fun h4 =>
  ygI 3014 x0 h4 fun v5 =>
  ypI 3017 0 x0 v5 h4 fun h6 =>
  ygR 3018 x0 h6 fun v7 =>
  ypR 3019 x0 v7 h6 fun h8 =>
  ygR 3020 x0 h8 fun v9 =>
  ypR 3021 x0 v9 h8 fun h10 =>
  zrV h10
def yb_Cover_ask (C : YC) (R : ZC YS) (d : Nat) (x0 : Option Nat) (x1 : Int) (x2 : Int) (h : YS) : ZR YS :=
  ygI 3010 x0 h fun v1 =>
  zlet v1 fun x3_2 =>
  ygI 3010 x0 h fun v3 =>
  zG (inI (v3 + 1)) <|
  ypI 3010 0 x0 (v3 + 1) h fun h4 =>
  ygR 3004 x0 h4 fun v5 =>
  ygI 3013 x0 h4 fun v6 =>
  yst 0 v5 x3_2 v6 h4 fun h7 =>
  ygR 3006 x0 h7 fun v8 =>
  ygR 3018 x0 h7 fun v9 =>
  ysR v8 x3_2 v9 h7 fun h10 =>
  ygR 3007 x0 h10 fun v11 =>
  ygR 3020 x0 h10 fun v12 =>
  ysR v11 x3_2 v12 h10 fun h13 =>
  ygR 3001 x0 h13 fun v14 =>
  ygI 3012 x0 h13 fun v15 =>
  yst 0 v14 v15 x3_2 h13 fun h16 =>
  ygR 3022 x0 h16 fun v17 =>
  yst 0 v17 x1 x2 h16 fun h18 =>
  ygR 3023 x0 h18 fun v19 =>
  ygI 3012 x0 h18 fun v20 =>
  yst 0 v19 x1 v20 h18 fun h21 =>
  ygR 3024 x0 h21 fun v22 =>
  ygI 3009 x0 h21 fun v23 =>
  yst 0 v22 x1 v23 h21 fun h24 =>
  ygR 3025 x0 h24 fun v25 =>
  ygI 3011 x0 h24 fun v26 =>
  yst 0 v25 x1 v26 h24 fun h27 =>
  ygR 3026 x0 h27 fun v28 =>
  yst 0 v28 x1 x3_2 h27 fun h29 =>
  ygR 3027 x0 h29 fun v30 =>
  yst 2 v30 x1 0 h29 fun h31 =>
  zrV h31
def yb_Cover_turn (C : YC) (R : ZC YS) (d : Nat) (x0 : Option Nat) (x1 : Int) (h : YS) : ZR YS :=
  ygR 3023 x0 h fun v1 =>
  yaI 0 v1 x1 h fun v2 =>
  zlet v2 fun x2_3 =>
  ygR 3026 x0 h fun v4 =>
  yaI 0 v4 x1 h fun v5 =>
  zlet v5 fun x3_6 =>
  ygR 3001 x0 h fun v7 =>
  yst 0 v7 x2_3 (-1) h fun h8 =>
  ygR 3024 x0 h8 fun v9 =>
  yaI 0 v9 x1 h8 fun v10 =>
  ygR 3025 x0 h8 fun v11 =>
  yaI 0 v11 x1 h8 fun v12 =>
  zV (ycv R d [(10, 221)] x0 [.inl v10, .inl v12] h8) fun h13 =>
  ygR 3005 x0 h13 fun v14 =>
  ygR 3003 x0 h13 fun v15 =>
  yaI 0 v15 x2_3 h13 fun v16 =>
  yst 0 v14 x3_6 v16 h13 fun h17 =>
  ygR 3003 x0 h17 fun v18 =>
  yst 0 v18 x2_3 x3_6 h17 fun h19 =>
  ygR 3027 x0 h19 fun v20 =>
  yst 2 v20 x1 1 h19 fun h21 =>
  zrV h21
def yb_Cover_back (C : YC) (R : ZC YS) (d : Nat) (x0 : Option Nat) (x1 : Int) (x2 : Int) (h : YS) : ZR YS :=
  ygI 3011 x0 h fun v1 =>
  if v1 ≤ x2 then
    ypI 3009 0 x0 x1 h fun h2 =>
    zrV h2
  else
  ygI 3011 x0 h fun v3 =>
  zG (inI (v3 - 1)) <|
  ypI 3011 0 x0 (v3 - 1) h fun h4 =>
  ygR 3002 x0 h4 fun v5 =>
  ygR 3008 x0 h4 fun v6 =>
  ygI 3011 x0 h4 fun v7 =>
  yaI 0 v6 v7 h4 fun v8 =>
  yst 0 v5 v8 (-1) h4 fun h9 =>
  R d 221 [.inr (.inr x0), .inl x1, .inl x2] h9
def yb_Machine_init (C : YC) (R : ZC YS) (d : Nat) (x0 : Option Nat) (x1 : Option Nat) (h : YS) : ZR YS :=
  ynull x0 none <|
  ynew 12 2 h fun r2 h3 =>
  ygiv 3600 r2 h3 fun h4 =>
  ypR 3301 x0 r2 h4 fun h5 =>
  yna 1 120001 h5 fun r6 h7 =>
  ypR 3302 x0 r6 h7 fun h8 =>
  yna 1 1024 h8 fun r9 h10 =>
  ypR 3303 x0 r9 h10 fun h11 =>
  yna 8 401 h11 fun r12 h13 =>
  ypR 3304 x0 r12 h13 fun h14 =>
  yna 0 401 h14 fun r15 h16 =>
  ypR 3305 x0 r15 h16 fun h17 =>
  yna 0 401 h17 fun r18 h19 =>
  ypR 3306 x0 r18 h19 fun h20 =>
  yna 0 401 h20 fun r21 h22 =>
  ypR 3307 x0 r21 h22 fun h23 =>
  yna 0 192 h23 fun r24 h25 =>
  ypR 3308 x0 r24 h25 fun h26 =>
  yna 1 256 h26 fun r27 h28 =>
  ypR 3323 x0 r27 h28 fun h29 =>
  yna 0 256 h29 fun r30 h31 =>
  ypR 3324 x0 r30 h31 fun h32 =>
  ypR 3300 x0 x1 h32 fun h33 =>
  zrV h33
def yb_Machine_clear (C : YC) (R : ZC YS) (d : Nat) (x0 : Option Nat) (h : YS) : ZR YS :=
  ypI 3309 0 x0 0 h fun h1 =>
  ypI 3310 0 x0 0 h1 fun h2 =>
  ypI 3319 5 x0 7 h2 fun h3 =>
  zrV h3
def yb_Machine_digits (C : YC) (R : ZC YS) (d : Nat) (x0 : Int) (h : YS) : ZR YS :=
  ynew 23 4 h fun r1 h2 =>
  zV (ycs R d 641 r1 [.inl 11] h2) fun h3 =>
  zlet r1 fun x1_4 =>
  zV (zc R d 17 [.inr (.inr x1_4), .inl x0] h3) fun h5 =>
  zQ (ycv R d [(23, 642)] x1_4 [] h5) fun v7 h6 =>
  zrQ v7 h6
def yb_Machine_begin (C : YC) (R : ZC YS) (d : Nat) (x0 : Option Nat) (x1 : Option Nat) (x2 : Int) (h : YS) : ZR YS :=
  ypR 3320 x0 x1 h fun h1 =>
  ypI 3321 0 x0 x2 h1 fun h2 =>
  ygI 3311 x0 h2 fun v3 =>
  ygI 21301 x1 h2 fun v4 =>
  zG (inI (v3 - v4)) <|
  ypI 3312 0 x0 (v3 - v4) h2 fun h5 =>
  ypI 3313 0 x0 0 h5 fun h6 =>
  ygI 21301 x1 h6 fun v7 =>
  zlet v7 fun x3_8 =>
  R d 643 [.inr (.inr x0), .inr (.inr x1), .inl x3_8] h6
def yb_Machine_push (C : YC) (R : ZC YS) (d : Nat) (x0 : Option Nat) (x1 : Int) (h : YS) : ZR YS :=
  ygI 3311 x0 h fun v1 =>
  ygR 3303 x0 h fun v2 =>
  ylen v2 h fun v3 =>
  if v1 = v3 then
    ygI 3311 x0 h fun v4 =>
    zG (inI (2 * v4)) <|
    yna 1 (2 * v4) h fun r5 h6 =>
    zlet r5 fun x3_7 =>
    ygR 3303 x0 h6 fun v8 =>
    ygI 3311 x0 h6 fun v9 =>
    yac v8 0 x3_7 0 v9 h6 fun h10 =>
    ypR 3303 x0 x3_7 h10 fun h11 =>
    R d 644 [.inr (.inr x0), .inr (.inl x1)] h11
  else
  R d 644 [.inr (.inr x0), .inr (.inl x1)] h
def yb_Machine_go (C : YC) (R : ZC YS) (d : Nat) (x0 : Option Nat) (h : YS) : ZR YS :=
  ygR 3320 x0 h fun v1 =>
  ygR 21300 v1 h fun v2 =>
  zlet v2 fun x1_3 =>
  ygI 3313 x0 h fun v4 =>
  yaI 0 x1_3 v4 h fun v5 =>
  zlet v5 fun x2_6 =>
  ygI 3313 x0 h fun v7 =>
  yaI 0 x1_3 (v7 + 1) h fun v8 =>
  zlet v8 fun x3_9 =>
  ygI 3313 x0 h fun v10 =>
  yaI 0 x1_3 (v10 + 2) h fun v11 =>
  zlet v11 fun x4_12 =>
  ygI 3313 x0 h fun v13 =>
  yaI 0 x1_3 (v13 + 3) h fun v14 =>
  zlet v14 fun x5_15 =>
  ygI 3313 x0 h fun v16 =>
  zG (inI (v16 + 4)) <|
  ypI 3313 0 x0 (v16 + 4) h fun h17 =>
  if x2_6 = 23 then
    ygI 3314 x0 h17 fun v18 =>
    if v18 = 0 then
      zrV h17
    else
    zJ (ycv R d [(11, 228)] x0 [] h17) fun v20 h19 =>
    zlet v20 fun x6_21 =>
    zV (ycv R d [(11, 229)] x0 [] h19) fun h22 =>
    zV (ycv R d [(11, 226)] x0 [.inr (.inl x6_21)] h22) fun h23 =>
    R d 227 [.inr (.inr x0)] h23
  else
  if x2_6 < 12 then
    zJ (ycv R d [(11, 230)] x0 [.inl x2_6, .inl x3_9, .inl x4_12] h17) fun v25 h24 =>
    zV (ycv R d [(11, 226)] x0 [.inr (.inl v25)] h24) fun h26 =>
    R d 227 [.inr (.inr x0)] h26
  else
  if x2_6 < 31 then
    zV (ycv R d [(11, 234)] x0 [.inl x2_6, .inl x3_9, .inl x4_12, .inl x5_15] h17) fun h27 =>
    R d 227 [.inr (.inr x0)] h27
  else
  ygR 3303 x0 h17 fun v28 =>
  ygI 3312 x0 h17 fun v29 =>
  yaI 1 v28 (v29 + x3_9) h17 fun v30 =>
  zI (ycv R d [(11, 270)] x0 [.inl x2_6, .inr (.inl v30), .inl x4_12] h17) fun v32 h31 =>
  if v32 = 0 then
    ypI 3313 0 x0 x5_15 h31 fun h33 =>
    R d 227 [.inr (.inr x0)] h33
  else
  R d 227 [.inr (.inr x0)] h31
def yb_Machine_pop (C : YC) (R : ZC YS) (d : Nat) (x0 : Option Nat) (h : YS) : ZR YS :=
  ygI 3311 x0 h fun v1 =>
  zG (inI (v1 - 1)) <|
  ypI 3311 0 x0 (v1 - 1) h fun h2 =>
  ygR 3303 x0 h2 fun v3 =>
  ygI 3311 x0 h2 fun v4 =>
  yaI 1 v3 v4 h2 fun v5 =>
  zrL v5 h2
def yb_Machine_leaveCall (C : YC) (R : ZC YS) (d : Nat) (x0 : Option Nat) (h : YS) : ZR YS :=
  ygI 3314 x0 h fun v1 =>
  zG (inI (v1 - 1)) <|
  ypI 3314 0 x0 (v1 - 1) h fun h2 =>
  ygI 3312 x0 h2 fun v3 =>
  ypI 3311 0 x0 v3 h2 fun h4 =>
  ygR 3304 x0 h4 fun v5 =>
  ygI 3314 x0 h4 fun v6 =>
  yaR v5 v6 h4 fun v7 =>
  ypR 3320 x0 v7 h4 fun h8 =>
  ygR 3305 x0 h8 fun v9 =>
  ygI 3314 x0 h8 fun v10 =>
  yaI 0 v9 v10 h8 fun v11 =>
  ypI 3313 0 x0 v11 h8 fun h12 =>
  ygR 3306 x0 h12 fun v13 =>
  ygI 3314 x0 h12 fun v14 =>
  yaI 0 v13 v14 h12 fun v15 =>
  ypI 3312 0 x0 v15 h12 fun h16 =>
  ygR 3307 x0 h16 fun v17 =>
  ygI 3314 x0 h16 fun v18 =>
  yaI 0 v17 v18 h16 fun v19 =>
  ypI 3321 0 x0 v19 h16 fun h20 =>
  zrV h20
def yb_Machine_loaded (C : YC) (R : ZC YS) (d : Nat) (x0 : Option Nat) (x1 : Int) (x2 : Int) (x3 : Int) (h : YS) : ZR YS :=
  if x1 = 0 then
    zJ (zc R d 231 [.inl x2] h) fun v2 h1 =>
    zrL v2 h1
  else
  if x1 = 1 then
    zJ (zc R d 232 [.inl 7, .inr (.inl x2)] h) fun v5 h4 =>
    zrL v5 h4
  else
  if x1 = 2 then
    zJ (zc R d 232 [.inl 1, .inr (.inl x2)] h) fun v8 h7 =>
    zrL v8 h7
  else
  if x1 = 3 then
    zJ (zc R d 232 [.inl 4, .inr (.inl (zandL x2 4294967295))] h) fun v11 h10 =>
    zrL v11 h10
  else
  if x1 = 4 then
    zJ (zc R d 232 [.inl 3, .inr (.inl x2)] h) fun v14 h13 =>
    zrL v14 h13
  else
  if x1 = 5 then
    ygI 3319 x0 h fun v16 =>
    zG (inL (v16 + 1)) <|
    ypI 3319 5 x0 (v16 + 1) h fun h17 =>
    if x3 = 1 then
      R d 645 [.inr (.inr x0), .inl x2, .inl 6] h17
    else
    R d 645 [.inr (.inr x0), .inl x2, .inl 5] h17
  else
  if x1 = 6 then
    zJ (zc R d 233 [.inl x2] h) fun v20 h19 =>
    zJ (zc R d 232 [.inl 5, .inr (.inl v20)] h19) fun v22 h21 =>
    zrL v22 h21
  else
  if x1 = 7 then
    zrL 1152921504606846976 h
  else
  if x1 = 8 then
    zJ (zc R d 232 [.inl 8, .inr (.inl x2)] h) fun v26 h25 =>
    zrL v26 h25
  else
  if x1 = 9 then
    ygR 3303 x0 h fun v28 =>
    ygI 3312 x0 h fun v29 =>
    yaI 1 v28 (v29 + x2) h fun v30 =>
    zrL v30 h
  else
  if x1 = 10 then
    ygR 3302 x0 h fun v32 =>
    ygI 3321 x0 h fun v33 =>
    yaI 1 v32 ((v33 + 1) + x2) h fun v34 =>
    zrL v34 h
  else
  ygR 3300 x0 h fun v36 =>
  ygR 14 v36 h fun v37 =>
  yaI 1 v37 x2 h fun v38 =>
  zrL v38 h
def yb_Machine_number (C : YC) (R : ZC YS) (d : Nat) (x0 : Int) (h : YS) : ZR YS :=
  zrL (zandL x0 4294967295) h
def yb_Machine_value (C : YC) (R : ZC YS) (d : Nat) (x0 : Int) (x1 : Int) (h : YS) : ZR YS :=
  zrL (zorL (zshlL x0 60) x1) h
def yb_Machine_firstBits (C : YC) (R : ZC YS) (d : Nat) (x0 : Int) (h : YS) : ZR YS :=
  zrL (zorL (zshlL x0 36) x0) h
def yb_Machine_does (C : YC) (R : ZC YS) (d : Nat) (x0 : Option Nat) (x1 : Int) (x2 : Int) (x3 : Int) (x4 : Int) (h : YS) : ZR YS :=
  if x1 = 12 then
    ygR 3303 x0 h fun v1 =>
    ygI 3312 x0 h fun v2 =>
    zJ (ycv R d [(11, 228)] x0 [] h) fun v4 h3 =>
    yst 1 v1 (v2 + x2) v4 h3 fun h5 =>
    zrV h5
  else
  if x1 = 13 then
    ygR 3300 x0 h fun v7 =>
    ygR 14 v7 h fun v8 =>
    zJ (ycv R d [(11, 228)] x0 [] h) fun v10 h9 =>
    yst 1 v8 x2 v10 h9 fun h11 =>
    zrV h11
  else
  if x1 = 14 then
    ygI 3311 x0 h fun v13 =>
    zG (inI (v13 - 1)) <|
    ypI 3311 0 x0 (v13 - 1) h fun h14 =>
    zrV h14
  else
  if x1 = 15 then
    zV (ycv R d [(11, 235)] x0 [.inl x2, .inl x3] h) fun h16 =>
    zrV h16
  else
  if x1 = 16 then
    zJ (ycv R d [(11, 228)] x0 [] h) fun v19 h18 =>
    zlet v19 fun x5_20 =>
    zJ (ycv R d [(11, 228)] x0 [] h18) fun v22 h21 =>
    zJ (ycv R d [(11, 238)] x0 [.inr (.inl v22), .inr (.inl x5_20)] h21) fun v24 h23 =>
    zJ (ycv R d [(11, 239)] x0 [.inl 1, .inl 1, .inr (.inl v24)] h23) fun v26 h25 =>
    zV (ycv R d [(11, 226)] x0 [.inr (.inl v26)] h25) fun h27 =>
    zrV h27
  else
  if x1 = 17 then
    ygR 3302 x0 h fun v29 =>
    ygR 3303 x0 h fun v30 =>
    ygI 3312 x0 h fun v31 =>
    yaI 1 v30 (v31 + x2) h fun v32 =>
    zI (ycv R d [(11, 240)] x0 [.inr (.inl v32)] h) fun v34 h33 =>
    yaI 1 v29 (v34 + x3) h33 fun v35 =>
    zV (ycv R d [(11, 226)] x0 [.inr (.inl v35)] h33) fun h36 =>
    zrV h36
  else
  if x1 = 18 then
    ygR 3300 x0 h fun v38 =>
    ygR 10 v38 h fun v39 =>
    zQ (ycv R d [(5, 528)] v39 [.inl x2] h) fun v41 h40 =>
    ycc 15 26 v41 h40 <|
    ygI 21303 v41 h40 fun v42 =>
    zlet v42 fun x5_43 =>
    zG (inI (1 + x5_43)) <|
    zV (ycv R d [(11, 236)] x0 [.inl (1 + x5_43)] h40) fun h44 =>
    zI (ycv R d [(11, 237)] x0 [.inl 3, .inl x2, .inl x5_43] h44) fun v46 h45 =>
    zJ (zc R d 232 [.inl 2, .inr (.inl v46)] h45) fun v48 h47 =>
    zV (ycv R d [(11, 226)] x0 [.inr (.inl v48)] h47) fun h49 =>
    zrV h49
  else
  if x1 = 19 then
    zJ (ycv R d [(11, 228)] x0 [] h) fun v52 h51 =>
    zlet v52 fun x5_53 =>
    ygR 3302 x0 h51 fun v54 =>
    ygR 3303 x0 h51 fun v55 =>
    ygI 3311 x0 h51 fun v56 =>
    yaI 1 v55 (v56 - 1) h51 fun v57 =>
    zI (ycv R d [(11, 240)] x0 [.inr (.inl v57)] h51) fun v59 h58 =>
    yst 1 v54 (v59 + x2) x5_53 h58 fun h60 =>
    zrV h60
  else
  if x1 = 20 then
    zJ (ycv R d [(11, 228)] x0 [] h) fun v63 h62 =>
    zlet v63 fun x5_64 =>
    zJ (ycv R d [(11, 228)] x0 [] h62) fun v66 h65 =>
    if x1 = 21 then
      zV (ycv R d [(11, 241)] x0 [.inr (.inl v66), .inr (.inl x5_64), .inl 1] h65) fun h67 =>
      zrV h67
    else
    zV (ycv R d [(11, 241)] x0 [.inr (.inl v66), .inr (.inl x5_64), .inl 0] h65) fun h68 =>
    zrV h68
  else
  if x1 = 21 then
    zJ (ycv R d [(11, 228)] x0 [] h) fun v71 h70 =>
    zlet v71 fun x5_72 =>
    zJ (ycv R d [(11, 228)] x0 [] h70) fun v74 h73 =>
    if x1 = 21 then
      zV (ycv R d [(11, 241)] x0 [.inr (.inl v74), .inr (.inl x5_72), .inl 1] h73) fun h75 =>
      zrV h75
    else
    zV (ycv R d [(11, 241)] x0 [.inr (.inl v74), .inr (.inl x5_72), .inl 0] h73) fun h76 =>
    zrV h76
  else
  if x1 = 22 then
    zJ (ycv R d [(11, 228)] x0 [] h) fun v79 h78 =>
    zlet v79 fun x5_80 =>
    zJ (ycv R d [(11, 228)] x0 [] h78) fun v82 h81 =>
    zJ (ycv R d [(11, 244)] x0 [.inl x2, .inr (.inl v82), .inr (.inl x5_80)] h81) fun v84 h83 =>
    zV (ycv R d [(11, 226)] x0 [.inr (.inl v84)] h83) fun h85 =>
    zrV h85
  else
  if x1 = 23 then
    ygI 3315 x0 h fun v87 =>
    zG (inI (v87 - 3)) <|
    ypI 3315 0 x0 (v87 - 3) h fun h88 =>
    zrV h88
  else
  if x1 = 24 then
    ypI 3313 0 x0 x4 h fun h90 =>
    zrV h90
  else
  if x1 = 25 then
    zJ (ycv R d [(11, 228)] x0 [] h) fun v93 h92 =>
    if (zl2i v93) = 0 then
      ypI 3313 0 x0 x4 h92 fun h94 =>
      zrV h94
    else
    zrV h92
  else
  if x1 = 26 then
    zV (ycv R d [(11, 250)] x0 [] h) fun h96 =>
    zrV h96
  else
  if x1 = 27 then
    zJ (ycv R d [(11, 228)] x0 [] h) fun v99 h98 =>
    zV (ycv R d [(11, 258)] x0 [.inr (.inl v99)] h98) fun h100 =>
    zrV h100
  else
  if x1 = 28 then
    zV (ycv R d [(11, 257)] x0 [.inl x2] h) fun h102 =>
    zrV h102
  else
  if x1 = 29 then
    zV (ycv R d [(11, 269)] x0 [.inl x4] h) fun h104 =>
    zrV h104
  else
  ygI 3315 x0 h fun v106 =>
  zG (inI (v106 - 3)) <|
  ypI 3315 0 x0 (v106 - 3) h fun h107 =>
  zrV h107
def yb_Machine_row (C : YC) (R : ZC YS) (d : Nat) (x0 : Option Nat) (x1 : Int) (x2 : Int) (h : YS) : ZR YS :=
  zG (inI (x1 + 1)) <|
  zV (ycv R d [(11, 236)] x0 [.inl (x1 + 1)] h) fun h1 =>
  zI (ycv R d [(11, 237)] x0 [.inl 0, .inl x1, .inl x1] h1) fun v3 h2 =>
  zlet v3 fun x3_4 =>
  ygI 3311 x0 h2 fun v5 =>
  zG (inI (v5 - x1)) <|
  zlet (v5 - x1) fun x4_6 =>
  zlet (0 : Int) fun x5_7 =>
  R d 646 [.inr (.inr x0), .inl x1, .inl x2, .inl x3_4, .inl x4_6, .inl x5_7] h2
def yb_Machine_take (C : YC) (R : ZC YS) (d : Nat) (x0 : Option Nat) (x1 : Int) (h : YS) : ZR YS :=
  ygI 3309 x0 h fun v1 =>
  zG (inI (v1 + x1)) <|
  if (v1 + x1) ≤ 120000 then
    ygI 3309 x0 h fun v2 =>
    zG (inI (v2 + x1)) <|
    ypI 3309 0 x0 (v2 + x1) h fun h3 =>
    zrV h3
  else
  ygR 3301 x0 h fun v4 =>
  zQ (ycv R d [(12, 279)] v4 [.inl 5] h) fun v6 h5 =>
  ythrow v6 h5
def yb_Machine_lay (C : YC) (R : ZC YS) (d : Nat) (x0 : Option Nat) (x1 : Int) (x2 : Int) (x3 : Int) (h : YS) : ZR YS :=
  ygI 3310 x0 h fun v1 =>
  zlet v1 fun x4_2 =>
  ygR 3302 x0 h fun v3 =>
  yst 1 v3 x4_2 (zorL (zshlL x2 8) x1) h fun h4 =>
  ygI 3310 x0 h4 fun v5 =>
  zG (inI (v5 + (x3 + 1))) <|
  ypI 3310 0 x0 (v5 + (x3 + 1)) h4 fun h6 =>
  zrI x4_2 h6
def yb_Machine_pair (C : YC) (R : ZC YS) (d : Nat) (x0 : Option Nat) (x1 : Int) (x3 : Int) (h : YS) : ZR YS :=
  zV (ycv R d [(11, 236)] x0 [.inl 3] h) fun h1 =>
  zI (ycv R d [(11, 237)] x0 [.inl 0, .inl 2, .inl 2] h1) fun v3 h2 =>
  zlet v3 fun x5_4 =>
  ygR 3302 x0 h2 fun v5 =>
  yst 1 v5 (x5_4 + 1) x1 h2 fun h6 =>
  ygR 3302 x0 h6 fun v7 =>
  yst 1 v7 (x5_4 + 2) x3 h6 fun h8 =>
  zJ (zc R d 232 [.inl 2, .inr (.inl x5_4)] h8) fun v10 h9 =>
  zrL v10 h9
def yb_Machine_with (C : YC) (R : ZC YS) (d : Nat) (x0 : Option Nat) (x1 : Int) (x2 : Int) (x3 : Int) (h : YS) : ZR YS :=
  zV (ycv R d [(11, 236)] x0 [.inl 2] h) fun h1 =>
  zI (ycv R d [(11, 237)] x0 [.inl x1, .inl x2, .inl 1] h1) fun v3 h2 =>
  zlet v3 fun x5_4 =>
  ygR 3302 x0 h2 fun v5 =>
  yst 1 v5 (x5_4 + 1) x3 h2 fun h6 =>
  zJ (zc R d 232 [.inl 2, .inr (.inl x5_4)] h6) fun v8 h7 =>
  zrL v8 h7
def yb_Machine_partsOf (C : YC) (R : ZC YS) (d : Nat) (x0 : Option Nat) (x1 : Int) (h : YS) : ZR YS :=
  zG (inI ((zl2i x1) + 1)) <|
  zrI ((zl2i x1) + 1) h
def yb_Machine_call (C : YC) (R : ZC YS) (d : Nat) (x0 : Option Nat) (x1 : Int) (x3 : Int) (x5 : Int) (h : YS) : ZR YS :=
  zI (zc R d 242 [.inr (.inl x1)] h) fun v2 h1 =>
  if v2 = 3 then
    zJ (ycv R d [(11, 243)] x0 [.inl (zl2i x1), .inr (.inl x3)] h1) fun v4 h3 =>
    zV (ycv R d [(11, 226)] x0 [.inr (.inl v4)] h3) fun h5 =>
    zrV h5
  else
  if v2 = 4 then
    if (zl2i x1) = (-1) then
      zJ (ycv R d [(11, 239)] x0 [.inl 2, .inl 0, .inr (.inl x3)] h1) fun v8 h7 =>
      zV (ycv R d [(11, 226)] x0 [.inr (.inl v8)] h7) fun h9 =>
      zrV h9
    else
    zJ (ycv R d [(11, 239)] x0 [.inl 1, .inl (zl2i x1), .inr (.inl x3)] h1) fun v11 h10 =>
    zV (ycv R d [(11, 226)] x0 [.inr (.inl v11)] h10) fun h12 =>
    zrV h12
  else
  if v2 = 5 then
    zV (ycv R d [(11, 267)] x0 [.inl (zl2i x1), .inr (.inl x3), .inl x5] h1) fun h14 =>
    zrV h14
  else
  if v2 = 6 then
    zJ (ycv R d [(11, 266)] x0 [.inr (.inl x1), .inr (.inl x3)] h1) fun v17 h16 =>
    zV (ycv R d [(11, 226)] x0 [.inr (.inl v17)] h16) fun h18 =>
    zrV h18
  else
  if v2 = 7 then
    zV (ycv R d [(11, 267)] x0 [.inl (zl2i x1), .inr (.inl x3), .inl x5] h1) fun h20 =>
    zrV h20
  else
  if v2 = 8 then
    ygR 3302 x0 h1 fun v22 =>
    zI (ycv R d [(11, 240)] x0 [.inr (.inl x3)] h1) fun v24 h23 =>
    yaI 1 v22 (v24 + (zl2i x1)) h23 fun v25 =>
    zV (ycv R d [(11, 226)] x0 [.inr (.inl v25)] h23) fun h26 =>
    zrV h26
  else
  zV (ycv R d [(11, 267)] x0 [.inl (zl2i x1), .inr (.inl x3), .inl x5] h1) fun h28 =>
  zrV h28
def yb_Machine_tag (C : YC) (R : ZC YS) (d : Nat) (x0 : Int) (h : YS) : ZR YS :=
  zrI (zl2i (zushrL x0 60)) h
def yb_Machine_first (C : YC) (R : ZC YS) (d : Nat) (x0 : Option Nat) (x1 : Int) (x2 : Int) (h : YS) : ZR YS :=
  if x1 < 13 then
    ygR 3302 x0 h fun v1 =>
    zI (ycv R d [(11, 240)] x0 [.inr (.inl x2)] h) fun v3 h2 =>
    yaI 1 v1 v3 h2 fun v4 =>
    ygR 3302 x0 h2 fun v5 =>
    zI (ycv R d [(11, 240)] x0 [.inr (.inl x2)] h2) fun v7 h6 =>
    yaI 1 v5 (v7 + 1) h6 fun v8 =>
    zJ (ycv R d [(11, 244)] x0 [.inl x1, .inr (.inl v4), .inr (.inl v8)] h6) fun v10 h9 =>
    zrL v10 h9
  else
  zlet (zl2i x2) fun x4_11 =>
  if x1 = 13 then
    zG (inL (-x4_11)) <|
    zJ (ycv R d [(11, 255)] x0 [.inr (.inl (-x4_11))] h) fun v13 h12 =>
    zrL v13 h12
  else
  if x1 = 14 then
    zJ (zc R d 511 [.inr (.inl x4_11)] h) fun v16 h15 =>
    zJ (ycv R d [(11, 255)] x0 [.inr (.inl v16)] h15) fun v18 h17 =>
    zrL v18 h17
  else
  if x1 = 15 then
    if x4_11 = 0 then
      zJ (zc R d 253 [.inl 1] h) fun v21 h20 =>
      zrL v21 h20
    else
    zJ (zc R d 253 [.inl 0] h) fun v23 h22 =>
    zrL v23 h22
  else
  if x1 = 16 then
    zI (ycv R d [(11, 247)] x0 [.inr (.inl x2)] h) fun v26 h25 =>
    zJ (zc R d 231 [.inl v26] h25) fun v28 h27 =>
    zrL v28 h27
  else
  if x1 = 17 then
    zrL x2 h
  else
  if x1 = 18 then
    if x4_11 < 0 then
      zJ (ycv R d [(11, 256)] x0 [.inl 4] h) fun v32 h31 =>
      zrL v32 h31
    else
    if x4_11 ≤ 255 then
      zrL x2 h
    else
    zJ (ycv R d [(11, 256)] x0 [.inl 4] h) fun v34 h33 =>
    zrL v34 h33
  else
  if x1 = 19 then
    zI (ycv R d [(11, 260)] x0 [.inl 1] h) fun v37 h36 =>
    zlet v37 fun x5_38 =>
    ygR 3302 x0 h36 fun v39 =>
    yst 1 v39 (x5_38 + 1) x4_11 h36 fun h40 =>
    zJ (zc R d 261 [.inl x5_38] h40) fun v42 h41 =>
    zrL v42 h41
  else
  if x1 = 20 then
    ygR 3302 x0 h fun v44 =>
    zI (ycv R d [(11, 240)] x0 [.inr (.inl x2)] h) fun v46 h45 =>
    yaI 1 v44 v46 h45 fun v47 =>
    ygR 3302 x0 h45 fun v48 =>
    zI (ycv R d [(11, 240)] x0 [.inr (.inl x2)] h45) fun v50 h49 =>
    yaI 1 v48 (v50 + 1) h49 fun v51 =>
    ygR 3302 x0 h49 fun v52 =>
    zI (ycv R d [(11, 240)] x0 [.inr (.inl x2)] h49) fun v54 h53 =>
    yaI 1 v52 (v54 + 2) h53 fun v55 =>
    zJ (ycv R d [(11, 262)] x0 [.inr (.inl v47), .inl (zl2i v51), .inl (zl2i v55)] h53) fun v57 h56 =>
    zrL v57 h56
  else
  if x1 = 21 then
    zJ (ycv R d [(11, 263)] x0 [.inr (.inl x2)] h) fun v60 h59 =>
    zrL v60 h59
  else
  if x1 = 22 then
    zJ (ycv R d [(11, 264)] x0 [.inr (.inl x2)] h) fun v63 h62 =>
    zrL v63 h62
  else
  if x1 = 23 then
    zJ (ycv R d [(11, 265)] x0 [.inl x4_11] h) fun v66 h65 =>
    zrL v66 h65
  else
  if x1 = 24 then
    ygR 3302 x0 h fun v68 =>
    zI (ycv R d [(11, 240)] x0 [.inr (.inl x2)] h) fun v70 h69 =>
    yaI 1 v68 v70 h69 fun v71 =>
    zrL v71 h69
  else
  zV (ycv R d [(11, 250)] x0 [] h) fun h73 =>
  zlet (0 : Int) fun x5_74 =>
  R d 647 [.inr (.inr x0), .inr (.inl x2), .inl x5_74] h73
def yb_Machine_two (C : YC) (R : ZC YS) (d : Nat) (x0 : Option Nat) (x1 : Int) (x2 : Int) (x4 : Int) (h : YS) : ZR YS :=
  zlet (zl2i x2) fun x6_1 =>
  zlet (zl2i x4) fun x7_2 =>
  if x1 = 0 then
    zI (ycv R d [(11, 245)] x0 [.inr (.inl x2), .inr (.inl x4)] h) fun v4 h3 =>
    zJ (zc R d 253 [.inl v4] h3) fun v6 h5 =>
    zrL v6 h5
  else
  if x1 = 1 then
    zI (ycv R d [(11, 245)] x0 [.inr (.inl x2), .inr (.inl x4)] h) fun v9 h8 =>
    if v9 = 0 then
      zJ (zc R d 253 [.inl 1] h8) fun v11 h10 =>
      zrL v11 h10
    else
    zJ (zc R d 253 [.inl 0] h8) fun v13 h12 =>
    zrL v13 h12
  else
  if x1 = 2 then
    zI (ycv R d [(11, 254)] x0 [.inr (.inl x2), .inr (.inl x4)] h) fun v16 h15 =>
    if v16 < 0 then
      zJ (zc R d 253 [.inl 1] h15) fun v18 h17 =>
      zrL v18 h17
    else
    zJ (zc R d 253 [.inl 0] h15) fun v20 h19 =>
    zrL v20 h19
  else
  if x1 = 3 then
    zI (ycv R d [(11, 254)] x0 [.inr (.inl x2), .inr (.inl x4)] h) fun v23 h22 =>
    if v23 ≤ 0 then
      zJ (zc R d 253 [.inl 0] h22) fun v25 h24 =>
      zrL v25 h24
    else
    zJ (zc R d 253 [.inl 1] h22) fun v27 h26 =>
    zrL v27 h26
  else
  if x1 = 4 then
    zI (ycv R d [(11, 254)] x0 [.inr (.inl x2), .inr (.inl x4)] h) fun v30 h29 =>
    if v30 ≤ 0 then
      zJ (zc R d 253 [.inl 1] h29) fun v32 h31 =>
      zrL v32 h31
    else
    zJ (zc R d 253 [.inl 0] h29) fun v34 h33 =>
    zrL v34 h33
  else
  if x1 = 5 then
    zI (ycv R d [(11, 254)] x0 [.inr (.inl x2), .inr (.inl x4)] h) fun v37 h36 =>
    if v37 < 0 then
      zJ (zc R d 253 [.inl 0] h36) fun v39 h38 =>
      zrL v39 h38
    else
    zJ (zc R d 253 [.inl 1] h36) fun v41 h40 =>
    zrL v41 h40
  else
  if x1 = 6 then
    zG (inL (x6_1 + x7_2)) <|
    zJ (ycv R d [(11, 255)] x0 [.inr (.inl (x6_1 + x7_2))] h) fun v44 h43 =>
    zrL v44 h43
  else
  if x1 = 7 then
    zG (inL (x6_1 - x7_2)) <|
    zJ (ycv R d [(11, 255)] x0 [.inr (.inl (x6_1 - x7_2))] h) fun v47 h46 =>
    zrL v47 h46
  else
  if x1 = 8 then
    zG (inL (x6_1 * x7_2)) <|
    zJ (ycv R d [(11, 255)] x0 [.inr (.inl (x6_1 * x7_2))] h) fun v50 h49 =>
    zrL v50 h49
  else
  if x1 = 9 then
    if x7_2 = 0 then
      zJ (ycv R d [(11, 256)] x0 [.inl 3] h) fun v53 h52 =>
      zrL v53 h52
    else
    zJ (zc R d 648 [.inr (.inl x6_1), .inr (.inl x7_2)] h) fun v55 h54 =>
    zJ (ycv R d [(11, 255)] x0 [.inr (.inl v55)] h54) fun v57 h56 =>
    zrL v57 h56
  else
  if x1 = 10 then
    if x7_2 = 0 then
      zJ (ycv R d [(11, 256)] x0 [.inl 3] h) fun v60 h59 =>
      zrL v60 h59
    else
    zJ (zc R d 649 [.inr (.inl x6_1), .inr (.inl x7_2)] h) fun v62 h61 =>
    zJ (zc R d 231 [.inl (zl2i v62)] h61) fun v64 h63 =>
    zrL v64 h63
  else
  if x1 = 11 then
    zJ (ycv R d [(11, 259)] x0 [.inr (.inl x2), .inr (.inl x4)] h) fun v67 h66 =>
    zrL v67 h66
  else
  ygR 3302 x0 h fun v69 =>
  zI (ycv R d [(11, 240)] x0 [.inr (.inl x2)] h) fun v71 h70 =>
  yst 1 v69 v71 x4 h70 fun h72 =>
  zrL 1152921504606846976 h72
def yb_Machine_isEqual (C : YC) (R : ZC YS) (d : Nat) (x0 : Option Nat) (x1 : Int) (x3 : Int) (h : YS) : ZR YS :=
  zlet x1 fun x5_1 =>
  zlet x3 fun x7_2 =>
  zlet (0 : Int) fun x9_3 =>
  R d 650 [.inr (.inr x0), .inr (.inl x5_1), .inr (.inl x7_2), .inl x9_3] h
def yb_Machine_isSameText (C : YC) (R : ZC YS) (d : Nat) (x0 : Option Nat) (x1 : Int) (x3 : Int) (h : YS) : ZR YS :=
  zI (ycv R d [(11, 247)] x0 [.inr (.inl x1)] h) fun v2 h1 =>
  zlet v2 fun x5_3 =>
  zI (ycv R d [(11, 247)] x0 [.inr (.inl x3)] h1) fun v5 h4 =>
  if x5_3 = v5 then
    zlet (1 : Int) fun x6_6 =>
    zlet (0 : Int) fun x7_7 =>
    R d 651 [.inr (.inr x0), .inr (.inl x1), .inr (.inl x3), .inl x5_3, .inl x6_6, .inl x7_7] h4
  else
  zlet (0 : Int) fun x6_8 =>
  zlet (0 : Int) fun x7_9 =>
  R d 651 [.inr (.inr x0), .inr (.inl x1), .inr (.inl x3), .inl x5_3, .inl x6_8, .inl x7_9] h4
def yb_Machine_sizeOf (C : YC) (R : ZC YS) (d : Nat) (x0 : Option Nat) (x1 : Int) (h : YS) : ZR YS :=
  if (zandL x1 1099511627776) = 0 then
    ygR 3300 x0 h fun v1 =>
    ygR 9 v1 h fun v2 =>
    zQ (ycv R d [(5, 528)] v2 [.inl (zl2i x1)] h) fun v4 h3 =>
    ycc 15 77 v4 h3 <|
    zI (ycv R d [(21, 539)] v4 [] h3) fun v6 h5 =>
    zrI v6 h5
  else
  ygR 3302 x0 h fun v7 =>
  yaI 1 v7 (zl2i x1) h fun v8 =>
  zrI (zl2i (zushrL v8 8)) h
def yb_Machine_signOf (C : YC) (R : ZC YS) (d : Nat) (x0 : Option Nat) (x1 : Int) (x3 : Int) (h : YS) : ZR YS :=
  if (zandL x1 1099511627776) = 0 then
    ygR 3300 x0 h fun v1 =>
    ygR 9 v1 h fun v2 =>
    zQ (ycv R d [(5, 528)] v2 [.inl (zl2i x1)] h) fun v4 h3 =>
    ycc 15 77 v4 h3 <|
    zI (ycv R d [(21, 537)] v4 [.inl x3] h3) fun v6 h5 =>
    zrI v6 h5
  else
  ygR 3302 x0 h fun v7 =>
  yaI 1 v7 (((zl2i x1) + 1) + x3) h fun v8 =>
  zrI (zl2i v8) h
def yb_Machine_kindOf (C : YC) (R : ZC YS) (d : Nat) (x0 : Option Nat) (x1 : Int) (h : YS) : ZR YS :=
  ygR 3302 x0 h fun v1 =>
  yaI 1 v1 (zl2i x1) h fun v2 =>
  zrI (zandI (zl2i v2) 255) h
def yb_Machine_step (C : YC) (R : ZC YS) (d : Nat) (x0 : Option Nat) (h : YS) : ZR YS :=
  ygI 3316 x0 h fun v1 =>
  ygI 3317 x0 h fun v2 =>
  if v1 = v2 then
    ygR 3301 x0 h fun v3 =>
    zQ (ycv R d [(12, 279)] v3 [.inl 3] h) fun v5 h4 =>
    ythrow v5 h4
  else
  ygI 3316 x0 h fun v6 =>
  zG (inI (v6 + 1)) <|
  ypI 3316 0 x0 (v6 + 1) h fun h7 =>
  zrV h7
def yb_Machine_indexOf (C : YC) (R : ZC YS) (d : Nat) (x0 : Option Nat) (x1 : Int) (h : YS) : ZR YS :=
  zI (zc R d 242 [.inr (.inl x1)] h) fun v2 h1 =>
  if v2 = 1 then
    zrI (zl2i x1) h1
  else
  ygR 3302 x0 h1 fun v3 =>
  yaI 1 v3 (zl2i x1) h1 fun v4 =>
  zrI (zl2i (zushrL v4 8)) h1
def yb_Machine_grow (C : YC) (R : ZC YS) (d : Nat) (x0 : Option Nat) (h : YS) : ZR YS :=
  ygR 3323 x0 h fun v1 =>
  ylen v1 h fun v2 =>
  zG (inI (2 * v2)) <|
  yna 1 (2 * v2) h fun r3 h4 =>
  zlet r3 fun x1_5 =>
  ygR 3323 x0 h4 fun v6 =>
  ylen v6 h4 fun v7 =>
  zG (inI (2 * v7)) <|
  yna 0 (2 * v7) h4 fun r8 h9 =>
  zlet r8 fun x2_10 =>
  ygR 3323 x0 h9 fun v11 =>
  ygR 3323 x0 h9 fun v12 =>
  ylen v12 h9 fun v13 =>
  yac v11 0 x1_5 0 v13 h9 fun h14 =>
  ygR 3324 x0 h14 fun v15 =>
  ygR 3323 x0 h14 fun v16 =>
  ylen v16 h14 fun v17 =>
  yac v15 0 x2_10 0 v17 h14 fun h18 =>
  ypR 3323 x0 x1_5 h18 fun h19 =>
  ypR 3324 x0 x2_10 h19 fun h20 =>
  zrV h20
def yb_Machine_truth (C : YC) (R : ZC YS) (d : Nat) (x0 : Int) (h : YS) : ZR YS :=
  if x0 = 0 then
    zJ (zc R d 232 [.inl 1, .inr (.inl 0)] h) fun v2 h1 =>
    zrL v2 h1
  else
  zJ (zc R d 232 [.inl 1, .inr (.inl 1)] h) fun v4 h3 =>
  zrL v4 h3
def yb_Machine_compared (C : YC) (R : ZC YS) (d : Nat) (x0 : Option Nat) (x1 : Int) (x3 : Int) (h : YS) : ZR YS :=
  zI (zc R d 242 [.inr (.inl x1)] h) fun v2 h1 =>
  if v2 = 0 then
    if (zl2i x1) < (zl2i x3) then
      zrI (-1) h1
    else
    if (zl2i x1) ≤ (zl2i x3) then
      zrI 0 h1
    else
    zrI 1 h1
  else
  zI (ycv R d [(11, 247)] x0 [.inr (.inl x1)] h1) fun v4 h3 =>
  zI (ycv R d [(11, 247)] x0 [.inr (.inl x3)] h3) fun v6 h5 =>
  zI (zc R d 547 [.inl v4, .inl v6] h5) fun v8 h7 =>
  zlet v8 fun x5_9 =>
  zlet (0 : Int) fun x6_10 =>
  R d 652 [.inr (.inr x0), .inr (.inl x1), .inr (.inl x3), .inl x5_9, .inl x6_10] h7
def yb_Machine_within (C : YC) (R : ZC YS) (d : Nat) (x0 : Option Nat) (x1 : Int) (h : YS) : ZR YS :=
  if x1 < (-2147483648) then
    zJ (ycv R d [(11, 256)] x0 [.inl 2] h) fun v2 h1 =>
    zrL v2 h1
  else
  if x1 ≤ 2147483647 then
    zJ (zc R d 231 [.inl (zl2i x1)] h) fun v4 h3 =>
    zrL v4 h3
  else
  zJ (ycv R d [(11, 256)] x0 [.inl 2] h) fun v6 h5 =>
  zrL v6 h5
def yb_Machine_no (C : YC) (R : ZC YS) (d : Nat) (x0 : Option Nat) (x1 : Int) (h : YS) : ZR YS :=
  zV (ycv R d [(11, 257)] x0 [.inl x1] h) fun h1 =>
  ygI 3311 x0 h1 fun v2 =>
  zG (inI (v2 - 1)) <|
  ypI 3311 0 x0 (v2 - 1) h1 fun h3 =>
  ygR 3303 x0 h3 fun v4 =>
  ygI 3311 x0 h3 fun v5 =>
  yaI 1 v4 v5 h3 fun v6 =>
  zrL v6 h3
def yb_Machine_raiseFirst (C : YC) (R : ZC YS) (d : Nat) (x0 : Option Nat) (x1 : Int) (h : YS) : ZR YS :=
  zJ (zc R d 233 [.inl x1] h) fun v2 h1 =>
  zJ (zc R d 232 [.inl 5, .inr (.inl v2)] h1) fun v4 h3 =>
  zV (ycv R d [(11, 258)] x0 [.inr (.inl v4)] h3) fun h5 =>
  zrV h5
def yb_Machine_raise (C : YC) (R : ZC YS) (d : Nat) (x0 : Option Nat) (x1 : Int) (h : YS) : ZR YS :=
  ygI 3315 x0 h fun v1 =>
  if v1 = 0 then
    ypI 3322 5 x0 x1 h fun h2 =>
    ygR 3301 x0 h2 fun v3 =>
    zQ (ycv R d [(12, 279)] v3 [.inl 2] h2) fun v5 h4 =>
    ythrow v5 h4
  else
  ygI 3315 x0 h fun v6 =>
  zG (inI (v6 - 3)) <|
  ypI 3315 0 x0 (v6 - 3) h fun h7 =>
  R d 653 [.inr (.inr x0), .inr (.inl x1)] h7
def yb_Machine_joined (C : YC) (R : ZC YS) (d : Nat) (x0 : Option Nat) (x1 : Int) (x3 : Int) (h : YS) : ZR YS :=
  zI (ycv R d [(11, 247)] x0 [.inr (.inl x1)] h) fun v2 h1 =>
  zlet v2 fun x5_3 =>
  zI (ycv R d [(11, 247)] x0 [.inr (.inl x3)] h1) fun v5 h4 =>
  zlet v5 fun x6_6 =>
  zG (inI (x5_3 + x6_6)) <|
  if (x5_3 + x6_6) ≤ 200 then
    zI (ycv R d [(11, 260)] x0 [.inl (x5_3 + x6_6)] h4) fun v8 h7 =>
    zlet v8 fun x7_9 =>
    zlet (0 : Int) fun x8_10 =>
    R d 654 [.inr (.inr x0), .inr (.inl x1), .inr (.inl x3), .inl x5_3, .inl x6_6, .inl x7_9, .inl x8_10] h7
  else
  zJ (ycv R d [(11, 256)] x0 [.inl 5] h4) fun v12 h11 =>
  zrL v12 h11
def yb_Machine_text (C : YC) (R : ZC YS) (d : Nat) (x0 : Option Nat) (x1 : Int) (h : YS) : ZR YS :=
  zG (inI (1 + x1)) <|
  zV (ycv R d [(11, 236)] x0 [.inl (1 + x1)] h) fun h1 =>
  zI (ycv R d [(11, 237)] x0 [.inl 6, .inl x1, .inl x1] h1) fun v3 h2 =>
  zrI v3 h2
def yb_Machine_textAt (C : YC) (R : ZC YS) (d : Nat) (x0 : Int) (h : YS) : ZR YS :=
  zJ (zc R d 232 [.inl 7, .inr (.inl (zorL 1099511627776 x0))] h) fun v2 h1 =>
  zrL v2 h1
def yb_Machine_piece (C : YC) (R : ZC YS) (d : Nat) (x0 : Option Nat) (x1 : Int) (x3 : Int) (x4 : Int) (h : YS) : ZR YS :=
  if x3 < 0 then
    R d 655 [.inr (.inr x0), .inr (.inl x1), .inl x3, .inl x4, .inl 0] h
  else
  if x4 < 0 then
    R d 655 [.inr (.inr x0), .inr (.inl x1), .inl x3, .inl x4, .inl 0] h
  else
  zI (ycv R d [(11, 247)] x0 [.inr (.inl x1)] h) fun v2 h1 =>
  if x3 ≤ v2 then
    zI (ycv R d [(11, 247)] x0 [.inr (.inl x1)] h1) fun v4 h3 =>
    zG (inI (v4 - x3)) <|
    if x4 ≤ (v4 - x3) then
      R d 655 [.inr (.inr x0), .inr (.inl x1), .inl x3, .inl x4, .inl 1] h3
    else
    R d 655 [.inr (.inr x0), .inr (.inl x1), .inl x3, .inl x4, .inl 0] h3
  else
  R d 655 [.inr (.inr x0), .inr (.inl x1), .inl x3, .inl x4, .inl 0] h1
def yb_Machine_exploded (C : YC) (R : ZC YS) (d : Nat) (x0 : Option Nat) (x1 : Int) (h : YS) : ZR YS :=
  zJ (zc R d 232 [.inl 1, .inr (.inl 0)] h) fun v2 h1 =>
  zlet v2 fun x3_3 =>
  zI (ycv R d [(11, 247)] x0 [.inr (.inl x1)] h1) fun v5 h4 =>
  zG (inI (v5 - 1)) <|
  zlet (v5 - 1) fun x5_6 =>
  R d 656 [.inr (.inr x0), .inr (.inl x1), .inr (.inl x3_3), .inl x5_6] h4
def yb_Machine_imploded (C : YC) (R : ZC YS) (d : Nat) (x0 : Option Nat) (x1 : Int) (h : YS) : ZR YS :=
  zlet (0 : Int) fun x3_1 =>
  zlet x1 fun x4_2 =>
  R d 657 [.inr (.inr x0), .inr (.inl x1), .inl x3_1, .inr (.inl x4_2)] h
def yb_Machine_digitsOf (C : YC) (R : ZC YS) (d : Nat) (x0 : Option Nat) (x1 : Int) (h : YS) : ZR YS :=
  zJ (zc R d 511 [.inr (.inl x1)] h) fun v2 h1 =>
  zlet v2 fun x2_3 =>
  zlet (1 : Int) fun x4_4 =>
  zlet x2_3 fun x5_5 =>
  R d 658 [.inr (.inr x0), .inl x1, .inr (.inl x2_3), .inl x4_4, .inr (.inl x5_5)] h1
def yb_Machine_packetOf (C : YC) (R : ZC YS) (d : Nat) (x0 : Option Nat) (x1 : Int) (x3 : Int) (h : YS) : ZR YS :=
  zV (ycv R d [(11, 236)] x0 [.inl 2] h) fun h1 =>
  ygI 3310 x0 h1 fun v2 =>
  zlet v2 fun x5_3 =>
  ygR 3302 x0 h1 fun v4 =>
  yst 1 v4 x5_3 (zorL (zshlL (zandL x1 72057594037927935) 8) 5) h1 fun h5 =>
  ygR 3302 x0 h5 fun v6 =>
  yst 1 v6 (x5_3 + 1) x3 h5 fun h7 =>
  ygI 3310 x0 h7 fun v8 =>
  zG (inI (v8 + 2)) <|
  ypI 3310 0 x0 (v8 + 2) h7 fun h9 =>
  zJ (zc R d 232 [.inl 2, .inr (.inl x5_3)] h9) fun v11 h10 =>
  zrL v11 h10
def yb_Machine_apply (C : YC) (R : ZC YS) (d : Nat) (x0 : Option Nat) (x1 : Int) (x2 : Int) (x4 : Int) (h : YS) : ZR YS :=
  zV (ycv R d [(11, 250)] x0 [] h) fun h1 =>
  ygR 3302 x0 h1 fun v2 =>
  yaI 1 v2 x1 h1 fun v3 =>
  if (zandL v3 255) = 4 then
    R d 659 [.inr (.inr x0), .inl x1, .inr (.inl x2), .inl x4, .inl 1] h1
  else
  R d 659 [.inr (.inr x0), .inl x1, .inr (.inl x2), .inl x4, .inl 0] h1
def yb_Machine_enter (C : YC) (R : ZC YS) (d : Nat) (x0 : Option Nat) (x1 : Int) (x2 : Int) (x3 : Int) (h : YS) : ZR YS :=
  ygR 3300 x0 h fun v1 =>
  ygR 10 v1 h fun v2 =>
  zQ (ycv R d [(5, 528)] v2 [.inl x1] h) fun v4 h3 =>
  ycc 15 26 v4 h3 <|
  zlet v4 fun x4_5 =>
  if x3 = 0 then
    ygI 3314 x0 h3 fun v6 =>
    if v6 = 400 then
      ygR 3301 x0 h3 fun v7 =>
      zQ (ycv R d [(12, 279)] v7 [.inl 4] h3) fun v9 h8 =>
      ythrow v9 h8
    else
    ygR 3304 x0 h3 fun v10 =>
    ygI 3314 x0 h3 fun v11 =>
    ygR 3320 x0 h3 fun v12 =>
    ysR v10 v11 v12 h3 fun h13 =>
    ygR 3305 x0 h13 fun v14 =>
    ygI 3314 x0 h13 fun v15 =>
    ygI 3313 x0 h13 fun v16 =>
    yst 0 v14 v15 v16 h13 fun h17 =>
    ygR 3306 x0 h17 fun v18 =>
    ygI 3314 x0 h17 fun v19 =>
    ygI 3312 x0 h17 fun v20 =>
    yst 0 v18 v19 v20 h17 fun h21 =>
    ygR 3307 x0 h21 fun v22 =>
    ygI 3314 x0 h21 fun v23 =>
    ygI 3321 x0 h21 fun v24 =>
    yst 0 v22 v23 v24 h21 fun h25 =>
    ygI 3314 x0 h25 fun v26 =>
    zG (inI (v26 + 1)) <|
    ypI 3314 0 x0 (v26 + 1) h25 fun h27 =>
    ygI 3318 x0 h27 fun v28 =>
    ygI 3314 x0 h27 fun v29 =>
    zI (zc R d 660 [.inl v28, .inl v29] h27) fun v31 h30 =>
    ypI 3318 0 x0 v31 h30 fun h32 =>
    zV (ycv R d [(11, 225)] x0 [.inr (.inr x4_5), .inl x2] h32) fun h33 =>
    zrV h33
  else
  zlet (0 : Int) fun x5_34 =>
  R d 661 [.inr (.inr x0), .inl x2, .inr (.inr x4_5), .inl x5_34] h3
def yb_Machine_handle (C : YC) (R : ZC YS) (d : Nat) (x0 : Option Nat) (x1 : Int) (h : YS) : ZR YS :=
  ygI 3315 x0 h fun v1 =>
  ygR 3308 x0 h fun v2 =>
  ylen v2 h fun v3 =>
  zG (inI (v1 + 3)) <|
  if (v1 + 3) ≤ v3 then
    R d 662 [.inr (.inr x0), .inl x1] h
  else
  ygR 3308 x0 h fun v4 =>
  ylen v4 h fun v5 =>
  zG (inI (2 * v5)) <|
  yna 0 (2 * v5) h fun r6 h7 =>
  zlet r6 fun x2_8 =>
  ygR 3308 x0 h7 fun v9 =>
  ygI 3315 x0 h7 fun v10 =>
  yac v9 0 x2_8 0 v10 h7 fun h11 =>
  ypR 3308 x0 x2_8 h11 fun h12 =>
  R d 662 [.inr (.inr x0), .inl x1] h12
def yb_Machine_isSo (C : YC) (R : ZC YS) (d : Nat) (x0 : Option Nat) (x1 : Int) (x2 : Int) (x4 : Int) (h : YS) : ZR YS :=
  if x1 = 31 then
    if (zl2i x2) = x4 then
      yrN 1 1 h
    else
    yrN 1 0 h
  else
  if x1 = 32 then
    zJ (zc R d 232 [.inl 7, .inr (.inl x4)] h) fun v3 h2 =>
    zI (ycv R d [(11, 246)] x0 [.inr (.inl x2), .inr (.inl v3)] h2) fun v5 h4 =>
    yrN 1 v5 h4
  else
  if x1 = 33 then
    zI (zc R d 242 [.inr (.inl x2)] h) fun v8 h7 =>
    if v8 = 1 then
      if (zl2i x2) = x4 then
        yrN 1 1 h7
      else
      yrN 1 0 h7
    else
    yrN 1 0 h7
  else
  if x1 = 34 then
    zI (zc R d 242 [.inr (.inl x2)] h) fun v11 h10 =>
    if v11 = 2 then
      zI (ycv R d [(11, 251)] x0 [.inr (.inl x2)] h10) fun v13 h12 =>
      if v13 = x4 then
        yrN 1 1 h12
      else
      yrN 1 0 h12
    else
    yrN 1 0 h10
  else
  zJ (ycv R d [(11, 271)] x0 [.inr (.inl x2)] h) fun v16 h15 =>
  zJ (ycv R d [(11, 228)] x0 [] h15) fun v18 h17 =>
  if (zshlL (zxorL v16 v18) 28) = 0 then
    yrN 1 1 h17
  else
  yrN 1 0 h17
def yb_Machine_exceptionOf (C : YC) (R : ZC YS) (d : Nat) (x0 : Option Nat) (x1 : Int) (h : YS) : ZR YS :=
  zI (zc R d 242 [.inr (.inl x1)] h) fun v2 h1 =>
  if v2 = 2 then
    ygR 3302 x0 h1 fun v3 =>
    yaI 1 v3 (zl2i x1) h1 fun v4 =>
    zJ (zc R d 232 [.inl 6, .inr (.inl (zushrL v4 8))] h1) fun v6 h5 =>
    zrL v6 h5
  else
  zrL x1 h1
def yb_Machine_nameOf (C : YC) (R : ZC YS) (d : Nat) (x0 : Option Nat) (x1 : Int) (h : YS) : ZR YS :=
  zJ (ycv R d [(11, 271)] x0 [.inr (.inl x1)] h) fun v2 h1 =>
  zrI (zl2i (zandL (zushrL v2 36) 1048575)) h1
def yb_Machine_hasArgument (C : YC) (R : ZC YS) (d : Nat) (x0 : Option Nat) (x1 : Int) (h : YS) : ZR YS :=
  zI (zc R d 242 [.inr (.inl x1)] h) fun v2 h1 =>
  if v2 = 2 then
    yrN 1 1 h1
  else
  yrN 1 0 h1
def yb_Machine_cell (C : YC) (R : ZC YS) (d : Nat) (x0 : Option Nat) (x1 : Int) (h : YS) : ZR YS :=
  ygR 3302 x0 h fun v1 =>
  yaI 1 v1 x1 h fun v2 =>
  zrL v2 h
def yb_Machine_numberOf (C : YC) (R : ZC YS) (d : Nat) (x0 : Int) (h : YS) : ZR YS :=
  zrI (zl2i x0) h
def yb_Machine_isNullary (C : YC) (R : ZC YS) (d : Nat) (x0 : Option Nat) (x1 : Int) (h : YS) : ZR YS :=
  zI (zc R d 242 [.inr (.inl x1)] h) fun v2 h1 =>
  if v2 = 1 then
    yrN 1 1 h1
  else
  yrN 1 0 h1
def yb_Machine_run (C : YC) (R : ZC YS) (d : Nat) (x0 : Option Nat) (x1 : Option Nat) (x2 : Int) (h : YS) : ZR YS :=
  ypI 3317 0 x0 x2 h fun h1 =>
  ypI 3316 0 x0 0 h1 fun h2 =>
  ypI 3318 0 x0 0 h2 fun h3 =>
  ypI 3311 0 x0 0 h3 fun h4 =>
  ypI 3314 0 x0 0 h4 fun h5 =>
  ypI 3315 0 x0 0 h5 fun h6 =>
  zV (ycv R d [(11, 225)] x0 [.inr (.inr x1), .inl (-1)] h6) fun h7 =>
  yVh (ycv R d [(11, 227)] x0 [] h7) (fun h9 =>
    ygR 3301 x0 h9 fun v10 =>
    ygI 3601 v10 h9 fun v11 =>
    zrI v11 h9
  ) fun h8 =>
  zrI 0 h8
def yb_Ends_by (C : YC) (R : ZC YS) (d : Nat) (x0 : Option Nat) (x1 : Int) (h : YS) : ZR YS :=
  ypI 3601 0 x0 x1 h fun h1 =>
  ygR 3600 x0 h1 fun v2 =>
  zrQ v2 h1
def yb_Teller_init (C : YC) (R : ZC YS) (d : Nat) (x0 : Option Nat) (x1 : Option Nat) (x2 : Option Nat) (h : YS) : ZR YS :=
  ynull x0 none <|
  yna 4 300 h fun r2 h3 =>
  ypR 3902 x0 r2 h3 fun h4 =>
  yna 0 1000 h4 fun r5 h6 =>
  ypR 3904 x0 r5 h6 fun h7 =>
  ypR 3900 x0 x1 h7 fun h8 =>
  ypR 3901 x0 x2 h8 fun h9 =>
  zrV h9
def yb_Teller_begin (C : YC) (R : ZC YS) (d : Nat) (x0 : Option Nat) (h : YS) : ZR YS :=
  ypI 3903 0 x0 0 h fun h1 =>
  ypI 3906 0 x0 0 h1 fun h2 =>
  ypR 3905 x0 none h2 fun h3 =>
  zrV h3
def yb_Teller_packet (C : YC) (R : ZC YS) (d : Nat) (x0 : Option Nat) (x1 : Int) (x3 : Int) (x4 : Int) (h : YS) : ZR YS :=
  ygR 3901 x0 h fun v1 =>
  zI (ycv R d [(11, 272)] v1 [.inr (.inl x1)] h) fun v3 h2 =>
  zlet v3 fun x5_4 =>
  ygR 3901 x0 h2 fun v5 =>
  zI (ycv R d [(11, 273)] v5 [.inr (.inl x1)] h2) fun v7 h6 =>
  if v7 = 0 then
    ygR 3901 x0 h6 fun v8 =>
    ygR 3300 v8 h6 fun v9 =>
    ygR 12 v9 h6 fun v10 =>
    zQ (ycv R d [(5, 528)] v10 [.inl x5_4] h6) fun v12 h11 =>
    ycc 17 36 v12 h11 <|
    zV (ycv R d [(13, 283)] x0 [.inr (.inr v12)] h11) fun h13 =>
    zrV h13
  else
  ygR 3901 x0 h6 fun v14 =>
  ygR 3300 v14 h6 fun v15 =>
  ygR 12 v15 h6 fun v16 =>
  zQ (ycv R d [(5, 528)] v16 [.inl x5_4] h6) fun v18 h17 =>
  ycc 17 36 v18 h17 <|
  ygR 3901 x0 h17 fun v19 =>
  ygR 3901 x0 h17 fun v20 =>
  zI (ycv R d [(11, 240)] v20 [.inr (.inl x1)] h17) fun v22 h21 =>
  zJ (ycv R d [(11, 274)] v19 [.inl v22] h21) fun v24 h23 =>
  ygR 3900 x0 h23 fun v25 =>
  ygR 3901 x0 h23 fun v26 =>
  ygR 3300 v26 h23 fun v27 =>
  ygR 13 v27 h23 fun v28 =>
  zQ (ycv R d [(5, 528)] v28 [.inl x5_4] h23) fun v30 h29 =>
  ycc 17 280 v30 h29 <|
  zI (ycv R d [(4, 73)] v25 [.inr (.inr v30), .inr (.inr none)] h29) fun v32 h31 =>
  zV (ycv R d [(13, 286)] x0 [.inr (.inr v18), .inr (.inl v24), .inl v32, .inl x3, .inl x4] h31) fun h33 =>
  zrV h33
def yb_Teller_say (C : YC) (R : ZC YS) (d : Nat) (x0 : Option Nat) (x1 : Option Nat) (h : YS) : ZR YS :=
  zlet (0 : Int) fun x2_1 =>
  R d 663 [.inr (.inr x0), .inr (.inr x1), .inl x2_1] h
def yb_Teller_say_2 (C : YC) (R : ZC YS) (d : Nat) (x0 : Option Nat) (x1 : Int) (h : YS) : ZR YS :=
  zI (ycv R d [(13, 285)] x0 [] h) fun v2 h1 =>
  if v2 = 0 then
    ygR 3902 x0 h1 fun v3 =>
    ygI 3903 x0 h1 fun v4 =>
    yst 4 v3 v4 x1 h1 fun h5 =>
    ygI 3903 x0 h5 fun v6 =>
    zG (inI (v6 + 1)) <|
    ypI 3903 0 x0 (v6 + 1) h5 fun h7 =>
    zrV h7
  else
  zrV h1
def yb_Teller_isFull (C : YC) (R : ZC YS) (d : Nat) (x0 : Option Nat) (h : YS) : ZR YS :=
  ygI 3903 x0 h fun v1 =>
  if v1 = 300 then
    yrN 1 1 h
  else
  yrN 1 0 h
def yb_Teller_made (C : YC) (R : ZC YS) (d : Nat) (x0 : Option Nat) (x1 : Option Nat) (x2 : Int) (x4 : Int) (x5 : Int) (x6 : Int) (h : YS) : ZR YS :=
  if x5 = 0 then
    R d 664 [.inr (.inr x0), .inr (.inr x1), .inr (.inl x2), .inl x4, .inl x5, .inl x6] h
  else
  zV (ycv R d [(13, 283)] x0 [.inr (.inr (some (C.1 155)))] h) fun h1 =>
  R d 664 [.inr (.inr x0), .inr (.inr x1), .inr (.inl x2), .inl x4, .inl x5, .inl x6] h1
def yb_Teller_value (C : YC) (R : ZC YS) (d : Nat) (x0 : Option Nat) (x1 : Int) (x3 : Int) (x4 : Int) (x5 : Int) (h : YS) : ZR YS :=
  ygR 3900 x0 h fun v1 =>
  zI (ycv R d [(4, 56)] v1 [.inl x3] h) fun v3 h2 =>
  zlet v3 fun x6_4 =>
  zI (ycv R d [(13, 285)] x0 [] h2) fun v6 h5 =>
  if v6 = 0 then
    if x5 ≤ 6 then
      ygR 3900 x0 h5 fun v7 =>
      zI (ycv R d [(4, 57)] v7 [.inl x6_4] h5) fun v9 h8 =>
      if v9 = 4 then
        zV (ycv R d [(13, 283)] x0 [.inr (.inr (some (C.1 158)))] h8) fun h10 =>
        zrV h10
      else
      ygR 3900 x0 h8 fun v11 =>
      zI (ycv R d [(4, 57)] v11 [.inl x6_4] h8) fun v13 h12 =>
      if v13 = 2 then
        zV (ycv R d [(13, 288)] x0 [.inr (.inl x1), .inl x6_4, .inl x5] h12) fun h14 =>
        zrV h14
      else
      ygR 3900 x0 h12 fun v15 =>
      zI (ycv R d [(4, 57)] v15 [.inl x6_4] h12) fun v17 h16 =>
      if v17 = 3 then
        zV (ycv R d [(13, 292)] x0 [.inr (.inl x1), .inl x6_4, .inl x4, .inl x5] h16) fun h18 =>
        zrV h18
      else
      zV (ycv R d [(13, 283)] x0 [.inr (.inr (some (C.1 157)))] h16) fun h19 =>
      zrV h19
    else
    zV (ycv R d [(13, 283)] x0 [.inr (.inr (some (C.1 157)))] h5) fun h20 =>
    zrV h20
  else
  zrV h5
def yb_Teller_row (C : YC) (R : ZC YS) (d : Nat) (x0 : Option Nat) (x1 : Int) (x3 : Int) (x4 : Int) (h : YS) : ZR YS :=
  ygR 3900 x0 h fun v1 =>
  zI (ycv R d [(4, 60)] v1 [.inl x3] h) fun v3 h2 =>
  zlet v3 fun x5_4 =>
  if x5_4 = 0 then
    R d 665 [.inr (.inr x0), .inr (.inl x1), .inl x3, .inl x4, .inl x5_4, .inl 1] h2
  else
  zI (ycv R d [(13, 289)] x0 [.inl x3] h2) fun v6 h5 =>
  if v6 = 0 then
    R d 665 [.inr (.inr x0), .inr (.inl x1), .inl x3, .inl x4, .inl x5_4, .inl 0] h5
  else
  R d 665 [.inr (.inr x0), .inr (.inl x1), .inl x3, .inl x4, .inl x5_4, .inl 1] h5
def yb_Teller_isTuple (C : YC) (R : ZC YS) (d : Nat) (x0 : Option Nat) (x1 : Int) (h : YS) : ZR YS :=
  ygR 3900 x0 h fun v1 =>
  zI (ycv R d [(4, 57)] v1 [.inl x1] h) fun v3 h2 =>
  if v3 = 2 then
    ygR 3900 x0 h2 fun v4 =>
    zI (ycv R d [(4, 60)] v4 [.inl x1] h2) fun v6 h5 =>
    if v6 ≤ 1 then
      yrN 1 0 h5
    else
    zI (ycv R d [(13, 290)] x0 [.inl x1] h5) fun v8 h7 =>
    if v8 = 0 then
      yrN 1 0 h7
    else
    yrN 1 1 h7
  else
  yrN 1 0 h2
def yb_Teller_isNumbered (C : YC) (R : ZC YS) (d : Nat) (x0 : Option Nat) (x1 : Int) (h : YS) : ZR YS :=
  zlet (1 : Int) fun x2_1 =>
  zlet (0 : Int) fun x3_2 =>
  R d 666 [.inr (.inr x0), .inl x1, .inl x2_1, .inl x3_2] h
def yb_Teller_isNumber (C : YC) (R : ZC YS) (d : Nat) (x0 : Option Nat) (x1 : Int) (h : YS) : ZR YS :=
  zlet (0 : Int) fun x2_1 =>
  zlet (0 : Int) fun x3_2 =>
  R d 667 [.inr (.inr x0), .inl x1, .inl x2_1, .inl x3_2] h
def yb_Teller_named (C : YC) (R : ZC YS) (d : Nat) (x0 : Option Nat) (x1 : Int) (x3 : Int) (x4 : Int) (x5 : Int) (h : YS) : ZR YS :=
  ygR 3900 x0 h fun v1 =>
  zI (ycv R d [(4, 59)] v1 [.inl x3] h) fun v3 h2 =>
  zlet v3 fun x6_4 =>
  if x6_4 = 0 then
    zI (zc R d 275 [.inr (.inl x1)] h2) fun v6 h5 =>
    zV (ycv R d [(13, 293)] x0 [.inl v6] h5) fun h7 =>
    zrV h7
  else
  if x6_4 = 1 then
    zV (ycv R d [(13, 283)] x0 [.inr (.inr (some (C.1 164)))] h2) fun h8 =>
    zI (zc R d 275 [.inr (.inl x1)] h8) fun v10 h9 =>
    zV (ycv R d [(13, 294)] x0 [.inl v10] h9) fun h11 =>
    zV (ycv R d [(13, 283)] x0 [.inr (.inr (some (C.1 169)))] h11) fun h12 =>
    zrV h12
  else
  if x6_4 = 2 then
    zV (ycv R d [(13, 283)] x0 [.inr (.inr (some (C.1 169)))] h2) fun h13 =>
    zlet (0 : Int) fun x7_14 =>
    R d 668 [.inr (.inr x0), .inr (.inl x1), .inl x7_14] h13
  else
  if x6_4 = 4 then
    zV (ycv R d [(13, 282)] x0 [.inr (.inl x1), .inl x4, .inl x5] h2) fun h15 =>
    zrV h15
  else
  if x6_4 = 5 then
    ygR 3900 x0 h2 fun v16 =>
    zI (ycv R d [(4, 62)] v16 [.inl x3, .inl 0] h2) fun v18 h17 =>
    zV (ycv R d [(13, 296)] x0 [.inr (.inl x1), .inl v18, .inl x5] h17) fun h19 =>
    zrV h19
  else
  if x6_4 = 6 then
    ygR 3901 x0 h2 fun v20 =>
    ygR 3901 x0 h2 fun v21 =>
    zI (ycv R d [(11, 240)] v21 [.inr (.inl x1)] h2) fun v23 h22 =>
    zJ (ycv R d [(11, 274)] v20 [.inl v23] h22) fun v25 h24 =>
    ygR 3900 x0 h24 fun v26 =>
    zI (ycv R d [(4, 62)] v26 [.inl x3, .inl 0] h24) fun v28 h27 =>
    zV (ycv R d [(13, 286)] x0 [.inr (.inr (some (C.1 172))), .inr (.inl v25), .inl v28, .inl x4, .inl x5] h27) fun h29 =>
    zrV h29
  else
  ygR 3900 x0 h2 fun v30 =>
  ygR 1200 v30 h2 fun v31 =>
  zQ (ycv R d [(5, 528)] v31 [.inl x6_4] h2) fun v33 h32 =>
  ycc 17 161 v33 h32 <|
  ygR 4503 v33 h32 fun v34 =>
  ygR 3901 x0 h32 fun v35 =>
  zI (ycv R d [(11, 251)] v35 [.inr (.inl x1)] h32) fun v37 h36 =>
  zQ (ycv R d [(5, 528)] v34 [.inl v37] h36) fun v39 h38 =>
  ycc 17 242 v39 h38 <|
  zlet v39 fun x7_40 =>
  zI (ycv R d [(19, 314)] x7_40 [] h38) fun v42 h41 =>
  if v42 = 0 then
    ygR 5700 x7_40 h41 fun v43 =>
    zV (ycv R d [(13, 283)] x0 [.inr (.inr v43)] h41) fun h44 =>
    zrV h44
  else
  ygR 3900 x0 h41 fun v45 =>
  zI (ycv R d [(4, 60)] v45 [.inl x3] h41) fun v47 h46 =>
  yna 0 v47 h46 fun r48 h49 =>
  zlet r48 fun x8_50 =>
  zlet (0 : Int) fun x9_51 =>
  R d 669 [.inr (.inr x0), .inr (.inl x1), .inl x3, .inl x4, .inl x5, .inr (.inr x7_40), .inr (.inr x8_50), .inl x9_51] h49
def yb_Teller_number (C : YC) (R : ZC YS) (d : Nat) (x0 : Option Nat) (x1 : Int) (h : YS) : ZR YS :=
  zJ (zc R d 511 [.inr (.inl x1)] h) fun v2 h1 =>
  zlet v2 fun x2_3 =>
  if x1 < 0 then
    zV (ycv R d [(13, 284)] x0 [.inl 126] h1) fun h4 =>
    zlet (1 : Int) fun x4_5 =>
    R d 670 [.inr (.inr x0), .inr (.inl x2_3), .inr (.inl x4_5)] h4
  else
  zlet (1 : Int) fun x4_6 =>
  R d 670 [.inr (.inr x0), .inr (.inl x2_3), .inr (.inl x4_6)] h1
def yb_Teller_sign (C : YC) (R : ZC YS) (d : Nat) (x0 : Option Nat) (x1 : Int) (h : YS) : ZR YS :=
  if x1 = 10 then
    R d 671 [.inr (.inr x0), .inl x1] h
  else
  if x1 = 9 then
    R d 671 [.inr (.inr x0), .inl x1] h
  else
  if x1 = 34 then
    R d 672 [.inr (.inr x0), .inl x1] h
  else
  if x1 = 92 then
    R d 672 [.inr (.inr x0), .inl x1] h
  else
  if x1 < 32 then
    zV (ycv R d [(13, 295)] x0 [.inl x1] h) fun h1 =>
    zrV h1
  else
  if x1 ≤ 126 then
    zV (ycv R d [(13, 284)] x0 [.inl (zchar x1)] h) fun h2 =>
    zrV h2
  else
  zV (ycv R d [(13, 295)] x0 [.inl x1] h) fun h3 =>
  zrV h3
def yb_Teller_escaped (C : YC) (R : ZC YS) (d : Nat) (x0 : Option Nat) (x1 : Int) (h : YS) : ZR YS :=
  zV (ycv R d [(13, 284)] x0 [.inl 92] h) fun h1 =>
  zV (ycv R d [(13, 284)] x0 [.inl (zchar (48 + (zdivI x1 100)))] h1) fun h2 =>
  zV (ycv R d [(13, 284)] x0 [.inl (zchar (48 + ((zdivI x1 10) - ((zdivI (zdivI x1 10) 10) * 10))))] h2) fun h3 =>
  zV (ycv R d [(13, 284)] x0 [.inl (zchar (48 + (x1 - ((zdivI x1 10) * 10))))] h3) fun h4 =>
  zrV h4
def yb_Teller_list (C : YC) (R : ZC YS) (d : Nat) (x0 : Option Nat) (x1 : Int) (x3 : Int) (x4 : Int) (h : YS) : ZR YS :=
  zV (ycv R d [(13, 283)] x0 [.inr (.inr (some (C.1 170)))] h) fun h1 =>
  zlet x1 fun x5_2 =>
  zlet (1 : Int) fun x7_3 =>
  R d 673 [.inr (.inr x0), .inl x3, .inl x4, .inr (.inl x5_2), .inl x7_3] h1
def yb_Teller_line (C : YC) (R : ZC YS) (d : Nat) (x0 : Option Nat) (x1 : Option Nat) (h : YS) : ZR YS :=
  zV (ycv R d [(13, 281)] x0 [] h) fun h1 =>
  ygR 20401 x1 h1 fun v2 =>
  ynull v2 (
    ygR 20400 x1 h1 fun v3 =>
    ynull v3 (
      zV (ycv R d [(13, 283)] x0 [.inr (.inr (some (C.1 184)))] h1) fun h4 =>
      ygR 20403 x1 h4 fun v5 =>
      zV (ycv R d [(13, 298)] x0 [.inr (.inr v5)] h4) fun h6 =>
      ygR 20402 x1 h6 fun v7 =>
      zV (ycv R d [(13, 283)] x0 [.inr (.inr v7)] h6) fun h8 =>
      zV (ycv R d [(13, 283)] x0 [.inr (.inr (some (C.1 185)))] h8) fun h9 =>
      ygR 20404 x1 h9 fun v10 =>
      ygR 20403 x1 h9 fun v11 =>
      zV (ycv R d [(13, 299)] x0 [.inr (.inr v10), .inr (.inr v11), .inl 0] h9) fun h12 =>
      zrV h12
    ) <|
    ygR 20400 x1 h1 fun v13 =>
    ygI 5401 v13 h1 fun v14 =>
    if v14 = 2 then
      zV (ycv R d [(13, 283)] x0 [.inr (.inr (some (C.1 186)))] h1) fun h15 =>
      ygR 20402 x1 h15 fun v16 =>
      zV (ycv R d [(13, 283)] x0 [.inr (.inr v16)] h15) fun h17 =>
      ygR 20400 x1 h17 fun v18 =>
      ygI 5407 v18 h17 fun v19 =>
      if v19 = 0 then
        zrV h17
      else
      zV (ycv R d [(13, 283)] x0 [.inr (.inr (some (C.1 177)))] h17) fun h20 =>
      ygR 3900 x0 h20 fun v21 =>
      ygR 3900 x0 h20 fun v22 =>
      ygR 20404 x1 h20 fun v23 =>
      zI (ycv R d [(4, 73)] v22 [.inr (.inr v23), .inr (.inr none)] h20) fun v25 h24 =>
      zI (ycv R d [(4, 62)] v21 [.inl v25, .inl 0] h24) fun v27 h26 =>
      zV (ycv R d [(13, 300)] x0 [.inl v27, .inl 0] h26) fun h28 =>
      zrV h28
    else
    zV (ycv R d [(13, 283)] x0 [.inr (.inr (some (C.1 187)))] h1) fun h29 =>
    ygR 20402 x1 h29 fun v30 =>
    zV (ycv R d [(13, 283)] x0 [.inr (.inr v30)] h29) fun h31 =>
    zV (ycv R d [(13, 283)] x0 [.inr (.inr (some (C.1 185)))] h31) fun h32 =>
    ygR 3901 x0 h32 fun v33 =>
    ygR 3300 v33 h32 fun v34 =>
    ygR 20400 x1 h32 fun v35 =>
    zJ (ycv R d [(0, 39)] v34 [.inr (.inr v35)] h32) fun v37 h36 =>
    ygR 20400 x1 h36 fun v38 =>
    ygI 5403 v38 h36 fun v39 =>
    zV (ycv R d [(13, 287)] x0 [.inr (.inl v37), .inl v39, .inl 0, .inl 0] h36) fun h40 =>
    zV (ycv R d [(13, 283)] x0 [.inr (.inr (some (C.1 188)))] h40) fun h41 =>
    ygR 20400 x1 h41 fun v42 =>
    ygI 5403 v42 h41 fun v43 =>
    zV (ycv R d [(13, 300)] x0 [.inl v43, .inl 0] h41) fun h44 =>
    zrV h44
  ) <|
  zV (ycv R d [(13, 283)] x0 [.inr (.inr (some (C.1 173)))] h1) fun h45 =>
  ygR 20403 x1 h45 fun v46 =>
  zV (ycv R d [(13, 298)] x0 [.inr (.inr v46)] h45) fun h47 =>
  ygR 20402 x1 h47 fun v48 =>
  zV (ycv R d [(13, 283)] x0 [.inr (.inr v48)] h47) fun h49 =>
  zV (ycv R d [(13, 283)] x0 [.inr (.inr (some (C.1 175)))] h49) fun h50 =>
  zlet (0 : Int) fun x2_51 =>
  R d 674 [.inr (.inr x0), .inr (.inr x1), .inl x2_51] h50
def yb_Teller_vars (C : YC) (R : ZC YS) (d : Nat) (x0 : Option Nat) (x1 : Option Nat) (h : YS) : ZR YS :=
  zI (ycv R d [(5, 506)] x1 [] h) fun v2 h1 =>
  if v2 = 1 then
    zQ (ycv R d [(5, 528)] x1 [.inl 0] h1) fun v4 h3 =>
    ycc 17 36 v4 h3 <|
    zV (ycv R d [(13, 283)] x0 [.inr (.inr v4)] h3) fun h5 =>
    zV (ycv R d [(13, 283)] x0 [.inr (.inr (some (C.1 156)))] h5) fun h6 =>
    zrV h6
  else
  zI (ycv R d [(5, 506)] x1 [] h1) fun v8 h7 =>
  if v8 ≤ 1 then
    zrV h7
  else
  zV (ycv R d [(13, 283)] x0 [.inr (.inr (some (C.1 155)))] h7) fun h9 =>
  zlet (0 : Int) fun x2_10 =>
  R d 675 [.inr (.inr x0), .inr (.inr x1), .inl x2_10] h9
def yb_Teller_type (C : YC) (R : ZC YS) (d : Nat) (x0 : Option Nat) (x1 : Option Nat) (x2 : Option Nat) (x3 : Int) (h : YS) : ZR YS :=
  zI (ycv R d [(5, 506)] x2 [] h) fun v2 h1 =>
  zlet v2 fun x4_3 =>
  yna 0 x4_3 h1 fun r4 h5 =>
  zlet r4 fun x5_6 =>
  ypI 3906 0 x0 0 h5 fun h7 =>
  ypR 3905 x0 x2 h7 fun h8 =>
  zlet (0 : Int) fun x6_9 =>
  R d 676 [.inr (.inr x0), .inr (.inr x1), .inl x3, .inl x4_3, .inr (.inr x5_6), .inl x6_9] h8
def yb_Teller_type_2 (C : YC) (R : ZC YS) (d : Nat) (x0 : Option Nat) (x1 : Int) (x2 : Int) (h : YS) : ZR YS :=
  ygR 3900 x0 h fun v1 =>
  zI (ycv R d [(4, 56)] v1 [.inl x1] h) fun v3 h2 =>
  zlet v3 fun x3_4 =>
  zI (ycv R d [(13, 285)] x0 [] h2) fun v6 h5 =>
  if v6 = 0 then
    ygR 3900 x0 h5 fun v7 =>
    zI (ycv R d [(4, 57)] v7 [.inl x3_4] h5) fun v9 h8 =>
    if v9 = 0 then
      zV (ycv R d [(13, 301)] x0 [.inl x3_4] h8) fun h10 =>
      zrV h10
    else
    ygR 3900 x0 h8 fun v11 =>
    zI (ycv R d [(4, 57)] v11 [.inl x3_4] h8) fun v13 h12 =>
    if v13 = 4 then
      zV (ycv R d [(13, 302)] x0 [.inl x3_4, .inl x2] h12) fun h14 =>
      zrV h14
    else
    ygR 3900 x0 h12 fun v15 =>
    zI (ycv R d [(4, 57)] v15 [.inl x3_4] h12) fun v17 h16 =>
    if v17 = 3 then
      zV (ycv R d [(13, 303)] x0 [.inl x3_4] h16) fun h18 =>
      zrV h18
    else
    ygR 3900 x0 h16 fun v19 =>
    zI (ycv R d [(4, 60)] v19 [.inl x3_4] h16) fun v21 h20 =>
    if v21 = 0 then
      zV (ycv R d [(13, 283)] x0 [.inr (.inr (some (C.1 181)))] h20) fun h22 =>
      zrV h22
    else
    zI (ycv R d [(13, 289)] x0 [.inl x3_4] h20) fun v24 h23 =>
    if v24 = 0 then
      zV (ycv R d [(13, 283)] x0 [.inr (.inr (some (C.1 159)))] h23) fun h25 =>
      zlet (0 : Int) fun x4_26 =>
      R d 677 [.inr (.inr x0), .inl x3_4, .inl x4_26] h25
    else
    if x2 ≤ 1 then
      zlet (0 : Int) fun x4_27 =>
      R d 678 [.inr (.inr x0), .inl x2, .inl x3_4, .inl x4_27] h23
    else
    zV (ycv R d [(13, 283)] x0 [.inr (.inr (some (C.1 155)))] h23) fun h28 =>
    zlet (0 : Int) fun x4_29 =>
    R d 678 [.inr (.inr x0), .inl x2, .inl x3_4, .inl x4_29] h28
  else
  zrV h5
def yb_Teller_variable (C : YC) (R : ZC YS) (d : Nat) (x0 : Option Nat) (x1 : Int) (h : YS) : ZR YS :=
  zlet (0 : Int) fun x2_1 =>
  R d 679 [.inr (.inr x0), .inl x1, .inl x2_1] h
def yb_Teller_arrow (C : YC) (R : ZC YS) (d : Nat) (x0 : Option Nat) (x1 : Int) (x2 : Int) (h : YS) : ZR YS :=
  if x2 ≤ 0 then
    R d 680 [.inr (.inr x0), .inl x1, .inl x2] h
  else
  zV (ycv R d [(13, 283)] x0 [.inr (.inr (some (C.1 155)))] h) fun h1 =>
  R d 680 [.inr (.inr x0), .inl x1, .inl x2] h1
def yb_Teller_named_2 (C : YC) (R : ZC YS) (d : Nat) (x0 : Option Nat) (x1 : Int) (h : YS) : ZR YS :=
  ygR 3900 x0 h fun v1 =>
  zI (ycv R d [(4, 60)] v1 [.inl x1] h) fun v3 h2 =>
  zlet v3 fun x2_4 =>
  if x2_4 = 1 then
    ygR 3900 x0 h2 fun v5 =>
    zI (ycv R d [(4, 62)] v5 [.inl x1, .inl 0] h2) fun v7 h6 =>
    zV (ycv R d [(13, 300)] x0 [.inl v7, .inl 3] h6) fun h8 =>
    zV (ycv R d [(13, 283)] x0 [.inr (.inr (some (C.1 156)))] h8) fun h9 =>
    R d 681 [.inr (.inr x0), .inl x1] h9
  else
  if x2_4 ≤ 1 then
    R d 681 [.inr (.inr x0), .inl x1] h2
  else
  zV (ycv R d [(13, 283)] x0 [.inr (.inr (some (C.1 155)))] h2) fun h10 =>
  zlet (0 : Int) fun x3_11 =>
  R d 682 [.inr (.inr x0), .inl x1, .inl x2_4, .inl x3_11] h10
def yb_Base_init (C : YC) (R : ZC YS) (d : Nat) (x0 : Option Nat) (h : YS) : ZR YS :=
  ynull x0 none <|
  ynew 5 3 h fun r2 h3 =>
  zV (ycs R d 503 r2 [] h3) fun h4 =>
  ypR 4200 x0 r2 h4 fun h5 =>
  ynew 5 3 h5 fun r6 h7 =>
  zV (ycs R d 503 r6 [] h7) fun h8 =>
  ypR 4201 x0 r6 h8 fun h9 =>
  ynew 5 3 h9 fun r10 h11 =>
  zV (ycs R d 503 r10 [] h11) fun h12 =>
  ypR 4202 x0 r10 h12 fun h13 =>
  zrV h13
def yb_Base_keep (C : YC) (R : ZC YS) (d : Nat) (x0 : Option Nat) (x1 : Option Nat) (h : YS) : ZR YS :=
  zlet (0 : Int) fun x2_1 =>
  R d 683 [.inr (.inr x0), .inr (.inr x1), .inl x2_1] h
def yb_Base_like (C : YC) (R : ZC YS) (d : Nat) (x0 : Option Nat) (x1 : Option Nat) (h : YS) : ZR YS :=
  ygR 4200 x0 h fun v1 =>
  zV (ycv R d [(5, 504)] v1 [] h) fun h2 =>
  ygR 4201 x0 h2 fun v3 =>
  zV (ycv R d [(5, 504)] v3 [] h2) fun h4 =>
  ygR 4202 x0 h4 fun v5 =>
  zV (ycv R d [(5, 504)] v5 [] h4) fun h6 =>
  zlet (0 : Int) fun x2_7 =>
  R d 684 [.inr (.inr x0), .inr (.inr x1), .inl x2_7] h6
def yb_Data_init (C : YC) (R : ZC YS) (d : Nat) (x0 : Option Nat) (x1 : Option Nat) (x2 : Int) (x3 : Int) (h : YS) : ZR YS :=
  ynull x0 none <|
  ynew 5 3 h fun r2 h3 =>
  zV (ycs R d 503 r2 [] h3) fun h4 =>
  ypR 4503 x0 r2 h4 fun h5 =>
  ypI 4504 1 x0 1 h5 fun h6 =>
  ypR 4500 x0 x1 h6 fun h7 =>
  ypI 4501 0 x0 x2 h7 fun h8 =>
  ypI 4502 0 x0 x3 h8 fun h9 =>
  zrV h9
def yb_TypeName_init (C : YC) (R : ZC YS) (d : Nat) (x0 : Option Nat) (x1 : Option Nat) (x2 : Int) (x3 : Option Nat) (x4 : Option Nat) (h : YS) : ZR YS :=
  ynull x0 none <|
  ypR 4800 x0 x1 h fun h2 =>
  ypI 4801 0 x0 x2 h2 fun h3 =>
  ypR 4802 x0 x3 h3 fun h4 =>
  ypR 4803 x0 x4 h4 fun h5 =>
  zrV h5
def yb_Scheme_init (C : YC) (R : ZC YS) (d : Nat) (x0 : Option Nat) (x1 : Option Nat) (x2 : Option Nat) (x3 : Int) (h : YS) : ZR YS :=
  ynull x0 none <|
  ypR 5100 x0 x1 h fun h2 =>
  ypR 5101 x0 x2 h2 fun h3 =>
  ypI 5102 0 x0 x3 h3 fun h4 =>
  zrV h4
def yb_Binding_init (C : YC) (R : ZC YS) (d : Nat) (x0 : Option Nat) (x1 : Option Nat) (x2 : Int) (x3 : Int) (h : YS) : ZR YS :=
  ynull x0 none <|
  ypI 5403 0 x0 (-1) h fun h2 =>
  ypR 5408 x0 x0 h2 fun h3 =>
  ypI 5411 0 x0 (-1) h3 fun h4 =>
  ypR 5400 x0 x1 h4 fun h5 =>
  ypI 5401 0 x0 x2 h5 fun h6 =>
  ypI 5402 0 x0 x3 h6 fun h7 =>
  zrV h7
def yb_Binding_isMade (C : YC) (R : ZC YS) (d : Nat) (x0 : Option Nat) (h : YS) : ZR YS :=
  ygI 5401 x0 h fun v1 =>
  if v1 = 1 then
    yrN 1 1 h
  else
  ygI 5401 x0 h fun v2 =>
  if v2 = 2 then
    yrN 1 1 h
  else
  yrN 1 0 h
def yb_Binding_hasArgument (C : YC) (R : ZC YS) (d : Nat) (x0 : Option Nat) (h : YS) : ZR YS :=
  ygI 5401 x0 h fun v1 =>
  if v1 = 1 then
    ygR 5406 x0 h fun v2 =>
    zI (ycv R d [(19, 314)] v2 [] h) fun v4 h3 =>
    yrN 1 v4 h3
  else
  ygI 5407 x0 h fun v5 =>
  yrN 1 v5 h
def yb_Con_init (C : YC) (R : ZC YS) (d : Nat) (x0 : Option Nat) (x1 : Option Nat) (x2 : Option Nat) (h : YS) : ZR YS :=
  ynull x0 none <|
  ypR 5700 x0 x1 h fun h2 =>
  ypR 5701 x0 x2 h2 fun h3 =>
  ygR 4503 x2 h3 fun v4 =>
  zI (ycv R d [(5, 506)] v4 [] h3) fun v6 h5 =>
  ypI 5702 0 x0 v6 h5 fun h7 =>
  ygR 4503 x2 h7 fun v8 =>
  zI (ycv R d [(5, 505)] v8 [.inr (.inr x0)] h7) fun v10 h9 =>
  zrV h9
def yb_Con_has (C : YC) (R : ZC YS) (d : Nat) (x0 : Option Nat) (h : YS) : ZR YS :=
  ygR 5703 x0 h fun v1 =>
  ynull v1 (
    yrN 1 0 h
  ) <|
  yrN 1 1 h
def yb_Token_init (C : YC) (R : ZC YS) (d : Nat) (x0 : Option Nat) (x1 : Option Nat) (x2 : Int) (x3 : Option Nat) (x4 : Int) (h : YS) : ZR YS :=
  ynull x0 none <|
  ypR 6600 x0 x1 h fun h2 =>
  ypI 6601 0 x0 x2 h2 fun h3 =>
  ypR 6602 x0 x3 h3 fun h4 =>
  ypI 6603 0 x0 x4 h4 fun h5 =>
  zrV h5
def yb_Token_is (C : YC) (R : ZC YS) (d : Nat) (x0 : Option Nat) (x1 : Option Nat) (h : YS) : ZR YS :=
  ygR 6600 x0 h fun v1 =>
  ysvR C 10 fun v2 =>
  if v1 = v2 then
    ygR 6602 x0 h fun v3 =>
    zI (ycv R d [(21, 576)] v3 [.inr (.inr x1)] h) fun v5 h4 =>
    if v5 = 0 then
      yrN 1 0 h4
    else
    yrN 1 1 h4
  else
  yrN 1 0 h
def yb_Token_isName (C : YC) (R : ZC YS) (d : Nat) (x0 : Option Nat) (h : YS) : ZR YS :=
  ygR 6600 x0 h fun v1 =>
  ysvR C 9 fun v2 =>
  if v1 = v2 then
    yrN 1 1 h
  else
  yrN 1 0 h
def yb_Token_isName_2 (C : YC) (R : ZC YS) (d : Nat) (x0 : Option Nat) (x1 : Option Nat) (h : YS) : ZR YS :=
  ygR 6600 x0 h fun v1 =>
  ysvR C 9 fun v2 =>
  if v1 = v2 then
    ygR 6602 x0 h fun v3 =>
    zI (ycv R d [(21, 576)] v3 [.inr (.inr x1)] h) fun v5 h4 =>
    if v5 = 0 then
      yrN 1 0 h4
    else
    yrN 1 1 h4
  else
  yrN 1 0 h
def yb_Dec_init (C : YC) (R : ZC YS) (d : Nat) (x0 : Option Nat) (h : YS) : ZR YS :=
  ynull x0 none <|
  zrV h
def yb_Values_init (C : YC) (R : ZC YS) (d : Nat) (x0 : Option Nat) (h : YS) : ZR YS :=
  zV (ycs R d 319 x0 [] h) fun h1 =>
  ynew 5 3 h1 fun r2 h3 =>
  zV (ycs R d 503 r2 [] h3) fun h4 =>
  ypR 7200 x0 r2 h4 fun h5 =>
  ynew 5 3 h5 fun r6 h7 =>
  zV (ycs R d 503 r6 [] h7) fun h8 =>
  ypR 7201 x0 r6 h8 fun h9 =>
  zrV h9
def yb_Values_enter (C : YC) (R : ZC YS) (d : Nat) (x0 : Option Nat) (x1 : Option Nat) (h : YS) : ZR YS :=
  ygR 2700 x1 h fun v1 =>
  ygI 1214 v1 h fun v2 =>
  ypI 7203 0 x0 v2 h fun h3 =>
  ygR 2700 x1 h3 fun v4 =>
  ygI 1214 v4 h3 fun v5 =>
  zG (inI (v5 + 1)) <|
  ypI 1214 0 v4 (v5 + 1) h3 fun h6 =>
  ygR 2704 x1 h6 fun v7 =>
  zI (ycv R d [(5, 506)] v7 [] h6) fun v9 h8 =>
  ypI 7202 0 x0 v9 h8 fun h10 =>
  zlet (0 : Int) fun x2_11 =>
  R d 685 [.inr (.inr x0), .inr (.inr x1), .inl x2_11] h10
def yb_Values_leave (C : YC) (R : ZC YS) (d : Nat) (x0 : Option Nat) (x1 : Option Nat) (x2 : Option Nat) (x3 : Option Nat) (x4 : Option Nat) (h : YS) : ZR YS :=
  zlet (0 : Int) fun x5_1 =>
  R d 686 [.inr (.inr x0), .inr (.inr x1), .inr (.inr x2), .inr (.inr x3), .inr (.inr x4), .inl x5_1] h
def yb_Values_told (C : YC) (R : ZC YS) (d : Nat) (x0 : Option Nat) (x1 : Option Nat) (h : YS) : ZR YS :=
  ygI 2707 x0 h fun v1 =>
  if v1 = 0 then
    zrV h
  else
  ygI 2708 x0 h fun v2 =>
  if v2 = 0 then
    zlet (0 : Int) fun x2_3 =>
    R d 687 [.inr (.inr x0), .inr (.inr x1), .inl x2_3] h
  else
  zrV h
def yb_ValDec_init (C : YC) (R : ZC YS) (d : Nat) (x0 : Option Nat) (h : YS) : ZR YS :=
  zV (ycs R d 320 x0 [] h) fun h1 =>
  ynew 5 3 h1 fun r2 h3 =>
  zV (ycs R d 571 r2 [.inl 1] h3) fun h4 =>
  ypR 7204 x0 r2 h4 fun h5 =>
  ynew 5 3 h5 fun r6 h7 =>
  zV (ycs R d 571 r6 [.inl 1] h7) fun h8 =>
  ypR 7205 x0 r6 h8 fun h9 =>
  zrV h9
def yb_ValDec_judge (C : YC) (R : ZC YS) (d : Nat) (x0 : Option Nat) (x1 : Option Nat) (h : YS) : ZR YS :=
  zV (ycv R d [(24, 321)] x0 [.inr (.inr x1)] h) fun h1 =>
  ynew 5 3 h1 fun r2 h3 =>
  zV (ycs R d 571 r2 [.inl 1] h3) fun h4 =>
  zlet r2 fun x2_5 =>
  ynew 5 3 h4 fun r6 h7 =>
  zV (ycs R d 571 r6 [.inl 1] h7) fun h8 =>
  zlet r6 fun x3_9 =>
  ynew 5 3 h8 fun r10 h11 =>
  zV (ycs R d 571 r10 [.inl 0] h11) fun h12 =>
  zlet r10 fun x4_13 =>
  ygI 7206 x0 h12 fun v14 =>
  if v14 = 0 then
    zV (ycv R d [(24, 328)] x0 [.inr (.inr x1), .inr (.inr x2_5), .inr (.inr x3_9), .inr (.inr x4_13)] h12) fun h15 =>
    R d 688 [.inr (.inr x0), .inr (.inr x1), .inr (.inr x2_5), .inr (.inr x3_9), .inr (.inr x4_13)] h15
  else
  zV (ycv R d [(24, 326)] x0 [.inr (.inr x1), .inr (.inr x2_5), .inr (.inr x3_9)] h12) fun h16 =>
  R d 688 [.inr (.inr x0), .inr (.inr x1), .inr (.inr x2_5), .inr (.inr x3_9), .inr (.inr x4_13)] h16
def yb_ValDec_recursive (C : YC) (R : ZC YS) (d : Nat) (x0 : Option Nat) (x1 : Option Nat) (x2 : Option Nat) (x3 : Option Nat) (h : YS) : ZR YS :=
  ygR 7204 x0 h fun v1 =>
  zI (ycv R d [(5, 506)] v1 [] h) fun v3 h2 =>
  zlet v3 fun x4_4 =>
  yna 0 x4_4 h2 fun r5 h6 =>
  zlet r5 fun x5_7 =>
  zlet (0 : Int) fun x6_8 =>
  R d 689 [.inr (.inr x0), .inr (.inr x1), .inr (.inr x2), .inr (.inr x3), .inl x4_4, .inr (.inr x5_7), .inl x6_8] h6
def yb_ValDec_nameOf (C : YC) (R : ZC YS) (d : Nat) (x0 : Option Nat) (h : YS) : ZR YS :=
  yio 39 99 x0 h fun v1 =>
  if v1 = 0 then
    yio 39 117 x0 h fun v2 =>
    if v2 = 0 then
      zrQ none h
    else
    ycc 39 117 x0 h <|
    zlet x0 fun x1_3 =>
    ygR 10201 x1_3 h fun v4 =>
    zQ (zc R d 327 [.inr (.inr v4)] h) fun v6 h5 =>
    zrQ v6 h5
  else
  ycc 39 99 x0 h <|
  zlet x0 fun x2_7 =>
  zrQ x2_7 h
def yb_ValDec_plain (C : YC) (R : ZC YS) (d : Nat) (x0 : Option Nat) (x1 : Option Nat) (x2 : Option Nat) (x3 : Option Nat) (x4 : Option Nat) (h : YS) : ZR YS :=
  zlet (0 : Int) fun x5_1 =>
  R d 690 [.inr (.inr x0), .inr (.inr x1), .inr (.inr x2), .inr (.inr x3), .inr (.inr x4), .inl x5_1] h
def yb_ValDec_isSure (C : YC) (R : ZC YS) (d : Nat) (x0 : Option Nat) (h : YS) : ZR YS :=
  yio 39 97 x0 h fun v1 =>
  if v1 = 0 then
    yio 39 99 x0 h fun v2 =>
    if v2 = 0 then
      yrN 1 0 h
    else
    ycc 39 99 x0 h <|
    zlet x0 fun x1_3 =>
    ygR 9905 x1_3 h fun v4 =>
    ynull v4 (
      yrN 1 0 h
    ) <|
    yrN 1 1 h
  else
  yrN 1 1 h
def yb_ValDec_match (C : YC) (R : ZC YS) (d : Nat) (x0 : Option Nat) (x1 : Option Nat) (h : YS) : ZR YS :=
  ynew 69 4 h fun r1 h2 =>
  ygI 7500 x1 h2 fun v3 =>
  zV (ycs R d 480 r1 [.inl v3, .inl 2] h2) fun h4 =>
  zlet r1 fun x2_5 =>
  ynew 5 3 h4 fun r6 h7 =>
  zV (ycs R d 571 r6 [.inl 1] h7) fun h8 =>
  zlet r6 fun x3_9 =>
  zI (ycv R d [(5, 505)] x3_9 [.inr (.inr x1)] h8) fun v11 h10 =>
  zI (ycv R d [(69, 481)] x2_5 [.inr (.inr x3_9)] h10) fun v13 h12 =>
  ygR 2711 x0 h12 fun v14 =>
  zI (ycv R d [(5, 505)] v14 [.inr (.inr x2_5)] h12) fun v16 h15 =>
  zrV h15
def yb_ValDec_make (C : YC) (R : ZC YS) (d : Nat) (x0 : Option Nat) (x1 : Option Nat) (h : YS) : ZR YS :=
  ygI 7206 x0 h fun v1 =>
  if v1 = 0 then
    ynew 5 3 h fun r2 h3 =>
    zV (ycs R d 571 r2 [.inl 0] h3) fun h4 =>
    zlet r2 fun x2_5 =>
    zlet (0 : Int) fun x3_6 =>
    R d 691 [.inr (.inr x0), .inr (.inr x1), .inr (.inr x2_5), .inl x3_6] h4
  else
  ygR 7204 x0 h fun v7 =>
  zI (ycv R d [(5, 506)] v7 [] h) fun v9 h8 =>
  zlet v9 fun x2_10 =>
  yna 10 x2_10 h8 fun r11 h12 =>
  zlet r11 fun x3_13 =>
  yna 7 x2_10 h12 fun r14 h15 =>
  zlet r14 fun x4_16 =>
  zlet (0 : Int) fun x5_17 =>
  R d 692 [.inr (.inr x0), .inr (.inr x1), .inl x2_10, .inr (.inr x3_13), .inr (.inr x4_16), .inl x5_17] h15
def yb_Pat_init (C : YC) (R : ZC YS) (d : Nat) (x0 : Option Nat) (x1 : Int) (h : YS) : ZR YS :=
  ynull x0 none <|
  ypI 7500 0 x0 x1 h fun h2 =>
  zrV h2
def yb_RowPat_init (C : YC) (R : ZC YS) (d : Nat) (x0 : Option Nat) (x1 : Int) (x2 : Option Nat) (x3 : Option Nat) (x4 : Option Nat) (x5 : Int) (h : YS) : ZR YS :=
  zV (ycs R d 332 x0 [.inl x1] h) fun h1 =>
  ypI 7505 0 x0 x1 h1 fun h2 =>
  ypR 7501 x0 x2 h2 fun h3 =>
  ypR 7502 x0 x3 h3 fun h4 =>
  ypR 7503 x0 x4 h4 fun h5 =>
  ypI 7504 1 x0 x5 h5 fun h6 =>
  zrV h6
def yb_RowPat_judge (C : YC) (R : ZC YS) (d : Nat) (x0 : Option Nat) (x1 : Option Nat) (h : YS) : ZR YS :=
  ygR 7503 x0 h fun v1 =>
  zI (ycv R d [(5, 506)] v1 [] h) fun v3 h2 =>
  zlet v3 fun x2_4 =>
  yna 0 x2_4 h2 fun r5 h6 =>
  zlet r5 fun x3_7 =>
  zlet (0 : Int) fun x4_8 =>
  R d 693 [.inr (.inr x0), .inr (.inr x1), .inl x2_4, .inr (.inr x3_7), .inl x4_8] h6
def yb_RowPat_tests (C : YC) (R : ZC YS) (d : Nat) (x0 : Option Nat) (h : YS) : ZR YS :=
  zlet (0 : Int) fun x1_1 =>
  zlet (0 : Int) fun x2_2 =>
  R d 694 [.inr (.inr x0), .inl x1_1, .inl x2_2] h
def yb_RowPat_meets (C : YC) (R : ZC YS) (d : Nat) (x0 : Option Nat) (x1 : Option Nat) (x2 : Int) (h : YS) : ZR YS :=
  ygR 3000 x1 h fun v1 =>
  ygI 7506 x0 h fun v2 =>
  zI (ycv R d [(4, 56)] v1 [.inl v2] h) fun v4 h3 =>
  zlet v4 fun x3_5 =>
  zlet (1 : Int) fun x4_6 =>
  zlet (0 : Int) fun x5_7 =>
  R d 695 [.inr (.inr x0), .inr (.inr x1), .inl x2, .inl x3_5, .inl x4_6, .inl x5_7] h3
def yb_RowPat_make (C : YC) (R : ZC YS) (d : Nat) (x0 : Option Nat) (x1 : Option Nat) (x2 : Int) (x3 : Option Nat) (h : YS) : ZR YS :=
  ygR 21001 x1 h fun v1 =>
  ygI 7506 x0 h fun v2 =>
  zI (ycv R d [(4, 56)] v1 [.inl v2] h) fun v4 h3 =>
  zlet v4 fun x4_5 =>
  zlet (0 : Int) fun x5_6 =>
  R d 696 [.inr (.inr x0), .inr (.inr x1), .inl x2, .inr (.inr x3), .inl x4_5, .inl x5_6] h3
def yb_Mention_init (C : YC) (R : ZC YS) (d : Nat) (x0 : Option Nat) (x1 : Option Nat) (x2 : Int) (h : YS) : ZR YS :=
  ynull x0 none <|
  ypR 8100 x0 x1 h fun h2 =>
  ypI 8101 0 x0 x2 h2 fun h3 =>
  zrV h3
def yb_Ty_init (C : YC) (R : ZC YS) (d : Nat) (x0 : Option Nat) (x1 : Int) (h : YS) : ZR YS :=
  ynull x0 none <|
  ypI 8400 0 x0 x1 h fun h2 =>
  zrV h2
def yb_VariableTy_init (C : YC) (R : ZC YS) (d : Nat) (x0 : Option Nat) (x1 : Option Nat) (x2 : Int) (h : YS) : ZR YS :=
  zV (ycs R d 339 x0 [.inl x2] h) fun h1 =>
  ypR 8401 x0 x1 h1 fun h2 =>
  zrV h2
def yb_VariableTy_make (C : YC) (R : ZC YS) (d : Nat) (x0 : Option Nat) (x1 : Option Nat) (h : YS) : ZR YS :=
  ygR 2705 x1 h fun v1 =>
  ynull v1 (
    ygR 8401 x0 h fun v2 =>
    zQ (ycv R d [(9, 194)] x1 [.inr (.inr v2)] h) fun v4 h3 =>
    ygI 20101 v4 h3 fun v5 =>
    zrI v5 h3
  ) <|
  zlet (0 : Int) fun x2_6 =>
  R d 697 [.inr (.inr x0), .inr (.inr x1), .inl x2_6] h
def yb_RowTy_init (C : YC) (R : ZC YS) (d : Nat) (x0 : Option Nat) (x1 : Int) (x2 : Option Nat) (x3 : Option Nat) (x4 : Option Nat) (h : YS) : ZR YS :=
  zV (ycs R d 339 x0 [.inl x1] h) fun h1 =>
  ypR 8701 x0 x2 h1 fun h2 =>
  ypR 8702 x0 x3 h2 fun h3 =>
  ypR 8703 x0 x4 h3 fun h4 =>
  zrV h4
def yb_RowTy_make (C : YC) (R : ZC YS) (d : Nat) (x0 : Option Nat) (x1 : Option Nat) (h : YS) : ZR YS :=
  ygR 8703 x0 h fun v1 =>
  zI (ycv R d [(5, 506)] v1 [] h) fun v3 h2 =>
  zlet v3 fun x2_4 =>
  yna 0 x2_4 h2 fun r5 h6 =>
  zlet r5 fun x3_7 =>
  zlet (0 : Int) fun x4_8 =>
  R d 698 [.inr (.inr x0), .inr (.inr x1), .inl x2_4, .inr (.inr x3_7), .inl x4_8] h6
def yb_NamedTy_init (C : YC) (R : ZC YS) (d : Nat) (x0 : Option Nat) (x1 : Option Nat) (x2 : Int) (x3 : Option Nat) (h : YS) : ZR YS :=
  zV (ycs R d 339 x0 [.inl x2] h) fun h1 =>
  ypR 9001 x0 x1 h1 fun h2 =>
  ypR 9002 x0 x3 h2 fun h3 =>
  zrV h3
def yb_NamedTy_make (C : YC) (R : ZC YS) (d : Nat) (x0 : Option Nat) (x1 : Option Nat) (h : YS) : ZR YS :=
  ygR 9002 x0 h fun v1 =>
  zI (ycv R d [(5, 506)] v1 [] h) fun v3 h2 =>
  zlet v3 fun x2_4 =>
  yna 0 x2_4 h2 fun r5 h6 =>
  zlet r5 fun x3_7 =>
  zlet (0 : Int) fun x4_8 =>
  R d 699 [.inr (.inr x0), .inr (.inr x1), .inl x2_4, .inr (.inr x3_7), .inl x4_8] h6
def yb_ArrowTy_init (C : YC) (R : ZC YS) (d : Nat) (x0 : Option Nat) (x1 : Int) (x2 : Option Nat) (h : YS) : ZR YS :=
  zV (ycs R d 339 x0 [.inl x1] h) fun h1 =>
  ypR 9301 x0 x2 h1 fun h2 =>
  zrV h2
def yb_ArrowTy_make (C : YC) (R : ZC YS) (d : Nat) (x0 : Option Nat) (x1 : Option Nat) (h : YS) : ZR YS :=
  ygR 9301 x0 h fun v1 =>
  zI (ycv R d [(5, 506)] v1 [] h) fun v3 h2 =>
  zlet v3 fun x2_4 =>
  yna 0 x2_4 h2 fun r5 h6 =>
  zlet r5 fun x3_7 =>
  zlet (0 : Int) fun x4_8 =>
  R d 700 [.inr (.inr x0), .inr (.inr x1), .inl x2_4, .inr (.inr x3_7), .inl x4_8] h6
def yb_AsPat_init (C : YC) (R : ZC YS) (d : Nat) (x0 : Option Nat) (x1 : Option Nat) (x2 : Int) (x3 : Int) (x4 : Option Nat) (x5 : Option Nat) (h : YS) : ZR YS :=
  zV (ycs R d 332 x0 [.inl x3] h) fun h1 =>
  ypR 9601 x0 x1 h1 fun h2 =>
  ypI 9602 0 x0 x2 h2 fun h3 =>
  ypR 9603 x0 x4 h3 fun h4 =>
  ypR 9604 x0 x5 h4 fun h5 =>
  zrV h5
def yb_AsPat_judge (C : YC) (R : ZC YS) (d : Nat) (x0 : Option Nat) (x1 : Option Nat) (h : YS) : ZR YS :=
  ygR 9601 x0 h fun v1 =>
  zQ (ycv R d [(9, 197)] x1 [.inr (.inr v1)] h) fun v3 h2 =>
  zlet v3 fun x2_4 =>
  ynull x2_4 (
    R d 701 [.inr (.inr x0), .inr (.inr x1), .inl 1, .inr (.inr x1)] h2
  ) <|
  zI (ycv R d [(18, 311)] x2_4 [] h2) fun v6 h5 =>
  if v6 = 0 then
    R d 701 [.inr (.inr x0), .inr (.inr x1), .inl 1, .inr (.inr x1)] h5
  else
  R d 701 [.inr (.inr x0), .inr (.inr x1), .inl 0, .inr (.inr x1)] h5
def yb_AsPat_tests (C : YC) (R : ZC YS) (d : Nat) (x0 : Option Nat) (h : YS) : ZR YS :=
  ygR 9604 x0 h fun v1 =>
  zI (ycv R d [(36, 370), (32, 350), (38, 380), (37, 375), (35, 365), (33, 355), (25, 335), (34, 360)] v1 [] h) fun v3 h2 =>
  zrI v3 h2
def yb_AsPat_meets (C : YC) (R : ZC YS) (d : Nat) (x0 : Option Nat) (x1 : Option Nat) (x2 : Int) (h : YS) : ZR YS :=
  ygR 9604 x0 h fun v1 =>
  zI (ycv R d [(36, 371), (32, 351), (38, 381), (37, 376), (35, 366), (33, 356), (25, 336), (34, 361)] v1 [.inr (.inr x1), .inl x2] h) fun v3 h2 =>
  zrI v3 h2
def yb_AsPat_make (C : YC) (R : ZC YS) (d : Nat) (x0 : Option Nat) (x1 : Option Nat) (x2 : Int) (x3 : Option Nat) (h : YS) : ZR YS :=
  ygR 9605 x0 h fun v1 =>
  zV (ycv R d [(70, 489)] x1 [.inr (.inr v1), .inl x2] h) fun h2 =>
  ygR 9604 x0 h2 fun v3 =>
  zV (ycv R d [(36, 372), (32, 352), (38, 382), (37, 377), (35, 367), (33, 357), (25, 337), (34, 362)] v3 [.inr (.inr x1), .inl x2, .inr (.inr x3)] h2) fun h4 =>
  zrV h4
def yb_NamePat_init (C : YC) (R : ZC YS) (d : Nat) (x0 : Option Nat) (x1 : Option Nat) (x2 : Int) (x3 : Int) (x4 : Int) (h : YS) : ZR YS :=
  zV (ycs R d 332 x0 [.inl x3] h) fun h1 =>
  ypR 9901 x0 x1 h1 fun h2 =>
  ypI 9902 0 x0 x2 h2 fun h3 =>
  ypI 9903 1 x0 x4 h3 fun h4 =>
  zrV h4
def yb_NamePat_judge (C : YC) (R : ZC YS) (d : Nat) (x0 : Option Nat) (x1 : Option Nat) (h : YS) : ZR YS :=
  ygR 9901 x0 h fun v1 =>
  zQ (ycv R d [(9, 197)] x1 [.inr (.inr v1)] h) fun v3 h2 =>
  zlet v3 fun x2_4 =>
  ynull x2_4 (
    R d 702 [.inr (.inr x0), .inr (.inr x1)] h2
  ) <|
  zI (ycv R d [(18, 311)] x2_4 [] h2) fun v6 h5 =>
  if v6 = 0 then
    R d 702 [.inr (.inr x0), .inr (.inr x1)] h5
  else
  ygI 9903 x0 h5 fun v7 =>
  if v7 = 0 then
    zI (ycv R d [(18, 312)] x2_4 [] h5) fun v9 h8 =>
    if v9 = 0 then
      R d 703 [.inr (.inr x0), .inr (.inr x1), .inr (.inr x2_4), .inl 1, .inr (.inr x1)] h8
    else
    R d 703 [.inr (.inr x0), .inr (.inr x1), .inr (.inr x2_4), .inl 0, .inr (.inr x1)] h8
  else
  R d 703 [.inr (.inr x0), .inr (.inr x1), .inr (.inr x2_4), .inl 0, .inr (.inr x1)] h5
def yb_NamePat_tests (C : YC) (R : ZC YS) (d : Nat) (x0 : Option Nat) (h : YS) : ZR YS :=
  ygR 9904 x0 h fun v1 =>
  ynull v1 (
    zrI 0 h
  ) <|
  zrI 1 h
def yb_NamePat_meets (C : YC) (R : ZC YS) (d : Nat) (x0 : Option Nat) (x1 : Option Nat) (x2 : Int) (h : YS) : ZR YS :=
  ygR 9904 x0 h fun v1 =>
  ynull v1 (
    zrI 1 h
  ) <|
  ygR 9904 x0 h fun v2 =>
  zI (ycv R d [(10, 210)] x1 [.inl x2, .inr (.inr v2)] h) fun v4 h3 =>
  zrI v4 h3
def yb_NamePat_make (C : YC) (R : ZC YS) (d : Nat) (x0 : Option Nat) (x1 : Option Nat) (x2 : Int) (x3 : Option Nat) (h : YS) : ZR YS :=
  ygR 9905 x0 h fun v1 =>
  ynull v1 (
    ygR 9904 x0 h fun v2 =>
    zV (ycv R d [(70, 490)] x1 [.inr (.inr v2), .inl x2, .inr (.inr x3)] h) fun h3 =>
    zrV h3
  ) <|
  ygR 9905 x0 h fun v4 =>
  zV (ycv R d [(70, 489)] x1 [.inr (.inr v4), .inl x2] h) fun h5 =>
  zrV h5
def yb_TypedPat_init (C : YC) (R : ZC YS) (d : Nat) (x0 : Option Nat) (x1 : Option Nat) (x2 : Option Nat) (h : YS) : ZR YS :=
  ygI 7500 x1 h fun v1 =>
  zV (ycs R d 332 x0 [.inl v1] h) fun h2 =>
  ypR 10201 x0 x1 h2 fun h3 =>
  ypR 10202 x0 x2 h3 fun h4 =>
  zrV h4
def yb_TypedPat_judge (C : YC) (R : ZC YS) (d : Nat) (x0 : Option Nat) (x1 : Option Nat) (h : YS) : ZR YS :=
  ygR 10201 x0 h fun v1 =>
  zI (ycv R d [(36, 369), (32, 349), (38, 379), (37, 374), (35, 364), (33, 354), (25, 334), (34, 359)] v1 [.inr (.inr x1)] h) fun v3 h2 =>
  zlet v3 fun x2_4 =>
  ygR 10202 x0 h2 fun v5 =>
  zI (ycv R d [(31, 347), (30, 345), (29, 343), (28, 341)] v5 [.inr (.inr x1)] h2) fun v7 h6 =>
  ygR 10201 x0 h6 fun v8 =>
  ygI 7500 v8 h6 fun v9 =>
  zV (ycv R d [(9, 199)] x1 [.inl x2_4, .inl v7, .inl v9] h6) fun h10 =>
  zrI x2_4 h10
def yb_TypedPat_tests (C : YC) (R : ZC YS) (d : Nat) (x0 : Option Nat) (h : YS) : ZR YS :=
  ygR 10201 x0 h fun v1 =>
  zI (ycv R d [(36, 370), (32, 350), (38, 380), (37, 375), (35, 365), (33, 355), (25, 335), (34, 360)] v1 [] h) fun v3 h2 =>
  zrI v3 h2
def yb_TypedPat_meets (C : YC) (R : ZC YS) (d : Nat) (x0 : Option Nat) (x1 : Option Nat) (x2 : Int) (h : YS) : ZR YS :=
  ygR 10201 x0 h fun v1 =>
  zI (ycv R d [(36, 371), (32, 351), (38, 381), (37, 376), (35, 366), (33, 356), (25, 336), (34, 361)] v1 [.inr (.inr x1), .inl x2] h) fun v3 h2 =>
  zrI v3 h2
def yb_TypedPat_make (C : YC) (R : ZC YS) (d : Nat) (x0 : Option Nat) (x1 : Option Nat) (x2 : Int) (x3 : Option Nat) (h : YS) : ZR YS :=
  ygR 10201 x0 h fun v1 =>
  zV (ycv R d [(36, 372), (32, 352), (38, 382), (37, 377), (35, 367), (33, 357), (25, 337), (34, 362)] v1 [.inr (.inr x1), .inl x2, .inr (.inr x3)] h) fun h2 =>
  zrV h2
def yb_ListPat_init (C : YC) (R : ZC YS) (d : Nat) (x0 : Option Nat) (x1 : Int) (x2 : Option Nat) (h : YS) : ZR YS :=
  zV (ycs R d 332 x0 [.inl x1] h) fun h1 =>
  ypR 10501 x0 x2 h1 fun h2 =>
  zrV h2
def yb_ListPat_judge (C : YC) (R : ZC YS) (d : Nat) (x0 : Option Nat) (x1 : Option Nat) (h : YS) : ZR YS :=
  zlet ((-1) : Int) fun x2_1 =>
  zlet (0 : Int) fun x3_2 =>
  R d 704 [.inr (.inr x0), .inr (.inr x1), .inl x2_1, .inl x3_2] h
def yb_ListPat_tests (C : YC) (R : ZC YS) (d : Nat) (x0 : Option Nat) (h : YS) : ZR YS :=
  zlet (1 : Int) fun x1_1 =>
  zlet (0 : Int) fun x2_2 =>
  R d 705 [.inr (.inr x0), .inl x1_1, .inl x2_2] h
def yb_ListPat_meets (C : YC) (R : ZC YS) (d : Nat) (x0 : Option Nat) (x1 : Option Nat) (x2 : Int) (h : YS) : ZR YS :=
  zlet x2 fun x3_1 =>
  zlet (1 : Int) fun x4_2 =>
  zlet (0 : Int) fun x5_3 =>
  R d 706 [.inr (.inr x0), .inr (.inr x1), .inl x3_1, .inl x4_2, .inl x5_3] h
def yb_ListPat_make (C : YC) (R : ZC YS) (d : Nat) (x0 : Option Nat) (x1 : Option Nat) (x2 : Int) (x3 : Option Nat) (h : YS) : ZR YS :=
  zlet x2 fun x4_1 =>
  zlet ((-1) : Int) fun x5_2 =>
  zlet (0 : Int) fun x6_3 =>
  R d 707 [.inr (.inr x0), .inr (.inr x1), .inr (.inr x3), .inl x4_1, .inl x5_2, .inl x6_3] h
def yb_AnyPat_init (C : YC) (R : ZC YS) (d : Nat) (x0 : Option Nat) (x1 : Int) (h : YS) : ZR YS :=
  zV (ycs R d 332 x0 [.inl x1] h) fun h1 =>
  zrV h1
def yb_AnyPat_judge (C : YC) (R : ZC YS) (d : Nat) (x0 : Option Nat) (x1 : Option Nat) (h : YS) : ZR YS :=
  ygR 2700 x1 h fun v1 =>
  zI (ycv R d [(4, 64)] v1 [] h) fun v3 h2 =>
  zrI v3 h2
def yb_AnyPat_tests (C : YC) (R : ZC YS) (d : Nat) (x0 : Option Nat) (h : YS) : ZR YS :=
  zrI 0 h
def yb_AnyPat_meets (C : YC) (R : ZC YS) (d : Nat) (x0 : Option Nat) (x1 : Option Nat) (x2 : Int) (h : YS) : ZR YS :=
  zrI 1 h
def yb_AnyPat_make (C : YC) (R : ZC YS) (d : Nat) (x0 : Option Nat) (x1 : Option Nat) (x2 : Int) (x3 : Option Nat) (h : YS) : ZR YS :=
  zrV h
def yb_ConstantPat_init (C : YC) (R : ZC YS) (d : Nat) (x0 : Option Nat) (x1 : Option Nat) (h : YS) : ZR YS :=
  ygI 6601 x1 h fun v1 =>
  zV (ycs R d 332 x0 [.inl v1] h) fun h2 =>
  ypR 11101 x0 x1 h2 fun h3 =>
  zrV h3
def yb_ConstantPat_judge (C : YC) (R : ZC YS) (d : Nat) (x0 : Option Nat) (x1 : Option Nat) (h : YS) : ZR YS :=
  ygR 2700 x1 h fun v1 =>
  ygR 11101 x0 h fun v2 =>
  zI (zc R d 25 [.inr (.inr v2)] h) fun v4 h3 =>
  zI (ycv R d [(4, 68)] v1 [.inl v4] h3) fun v6 h5 =>
  zrI v6 h5
def yb_ConstantPat_tests (C : YC) (R : ZC YS) (d : Nat) (x0 : Option Nat) (h : YS) : ZR YS :=
  zrI 1 h
def yb_ConstantPat_meets (C : YC) (R : ZC YS) (d : Nat) (x0 : Option Nat) (x1 : Option Nat) (x2 : Int) (h : YS) : ZR YS :=
  ygR 11101 x0 h fun v1 =>
  ygR 6600 v1 h fun v2 =>
  ysvR C 13 fun v3 =>
  if v2 = v3 then
    ygR 11101 x0 h fun v4 =>
    ygR 6602 v4 h fun v5 =>
    zI (ycv R d [(10, 214)] x1 [.inl x2, .inr (.inr v5)] h) fun v7 h6 =>
    zrI v7 h6
  else
  ygR 11101 x0 h fun v8 =>
  ygI 6603 v8 h fun v9 =>
  zI (ycv R d [(10, 215)] x1 [.inl x2, .inl v9] h) fun v11 h10 =>
  zrI v11 h10
def yb_ConstantPat_make (C : YC) (R : ZC YS) (d : Nat) (x0 : Option Nat) (x1 : Option Nat) (x2 : Int) (x3 : Option Nat) (h : YS) : ZR YS :=
  ygR 11101 x0 h fun v1 =>
  ygR 6600 v1 h fun v2 =>
  ysvR C 13 fun v3 =>
  if v2 = v3 then
    R d 708 [.inr (.inr x0), .inr (.inr x1), .inl x2, .inl 32, .inr (.inr x1), .inr (.inr x3)] h
  else
  R d 708 [.inr (.inr x0), .inr (.inr x1), .inl x2, .inl 31, .inr (.inr x1), .inr (.inr x3)] h
def yb_ConPat_init (C : YC) (R : ZC YS) (d : Nat) (x0 : Option Nat) (x1 : Option Nat) (x2 : Int) (x3 : Int) (x4 : Int) (x5 : Option Nat) (h : YS) : ZR YS :=
  zV (ycs R d 332 x0 [.inl x3] h) fun h1 =>
  ypR 11401 x0 x1 h1 fun h2 =>
  ypI 11402 0 x0 x2 h2 fun h3 =>
  ypI 11403 1 x0 x4 h3 fun h4 =>
  ypR 11404 x0 x5 h4 fun h5 =>
  zrV h5
def yb_ConPat_judge (C : YC) (R : ZC YS) (d : Nat) (x0 : Option Nat) (x1 : Option Nat) (h : YS) : ZR YS :=
  ygR 11401 x0 h fun v1 =>
  ygI 11402 x0 h fun v2 =>
  zQ (ycv R d [(9, 196)] x1 [.inr (.inr v1), .inl v2] h) fun v4 h3 =>
  ypR 11405 x0 v4 h3 fun h5 =>
  ygR 11405 x0 h5 fun v6 =>
  zI (ycv R d [(18, 311)] v6 [] h5) fun v8 h7 =>
  if v8 = 0 then
    R d 709 [.inr (.inr x0), .inr (.inr x1), .inl 0, .inr (.inr x1)] h7
  else
  ygR 11405 x0 h7 fun v9 =>
  zI (ycv R d [(18, 312)] v9 [] h7) fun v11 h10 =>
  if v11 = 0 then
    R d 709 [.inr (.inr x0), .inr (.inr x1), .inl 0, .inr (.inr x1)] h10
  else
  R d 709 [.inr (.inr x0), .inr (.inr x1), .inl 1, .inr (.inr x1)] h10
def yb_ConPat_tests (C : YC) (R : ZC YS) (d : Nat) (x0 : Option Nat) (h : YS) : ZR YS :=
  ygR 11404 x0 h fun v1 =>
  zI (ycv R d [(36, 370), (32, 350), (38, 380), (37, 375), (35, 365), (33, 355), (25, 335), (34, 360)] v1 [] h) fun v3 h2 =>
  zG (inI (1 + v3)) <|
  zrI (1 + v3) h2
def yb_ConPat_meets (C : YC) (R : ZC YS) (d : Nat) (x0 : Option Nat) (x1 : Option Nat) (x2 : Int) (h : YS) : ZR YS :=
  ygR 11405 x0 h fun v1 =>
  zI (ycv R d [(10, 210)] x1 [.inl x2, .inr (.inr v1)] h) fun v3 h2 =>
  zlet v3 fun x3_4 =>
  if x3_4 = 1 then
    ygR 11404 x0 h2 fun v5 =>
    zI (ycv R d [(10, 213)] x1 [.inl x2, .inl 0, .inl 1] h2) fun v7 h6 =>
    zI (ycv R d [(36, 371), (32, 351), (38, 381), (37, 376), (35, 366), (33, 356), (25, 336), (34, 361)] v5 [.inr (.inr x1), .inl v7] h6) fun v9 h8 =>
    zrI v9 h8
  else
  zrI x3_4 h2
def yb_ConPat_make (C : YC) (R : ZC YS) (d : Nat) (x0 : Option Nat) (x1 : Option Nat) (x2 : Int) (x3 : Option Nat) (h : YS) : ZR YS :=
  ygR 11405 x0 h fun v1 =>
  zV (ycv R d [(70, 490)] x1 [.inr (.inr v1), .inl x2, .inr (.inr x3)] h) fun h2 =>
  ygR 11404 x0 h2 fun v3 =>
  zI (ycv R d [(70, 491)] x1 [.inl x2, .inl 0] h2) fun v5 h4 =>
  zV (ycv R d [(36, 372), (32, 352), (38, 382), (37, 377), (35, 367), (33, 357), (25, 337), (34, 362)] v3 [.inr (.inr x1), .inl v5, .inr (.inr x3)] h4) fun h6 =>
  zrV h6
def yb_Exp_init (C : YC) (R : ZC YS) (d : Nat) (x0 : Option Nat) (x1 : Int) (h : YS) : ZR YS :=
  ynull x0 none <|
  ypI 11700 0 x0 x1 h fun h2 =>
  zrV h2
def yb_Exp_isQuiet (C : YC) (R : ZC YS) (d : Nat) (x0 : Option Nat) (h : YS) : ZR YS :=
  yrN 1 0 h
def yb_Raise_init (C : YC) (R : ZC YS) (d : Nat) (x0 : Option Nat) (x1 : Int) (x2 : Option Nat) (h : YS) : ZR YS :=
  zV (ycs R d 383 x0 [.inl x1] h) fun h1 =>
  ypR 11701 x0 x2 h1 fun h2 =>
  zrV h2
def yb_Raise_judge (C : YC) (R : ZC YS) (d : Nat) (x0 : Option Nat) (x1 : Option Nat) (h : YS) : ZR YS :=
  ygR 11701 x0 h fun v1 =>
  zI (ycv R d [(53, 435), (56, 448), (42, 396), (52, 431), (45, 403), (57, 451), (40, 390), (54, 440), (49, 419), (48, 415), (39, 386), (47, 411), (50, 422), (46, 408), (55, 444), (51, 426), (41, 393)] v1 [.inr (.inr x1)] h) fun v3 h2 =>
  zlet v3 fun x2_4 =>
  ygR 2700 x1 h2 fun v5 =>
  zI (ycv R d [(4, 68)] v5 [.inl 4] h2) fun v7 h6 =>
  ygR 11701 x0 h6 fun v8 =>
  ygI 11700 v8 h6 fun v9 =>
  zV (ycv R d [(9, 199)] x1 [.inl x2_4, .inl v7, .inl v9] h6) fun h10 =>
  ygR 2700 x1 h10 fun v11 =>
  zI (ycv R d [(4, 64)] v11 [] h10) fun v13 h12 =>
  zrI v13 h12
def yb_Raise_make (C : YC) (R : ZC YS) (d : Nat) (x0 : Option Nat) (x1 : Option Nat) (x2 : Int) (h : YS) : ZR YS :=
  ygR 11701 x0 h fun v1 =>
  zV (ycv R d [(53, 438), (56, 449), (42, 397), (52, 433), (45, 405), (57, 452), (40, 391), (54, 442), (49, 420), (48, 417), (39, 387), (47, 413), (50, 424), (46, 409), (55, 446), (51, 429), (41, 394)] v1 [.inr (.inr x1), .inl 0] h) fun h2 =>
  zI (ycv R d [(70, 484)] x1 [.inl 27, .inl 0, .inl 0] h2) fun v4 h3 =>
  zrV h3
def yb_If_init (C : YC) (R : ZC YS) (d : Nat) (x0 : Option Nat) (x1 : Int) (x2 : Option Nat) (x3 : Option Nat) (x4 : Option Nat) (h : YS) : ZR YS :=
  zV (ycs R d 383 x0 [.inl x1] h) fun h1 =>
  ypR 12001 x0 x2 h1 fun h2 =>
  ypR 12002 x0 x3 h2 fun h3 =>
  ypR 12003 x0 x4 h3 fun h4 =>
  zrV h4
def yb_If_truth (C : YC) (R : ZC YS) (d : Nat) (x0 : Option Nat) (x1 : Option Nat) (h : YS) : ZR YS :=
  zI (ycv R d [(53, 435), (56, 448), (42, 396), (52, 431), (45, 403), (57, 451), (40, 390), (54, 440), (49, 419), (48, 415), (39, 386), (47, 411), (50, 422), (46, 408), (55, 444), (51, 426), (41, 393)] x1 [.inr (.inr x0)] h) fun v2 h1 =>
  zlet v2 fun x2_3 =>
  ygR 2700 x0 h1 fun v4 =>
  zI (ycv R d [(4, 68)] v4 [.inl 3] h1) fun v6 h5 =>
  ygI 11700 x1 h5 fun v7 =>
  zV (ycv R d [(9, 199)] x0 [.inl x2_3, .inl v6, .inl v7] h5) fun h8 =>
  zrV h8
def yb_If_judge (C : YC) (R : ZC YS) (d : Nat) (x0 : Option Nat) (x1 : Option Nat) (h : YS) : ZR YS :=
  ygR 12001 x0 h fun v1 =>
  zV (zc R d 389 [.inr (.inr x1), .inr (.inr v1)] h) fun h2 =>
  ygR 12002 x0 h2 fun v3 =>
  zI (ycv R d [(53, 435), (56, 448), (42, 396), (52, 431), (45, 403), (57, 451), (40, 390), (54, 440), (49, 419), (48, 415), (39, 386), (47, 411), (50, 422), (46, 408), (55, 444), (51, 426), (41, 393)] v3 [.inr (.inr x1)] h2) fun v5 h4 =>
  zlet v5 fun x2_6 =>
  ygR 12003 x0 h4 fun v7 =>
  zI (ycv R d [(53, 435), (56, 448), (42, 396), (52, 431), (45, 403), (57, 451), (40, 390), (54, 440), (49, 419), (48, 415), (39, 386), (47, 411), (50, 422), (46, 408), (55, 444), (51, 426), (41, 393)] v7 [.inr (.inr x1)] h4) fun v9 h8 =>
  zlet v9 fun x3_10 =>
  ygR 12003 x0 h8 fun v11 =>
  ygI 11700 v11 h8 fun v12 =>
  zV (ycv R d [(9, 199)] x1 [.inl x2_6, .inl x3_10, .inl v12] h8) fun h13 =>
  zrI x2_6 h13
def yb_If_make (C : YC) (R : ZC YS) (d : Nat) (x0 : Option Nat) (x1 : Option Nat) (x2 : Int) (h : YS) : ZR YS :=
  ygR 12001 x0 h fun v1 =>
  zV (ycv R d [(53, 438), (56, 449), (42, 397), (52, 433), (45, 405), (57, 452), (40, 391), (54, 442), (49, 420), (48, 417), (39, 387), (47, 413), (50, 424), (46, 409), (55, 446), (51, 429), (41, 394)] v1 [.inr (.inr x1), .inl 0] h) fun h2 =>
  zI (ycv R d [(70, 484)] x1 [.inl 25, .inl 0, .inl 0] h2) fun v4 h3 =>
  zlet v4 fun x3_5 =>
  ygR 12002 x0 h3 fun v6 =>
  zV (ycv R d [(53, 438), (56, 449), (42, 397), (52, 433), (45, 405), (57, 452), (40, 391), (54, 442), (49, 420), (48, 417), (39, 387), (47, 413), (50, 424), (46, 409), (55, 446), (51, 429), (41, 394)] v6 [.inr (.inr x1), .inl x2] h3) fun h7 =>
  zI (ycv R d [(70, 484)] x1 [.inl 24, .inl 0, .inl 0] h7) fun v9 h8 =>
  zlet v9 fun x4_10 =>
  zV (ycv R d [(70, 498)] x1 [.inl x3_5] h8) fun h11 =>
  ygR 12003 x0 h11 fun v12 =>
  zV (ycv R d [(53, 438), (56, 449), (42, 397), (52, 433), (45, 405), (57, 452), (40, 391), (54, 442), (49, 420), (48, 417), (39, 387), (47, 413), (50, 424), (46, 409), (55, 446), (51, 429), (41, 394)] v12 [.inr (.inr x1), .inl x2] h11) fun h13 =>
  zV (ycv R d [(70, 498)] x1 [.inl x4_10] h13) fun h14 =>
  zrV h14
def yb_While_init (C : YC) (R : ZC YS) (d : Nat) (x0 : Option Nat) (x1 : Int) (x2 : Option Nat) (x3 : Option Nat) (h : YS) : ZR YS :=
  zV (ycs R d 383 x0 [.inl x1] h) fun h1 =>
  ypR 12301 x0 x2 h1 fun h2 =>
  ypR 12302 x0 x3 h2 fun h3 =>
  zrV h3
def yb_While_judge (C : YC) (R : ZC YS) (d : Nat) (x0 : Option Nat) (x1 : Option Nat) (h : YS) : ZR YS :=
  ygR 12301 x0 h fun v1 =>
  zV (zc R d 389 [.inr (.inr x1), .inr (.inr v1)] h) fun h2 =>
  ygR 12302 x0 h2 fun v3 =>
  zI (ycv R d [(53, 435), (56, 448), (42, 396), (52, 431), (45, 403), (57, 451), (40, 390), (54, 440), (49, 419), (48, 415), (39, 386), (47, 411), (50, 422), (46, 408), (55, 444), (51, 426), (41, 393)] v3 [.inr (.inr x1)] h2) fun v5 h4 =>
  ygR 2700 x1 h4 fun v6 =>
  zI (ycv R d [(4, 51)] v6 [] h4) fun v8 h7 =>
  zrI v8 h7
def yb_While_make (C : YC) (R : ZC YS) (d : Nat) (x0 : Option Nat) (x1 : Option Nat) (x2 : Int) (h : YS) : ZR YS :=
  zI (ycv R d [(70, 496)] x1 [] h) fun v2 h1 =>
  zlet v2 fun x3_3 =>
  zI (ycv R d [(70, 484)] x1 [.inl 26, .inl 0, .inl 0] h1) fun v5 h4 =>
  ygR 12301 x0 h4 fun v6 =>
  zV (ycv R d [(53, 438), (56, 449), (42, 397), (52, 433), (45, 405), (57, 452), (40, 391), (54, 442), (49, 420), (48, 417), (39, 387), (47, 413), (50, 424), (46, 409), (55, 446), (51, 429), (41, 394)] v6 [.inr (.inr x1), .inl 0] h4) fun h7 =>
  zI (ycv R d [(70, 484)] x1 [.inl 25, .inl 0, .inl 0] h7) fun v9 h8 =>
  zlet v9 fun x4_10 =>
  ygR 12302 x0 h8 fun v11 =>
  zV (ycv R d [(53, 438), (56, 449), (42, 397), (52, 433), (45, 405), (57, 452), (40, 391), (54, 442), (49, 420), (48, 417), (39, 387), (47, 413), (50, 424), (46, 409), (55, 446), (51, 429), (41, 394)] v11 [.inr (.inr x1), .inl 0] h8) fun h12 =>
  zI (ycv R d [(70, 484)] x1 [.inl 14, .inl 0, .inl 0] h12) fun v14 h13 =>
  zI (ycv R d [(70, 484)] x1 [.inl 24, .inl 0, .inl 0] h13) fun v16 h15 =>
  zV (ycv R d [(70, 497)] x1 [.inl v16, .inl x3_3] h15) fun h17 =>
  zV (ycv R d [(70, 498)] x1 [.inl x4_10] h17) fun h18 =>
  zI (ycv R d [(70, 484)] x1 [.inl 7, .inl 0, .inl 0] h18) fun v20 h19 =>
  zrV h19
def yb_Case_init (C : YC) (R : ZC YS) (d : Nat) (x0 : Option Nat) (x1 : Int) (x2 : Option Nat) (x3 : Option Nat) (h : YS) : ZR YS :=
  zV (ycs R d 383 x0 [.inl x1] h) fun h1 =>
  ypR 12601 x0 x2 h1 fun h2 =>
  ypR 12602 x0 x3 h2 fun h3 =>
  ypI 12603 0 x0 x1 h3 fun h4 =>
  zrV h4
def yb_Case_judge (C : YC) (R : ZC YS) (d : Nat) (x0 : Option Nat) (x1 : Option Nat) (h : YS) : ZR YS :=
  ygR 12601 x0 h fun v1 =>
  zI (ycv R d [(53, 435), (56, 448), (42, 396), (52, 431), (45, 403), (57, 451), (40, 390), (54, 440), (49, 419), (48, 415), (39, 386), (47, 411), (50, 422), (46, 408), (55, 444), (51, 426), (41, 393)] v1 [.inr (.inr x1)] h) fun v3 h2 =>
  zlet v3 fun x2_4 =>
  ygR 12602 x0 h2 fun v5 =>
  ygI 12603 x0 h2 fun v6 =>
  zI (ycv R d [(43, 399)] v5 [.inr (.inr x1), .inl x2_4, .inl (-1), .inl v6, .inl 1] h2) fun v8 h7 =>
  zrI v8 h7
def yb_Case_make (C : YC) (R : ZC YS) (d : Nat) (x0 : Option Nat) (x1 : Option Nat) (x2 : Int) (h : YS) : ZR YS :=
  ygR 12601 x0 h fun v1 =>
  zV (ycv R d [(53, 438), (56, 449), (42, 397), (52, 433), (45, 405), (57, 452), (40, 391), (54, 442), (49, 420), (48, 417), (39, 387), (47, 413), (50, 424), (46, 409), (55, 446), (51, 429), (41, 394)] v1 [.inr (.inr x1), .inl 0] h) fun h2 =>
  zI (ycv R d [(70, 487)] x1 [] h2) fun v4 h3 =>
  zlet v4 fun x3_5 =>
  zI (ycv R d [(70, 484)] x1 [.inl 12, .inl x3_5, .inl 0] h3) fun v7 h6 =>
  ygR 12602 x0 h6 fun v8 =>
  zV (ycv R d [(43, 400)] v8 [.inr (.inr x1), .inl x3_5, .inl x2, .inl 0] h6) fun h9 =>
  zrV h9
def yb_Rules_init (C : YC) (R : ZC YS) (d : Nat) (x0 : Option Nat) (h : YS) : ZR YS :=
  ynull x0 none <|
  ynew 5 3 h fun r2 h3 =>
  zV (ycs R d 503 r2 [] h3) fun h4 =>
  ypR 12900 x0 r2 h4 fun h5 =>
  zrV h5
def yb_Rules_judge (C : YC) (R : ZC YS) (d : Nat) (x0 : Option Nat) (x1 : Option Nat) (x2 : Int) (x3 : Int) (x4 : Int) (x5 : Int) (h : YS) : ZR YS :=
  ynew 69 4 h fun r1 h2 =>
  zV (ycs R d 480 r1 [.inl x4, .inl x5] h2) fun h3 =>
  zlet r1 fun x6_4 =>
  ygR 2711 x1 h3 fun v5 =>
  zI (ycv R d [(5, 505)] v5 [.inr (.inr x6_4)] h3) fun v7 h6 =>
  ygI 2707 x1 h6 fun v8 =>
  zlet v8 fun x7_9 =>
  ypI 2707 1 x1 0 h6 fun h10 =>
  ypI 12901 0 x0 x2 h10 fun h11 =>
  zlet x3 fun x8_12 =>
  zlet (0 : Int) fun x9_13 =>
  R d 710 [.inr (.inr x0), .inr (.inr x1), .inl x4, .inr (.inr x6_4), .inl x7_9, .inl x8_12, .inl x9_13] h11
def yb_Rules_make (C : YC) (R : ZC YS) (d : Nat) (x0 : Option Nat) (x1 : Option Nat) (x2 : Int) (x3 : Int) (x4 : Int) (h : YS) : ZR YS :=
  ynew 5 3 h fun r1 h2 =>
  zV (ycs R d 503 r1 [] h2) fun h3 =>
  zlet r1 fun x5_4 =>
  zlet (0 : Int) fun x6_5 =>
  R d 711 [.inr (.inr x0), .inr (.inr x1), .inl x2, .inl x3, .inl x4, .inr (.inr x5_4), .inl x6_5] h3
def yb_Rule_init (C : YC) (R : ZC YS) (d : Nat) (x0 : Option Nat) (x1 : Option Nat) (x2 : Option Nat) (h : YS) : ZR YS :=
  ynull x0 none <|
  ypR 13200 x0 x1 h fun h2 =>
  ypR 13201 x0 x2 h2 fun h3 =>
  zrV h3
def yb_Fn_init (C : YC) (R : ZC YS) (d : Nat) (x0 : Option Nat) (x1 : Int) (x2 : Option Nat) (h : YS) : ZR YS :=
  zV (ycs R d 383 x0 [.inl x1] h) fun h1 =>
  ypR 13501 x0 x2 h1 fun h2 =>
  ypI 13502 0 x0 x1 h2 fun h3 =>
  zrV h3
def yb_Fn_judge (C : YC) (R : ZC YS) (d : Nat) (x0 : Option Nat) (x1 : Option Nat) (h : YS) : ZR YS :=
  ygR 13501 x0 h fun v1 =>
  ygI 13502 x0 h fun v2 =>
  zI (ycv R d [(43, 399)] v1 [.inr (.inr x1), .inl (-1), .inl (-1), .inl v2, .inl 1] h) fun v4 h3 =>
  zlet v4 fun x2_5 =>
  ygR 2700 x1 h3 fun v6 =>
  ygR 13501 x0 h3 fun v7 =>
  ygI 12901 v7 h3 fun v8 =>
  zI (ycv R d [(4, 70)] v6 [.inl v8, .inl x2_5] h3) fun v10 h9 =>
  zrI v10 h9
def yb_Fn_isQuiet (C : YC) (R : ZC YS) (d : Nat) (x0 : Option Nat) (h : YS) : ZR YS :=
  yrN 1 1 h
def yb_Fn_make (C : YC) (R : ZC YS) (d : Nat) (x0 : Option Nat) (x1 : Option Nat) (x2 : Int) (h : YS) : ZR YS :=
  zQ (ycv R d [(45, 406)] x0 [.inr (.inr x1)] h) fun v2 h1 =>
  zlet v2 fun x3_3 =>
  ygR 21000 x1 h1 fun v4 =>
  zI (ycv R d [(0, 32)] v4 [.inr (.inr x3_3)] h1) fun v6 h5 =>
  zI (ycv R d [(70, 484)] x1 [.inl 18, .inl v6, .inl 0] h5) fun v8 h7 =>
  zV (ycv R d [(70, 495)] x1 [.inr (.inr x3_3)] h7) fun h9 =>
  zrV h9
def yb_Fn_routine (C : YC) (R : ZC YS) (d : Nat) (x0 : Option Nat) (x1 : Option Nat) (h : YS) : ZR YS :=
  ynew 70 8 h fun r1 h2 =>
  ygR 21000 x1 h2 fun v3 =>
  zV (ycs R d 482 r1 [.inr (.inr v3), .inr (.inr x1), .inl 1] h2) fun h4 =>
  zlet r1 fun x2_5 =>
  ygR 13501 x0 h4 fun v6 =>
  zV (ycv R d [(43, 400)] v6 [.inr (.inr x2_5), .inl 0, .inl 1, .inl 0] h4) fun h7 =>
  zI (ycv R d [(70, 484)] x2_5 [.inl 23, .inl 0, .inl 0] h7) fun v9 h8 =>
  zrQ x2_5 h8
def yb_Sequence_init (C : YC) (R : ZC YS) (d : Nat) (x0 : Option Nat) (x1 : Int) (x2 : Option Nat) (h : YS) : ZR YS :=
  zV (ycs R d 383 x0 [.inl x1] h) fun h1 =>
  ypR 13801 x0 x2 h1 fun h2 =>
  zrV h2
def yb_Sequence_judge (C : YC) (R : ZC YS) (d : Nat) (x0 : Option Nat) (x1 : Option Nat) (h : YS) : ZR YS :=
  zlet ((-1) : Int) fun x2_1 =>
  zlet (0 : Int) fun x3_2 =>
  R d 712 [.inr (.inr x0), .inr (.inr x1), .inl x2_1, .inl x3_2] h
def yb_Sequence_make (C : YC) (R : ZC YS) (d : Nat) (x0 : Option Nat) (x1 : Option Nat) (x2 : Int) (h : YS) : ZR YS :=
  ygR 13801 x0 h fun v1 =>
  zI (ycv R d [(5, 506)] v1 [] h) fun v3 h2 =>
  zlet v3 fun x3_4 =>
  zlet (0 : Int) fun x4_5 =>
  R d 713 [.inr (.inr x0), .inr (.inr x1), .inl x2, .inl x3_4, .inl x4_5] h2
def yb_RowExp_init (C : YC) (R : ZC YS) (d : Nat) (x0 : Option Nat) (x1 : Int) (x2 : Option Nat) (x3 : Option Nat) (x4 : Option Nat) (h : YS) : ZR YS :=
  zV (ycs R d 383 x0 [.inl x1] h) fun h1 =>
  ypR 14101 x0 x2 h1 fun h2 =>
  ypR 14102 x0 x3 h2 fun h3 =>
  ypR 14103 x0 x4 h3 fun h4 =>
  zrV h4
def yb_RowExp_judge (C : YC) (R : ZC YS) (d : Nat) (x0 : Option Nat) (x1 : Option Nat) (h : YS) : ZR YS :=
  ygR 14103 x0 h fun v1 =>
  zI (ycv R d [(5, 506)] v1 [] h) fun v3 h2 =>
  zlet v3 fun x2_4 =>
  yna 0 x2_4 h2 fun r5 h6 =>
  zlet r5 fun x3_7 =>
  zlet (0 : Int) fun x4_8 =>
  R d 714 [.inr (.inr x0), .inr (.inr x1), .inl x2_4, .inr (.inr x3_7), .inl x4_8] h6
def yb_RowExp_isQuiet (C : YC) (R : ZC YS) (d : Nat) (x0 : Option Nat) (h : YS) : ZR YS :=
  zlet (1 : Int) fun x1_1 =>
  zlet (0 : Int) fun x2_2 =>
  R d 715 [.inr (.inr x0), .inl x1_1, .inl x2_2] h
def yb_RowExp_make (C : YC) (R : ZC YS) (d : Nat) (x0 : Option Nat) (x1 : Option Nat) (x2 : Int) (h : YS) : ZR YS :=
  ygR 14103 x0 h fun v1 =>
  zI (ycv R d [(5, 506)] v1 [] h) fun v3 h2 =>
  zlet v3 fun x3_4 =>
  if x3_4 = 0 then
    zI (ycv R d [(70, 484)] x1 [.inl 7, .inl 0, .inl 0] h2) fun v6 h5 =>
    zrV h5
  else
  zlet (0 : Int) fun x4_7 =>
  R d 716 [.inr (.inr x0), .inr (.inr x1), .inl x3_4, .inl x4_7] h2
def yb_ListExp_init (C : YC) (R : ZC YS) (d : Nat) (x0 : Option Nat) (x1 : Int) (x2 : Option Nat) (h : YS) : ZR YS :=
  zV (ycs R d 383 x0 [.inl x1] h) fun h1 =>
  ypR 14401 x0 x2 h1 fun h2 =>
  zrV h2
def yb_ListExp_judge (C : YC) (R : ZC YS) (d : Nat) (x0 : Option Nat) (x1 : Option Nat) (h : YS) : ZR YS :=
  zlet ((-1) : Int) fun x2_1 =>
  zlet (0 : Int) fun x3_2 =>
  R d 717 [.inr (.inr x0), .inr (.inr x1), .inl x2_1, .inl x3_2] h
def yb_ListExp_isQuiet (C : YC) (R : ZC YS) (d : Nat) (x0 : Option Nat) (h : YS) : ZR YS :=
  zlet (1 : Int) fun x1_1 =>
  zlet (0 : Int) fun x2_2 =>
  R d 718 [.inr (.inr x0), .inl x1_1, .inl x2_2] h
def yb_ListExp_make (C : YC) (R : ZC YS) (d : Nat) (x0 : Option Nat) (x1 : Option Nat) (x2 : Int) (h : YS) : ZR YS :=
  zlet (0 : Int) fun x3_1 =>
  R d 719 [.inr (.inr x0), .inr (.inr x1), .inl x3_1] h
def yb_Let_init (C : YC) (R : ZC YS) (d : Nat) (x0 : Option Nat) (x1 : Int) (x2 : Option Nat) (x3 : Option Nat) (h : YS) : ZR YS :=
  zV (ycs R d 383 x0 [.inl x1] h) fun h1 =>
  ypR 14701 x0 x2 h1 fun h2 =>
  ypR 14702 x0 x3 h2 fun h3 =>
  zrV h3
def yb_Let_judge (C : YC) (R : ZC YS) (d : Nat) (x0 : Option Nat) (x1 : Option Nat) (h : YS) : ZR YS :=
  ygI 2707 x1 h fun v1 =>
  zlet v1 fun x2_2 =>
  ypI 2707 1 x1 0 h fun h3 =>
  ygR 2702 x1 h3 fun v4 =>
  zI (ycv R d [(5, 506)] v4 [] h3) fun v6 h5 =>
  zlet v6 fun x3_7 =>
  ygR 2703 x1 h5 fun v8 =>
  zI (ycv R d [(5, 506)] v8 [] h5) fun v10 h9 =>
  zlet v10 fun x4_11 =>
  zlet (0 : Int) fun x5_12 =>
  R d 720 [.inr (.inr x0), .inr (.inr x1), .inl x2_2, .inl x3_7, .inl x4_11, .inl x5_12] h9
def yb_Let_make (C : YC) (R : ZC YS) (d : Nat) (x0 : Option Nat) (x1 : Option Nat) (x2 : Int) (h : YS) : ZR YS :=
  zlet (0 : Int) fun x3_1 =>
  R d 721 [.inr (.inr x0), .inr (.inr x1), .inl x2, .inl x3_1] h
def yb_Select_init (C : YC) (R : ZC YS) (d : Nat) (x0 : Option Nat) (x1 : Option Nat) (x2 : Int) (h : YS) : ZR YS :=
  zV (ycs R d 383 x0 [.inl x2] h) fun h1 =>
  ypR 15001 x0 x1 h1 fun h2 =>
  ypI 15002 0 x0 x2 h2 fun h3 =>
  zrV h3
def yb_Select_judge (C : YC) (R : ZC YS) (d : Nat) (x0 : Option Nat) (x1 : Option Nat) (h : YS) : ZR YS :=
  ygR 2700 x1 h fun v1 =>
  zI (ycv R d [(4, 64)] v1 [] h) fun v3 h2 =>
  zlet v3 fun x2_4 =>
  ygR 2700 x1 h2 fun v5 =>
  ygI 15002 x0 h2 fun v6 =>
  zI (ycv R d [(4, 72)] v5 [.inl 1, .inl v6] h2) fun v8 h7 =>
  ypI 15003 0 x0 v8 h7 fun h9 =>
  ygR 2700 x1 h9 fun v10 =>
  ygI 15003 x0 h9 fun v11 =>
  ygR 15001 x0 h9 fun v12 =>
  zV (ycv R d [(4, 66)] v10 [.inl v11, .inl 0, .inr (.inr v12), .inl x2_4] h9) fun h13 =>
  ygR 2700 x1 h13 fun v14 =>
  ygI 15003 x0 h13 fun v15 =>
  zI (ycv R d [(4, 70)] v14 [.inl v15, .inl x2_4] h13) fun v17 h16 =>
  zrI v17 h16
def yb_Select_isQuiet (C : YC) (R : ZC YS) (d : Nat) (x0 : Option Nat) (h : YS) : ZR YS :=
  yrN 1 1 h
def yb_Select_make (C : YC) (R : ZC YS) (d : Nat) (x0 : Option Nat) (x1 : Option Nat) (x2 : Int) (h : YS) : ZR YS :=
  ygR 21001 x1 h fun v1 =>
  ygR 21001 x1 h fun v2 =>
  ygI 15003 x0 h fun v3 =>
  zI (ycv R d [(4, 56)] v2 [.inl v3] h) fun v5 h4 =>
  ygR 15001 x0 h4 fun v6 =>
  zI (ycv R d [(4, 85)] v1 [.inl v5, .inr (.inr v6)] h4) fun v8 h7 =>
  zI (ycv R d [(70, 484)] x1 [.inl 8, .inl v8, .inl 0] h7) fun v10 h9 =>
  zrV h9
def yb_Use_init (C : YC) (R : ZC YS) (d : Nat) (x0 : Option Nat) (x1 : Option Nat) (x2 : Int) (x3 : Int) (h : YS) : ZR YS :=
  zV (ycs R d 383 x0 [.inl x3] h) fun h1 =>
  ypR 15301 x0 x1 h1 fun h2 =>
  ypI 15302 0 x0 x2 h2 fun h3 =>
  zrV h3
def yb_Use_judge (C : YC) (R : ZC YS) (d : Nat) (x0 : Option Nat) (x1 : Option Nat) (h : YS) : ZR YS :=
  ygR 15301 x0 h fun v1 =>
  ygI 15302 x0 h fun v2 =>
  zQ (ycv R d [(9, 196)] x1 [.inr (.inr v1), .inl v2] h) fun v4 h3 =>
  ypR 15303 x0 v4 h3 fun h5 =>
  ygR 15303 x0 h5 fun v6 =>
  zI (ycv R d [(9, 200)] x1 [.inr (.inr v6)] h5) fun v8 h7 =>
  zrI v8 h7
def yb_Use_isMade (C : YC) (R : ZC YS) (d : Nat) (x0 : Option Nat) (h : YS) : ZR YS :=
  ygR 15303 x0 h fun v1 =>
  zI (ycv R d [(18, 311)] v1 [] h) fun v3 h2 =>
  if v3 = 0 then
    yrN 1 0 h2
  else
  ygR 15301 x0 h2 fun v4 =>
  zI (ycv R d [(21, 576)] v4 [.inr (.inr (some (C.1 154)))] h2) fun v6 h5 =>
  if v6 = 0 then
    yrN 1 1 h5
  else
  yrN 1 0 h5
def yb_Use_isQuiet (C : YC) (R : ZC YS) (d : Nat) (x0 : Option Nat) (h : YS) : ZR YS :=
  yrN 1 1 h
def yb_Use_make (C : YC) (R : ZC YS) (d : Nat) (x0 : Option Nat) (x1 : Option Nat) (x2 : Int) (h : YS) : ZR YS :=
  ygR 15303 x0 h fun v1 =>
  zV (ycv R d [(70, 483)] x1 [.inr (.inr v1)] h) fun h2 =>
  zrV h2
def yb_Constant_init (C : YC) (R : ZC YS) (d : Nat) (x0 : Option Nat) (x1 : Option Nat) (h : YS) : ZR YS :=
  ygI 6601 x1 h fun v1 =>
  zV (ycs R d 383 x0 [.inl v1] h) fun h2 =>
  ypR 15601 x0 x1 h2 fun h3 =>
  zrV h3
def yb_Constant_judge (C : YC) (R : ZC YS) (d : Nat) (x0 : Option Nat) (x1 : Option Nat) (h : YS) : ZR YS :=
  ygR 2700 x1 h fun v1 =>
  ygR 15601 x0 h fun v2 =>
  zI (zc R d 25 [.inr (.inr v2)] h) fun v4 h3 =>
  zI (ycv R d [(4, 68)] v1 [.inl v4] h3) fun v6 h5 =>
  zrI v6 h5
def yb_Constant_isQuiet (C : YC) (R : ZC YS) (d : Nat) (x0 : Option Nat) (h : YS) : ZR YS :=
  yrN 1 1 h
def yb_Constant_make (C : YC) (R : ZC YS) (d : Nat) (x0 : Option Nat) (x1 : Option Nat) (x2 : Int) (h : YS) : ZR YS :=
  ygR 15601 x0 h fun v1 =>
  ygR 6600 v1 h fun v2 =>
  ysvR C 13 fun v3 =>
  if v2 = v3 then
    ygR 15601 x0 h fun v4 =>
    ygR 6602 v4 h fun v5 =>
    zI (ycv R d [(70, 492)] x1 [.inr (.inr v5)] h) fun v7 h6 =>
    zI (ycv R d [(70, 484)] x1 [.inl 1, .inl v7, .inl 0] h6) fun v9 h8 =>
    zrV h8
  else
  ygR 15601 x0 h fun v10 =>
  ygI 6603 v10 h fun v11 =>
  zI (ycv R d [(70, 484)] x1 [.inl 0, .inl v11, .inl 0] h) fun v13 h12 =>
  zrV h12
def yb_Apply_init (C : YC) (R : ZC YS) (d : Nat) (x0 : Option Nat) (x1 : Option Nat) (x2 : Option Nat) (h : YS) : ZR YS :=
  ygI 11700 x1 h fun v1 =>
  zV (ycs R d 383 x0 [.inl v1] h) fun h2 =>
  ypR 15901 x0 x1 h2 fun h3 =>
  ypR 15902 x0 x2 h3 fun h4 =>
  zrV h4
def yb_Apply_judge (C : YC) (R : ZC YS) (d : Nat) (x0 : Option Nat) (x1 : Option Nat) (h : YS) : ZR YS :=
  ygR 15901 x0 h fun v1 =>
  zI (ycv R d [(53, 435), (56, 448), (42, 396), (52, 431), (45, 403), (57, 451), (40, 390), (54, 440), (49, 419), (48, 415), (39, 386), (47, 411), (50, 422), (46, 408), (55, 444), (51, 426), (41, 393)] v1 [.inr (.inr x1)] h) fun v3 h2 =>
  zlet v3 fun x2_4 =>
  zlet (0 : Int) fun x3_5 =>
  R d 722 [.inr (.inr x0), .inr (.inr x1), .inl x2_4, .inl x3_5] h2
def yb_Apply_isQuiet (C : YC) (R : ZC YS) (d : Nat) (x0 : Option Nat) (h : YS) : ZR YS :=
  ygR 15901 x0 h fun v1 =>
  zlet v1 fun x2_2 =>
  yio 72 68 x2_2 h fun v3 =>
  if v3 = 0 then
    yrN 1 0 h
  else
  ycc 72 68 x2_2 h <|
  zlet x2_2 fun x1_4 =>
  zI (ycv R d [(51, 427)] x1_4 [] h) fun v6 h5 =>
  if v6 = 0 then
    yrN 1 0 h5
  else
  ygR 15902 x0 h5 fun v7 =>
  zI (ycv R d [(5, 506)] v7 [] h5) fun v9 h8 =>
  if v9 = 1 then
    ygR 15902 x0 h8 fun v10 =>
    zQ (ycv R d [(5, 528)] v10 [.inl 0] h8) fun v12 h11 =>
    ycc 72 2 v12 h11 <|
    zI (ycv R d [(53, 436), (56, 384), (42, 384), (52, 432), (45, 404), (57, 384), (40, 384), (54, 441), (49, 384), (48, 416), (39, 384), (47, 412), (50, 423), (46, 384), (55, 445), (51, 428), (41, 384)] v12 [] h11) fun v14 h13 =>
    if v14 = 0 then
      yrN 1 0 h13
    else
    yrN 1 1 h13
  else
  yrN 1 0 h8
def yb_Apply_applied (C : YC) (R : ZC YS) (d : Nat) (x0 : Option Nat) (x1 : Int) (x2 : Int) (x3 : Int) (x4 : Int) (h : YS) : ZR YS :=
  ygR 2700 x0 h fun v1 =>
  zI (ycv R d [(4, 56)] v1 [.inl x1] h) fun v3 h2 =>
  zlet v3 fun x5_4 =>
  ygR 2700 x0 h2 fun v5 =>
  zI (ycv R d [(4, 57)] v5 [.inl x5_4] h2) fun v7 h6 =>
  if v7 = 4 then
    R d 723 [.inr (.inr x0), .inl x3, .inl x4, .inl x5_4] h6
  else
  ygR 2700 x0 h6 fun v8 =>
  zI (ycv R d [(4, 64)] v8 [] h6) fun v10 h9 =>
  zlet v10 fun x6_11 =>
  ygR 2700 x0 h9 fun v12 =>
  zI (ycv R d [(4, 64)] v12 [] h9) fun v14 h13 =>
  zlet v14 fun x7_15 =>
  ygR 2700 x0 h13 fun v16 =>
  zI (ycv R d [(4, 70)] v16 [.inl x6_11, .inl x7_15] h13) fun v18 h17 =>
  zV (ycv R d [(9, 199)] x0 [.inl x5_4, .inl v18, .inl x2] h17) fun h19 =>
  ygR 2700 x0 h19 fun v20 =>
  zI (ycv R d [(4, 56)] v20 [.inl x5_4] h19) fun v22 h21 =>
  zlet v22 fun x5_23 =>
  R d 723 [.inr (.inr x0), .inl x3, .inl x4, .inl x5_23] h21
def yb_Apply_make (C : YC) (R : ZC YS) (d : Nat) (x0 : Option Nat) (x1 : Option Nat) (x2 : Int) (h : YS) : ZR YS :=
  ygR 15901 x0 h fun v1 =>
  zV (ycv R d [(53, 438), (56, 449), (42, 397), (52, 433), (45, 405), (57, 452), (40, 391), (54, 442), (49, 420), (48, 417), (39, 387), (47, 413), (50, 424), (46, 409), (55, 446), (51, 429), (41, 394)] v1 [.inr (.inr x1), .inl 0] h) fun h2 =>
  ygR 15902 x0 h2 fun v3 =>
  zI (ycv R d [(5, 506)] v3 [] h2) fun v5 h4 =>
  zlet v5 fun x3_6 =>
  zlet (0 : Int) fun x4_7 =>
  R d 724 [.inr (.inr x0), .inr (.inr x1), .inl x2, .inl x3_6, .inl x4_7] h4
def yb_Infix_init (C : YC) (R : ZC YS) (d : Nat) (x0 : Option Nat) (x1 : Option Nat) (x2 : Option Nat) (x3 : Option Nat) (h : YS) : ZR YS :=
  ygI 11700 x2 h fun v1 =>
  zV (ycs R d 383 x0 [.inl v1] h) fun h2 =>
  ypR 16201 x0 x1 h2 fun h3 =>
  ypR 16202 x0 x2 h3 fun h4 =>
  ypR 16203 x0 x3 h4 fun h5 =>
  zrV h5
def yb_Infix_judge (C : YC) (R : ZC YS) (d : Nat) (x0 : Option Nat) (x1 : Option Nat) (h : YS) : ZR YS :=
  ygR 16201 x0 h fun v1 =>
  zI (ycv R d [(51, 426)] v1 [.inr (.inr x1)] h) fun v3 h2 =>
  zlet v3 fun x2_4 =>
  ygR 16202 x0 h2 fun v5 =>
  zI (ycv R d [(53, 435), (56, 448), (42, 396), (52, 431), (45, 403), (57, 451), (40, 390), (54, 440), (49, 419), (48, 415), (39, 386), (47, 411), (50, 422), (46, 408), (55, 444), (51, 426), (41, 393)] v5 [.inr (.inr x1)] h2) fun v7 h6 =>
  zlet v7 fun x3_8 =>
  ygR 16203 x0 h6 fun v9 =>
  zI (ycv R d [(53, 435), (56, 448), (42, 396), (52, 431), (45, 403), (57, 451), (40, 390), (54, 440), (49, 419), (48, 415), (39, 386), (47, 411), (50, 422), (46, 408), (55, 444), (51, 426), (41, 393)] v9 [.inr (.inr x1)] h6) fun v11 h10 =>
  zlet v11 fun x4_12 =>
  ygR 16201 x0 h10 fun v13 =>
  ygI 15302 v13 h10 fun v14 =>
  ygR 2700 x1 h10 fun v15 =>
  zI (ycv R d [(4, 67)] v15 [.inl x3_8, .inl x4_12] h10) fun v17 h16 =>
  ygR 16201 x0 h16 fun v18 =>
  ygI 15302 v18 h16 fun v19 =>
  zI (zc R d 437 [.inr (.inr x1), .inl x2_4, .inl v14, .inl v17, .inl v19] h16) fun v21 h20 =>
  zrI v21 h20
def yb_Infix_isQuiet (C : YC) (R : ZC YS) (d : Nat) (x0 : Option Nat) (h : YS) : ZR YS :=
  ygR 16201 x0 h fun v1 =>
  zI (ycv R d [(51, 427)] v1 [] h) fun v3 h2 =>
  if v3 = 0 then
    yrN 1 0 h2
  else
  ygR 16202 x0 h2 fun v4 =>
  zI (ycv R d [(53, 436), (56, 384), (42, 384), (52, 432), (45, 404), (57, 384), (40, 384), (54, 441), (49, 384), (48, 416), (39, 384), (47, 412), (50, 423), (46, 384), (55, 445), (51, 428), (41, 384)] v4 [] h2) fun v6 h5 =>
  if v6 = 0 then
    yrN 1 0 h5
  else
  ygR 16203 x0 h5 fun v7 =>
  zI (ycv R d [(53, 436), (56, 384), (42, 384), (52, 432), (45, 404), (57, 384), (40, 384), (54, 441), (49, 384), (48, 416), (39, 384), (47, 412), (50, 423), (46, 384), (55, 445), (51, 428), (41, 384)] v7 [] h5) fun v9 h8 =>
  if v9 = 0 then
    yrN 1 0 h8
  else
  yrN 1 1 h8
def yb_Infix_make (C : YC) (R : ZC YS) (d : Nat) (x0 : Option Nat) (x1 : Option Nat) (x2 : Int) (h : YS) : ZR YS :=
  ygR 16201 x0 h fun v1 =>
  ygR 15303 v1 h fun v2 =>
  zlet v2 fun x3_3 =>
  ygI 5401 x3_3 h fun v4 =>
  if v4 = 3 then
    ygR 16202 x0 h fun v5 =>
    zV (ycv R d [(53, 438), (56, 449), (42, 397), (52, 433), (45, 405), (57, 452), (40, 391), (54, 442), (49, 420), (48, 417), (39, 387), (47, 413), (50, 424), (46, 409), (55, 446), (51, 429), (41, 394)] v5 [.inr (.inr x1), .inl 0] h) fun h6 =>
    ygR 16203 x0 h6 fun v7 =>
    zV (ycv R d [(53, 438), (56, 449), (42, 397), (52, 433), (45, 405), (57, 452), (40, 391), (54, 442), (49, 420), (48, 417), (39, 387), (47, 413), (50, 424), (46, 409), (55, 446), (51, 429), (41, 394)] v7 [.inr (.inr x1), .inl 0] h6) fun h8 =>
    ygI 5409 x3_3 h8 fun v9 =>
    zI (ycv R d [(70, 484)] x1 [.inl 22, .inl v9, .inl 0] h8) fun v11 h10 =>
    zrV h10
  else
  ygR 16201 x0 h fun v12 =>
  zV (ycv R d [(51, 429)] v12 [.inr (.inr x1), .inl 0] h) fun h13 =>
  ygR 16202 x0 h13 fun v14 =>
  zV (ycv R d [(53, 438), (56, 449), (42, 397), (52, 433), (45, 405), (57, 452), (40, 391), (54, 442), (49, 420), (48, 417), (39, 387), (47, 413), (50, 424), (46, 409), (55, 446), (51, 429), (41, 394)] v14 [.inr (.inr x1), .inl 0] h13) fun h15 =>
  ygR 16203 x0 h15 fun v16 =>
  zV (ycv R d [(53, 438), (56, 449), (42, 397), (52, 433), (45, 405), (57, 452), (40, 391), (54, 442), (49, 420), (48, 417), (39, 387), (47, 413), (50, 424), (46, 409), (55, 446), (51, 429), (41, 394)] v16 [.inr (.inr x1), .inl 0] h15) fun h17 =>
  zV (ycv R d [(70, 501)] x1 [.inl 2] h17) fun h18 =>
  if x2 = 0 then
    zI (ycv R d [(70, 484)] x1 [.inl 20, .inl 0, .inl 0] h18) fun v20 h19 =>
    zrV h19
  else
  zI (ycv R d [(70, 484)] x1 [.inl 21, .inl 0, .inl 0] h18) fun v22 h21 =>
  zrV h21
def yb_Typed_init (C : YC) (R : ZC YS) (d : Nat) (x0 : Option Nat) (x1 : Option Nat) (x2 : Option Nat) (h : YS) : ZR YS :=
  ygI 11700 x1 h fun v1 =>
  zV (ycs R d 383 x0 [.inl v1] h) fun h2 =>
  ypR 16501 x0 x1 h2 fun h3 =>
  ypR 16502 x0 x2 h3 fun h4 =>
  zrV h4
def yb_Typed_judge (C : YC) (R : ZC YS) (d : Nat) (x0 : Option Nat) (x1 : Option Nat) (h : YS) : ZR YS :=
  ygR 16501 x0 h fun v1 =>
  zI (ycv R d [(53, 435), (56, 448), (42, 396), (52, 431), (45, 403), (57, 451), (40, 390), (54, 440), (49, 419), (48, 415), (39, 386), (47, 411), (50, 422), (46, 408), (55, 444), (51, 426), (41, 393)] v1 [.inr (.inr x1)] h) fun v3 h2 =>
  zlet v3 fun x2_4 =>
  ygR 16502 x0 h2 fun v5 =>
  zI (ycv R d [(31, 347), (30, 345), (29, 343), (28, 341)] v5 [.inr (.inr x1)] h2) fun v7 h6 =>
  ygR 16501 x0 h6 fun v8 =>
  ygI 11700 v8 h6 fun v9 =>
  zV (ycv R d [(9, 199)] x1 [.inl x2_4, .inl v7, .inl v9] h6) fun h10 =>
  zrI x2_4 h10
def yb_Typed_isQuiet (C : YC) (R : ZC YS) (d : Nat) (x0 : Option Nat) (h : YS) : ZR YS :=
  ygR 16501 x0 h fun v1 =>
  zI (ycv R d [(53, 436), (56, 384), (42, 384), (52, 432), (45, 404), (57, 384), (40, 384), (54, 441), (49, 384), (48, 416), (39, 384), (47, 412), (50, 423), (46, 384), (55, 445), (51, 428), (41, 384)] v1 [] h) fun v3 h2 =>
  yrN 1 v3 h2
def yb_Typed_make (C : YC) (R : ZC YS) (d : Nat) (x0 : Option Nat) (x1 : Option Nat) (x2 : Int) (h : YS) : ZR YS :=
  ygR 16501 x0 h fun v1 =>
  zV (ycv R d [(53, 438), (56, 449), (42, 397), (52, 433), (45, 405), (57, 452), (40, 391), (54, 442), (49, 420), (48, 417), (39, 387), (47, 413), (50, 424), (46, 409), (55, 446), (51, 429), (41, 394)] v1 [.inr (.inr x1), .inl x2] h) fun h2 =>
  zrV h2
def yb_Both_init (C : YC) (R : ZC YS) (d : Nat) (x0 : Option Nat) (x1 : Int) (x2 : Option Nat) (x3 : Option Nat) (h : YS) : ZR YS :=
  ygI 11700 x2 h fun v1 =>
  zV (ycs R d 383 x0 [.inl v1] h) fun h2 =>
  ypI 16801 1 x0 x1 h2 fun h3 =>
  ypR 16802 x0 x2 h3 fun h4 =>
  ypR 16803 x0 x3 h4 fun h5 =>
  zrV h5
def yb_Both_judge (C : YC) (R : ZC YS) (d : Nat) (x0 : Option Nat) (x1 : Option Nat) (h : YS) : ZR YS :=
  ygR 16802 x0 h fun v1 =>
  zV (zc R d 389 [.inr (.inr x1), .inr (.inr v1)] h) fun h2 =>
  ygR 16803 x0 h2 fun v3 =>
  zV (zc R d 389 [.inr (.inr x1), .inr (.inr v3)] h2) fun h4 =>
  ygR 2700 x1 h4 fun v5 =>
  zI (ycv R d [(4, 68)] v5 [.inl 3] h4) fun v7 h6 =>
  zrI v7 h6
def yb_Both_make (C : YC) (R : ZC YS) (d : Nat) (x0 : Option Nat) (x1 : Option Nat) (x2 : Int) (h : YS) : ZR YS :=
  ygR 16802 x0 h fun v1 =>
  zV (ycv R d [(53, 438), (56, 449), (42, 397), (52, 433), (45, 405), (57, 452), (40, 391), (54, 442), (49, 420), (48, 417), (39, 387), (47, 413), (50, 424), (46, 409), (55, 446), (51, 429), (41, 394)] v1 [.inr (.inr x1), .inl 0] h) fun h2 =>
  zI (ycv R d [(70, 484)] x1 [.inl 25, .inl 0, .inl 0] h2) fun v4 h3 =>
  zlet v4 fun x3_5 =>
  ygI 16801 x0 h3 fun v6 =>
  if v6 = 0 then
    zI (ycv R d [(70, 484)] x1 [.inl 2, .inl 1, .inl 0] h3) fun v8 h7 =>
    R d 725 [.inr (.inr x0), .inr (.inr x1), .inl x2, .inl x3_5] h7
  else
  ygR 16803 x0 h3 fun v9 =>
  zV (ycv R d [(53, 438), (56, 449), (42, 397), (52, 433), (45, 405), (57, 452), (40, 391), (54, 442), (49, 420), (48, 417), (39, 387), (47, 413), (50, 424), (46, 409), (55, 446), (51, 429), (41, 394)] v9 [.inr (.inr x1), .inl x2] h3) fun h10 =>
  R d 725 [.inr (.inr x0), .inr (.inr x1), .inl x2, .inl x3_5] h10
def yb_Handle_init (C : YC) (R : ZC YS) (d : Nat) (x0 : Option Nat) (x1 : Option Nat) (x2 : Option Nat) (x3 : Int) (h : YS) : ZR YS :=
  ygI 11700 x1 h fun v1 =>
  zV (ycs R d 383 x0 [.inl v1] h) fun h2 =>
  ypR 17101 x0 x1 h2 fun h3 =>
  ypR 17102 x0 x2 h3 fun h4 =>
  ypI 17103 0 x0 x3 h4 fun h5 =>
  zrV h5
def yb_Handle_judge (C : YC) (R : ZC YS) (d : Nat) (x0 : Option Nat) (x1 : Option Nat) (h : YS) : ZR YS :=
  ygR 17101 x0 h fun v1 =>
  zI (ycv R d [(53, 435), (56, 448), (42, 396), (52, 431), (45, 403), (57, 451), (40, 390), (54, 440), (49, 419), (48, 415), (39, 386), (47, 411), (50, 422), (46, 408), (55, 444), (51, 426), (41, 393)] v1 [.inr (.inr x1)] h) fun v3 h2 =>
  zlet v3 fun x2_4 =>
  ygR 17102 x0 h2 fun v5 =>
  ygR 2700 x1 h2 fun v6 =>
  zI (ycv R d [(4, 68)] v6 [.inl 4] h2) fun v8 h7 =>
  ygI 17103 x0 h7 fun v9 =>
  zI (ycv R d [(43, 399)] v5 [.inr (.inr x1), .inl v8, .inl x2_4, .inl v9, .inl 3] h7) fun v11 h10 =>
  zrI v11 h10
def yb_Handle_make (C : YC) (R : ZC YS) (d : Nat) (x0 : Option Nat) (x1 : Option Nat) (x2 : Int) (h : YS) : ZR YS :=
  zI (ycv R d [(70, 484)] x1 [.inl 29, .inl 0, .inl 0] h) fun v2 h1 =>
  zlet v2 fun x3_3 =>
  ygR 17101 x0 h1 fun v4 =>
  zV (ycv R d [(53, 438), (56, 449), (42, 397), (52, 433), (45, 405), (57, 452), (40, 391), (54, 442), (49, 420), (48, 417), (39, 387), (47, 413), (50, 424), (46, 409), (55, 446), (51, 429), (41, 394)] v4 [.inr (.inr x1), .inl 0] h1) fun h5 =>
  zI (ycv R d [(70, 484)] x1 [.inl 30, .inl 0, .inl 0] h5) fun v7 h6 =>
  zI (ycv R d [(70, 484)] x1 [.inl 24, .inl 0, .inl 0] h6) fun v9 h8 =>
  zlet v9 fun x4_10 =>
  zV (ycv R d [(70, 498)] x1 [.inl x3_3] h8) fun h11 =>
  zI (ycv R d [(70, 487)] x1 [] h11) fun v13 h12 =>
  zlet v13 fun x5_14 =>
  zI (ycv R d [(70, 484)] x1 [.inl 12, .inl x5_14, .inl 0] h12) fun v16 h15 =>
  ygR 17102 x0 h15 fun v17 =>
  zV (ycv R d [(43, 400)] v17 [.inr (.inr x1), .inl x5_14, .inl x2, .inl 1] h15) fun h18 =>
  zV (ycv R d [(70, 498)] x1 [.inl x4_10] h18) fun h19 =>
  zrV h19
def yb_FunDec_init (C : YC) (R : ZC YS) (d : Nat) (x0 : Option Nat) (h : YS) : ZR YS :=
  zV (ycs R d 320 x0 [] h) fun h1 =>
  ynew 5 3 h1 fun r2 h3 =>
  zV (ycs R d 503 r2 [] h3) fun h4 =>
  ypR 17404 x0 r2 h4 fun h5 =>
  zrV h5
def yb_FunDec_judge (C : YC) (R : ZC YS) (d : Nat) (x0 : Option Nat) (x1 : Option Nat) (h : YS) : ZR YS :=
  zV (ycv R d [(58, 321)] x0 [.inr (.inr x1)] h) fun h1 =>
  ynew 5 3 h1 fun r2 h3 =>
  zV (ycs R d 503 r2 [] h3) fun h4 =>
  zlet r2 fun x2_5 =>
  zlet (0 : Int) fun x3_6 =>
  R d 726 [.inr (.inr x0), .inr (.inr x1), .inr (.inr x2_5), .inl x3_6] h4
def yb_FunDec_make (C : YC) (R : ZC YS) (d : Nat) (x0 : Option Nat) (x1 : Option Nat) (h : YS) : ZR YS :=
  ygR 17404 x0 h fun v1 =>
  zI (ycv R d [(5, 506)] v1 [] h) fun v3 h2 =>
  zlet v3 fun x2_4 =>
  yna 7 x2_4 h2 fun r5 h6 =>
  zlet r5 fun x3_7 =>
  yna 10 x2_4 h6 fun r8 h9 =>
  zlet r8 fun x4_10 =>
  zlet (0 : Int) fun x5_11 =>
  R d 727 [.inr (.inr x0), .inr (.inr x1), .inl x2_4, .inr (.inr x3_7), .inr (.inr x4_10), .inl x5_11] h9
def yb_Fun_init (C : YC) (R : ZC YS) (d : Nat) (x0 : Option Nat) (x1 : Int) (h : YS) : ZR YS :=
  ynull x0 none <|
  ynew 5 3 h fun r2 h3 =>
  zV (ycs R d 503 r2 [] h3) fun h4 =>
  ypR 17701 x0 r2 h4 fun h5 =>
  ypI 17700 0 x0 x1 h5 fun h6 =>
  zrV h6
def yb_Fun_first (C : YC) (R : ZC YS) (d : Nat) (x0 : Option Nat) (h : YS) : ZR YS :=
  ygR 17701 x0 h fun v1 =>
  zQ (ycv R d [(5, 528)] v1 [.inl 0] h) fun v3 h2 =>
  ycc 78 26 v3 h2 <|
  zrQ v3 h2
def yb_Fun_judge (C : YC) (R : ZC YS) (d : Nat) (x0 : Option Nat) (x1 : Option Nat) (h : YS) : ZR YS :=
  zQ (ycv R d [(59, 457)] x0 [] h) fun v2 h1 =>
  ygR 18002 v2 h1 fun v3 =>
  zI (ycv R d [(5, 506)] v3 [] h1) fun v5 h4 =>
  zlet v5 fun x2_6 =>
  yna 0 x2_6 h4 fun r7 h8 =>
  zlet r7 fun x3_9 =>
  zlet ((-1) : Int) fun x4_10 =>
  ynew 69 4 h8 fun r11 h12 =>
  ygI 17700 x0 h12 fun v13 =>
  zV (ycs R d 480 r11 [.inl v13, .inl 1] h12) fun h14 =>
  zlet r11 fun x5_15 =>
  ygR 2711 x1 h14 fun v16 =>
  zI (ycv R d [(5, 505)] v16 [.inr (.inr x5_15)] h14) fun v18 h17 =>
  ygI 2707 x1 h17 fun v19 =>
  zlet v19 fun x6_20 =>
  ypI 2707 1 x1 0 h17 fun h21 =>
  zlet (0 : Int) fun x7_22 =>
  R d 728 [.inr (.inr x0), .inr (.inr x1), .inl x2_6, .inr (.inr x3_9), .inl x4_10, .inr (.inr x5_15), .inl x6_20, .inl x7_22] h21
def yb_Fun_routine (C : YC) (R : ZC YS) (d : Nat) (x0 : Option Nat) (x1 : Option Nat) (h : YS) : ZR YS :=
  zQ (ycv R d [(59, 457)] x0 [] h) fun v2 h1 =>
  ygR 18002 v2 h1 fun v3 =>
  zI (ycv R d [(5, 506)] v3 [] h1) fun v5 h4 =>
  zlet v5 fun x2_6 =>
  ynew 70 8 h4 fun r7 h8 =>
  ygR 21000 x1 h8 fun v9 =>
  zV (ycs R d 482 r7 [.inr (.inr v9), .inr (.inr x1), .inl x2_6] h8) fun h10 =>
  zlet r7 fun x3_11 =>
  ynew 5 3 h10 fun r12 h13 =>
  zV (ycs R d 503 r12 [] h13) fun h14 =>
  zlet r12 fun x4_15 =>
  zlet (0 : Int) fun x5_16 =>
  R d 729 [.inr (.inr x0), .inl x2_6, .inr (.inr x3_11), .inr (.inr x4_15), .inl x5_16] h14
def yb_Clause_init (C : YC) (R : ZC YS) (d : Nat) (x0 : Option Nat) (x1 : Option Nat) (x2 : Int) (x3 : Option Nat) (x4 : Option Nat) (x5 : Option Nat) (h : YS) : ZR YS :=
  ynull x0 none <|
  ypR 18000 x0 x1 h fun h2 =>
  ypI 18001 0 x0 x2 h2 fun h3 =>
  ypR 18002 x0 x3 h3 fun h4 =>
  ypR 18003 x0 x4 h4 fun h5 =>
  ypR 18004 x0 x5 h5 fun h6 =>
  zrV h6
def yb_TypeDec_init (C : YC) (R : ZC YS) (d : Nat) (x0 : Option Nat) (x1 : Option Nat) (x2 : Option Nat) (x3 : Int) (x4 : Option Nat) (h : YS) : ZR YS :=
  zV (ycs R d 319 x0 [] h) fun h1 =>
  ypR 18300 x0 x1 h1 fun h2 =>
  ypR 18301 x0 x2 h2 fun h3 =>
  ypI 18302 0 x0 x3 h3 fun h4 =>
  ypR 18303 x0 x4 h4 fun h5 =>
  zrV h5
def yb_TypeDec_judge (C : YC) (R : ZC YS) (d : Nat) (x0 : Option Nat) (x1 : Option Nat) (h : YS) : ZR YS :=
  ygR 18300 x0 h fun v1 =>
  zQ (zc R d 19 [.inr (.inr x1), .inr (.inr v1)] h) fun v3 h2 =>
  zlet v3 fun x2_4 =>
  ygI 18302 x0 h2 fun v5 =>
  zV (ycv R d [(9, 191)] x1 [.inl v5] h2) fun h6 =>
  ypR 2705 x1 x2_4 h6 fun h7 =>
  ygR 18303 x0 h7 fun v8 =>
  zI (ycv R d [(31, 347), (30, 345), (29, 343), (28, 341)] v8 [.inr (.inr x1)] h7) fun v10 h9 =>
  zlet v10 fun x3_11 =>
  ypR 2705 x1 none h9 fun h12 =>
  ygR 2700 x1 h12 fun v13 =>
  zI (ycv R d [(4, 75)] v13 [.inl x3_11, .inl 40] h12) fun v15 h14 =>
  if v15 ≤ 40 then
    R d 730 [.inr (.inr x0), .inr (.inr x1), .inr (.inr x2_4), .inl x3_11, .inl 1, .inr (.inr x1)] h14
  else
  R d 730 [.inr (.inr x0), .inr (.inr x1), .inr (.inr x2_4), .inl x3_11, .inl 0, .inr (.inr x1)] h14
def yb_TypeDec_make (C : YC) (R : ZC YS) (d : Nat) (x0 : Option Nat) (x1 : Option Nat) (h : YS) : ZR YS :=
  zrV h
def yb_DataDec_init (C : YC) (R : ZC YS) (d : Nat) (x0 : Option Nat) (h : YS) : ZR YS :=
  zV (ycs R d 319 x0 [] h) fun h1 =>
  ynew 5 3 h1 fun r2 h3 =>
  zV (ycs R d 503 r2 [] h3) fun h4 =>
  ypR 18600 x0 r2 h4 fun h5 =>
  zrV h5
def yb_DataDec_judge (C : YC) (R : ZC YS) (d : Nat) (x0 : Option Nat) (x1 : Option Nat) (h : YS) : ZR YS :=
  zlet (0 : Int) fun x2_1 =>
  R d 731 [.inr (.inr x0), .inr (.inr x1), .inl x2_1] h
def yb_DataDec_judge_2 (C : YC) (R : ZC YS) (d : Nat) (x0 : Option Nat) (x1 : Option Nat) (x2 : Option Nat) (x3 : Option Nat) (h : YS) : ZR YS :=
  ygR 18900 x2 h fun v1 =>
  zQ (zc R d 19 [.inr (.inr x1), .inr (.inr v1)] h) fun v3 h2 =>
  zlet v3 fun x4_4 =>
  zI (ycv R d [(5, 506)] x4_4 [] h2) fun v6 h5 =>
  zlet v6 fun x5_7 =>
  zlet (0 : Int) fun x6_8 =>
  R d 732 [.inr (.inr x1), .inr (.inr x2), .inr (.inr x3), .inr (.inr x4_4), .inl x5_7, .inl x6_8] h5
def yb_DataDec_admit (C : YC) (R : ZC YS) (d : Nat) (x0 : Option Nat) (x1 : Option Nat) (h : YS) : ZR YS :=
  zlet (1 : Int) fun x2_1 =>
  R d 733 [.inr (.inr x0), .inr (.inr x1), .inl x2_1] h
def yb_DataDec_admits (C : YC) (R : ZC YS) (d : Nat) (x0 : Option Nat) (x1 : Option Nat) (h : YS) : ZR YS :=
  zlet (0 : Int) fun x2_1 =>
  zlet (0 : Int) fun x3_2 =>
  R d 734 [.inr (.inr x0), .inr (.inr x1), .inl x2_1, .inl x3_2] h
def yb_DataDec_make (C : YC) (R : ZC YS) (d : Nat) (x0 : Option Nat) (x1 : Option Nat) (h : YS) : ZR YS :=
  zrV h
def yb_DataOne_init (C : YC) (R : ZC YS) (d : Nat) (x0 : Option Nat) (x1 : Option Nat) (x2 : Option Nat) (x3 : Int) (h : YS) : ZR YS :=
  ynull x0 none <|
  ynew 5 3 h fun r2 h3 =>
  zV (ycs R d 503 r2 [] h3) fun h4 =>
  ypR 18903 x0 r2 h4 fun h5 =>
  ypR 18900 x0 x1 h5 fun h6 =>
  ypR 18901 x0 x2 h6 fun h7 =>
  ypI 18902 0 x0 x3 h7 fun h8 =>
  zrV h8
def yb_ConDec_init (C : YC) (R : ZC YS) (d : Nat) (x0 : Option Nat) (x1 : Option Nat) (x2 : Int) (x3 : Option Nat) (h : YS) : ZR YS :=
  ynull x0 none <|
  ypR 19200 x0 x1 h fun h2 =>
  ypI 19201 0 x0 x2 h2 fun h3 =>
  ypR 19202 x0 x3 h3 fun h4 =>
  zrV h4
def yb_ExceptionDec_init (C : YC) (R : ZC YS) (d : Nat) (x0 : Option Nat) (x1 : Option Nat) (x2 : Int) (x3 : Option Nat) (x4 : Option Nat) (x5 : Int) (h : YS) : ZR YS :=
  zV (ycs R d 319 x0 [] h) fun h1 =>
  ypR 19500 x0 x1 h1 fun h2 =>
  ypI 19501 0 x0 x2 h2 fun h3 =>
  ypR 19502 x0 x3 h3 fun h4 =>
  ypR 19503 x0 x4 h4 fun h5 =>
  ypI 19504 0 x0 x5 h5 fun h6 =>
  zrV h6
def yb_ExceptionDec_judge (C : YC) (R : ZC YS) (d : Nat) (x0 : Option Nat) (x1 : Option Nat) (h : YS) : ZR YS :=
  zlet (none : Option Nat) fun x2_1 =>
  ygR 19503 x0 h fun v2 =>
  ynull v2 (
    R d 735 [.inr (.inr x0), .inr (.inr x1), .inr (.inr x2_1)] h
  ) <|
  ygR 19503 x0 h fun v3 =>
  ygI 19504 x0 h fun v4 =>
  zQ (ycv R d [(9, 196)] x1 [.inr (.inr v3), .inl v4] h) fun v6 h5 =>
  zlet v6 fun x2_7 =>
  ygI 5401 x2_7 h5 fun v8 =>
  if v8 = 2 then
    R d 736 [.inr (.inr x0), .inr (.inr x1), .inr (.inr x2_7), .inl 1, .inr (.inr x1)] h5
  else
  R d 736 [.inr (.inr x0), .inr (.inr x1), .inr (.inr x2_7), .inl 0, .inr (.inr x1)] h5
def yb_ExceptionDec_make (C : YC) (R : ZC YS) (d : Nat) (x0 : Option Nat) (x1 : Option Nat) (h : YS) : ZR YS :=
  ygR 19506 x0 h fun v1 =>
  ynull v1 (
    ygR 21000 x1 h fun v2 =>
    ygR 19500 x0 h fun v3 =>
    ygR 19507 x0 h fun v4 =>
    zI (ycv R d [(0, 6)] v2 [.inr (.inr v3), .inr (.inr v4)] h) fun v6 h5 =>
    ygR 19505 x0 h5 fun v7 =>
    ygI 5407 v7 h5 fun v8 =>
    if v8 = 0 then
      zI (ycv R d [(70, 484)] x1 [.inl 5, .inl v6, .inl 0] h5) fun v10 h9 =>
      ygR 19505 x0 h9 fun v11 =>
      zV (ycv R d [(70, 486)] x1 [.inr (.inr v11)] h9) fun h12 =>
      zrV h12
    else
    zI (ycv R d [(70, 484)] x1 [.inl 5, .inl v6, .inl 1] h5) fun v14 h13 =>
    ygR 19505 x0 h13 fun v15 =>
    zV (ycv R d [(70, 486)] x1 [.inr (.inr v15)] h13) fun h16 =>
    zrV h16
  ) <|
  ygR 19506 x0 h fun v17 =>
  zV (ycv R d [(70, 483)] x1 [.inr (.inr v17)] h) fun h18 =>
  ygR 19505 x0 h18 fun v19 =>
  zV (ycv R d [(70, 486)] x1 [.inr (.inr v19)] h18) fun h20 =>
  zrV h20
def yb_LocalDec_init (C : YC) (R : ZC YS) (d : Nat) (x0 : Option Nat) (x1 : Option Nat) (x2 : Option Nat) (h : YS) : ZR YS :=
  zV (ycs R d 319 x0 [] h) fun h1 =>
  ypR 19800 x0 x1 h1 fun h2 =>
  ypR 19801 x0 x2 h2 fun h3 =>
  zrV h3
def yb_LocalDec_judge (C : YC) (R : ZC YS) (d : Nat) (x0 : Option Nat) (x1 : Option Nat) (h : YS) : ZR YS :=
  ygI 2708 x1 h fun v1 =>
  zlet v1 fun x2_2 =>
  ygR 2702 x1 h fun v3 =>
  zI (ycv R d [(5, 506)] v3 [] h) fun v5 h4 =>
  zlet v5 fun x3_6 =>
  ygR 2703 x1 h4 fun v7 =>
  zI (ycv R d [(5, 506)] v7 [] h4) fun v9 h8 =>
  zlet v9 fun x4_10 =>
  ypI 2708 1 x1 1 h8 fun h11 =>
  zlet (0 : Int) fun x5_12 =>
  R d 737 [.inr (.inr x0), .inr (.inr x1), .inl x2_2, .inl x3_6, .inl x4_10, .inl x5_12] h11
def yb_LocalDec_make (C : YC) (R : ZC YS) (d : Nat) (x0 : Option Nat) (x1 : Option Nat) (h : YS) : ZR YS :=
  zlet (0 : Int) fun x2_1 =>
  R d 738 [.inr (.inr x0), .inr (.inr x1), .inl x2_1] h
def yb_Variable_init (C : YC) (R : ZC YS) (d : Nat) (x0 : Option Nat) (x1 : Option Nat) (x2 : Int) (x3 : Int) (h : YS) : ZR YS :=
  ynull x0 none <|
  ypR 20100 x0 x1 h fun h2 =>
  ypI 20101 0 x0 x2 h2 fun h3 =>
  ypI 20102 0 x0 x3 h3 fun h4 =>
  zrV h4
def yb_Line_init (C : YC) (R : ZC YS) (d : Nat) (x0 : Option Nat) (x1 : Option Nat) (x2 : Option Nat) (x3 : Option Nat) (x4 : Option Nat) (x5 : Option Nat) (h : YS) : ZR YS :=
  ynull x0 none <|
  ypR 20400 x0 x1 h fun h2 =>
  ypR 20401 x0 x2 h2 fun h3 =>
  ypR 20402 x0 x3 h3 fun h4 =>
  ypR 20403 x0 x4 h4 fun h5 =>
  ypR 20404 x0 x5 h5 fun h6 =>
  zrV h6
def yb_Match_init (C : YC) (R : ZC YS) (d : Nat) (x0 : Option Nat) (x1 : Int) (x2 : Int) (h : YS) : ZR YS :=
  ynull x0 none <|
  ynew 5 3 h fun r2 h3 =>
  zV (ycs R d 503 r2 [] h3) fun h4 =>
  ypR 20702 x0 r2 h4 fun h5 =>
  ypI 20703 5 x0 1 h5 fun h6 =>
  ypI 20700 0 x0 x1 h6 fun h7 =>
  ypI 20701 0 x0 x2 h7 fun h8 =>
  zrV h8
def yb_Match_add (C : YC) (R : ZC YS) (d : Nat) (x0 : Option Nat) (x1 : Option Nat) (h : YS) : ZR YS :=
  ygR 20702 x0 h fun v1 =>
  zI (ycv R d [(5, 505)] v1 [.inr (.inr x1)] h) fun v3 h2 =>
  zlet (0 : Int) fun x2_4 =>
  zlet (0 : Int) fun x3_5 =>
  R d 739 [.inr (.inr x0), .inr (.inr x1), .inl x2_4, .inl x3_5] h2
def yb_Maker_init (C : YC) (R : ZC YS) (d : Nat) (x0 : Option Nat) (x1 : Option Nat) (x2 : Option Nat) (x3 : Int) (h : YS) : ZR YS :=
  ynull x0 none <|
  ynew 5 3 h fun r2 h3 =>
  zV (ycs R d 503 r2 [] h3) fun h4 =>
  ypR 21004 x0 r2 h4 fun h5 =>
  ypR 21000 x0 x1 h5 fun h6 =>
  ypR 21002 x0 x2 h6 fun h7 =>
  ypI 21003 0 x0 x3 h7 fun h8 =>
  ygR 1 x1 h8 fun v9 =>
  ypR 21001 x0 v9 h8 fun h10 =>
  ypI 21007 0 x0 x3 h10 fun h11 =>
  ygI 19 x1 h11 fun v12 =>
  ypI 21005 0 x0 v12 h11 fun h13 =>
  zrV h13
def yb_Maker_load (C : YC) (R : ZC YS) (d : Nat) (x0 : Option Nat) (x1 : Option Nat) (h : YS) : ZR YS :=
  ygI 5401 x1 h fun v1 =>
  if v1 = 3 then
    ygI 5409 x1 h fun v2 =>
    zI (ycv R d [(70, 484)] x0 [.inl 4, .inl v2, .inl 0] h) fun v4 h3 =>
    zrV h3
  else
  ygI 5401 x1 h fun v5 =>
  if v5 = 1 then
    ygR 5406 x1 h fun v6 =>
    zI (ycv R d [(19, 314)] v6 [] h) fun v8 h7 =>
    if v8 = 0 then
      R d 740 [.inr (.inr x1), .inl 2, .inr (.inr x0)] h7
    else
    R d 740 [.inr (.inr x1), .inl 3, .inr (.inr x0)] h7
  else
  ygI 5401 x1 h fun v9 =>
  if v9 = 2 then
    ygI 5411 x1 h fun v10 =>
    if v10 = (-1) then
      ygR 5412 x1 h fun v11 =>
      ynull v11 (
        ygI 5409 x1 h fun v12 =>
        zI (ycv R d [(70, 484)] x0 [.inl 6, .inl v12, .inl 0] h) fun v14 h13 =>
        zrV h13
      ) <|
      R d 741 [.inr (.inr x0), .inr (.inr x1)] h
    else
    R d 741 [.inr (.inr x0), .inr (.inr x1)] h
  else
  R d 741 [.inr (.inr x0), .inr (.inr x1)] h
def yb_Maker_put (C : YC) (R : ZC YS) (d : Nat) (x0 : Option Nat) (x1 : Int) (x2 : Int) (x3 : Int) (h : YS) : ZR YS :=
  ygI 21005 x0 h fun v1 =>
  ygI 21006 x0 h fun v2 =>
  zG (inI (v1 + v2)) <|
  zlet (v1 + v2) fun x4_3 =>
  ygR 21000 x0 h fun v4 =>
  ygR 18 v4 h fun v5 =>
  ylen v5 h fun v6 =>
  zG (inI (x4_3 + 4)) <|
  if (x4_3 + 4) ≤ v6 then
    R d 742 [.inr (.inr x0), .inl x1, .inl x2, .inl x3, .inl x4_3] h
  else
  ygR 21000 x0 h fun v7 =>
  zV (ycv R d [(0, 29)] v7 [] h) fun h8 =>
  R d 742 [.inr (.inr x0), .inl x1, .inl x2, .inl x3, .inl x4_3] h8
def yb_Maker_capture (C : YC) (R : ZC YS) (d : Nat) (x0 : Option Nat) (x1 : Option Nat) (h : YS) : ZR YS :=
  zlet (0 : Int) fun x2_1 =>
  R d 743 [.inr (.inr x0), .inr (.inr x1), .inl x2_1] h
def yb_Maker_define (C : YC) (R : ZC YS) (d : Nat) (x0 : Option Nat) (x1 : Option Nat) (h : YS) : ZR YS :=
  ypR 5412 x1 x0 h fun h1 =>
  ygI 5410 x1 h1 fun v2 =>
  if v2 = 0 then
    zI (ycv R d [(70, 487)] x0 [] h1) fun v4 h3 =>
    R d 744 [.inr (.inr x0), .inr (.inr x1), .inl v4, .inr (.inr x1)] h3
  else
  ygR 21000 x0 h1 fun v5 =>
  zI (ycv R d [(0, 30)] v5 [] h1) fun v7 h6 =>
  R d 744 [.inr (.inr x0), .inr (.inr x1), .inl v7, .inr (.inr x1)] h6
def yb_Maker_slot (C : YC) (R : ZC YS) (d : Nat) (x0 : Option Nat) (h : YS) : ZR YS :=
  ygI 21007 x0 h fun v1 =>
  zG (inI (v1 + 1)) <|
  ypI 21007 0 x0 (v1 + 1) h fun h2 =>
  ygI 21007 x0 h2 fun v3 =>
  zG (inI (v3 - 1)) <|
  zrI (v3 - 1) h2
def yb_Maker_places (C : YC) (R : ZC YS) (d : Nat) (x0 : Option Nat) (x1 : Option Nat) (h : YS) : ZR YS :=
  zlet x1 fun x2_1 =>
  ylen x2_1 h fun v2 =>
  zlet v2 fun x3_3 =>
  zlet (0 : Int) fun x4_4 =>
  R d 745 [.inr (.inr x0), .inr (.inr x2_1), .inl x3_3, .inl x4_4] h
def yb_Maker_bind (C : YC) (R : ZC YS) (d : Nat) (x0 : Option Nat) (x1 : Option Nat) (x2 : Int) (h : YS) : ZR YS :=
  ypR 5412 x1 x0 h fun h1 =>
  ygI 5410 x1 h1 fun v2 =>
  if v2 = 0 then
    ypI 5411 0 x1 x2 h1 fun h3 =>
    zrV h3
  else
  ygR 21000 x0 h1 fun v4 =>
  zI (ycv R d [(0, 30)] v4 [] h1) fun v6 h5 =>
  ypI 5411 0 x1 v6 h5 fun h7 =>
  zI (ycv R d [(70, 484)] x0 [.inl 9, .inl x2, .inl 0] h7) fun v9 h8 =>
  ygI 5411 x1 h8 fun v10 =>
  zI (ycv R d [(70, 484)] x0 [.inl 13, .inl v10, .inl 0] h8) fun v12 h11 =>
  zrV h11
def yb_Maker_testMade (C : YC) (R : ZC YS) (d : Nat) (x0 : Option Nat) (x1 : Option Nat) (x2 : Int) (x3 : Option Nat) (h : YS) : ZR YS :=
  ygI 5401 x1 h fun v1 =>
  if v1 = 1 then
    ygR 5406 x1 h fun v2 =>
    ygR 5701 v2 h fun v3 =>
    ygI 4501 v3 h fun v4 =>
    if v4 = 6 then
      zrV h
    else
    ygR 5406 x1 h fun v5 =>
    zI (ycv R d [(19, 314)] v5 [] h) fun v7 h6 =>
    if v7 = 0 then
      R d 746 [.inr (.inr x1), .inl x2, .inl 33, .inr (.inr x0), .inr (.inr x3)] h6
    else
    R d 746 [.inr (.inr x1), .inl x2, .inl 34, .inr (.inr x0), .inr (.inr x3)] h6
  else
  zV (ycv R d [(70, 483)] x0 [.inr (.inr x1)] h) fun h8 =>
  zI (ycv R d [(70, 484)] x0 [.inl 35, .inl x2, .inl 0] h8) fun v10 h9 =>
  zQ (zc R d 747 [.inl v10] h9) fun v12 h11 =>
  zI (ycv R d [(5, 505)] x3 [.inr (.inr v12)] h11) fun v14 h13 =>
  zrV h13
def yb_Maker_part (C : YC) (R : ZC YS) (d : Nat) (x0 : Option Nat) (x1 : Int) (x2 : Int) (h : YS) : ZR YS :=
  zI (ycv R d [(70, 484)] x0 [.inl 17, .inl x1, .inl x2] h) fun v2 h1 =>
  zI (ycv R d [(70, 487)] x0 [] h1) fun v4 h3 =>
  zlet v4 fun x3_5 =>
  zI (ycv R d [(70, 484)] x0 [.inl 12, .inl x3_5, .inl 0] h3) fun v7 h6 =>
  zrI x3_5 h6
def yb_Maker_string (C : YC) (R : ZC YS) (d : Nat) (x0 : Option Nat) (x1 : Option Nat) (h : YS) : ZR YS :=
  ygR 21000 x0 h fun v1 =>
  zI (ycv R d [(0, 31)] v1 [.inr (.inr x1)] h) fun v3 h2 =>
  zrI v3 h2
def yb_Maker_test (C : YC) (R : ZC YS) (d : Nat) (x0 : Option Nat) (x1 : Int) (x2 : Int) (x3 : Int) (h : YS) : ZR YS :=
  zI (ycv R d [(70, 484)] x0 [.inl x1, .inl x2, .inl x3] h) fun v2 h1 =>
  zrI v2 h1
def yb_Maker_functions (C : YC) (R : ZC YS) (d : Nat) (x0 : Option Nat) (x1 : Option Nat) (x2 : Option Nat) (h : YS) : ZR YS :=
  ylen x1 h fun v1 =>
  yna 0 v1 h fun r2 h3 =>
  zlet r2 fun x3_4 =>
  zlet (0 : Int) fun x4_5 =>
  R d 748 [.inr (.inr x0), .inr (.inr x1), .inr (.inr x2), .inr (.inr x3_4), .inl x4_5] h3
def yb_Maker_fill (C : YC) (R : ZC YS) (d : Nat) (x0 : Option Nat) (x1 : Option Nat) (h : YS) : ZR YS :=
  zlet (0 : Int) fun x2_1 =>
  R d 749 [.inr (.inr x0), .inr (.inr x1), .inl x2_1] h
def yb_Maker_here (C : YC) (R : ZC YS) (d : Nat) (x0 : Option Nat) (h : YS) : ZR YS :=
  ygI 21006 x0 h fun v1 =>
  zrI v1 h
def yb_Maker_aim (C : YC) (R : ZC YS) (d : Nat) (x0 : Option Nat) (x1 : Int) (x2 : Int) (h : YS) : ZR YS :=
  ygR 21000 x0 h fun v1 =>
  ygR 18 v1 h fun v2 =>
  ygI 21005 x0 h fun v3 =>
  yst 0 v2 ((v3 + x1) + 3) x2 h fun h4 =>
  zrV h4
def yb_Maker_aim_2 (C : YC) (R : ZC YS) (d : Nat) (x0 : Option Nat) (x1 : Int) (h : YS) : ZR YS :=
  ygI 21006 x0 h fun v1 =>
  zV (ycv R d [(70, 497)] x0 [.inl x1, .inl v1] h) fun h2 =>
  zrV h2
def yb_Maker_row (C : YC) (R : ZC YS) (d : Nat) (x0 : Option Nat) (x1 : Option Nat) (h : YS) : ZR YS :=
  zlet (1 : Int) fun x2_1 =>
  zlet (0 : Int) fun x3_2 =>
  R d 750 [.inr (.inr x0), .inr (.inr x1), .inl x2_1, .inl x3_2] h
def yb_Maker_aim_3 (C : YC) (R : ZC YS) (d : Nat) (x0 : Option Nat) (x1 : Option Nat) (h : YS) : ZR YS :=
  zlet (0 : Int) fun x2_1 =>
  R d 751 [.inr (.inr x0), .inr (.inr x1), .inl x2_1] h
def yb_Maker_row_2 (C : YC) (R : ZC YS) (d : Nat) (x0 : Option Nat) (x1 : Int) (h : YS) : ZR YS :=
  zI (ycv R d [(70, 484)] x0 [.inl 15, .inl x1, .inl (-1)] h) fun v2 h1 =>
  zrV h1
def yb_Routine_init (C : YC) (R : ZC YS) (d : Nat) (x0 : Option Nat) (x1 : Option Nat) (x2 : Int) (h : YS) : ZR YS :=
  ynull x0 none <|
  if x2 = 0 then
    ygI 21006 x1 h fun v2 =>
    yna 0 v2 h fun r3 h4 =>
    R d 752 [.inr (.inr x0), .inr (.inr x1), .inl x2, .inr (.inr r3), .inr (.inr x0)] h4
  else
  ygR 21000 x1 h fun v5 =>
  ygR 18 v5 h fun v6 =>
  R d 752 [.inr (.inr x0), .inr (.inr x1), .inl x2, .inr (.inr v6), .inr (.inr x0)] h
def yb_ArrayList_init (C : YC) (R : ZC YS) (d : Nat) (x0 : Option Nat) (h : YS) : ZR YS :=
  zV (ycs R d 753 x0 [] h) fun h1 =>
  ysvR C 2 fun v2 =>
  ypR 1501 x0 v2 h1 fun h3 =>
  zrV h3
def yb_ArrayList_clear (C : YC) (R : ZC YS) (d : Nat) (x0 : Option Nat) (h : YS) : ZR YS :=
  ygI 1500 x0 h fun v1 =>
  ypI 1500 0 x0 (zw32 (v1 + 1)) h fun h2 =>
  ygR 1501 x0 h2 fun v3 =>
  zlet v3 fun x1_4 =>
  ygI 1502 x0 h2 fun v5 =>
  zlet v5 fun x2_6 =>
  ypI 1502 0 x0 0 h2 fun h7 =>
  zlet (0 : Int) fun x3_8 =>
  R d 754 [.inr (.inr x1_4), .inl x2_6, .inl x3_8] h7
def yb_ArrayList_add (C : YC) (R : ZC YS) (d : Nat) (x0 : Option Nat) (x1 : Option Nat) (h : YS) : ZR YS :=
  ygI 1500 x0 h fun v1 =>
  ypI 1500 0 x0 (zw32 (v1 + 1)) h fun h2 =>
  ygR 1501 x0 h2 fun v3 =>
  ygI 1502 x0 h2 fun v4 =>
  zV (ycv R d [(5, 755)] x0 [.inr (.inr x1), .inr (.inr v3), .inl v4] h2) fun h5 =>
  yrN 1 1 h5
def yb_ArrayList_size (C : YC) (R : ZC YS) (d : Nat) (x0 : Option Nat) (h : YS) : ZR YS :=
  ygI 1502 x0 h fun v1 =>
  zrI v1 h
def yb_MlHouse_packets_p51 (C : YC) (R : ZC YS) (d : Nat) (x0 : Option Nat) (x1 : Option Nat) (x2 : Int) (h : YS) : ZR YS :=
  ylen x1 h fun v1 =>
  if x2 < v1 then
    ynew 18 13 h fun r2 h3 =>
    yaR x1 x2 h3 fun v4 =>
    zV (ycs R d 310 r2 [.inr (.inr v4), .inl 2, .inl 0] h3) fun h5 =>
    zlet r2 fun x3_6 =>
    ypI 5409 0 x3_6 x2 h5 fun h7 =>
    ygR 1 x0 h7 fun v8 =>
    ygR 1 x0 h7 fun v9 =>
    zI (ycv R d [(4, 68)] v9 [.inl 4] h7) fun v11 h10 =>
    yna 0 0 h10 fun r12 h13 =>
    zQ (ycv R d [(4, 53)] v8 [.inl v11, .inr (.inr r12), .inl 0] h13) fun v15 h14 =>
    ypR 5405 x3_6 v15 h14 fun h16 =>
    ygR 7 x0 h16 fun v17 =>
    ygR 4200 v17 h16 fun v18 =>
    zI (ycv R d [(5, 505)] v18 [.inr (.inr x3_6)] h16) fun v20 h19 =>
    yaR x1 x2 h19 fun v21 =>
    zI (ycv R d [(0, 6)] x0 [.inr (.inr v21), .inr (.inr none)] h19) fun v23 h22 =>
    zG (inI (x2 + 1)) <|
    zlet (x2 + 1) fun x2_24 =>
    R d 507 [.inr (.inr x0), .inr (.inr x1), .inl x2_24] h22
  else
  zrV h
def yb_MlHouse_feed_p18 (C : YC) (R : ZC YS) (d : Nat) (x0 : Option Nat) (x1 : Int) (x2 : Int) (x3 : Int) (x4 : Int) (x5 : Int) (x6 : Int) (h : YS) : ZR YS :=
  if x6 < 20 then
    if x6 < 4 then
      R d 756 [.inr (.inr x0), .inl x1, .inl x2, .inl x3, .inl x4, .inl x5, .inl x6, .inl x1] h
    else
    if x6 < 8 then
      R d 756 [.inr (.inr x0), .inl x1, .inl x2, .inl x3, .inl x4, .inl x5, .inl x6, .inl x2] h
    else
    if x6 < 12 then
      R d 756 [.inr (.inr x0), .inl x1, .inl x2, .inl x3, .inl x4, .inl x5, .inl x6, .inl x3] h
    else
    if x6 < 16 then
      R d 756 [.inr (.inr x0), .inl x1, .inl x2, .inl x3, .inl x4, .inl x5, .inl x6, .inl x4] h
    else
    R d 756 [.inr (.inr x0), .inl x1, .inl x2, .inl x3, .inl x4, .inl x5, .inl x6, .inl x5] h
  else
  yrN 1 1 h
def yb_MlHouse_isLetter_p12 (C : YC) (R : ZC YS) (d : Nat) (x0 : Int) (h : YS) : ZR YS :=
  if x0 < 65 then
    yrN 1 0 h
  else
  if x0 ≤ 90 then
    yrN 1 1 h
  else
  yrN 1 0 h
def yb_String_indexOf (C : YC) (R : ZC YS) (d : Nat) (x0 : Option Nat) (x1 : Int) (h : YS) : ZR YS :=
  zI (ycv R d [(21, 757)] x0 [.inl x1, .inl 0] h) fun v2 h1 =>
  zrI v2 h1
def yb_Math_abs (C : YC) (R : ZC YS) (d : Nat) (x0 : Int) (h : YS) : ZR YS :=
  if x0 < 0 then
    zG (inL (-x0)) <|
    zrL (-x0) h
  else
  zrL x0 h
def yb_StringBuilder_append (C : YC) (R : ZC YS) (d : Nat) (x0 : Option Nat) (x1 : Int) (h : YS) : ZR YS :=
  zQ (ycu R d 758 x0 [.inl x1] h) fun v2 h1 =>
  zrQ x0 h1
def yb_MlHouse_sayNumber_p20 (C : YC) (R : ZC YS) (d : Nat) (x0 : Option Nat) (x2 : Int) (x4 : Int) (h : YS) : ZR YS :=
  zG (x4 ≠ 0) <|
  if (zdivL x2 x4) ≤ 9 then
    R d 759 [.inr (.inr x0), .inr (.inl x2), .inr (.inl x4)] h
  else
  zG (inL (x4 * 10)) <|
  zlet (x4 * 10) fun x4_2 =>
  R d 513 [.inr (.inr x0), .inr (.inl x2), .inr (.inl x4_2)] h
def yb_MlHouse_judge_p2 (C : YC) (R : ZC YS) (d : Nat) (x0 : Option Nat) (x1 : Option Nat) (x2 : Option Nat) (x3 : Int) (h : YS) : ZR YS :=
  zI (ycv R d [(5, 506)] x2 [] h) fun v2 h1 =>
  if x3 < v2 then
    zQ (ycv R d [(5, 528)] x2 [.inl x3] h1) fun v4 h3 =>
    ycc 0 520 v4 h3 <|
    zV (ycv R d [(62, 465), (65, 473), (58, 454), (66, 476), (61, 462), (24, 325)] v4 [.inr (.inr x1)] h3) fun h5 =>
    zG (inI (x3 + 1)) <|
    zlet (x3 + 1) fun x3_6 =>
    R d 514 [.inr (.inr x0), .inr (.inr x1), .inr (.inr x2), .inl x3_6] h5
  else
  ygR 1 x0 h1 fun v7 =>
  zV (ycv R d [(4, 97)] v7 [] h1) fun h8 =>
  ygR 1 x0 h8 fun v9 =>
  zI (ycv R d [(4, 98)] v9 [] h8) fun v11 h10 =>
  zlet v11 fun x3_12 =>
  if x3_12 = (-1) then
    zV (ycv R d [(9, 190)] x1 [.inl 1, .inl 11, .inl x3_12] h10) fun h13 =>
    zlet (1 : Int) fun x4_14 =>
    R d 760 [.inr (.inr x0), .inr (.inr x1), .inl x4_14] h13
  else
  zV (ycv R d [(9, 190)] x1 [.inl 0, .inl 11, .inl x3_12] h10) fun h15 =>
  zlet (1 : Int) fun x4_16 =>
  R d 760 [.inr (.inr x0), .inr (.inr x1), .inl x4_16] h15
def yb_MlHouse_declared_p10 (C : YC) (R : ZC YS) (d : Nat) (x0 : Option Nat) (x1 : Option Nat) (x2 : Option Nat) (x3 : Int) (h : YS) : ZR YS :=
  zI (ycv R d [(5, 506)] x1 [] h) fun v2 h1 =>
  if x3 < v2 then
    zlet (0 : Int) fun x4_3 =>
    R d 761 [.inr (.inr x0), .inr (.inr x1), .inr (.inr x2), .inl x3, .inl x4_3] h1
  else
  zrQ x2 h1
